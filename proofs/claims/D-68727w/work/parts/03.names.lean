/-! ShapeRelator$Segments -/
set_option maxRecDepth 100000
def RX4 : String := "ShapeRelator$Segments"
def TX4 : u_T := fun k => match k with
  | 0 => ("ShapeRelator$Segments", "x", "[I", false)
  | 1 => ("ShapeRelator$Segments", "y", "[I", false)
  | 2 => ("ShapeRelator$Segments", "toX", "[I", false)
  | 3 => ("ShapeRelator$Segments", "toY", "[I", false)
  | 4 => ("ShapeRelator$Segments", "size", "I", false)
  | _ => ("ShapeRelator$Segments", "ofFirst", "I", false)
def tyX4 : Nat → FieldType := fun k => match k with
  | 0 => .array .int
  | 1 => .array .int
  | 2 => .array .int
  | 3 => .array .int
  | 4 => .int
  | _ => .int
abbrev wsX40 : List Cond := u_ws RX4 TX4 6
theorem nmX4 : ∀ a, a < 6 → ∀ b, b < 6 → a ≠ b → (TX4 a).2.1 ≠ (TX4 b).2.1 := by decide +kernel
theorem tyX4_ok : ∀ k, k < 6 → parseFieldDescriptor (TX4 k).2.2.1 = some (tyX4 k) := by decide +kernel
abbrev cX4_init : ByteArray := prog_7_method_1_code
def yX4_init : MethodName := ⟨RX4, "<init>", "()V"⟩
theorem dX4_init_0 : decode cX4_init 0 = .ok (.aload_n 0, 1) := by decide +kernel
theorem dX4_init_1 : decode cX4_init 1 = .ok (.invokespecial 1, 3) := by decide +kernel
theorem dX4_init_4 : decode cX4_init 4 = .ok (.aload_n 0, 1) := by decide +kernel
theorem dX4_init_5 : decode cX4_init 5 = .ok (.bipush 16, 2) := by decide +kernel
theorem dX4_init_7 : decode cX4_init 7 = .ok (.newarray .int, 2) := by decide +kernel
theorem dX4_init_9 : decode cX4_init 9 = .ok (.putfield 7, 3) := by decide +kernel
theorem dX4_init_12 : decode cX4_init 12 = .ok (.aload_n 0, 1) := by decide +kernel
theorem dX4_init_13 : decode cX4_init 13 = .ok (.bipush 16, 2) := by decide +kernel
theorem dX4_init_15 : decode cX4_init 15 = .ok (.newarray .int, 2) := by decide +kernel
theorem dX4_init_17 : decode cX4_init 17 = .ok (.putfield 13, 3) := by decide +kernel
theorem dX4_init_20 : decode cX4_init 20 = .ok (.aload_n 0, 1) := by decide +kernel
theorem dX4_init_21 : decode cX4_init 21 = .ok (.bipush 16, 2) := by decide +kernel
theorem dX4_init_23 : decode cX4_init 23 = .ok (.newarray .int, 2) := by decide +kernel
theorem dX4_init_25 : decode cX4_init 25 = .ok (.putfield 16, 3) := by decide +kernel
theorem dX4_init_28 : decode cX4_init 28 = .ok (.aload_n 0, 1) := by decide +kernel
theorem dX4_init_29 : decode cX4_init 29 = .ok (.bipush 16, 2) := by decide +kernel
theorem dX4_init_31 : decode cX4_init 31 = .ok (.newarray .int, 2) := by decide +kernel
theorem dX4_init_33 : decode cX4_init 33 = .ok (.putfield 19, 3) := by decide +kernel
theorem dX4_init_36 : decode cX4_init 36 = .ok (.return_, 1) := by decide +kernel
abbrev cX4_take : ByteArray := prog_7_method_4_code
def yX4_take : MethodName := ⟨RX4, "take", "(LShapeRelator$Outline;LShapeRelator$Outline;)V"⟩
theorem dX4_take_0 : decode cX4_take 0 = .ok (.aload_n 0, 1) := by decide +kernel
theorem dX4_take_1 : decode cX4_take 1 = .ok (.iconst 0, 1) := by decide +kernel
theorem dX4_take_2 : decode cX4_take 2 = .ok (.putfield 30, 3) := by decide +kernel
theorem dX4_take_5 : decode cX4_take 5 = .ok (.aload_n 0, 1) := by decide +kernel
theorem dX4_take_6 : decode cX4_take 6 = .ok (.aload_n 1, 1) := by decide +kernel
theorem dX4_take_7 : decode cX4_take 7 = .ok (.invokevirtual 57, 3) := by decide +kernel
theorem dX4_take_10 : decode cX4_take 10 = .ok (.aload_n 0, 1) := by decide +kernel
theorem dX4_take_11 : decode cX4_take 11 = .ok (.aload_n 0, 1) := by decide +kernel
theorem dX4_take_12 : decode cX4_take 12 = .ok (.getfield 30, 3) := by decide +kernel
theorem dX4_take_15 : decode cX4_take 15 = .ok (.putfield 61, 3) := by decide +kernel
theorem dX4_take_18 : decode cX4_take 18 = .ok (.aload_n 0, 1) := by decide +kernel
theorem dX4_take_19 : decode cX4_take 19 = .ok (.aload_n 2, 1) := by decide +kernel
theorem dX4_take_20 : decode cX4_take 20 = .ok (.invokevirtual 57, 3) := by decide +kernel
theorem dX4_take_23 : decode cX4_take 23 = .ok (.return_, 1) := by decide +kernel
abbrev cX4_addAll : ByteArray := prog_7_method_3_code
def yX4_addAll : MethodName := ⟨RX4, "addAll", "(LShapeRelator$Outline;)V"⟩
theorem dX4_addAll_0 : decode cX4_addAll 0 = .ok (.iconst 0, 1) := by decide +kernel
theorem dX4_addAll_1 : decode cX4_addAll 1 = .ok (.istore_n 2, 1) := by decide +kernel
theorem dX4_addAll_2 : decode cX4_addAll 2 = .ok (.iload_n 2, 1) := by decide +kernel
theorem dX4_addAll_3 : decode cX4_addAll 3 = .ok (.aload_n 1, 1) := by decide +kernel
theorem dX4_addAll_4 : decode cX4_addAll 4 = .ok (.getfield 40, 3) := by decide +kernel
theorem dX4_addAll_7 : decode cX4_addAll 7 = .ok (.if_icmp .ge 90, 3) := by decide +kernel
theorem dX4_addAll_10 : decode cX4_addAll 10 = .ok (.aload_n 1, 1) := by decide +kernel
theorem dX4_addAll_11 : decode cX4_addAll 11 = .ok (.getfield 43, 3) := by decide +kernel
theorem dX4_addAll_14 : decode cX4_addAll 14 = .ok (.iconst 1, 1) := by decide +kernel
theorem dX4_addAll_15 : decode cX4_addAll 15 = .ok (.if_icmp .le 82, 3) := by decide +kernel
theorem dX4_addAll_18 : decode cX4_addAll 18 = .ok (.aload_n 1, 1) := by decide +kernel
theorem dX4_addAll_19 : decode cX4_addAll 19 = .ok (.getfield 46, 3) := by decide +kernel
theorem dX4_addAll_22 : decode cX4_addAll 22 = .ok (.iload_n 2, 1) := by decide +kernel
theorem dX4_addAll_23 : decode cX4_addAll 23 = .ok (.iaload, 1) := by decide +kernel
theorem dX4_addAll_24 : decode cX4_addAll 24 = .ok (.iconst 1, 1) := by decide +kernel
theorem dX4_addAll_25 : decode cX4_addAll 25 = .ok (.iadd, 1) := by decide +kernel
theorem dX4_addAll_26 : decode cX4_addAll 26 = .ok (.istore_n 3, 1) := by decide +kernel
theorem dX4_addAll_27 : decode cX4_addAll 27 = .ok (.iload_n 3, 1) := by decide +kernel
theorem dX4_addAll_28 : decode cX4_addAll 28 = .ok (.aload_n 1, 1) := by decide +kernel
theorem dX4_addAll_29 : decode cX4_addAll 29 = .ok (.iload_n 2, 1) := by decide +kernel
theorem dX4_addAll_30 : decode cX4_addAll 30 = .ok (.invokevirtual 49, 3) := by decide +kernel
theorem dX4_addAll_33 : decode cX4_addAll 33 = .ok (.if_icmp .ge 18, 3) := by decide +kernel
theorem dX4_addAll_36 : decode cX4_addAll 36 = .ok (.aload_n 0, 1) := by decide +kernel
theorem dX4_addAll_37 : decode cX4_addAll 37 = .ok (.aload_n 1, 1) := by decide +kernel
theorem dX4_addAll_38 : decode cX4_addAll 38 = .ok (.iload_n 3, 1) := by decide +kernel
theorem dX4_addAll_39 : decode cX4_addAll 39 = .ok (.iconst 1, 1) := by decide +kernel
theorem dX4_addAll_40 : decode cX4_addAll 40 = .ok (.isub, 1) := by decide +kernel
theorem dX4_addAll_41 : decode cX4_addAll 41 = .ok (.iload_n 3, 1) := by decide +kernel
theorem dX4_addAll_42 : decode cX4_addAll 42 = .ok (.invokevirtual 53, 3) := by decide +kernel
theorem dX4_addAll_45 : decode cX4_addAll 45 = .ok (.iinc 3 1, 3) := by decide +kernel
theorem dX4_addAll_48 : decode cX4_addAll 48 = .ok (.goto (-21), 3) := by decide +kernel
theorem dX4_addAll_51 : decode cX4_addAll 51 = .ok (.aload_n 1, 1) := by decide +kernel
theorem dX4_addAll_52 : decode cX4_addAll 52 = .ok (.getfield 43, 3) := by decide +kernel
theorem dX4_addAll_55 : decode cX4_addAll 55 = .ok (.iconst 3, 1) := by decide +kernel
theorem dX4_addAll_56 : decode cX4_addAll 56 = .ok (.if_icmp .ne 35, 3) := by decide +kernel
theorem dX4_addAll_59 : decode cX4_addAll 59 = .ok (.aload_n 1, 1) := by decide +kernel
theorem dX4_addAll_60 : decode cX4_addAll 60 = .ok (.iload_n 2, 1) := by decide +kernel
theorem dX4_addAll_61 : decode cX4_addAll 61 = .ok (.invokevirtual 49, 3) := by decide +kernel
theorem dX4_addAll_64 : decode cX4_addAll 64 = .ok (.aload_n 1, 1) := by decide +kernel
theorem dX4_addAll_65 : decode cX4_addAll 65 = .ok (.getfield 46, 3) := by decide +kernel
theorem dX4_addAll_68 : decode cX4_addAll 68 = .ok (.iload_n 2, 1) := by decide +kernel
theorem dX4_addAll_69 : decode cX4_addAll 69 = .ok (.iaload, 1) := by decide +kernel
theorem dX4_addAll_70 : decode cX4_addAll 70 = .ok (.if_icmp .le 21, 3) := by decide +kernel
theorem dX4_addAll_73 : decode cX4_addAll 73 = .ok (.aload_n 0, 1) := by decide +kernel
theorem dX4_addAll_74 : decode cX4_addAll 74 = .ok (.aload_n 1, 1) := by decide +kernel
theorem dX4_addAll_75 : decode cX4_addAll 75 = .ok (.aload_n 1, 1) := by decide +kernel
theorem dX4_addAll_76 : decode cX4_addAll 76 = .ok (.iload_n 2, 1) := by decide +kernel
theorem dX4_addAll_77 : decode cX4_addAll 77 = .ok (.invokevirtual 49, 3) := by decide +kernel
theorem dX4_addAll_80 : decode cX4_addAll 80 = .ok (.iconst 1, 1) := by decide +kernel
theorem dX4_addAll_81 : decode cX4_addAll 81 = .ok (.isub, 1) := by decide +kernel
theorem dX4_addAll_82 : decode cX4_addAll 82 = .ok (.aload_n 1, 1) := by decide +kernel
theorem dX4_addAll_83 : decode cX4_addAll 83 = .ok (.getfield 46, 3) := by decide +kernel
theorem dX4_addAll_86 : decode cX4_addAll 86 = .ok (.iload_n 2, 1) := by decide +kernel
theorem dX4_addAll_87 : decode cX4_addAll 87 = .ok (.iaload, 1) := by decide +kernel
theorem dX4_addAll_88 : decode cX4_addAll 88 = .ok (.invokevirtual 53, 3) := by decide +kernel
theorem dX4_addAll_91 : decode cX4_addAll 91 = .ok (.iinc 2 1, 3) := by decide +kernel
theorem dX4_addAll_94 : decode cX4_addAll 94 = .ok (.goto (-92), 3) := by decide +kernel
theorem dX4_addAll_97 : decode cX4_addAll 97 = .ok (.return_, 1) := by decide +kernel
abbrev cX4_add : ByteArray := prog_7_method_2_code
def yX4_add : MethodName := ⟨RX4, "add", "(LShapeRelator$Outline;II)V"⟩
theorem dX4_add_0 : decode cX4_add 0 = .ok (.aload_n 1, 1) := by decide +kernel
theorem dX4_add_1 : decode cX4_add 1 = .ok (.iload_n 2, 1) := by decide +kernel
theorem dX4_add_2 : decode cX4_add 2 = .ok (.aload_n 1, 1) := by decide +kernel
theorem dX4_add_3 : decode cX4_add 3 = .ok (.getfield 22, 3) := by decide +kernel
theorem dX4_add_6 : decode cX4_add 6 = .ok (.iload_n 3, 1) := by decide +kernel
theorem dX4_add_7 : decode cX4_add 7 = .ok (.iaload, 1) := by decide +kernel
theorem dX4_add_8 : decode cX4_add 8 = .ok (.aload_n 1, 1) := by decide +kernel
theorem dX4_add_9 : decode cX4_add 9 = .ok (.getfield 25, 3) := by decide +kernel
theorem dX4_add_12 : decode cX4_add 12 = .ok (.iload_n 3, 1) := by decide +kernel
theorem dX4_add_13 : decode cX4_add 13 = .ok (.iaload, 1) := by decide +kernel
theorem dX4_add_14 : decode cX4_add 14 = .ok (.invokevirtual 26, 3) := by decide +kernel
theorem dX4_add_17 : decode cX4_add 17 = .ok (.ifCond .eq 4, 3) := by decide +kernel
theorem dX4_add_20 : decode cX4_add 20 = .ok (.return_, 1) := by decide +kernel
theorem dX4_add_21 : decode cX4_add 21 = .ok (.aload_n 0, 1) := by decide +kernel
theorem dX4_add_22 : decode cX4_add 22 = .ok (.getfield 30, 3) := by decide +kernel
theorem dX4_add_25 : decode cX4_add 25 = .ok (.aload_n 0, 1) := by decide +kernel
theorem dX4_add_26 : decode cX4_add 26 = .ok (.getfield 7, 3) := by decide +kernel
theorem dX4_add_29 : decode cX4_add 29 = .ok (.arraylength, 1) := by decide +kernel
theorem dX4_add_30 : decode cX4_add 30 = .ok (.if_icmp .ne 71, 3) := by decide +kernel
theorem dX4_add_33 : decode cX4_add 33 = .ok (.aload_n 0, 1) := by decide +kernel
theorem dX4_add_34 : decode cX4_add 34 = .ok (.aload_n 0, 1) := by decide +kernel
theorem dX4_add_35 : decode cX4_add 35 = .ok (.getfield 7, 3) := by decide +kernel
theorem dX4_add_38 : decode cX4_add 38 = .ok (.iconst 2, 1) := by decide +kernel
theorem dX4_add_39 : decode cX4_add 39 = .ok (.aload_n 0, 1) := by decide +kernel
theorem dX4_add_40 : decode cX4_add 40 = .ok (.getfield 30, 3) := by decide +kernel
theorem dX4_add_43 : decode cX4_add 43 = .ok (.imul, 1) := by decide +kernel
theorem dX4_add_44 : decode cX4_add 44 = .ok (.invokestatic 34, 3) := by decide +kernel
theorem dX4_add_47 : decode cX4_add 47 = .ok (.putfield 7, 3) := by decide +kernel
theorem dX4_add_50 : decode cX4_add 50 = .ok (.aload_n 0, 1) := by decide +kernel
theorem dX4_add_51 : decode cX4_add 51 = .ok (.aload_n 0, 1) := by decide +kernel
theorem dX4_add_52 : decode cX4_add 52 = .ok (.getfield 13, 3) := by decide +kernel
theorem dX4_add_55 : decode cX4_add 55 = .ok (.iconst 2, 1) := by decide +kernel
theorem dX4_add_56 : decode cX4_add 56 = .ok (.aload_n 0, 1) := by decide +kernel
theorem dX4_add_57 : decode cX4_add 57 = .ok (.getfield 30, 3) := by decide +kernel
theorem dX4_add_60 : decode cX4_add 60 = .ok (.imul, 1) := by decide +kernel
theorem dX4_add_61 : decode cX4_add 61 = .ok (.invokestatic 34, 3) := by decide +kernel
theorem dX4_add_64 : decode cX4_add 64 = .ok (.putfield 13, 3) := by decide +kernel
theorem dX4_add_67 : decode cX4_add 67 = .ok (.aload_n 0, 1) := by decide +kernel
theorem dX4_add_68 : decode cX4_add 68 = .ok (.aload_n 0, 1) := by decide +kernel
theorem dX4_add_69 : decode cX4_add 69 = .ok (.getfield 16, 3) := by decide +kernel
theorem dX4_add_72 : decode cX4_add 72 = .ok (.iconst 2, 1) := by decide +kernel
theorem dX4_add_73 : decode cX4_add 73 = .ok (.aload_n 0, 1) := by decide +kernel
theorem dX4_add_74 : decode cX4_add 74 = .ok (.getfield 30, 3) := by decide +kernel
theorem dX4_add_77 : decode cX4_add 77 = .ok (.imul, 1) := by decide +kernel
theorem dX4_add_78 : decode cX4_add 78 = .ok (.invokestatic 34, 3) := by decide +kernel
theorem dX4_add_81 : decode cX4_add 81 = .ok (.putfield 16, 3) := by decide +kernel
theorem dX4_add_84 : decode cX4_add 84 = .ok (.aload_n 0, 1) := by decide +kernel
theorem dX4_add_85 : decode cX4_add 85 = .ok (.aload_n 0, 1) := by decide +kernel
theorem dX4_add_86 : decode cX4_add 86 = .ok (.getfield 19, 3) := by decide +kernel
theorem dX4_add_89 : decode cX4_add 89 = .ok (.iconst 2, 1) := by decide +kernel
theorem dX4_add_90 : decode cX4_add 90 = .ok (.aload_n 0, 1) := by decide +kernel
theorem dX4_add_91 : decode cX4_add 91 = .ok (.getfield 30, 3) := by decide +kernel
theorem dX4_add_94 : decode cX4_add 94 = .ok (.imul, 1) := by decide +kernel
theorem dX4_add_95 : decode cX4_add 95 = .ok (.invokestatic 34, 3) := by decide +kernel
theorem dX4_add_98 : decode cX4_add 98 = .ok (.putfield 19, 3) := by decide +kernel
theorem dX4_add_101 : decode cX4_add 101 = .ok (.aload_n 0, 1) := by decide +kernel
theorem dX4_add_102 : decode cX4_add 102 = .ok (.getfield 7, 3) := by decide +kernel
theorem dX4_add_105 : decode cX4_add 105 = .ok (.aload_n 0, 1) := by decide +kernel
theorem dX4_add_106 : decode cX4_add 106 = .ok (.getfield 30, 3) := by decide +kernel
theorem dX4_add_109 : decode cX4_add 109 = .ok (.aload_n 1, 1) := by decide +kernel
theorem dX4_add_110 : decode cX4_add 110 = .ok (.getfield 22, 3) := by decide +kernel
theorem dX4_add_113 : decode cX4_add 113 = .ok (.iload_n 2, 1) := by decide +kernel
theorem dX4_add_114 : decode cX4_add 114 = .ok (.iaload, 1) := by decide +kernel
theorem dX4_add_115 : decode cX4_add 115 = .ok (.iastore, 1) := by decide +kernel
theorem dX4_add_116 : decode cX4_add 116 = .ok (.aload_n 0, 1) := by decide +kernel
theorem dX4_add_117 : decode cX4_add 117 = .ok (.getfield 13, 3) := by decide +kernel
theorem dX4_add_120 : decode cX4_add 120 = .ok (.aload_n 0, 1) := by decide +kernel
theorem dX4_add_121 : decode cX4_add 121 = .ok (.getfield 30, 3) := by decide +kernel
theorem dX4_add_124 : decode cX4_add 124 = .ok (.aload_n 1, 1) := by decide +kernel
theorem dX4_add_125 : decode cX4_add 125 = .ok (.getfield 25, 3) := by decide +kernel
theorem dX4_add_128 : decode cX4_add 128 = .ok (.iload_n 2, 1) := by decide +kernel
theorem dX4_add_129 : decode cX4_add 129 = .ok (.iaload, 1) := by decide +kernel
theorem dX4_add_130 : decode cX4_add 130 = .ok (.iastore, 1) := by decide +kernel
theorem dX4_add_131 : decode cX4_add 131 = .ok (.aload_n 0, 1) := by decide +kernel
theorem dX4_add_132 : decode cX4_add 132 = .ok (.getfield 16, 3) := by decide +kernel
theorem dX4_add_135 : decode cX4_add 135 = .ok (.aload_n 0, 1) := by decide +kernel
theorem dX4_add_136 : decode cX4_add 136 = .ok (.getfield 30, 3) := by decide +kernel
theorem dX4_add_139 : decode cX4_add 139 = .ok (.aload_n 1, 1) := by decide +kernel
theorem dX4_add_140 : decode cX4_add 140 = .ok (.getfield 22, 3) := by decide +kernel
theorem dX4_add_143 : decode cX4_add 143 = .ok (.iload_n 3, 1) := by decide +kernel
theorem dX4_add_144 : decode cX4_add 144 = .ok (.iaload, 1) := by decide +kernel
theorem dX4_add_145 : decode cX4_add 145 = .ok (.iastore, 1) := by decide +kernel
theorem dX4_add_146 : decode cX4_add 146 = .ok (.aload_n 0, 1) := by decide +kernel
theorem dX4_add_147 : decode cX4_add 147 = .ok (.getfield 19, 3) := by decide +kernel
theorem dX4_add_150 : decode cX4_add 150 = .ok (.aload_n 0, 1) := by decide +kernel
theorem dX4_add_151 : decode cX4_add 151 = .ok (.getfield 30, 3) := by decide +kernel
theorem dX4_add_154 : decode cX4_add 154 = .ok (.aload_n 1, 1) := by decide +kernel
theorem dX4_add_155 : decode cX4_add 155 = .ok (.getfield 25, 3) := by decide +kernel
theorem dX4_add_158 : decode cX4_add 158 = .ok (.iload_n 3, 1) := by decide +kernel
theorem dX4_add_159 : decode cX4_add 159 = .ok (.iaload, 1) := by decide +kernel
theorem dX4_add_160 : decode cX4_add 160 = .ok (.iastore, 1) := by decide +kernel
theorem dX4_add_161 : decode cX4_add 161 = .ok (.aload_n 0, 1) := by decide +kernel
theorem dX4_add_162 : decode cX4_add 162 = .ok (.dup, 1) := by decide +kernel
theorem dX4_add_163 : decode cX4_add 163 = .ok (.getfield 30, 3) := by decide +kernel
theorem dX4_add_166 : decode cX4_add 166 = .ok (.iconst 1, 1) := by decide +kernel
theorem dX4_add_167 : decode cX4_add 167 = .ok (.iadd, 1) := by decide +kernel
theorem dX4_add_168 : decode cX4_add 168 = .ok (.putfield 30, 3) := by decide +kernel
theorem dX4_add_171 : decode cX4_add 171 = .ok (.return_, 1) := by decide +kernel
abbrev cX4_cross : ByteArray := prog_7_method_13_code
def yX4_cross : MethodName := ⟨RX4, "cross", "(II)Z"⟩
theorem dX4_cross_0 : decode cX4_cross 0 = .ok (.aload_n 0, 1) := by decide +kernel
theorem dX4_cross_1 : decode cX4_cross 1 = .ok (.iload_n 1, 1) := by decide +kernel
theorem dX4_cross_2 : decode cX4_cross 2 = .ok (.aload_n 0, 1) := by decide +kernel
theorem dX4_cross_3 : decode cX4_cross 3 = .ok (.getfield 7, 3) := by decide +kernel
theorem dX4_cross_6 : decode cX4_cross 6 = .ok (.iload_n 2, 1) := by decide +kernel
theorem dX4_cross_7 : decode cX4_cross 7 = .ok (.iaload, 1) := by decide +kernel
theorem dX4_cross_8 : decode cX4_cross 8 = .ok (.aload_n 0, 1) := by decide +kernel
theorem dX4_cross_9 : decode cX4_cross 9 = .ok (.getfield 13, 3) := by decide +kernel
theorem dX4_cross_12 : decode cX4_cross 12 = .ok (.iload_n 2, 1) := by decide +kernel
theorem dX4_cross_13 : decode cX4_cross 13 = .ok (.iaload, 1) := by decide +kernel
theorem dX4_cross_14 : decode cX4_cross 14 = .ok (.invokevirtual 74, 3) := by decide +kernel
theorem dX4_cross_17 : decode cX4_cross 17 = .ok (.aload_n 0, 1) := by decide +kernel
theorem dX4_cross_18 : decode cX4_cross 18 = .ok (.iload_n 1, 1) := by decide +kernel
theorem dX4_cross_19 : decode cX4_cross 19 = .ok (.aload_n 0, 1) := by decide +kernel
theorem dX4_cross_20 : decode cX4_cross 20 = .ok (.getfield 16, 3) := by decide +kernel
theorem dX4_cross_23 : decode cX4_cross 23 = .ok (.iload_n 2, 1) := by decide +kernel
theorem dX4_cross_24 : decode cX4_cross 24 = .ok (.iaload, 1) := by decide +kernel
theorem dX4_cross_25 : decode cX4_cross 25 = .ok (.aload_n 0, 1) := by decide +kernel
theorem dX4_cross_26 : decode cX4_cross 26 = .ok (.getfield 19, 3) := by decide +kernel
theorem dX4_cross_29 : decode cX4_cross 29 = .ok (.iload_n 2, 1) := by decide +kernel
theorem dX4_cross_30 : decode cX4_cross 30 = .ok (.iaload, 1) := by decide +kernel
theorem dX4_cross_31 : decode cX4_cross 31 = .ok (.invokevirtual 74, 3) := by decide +kernel
theorem dX4_cross_34 : decode cX4_cross 34 = .ok (.invokestatic 78, 3) := by decide +kernel
theorem dX4_cross_37 : decode cX4_cross 37 = .ok (.ifCond .eq 47, 3) := by decide +kernel
theorem dX4_cross_40 : decode cX4_cross 40 = .ok (.aload_n 0, 1) := by decide +kernel
theorem dX4_cross_41 : decode cX4_cross 41 = .ok (.iload_n 2, 1) := by decide +kernel
theorem dX4_cross_42 : decode cX4_cross 42 = .ok (.aload_n 0, 1) := by decide +kernel
theorem dX4_cross_43 : decode cX4_cross 43 = .ok (.getfield 7, 3) := by decide +kernel
theorem dX4_cross_46 : decode cX4_cross 46 = .ok (.iload_n 1, 1) := by decide +kernel
theorem dX4_cross_47 : decode cX4_cross 47 = .ok (.iaload, 1) := by decide +kernel
theorem dX4_cross_48 : decode cX4_cross 48 = .ok (.aload_n 0, 1) := by decide +kernel
theorem dX4_cross_49 : decode cX4_cross 49 = .ok (.getfield 13, 3) := by decide +kernel
theorem dX4_cross_52 : decode cX4_cross 52 = .ok (.iload_n 1, 1) := by decide +kernel
theorem dX4_cross_53 : decode cX4_cross 53 = .ok (.iaload, 1) := by decide +kernel
theorem dX4_cross_54 : decode cX4_cross 54 = .ok (.invokevirtual 74, 3) := by decide +kernel
theorem dX4_cross_57 : decode cX4_cross 57 = .ok (.aload_n 0, 1) := by decide +kernel
theorem dX4_cross_58 : decode cX4_cross 58 = .ok (.iload_n 2, 1) := by decide +kernel
theorem dX4_cross_59 : decode cX4_cross 59 = .ok (.aload_n 0, 1) := by decide +kernel
theorem dX4_cross_60 : decode cX4_cross 60 = .ok (.getfield 16, 3) := by decide +kernel
theorem dX4_cross_63 : decode cX4_cross 63 = .ok (.iload_n 1, 1) := by decide +kernel
theorem dX4_cross_64 : decode cX4_cross 64 = .ok (.iaload, 1) := by decide +kernel
theorem dX4_cross_65 : decode cX4_cross 65 = .ok (.aload_n 0, 1) := by decide +kernel
theorem dX4_cross_66 : decode cX4_cross 66 = .ok (.getfield 19, 3) := by decide +kernel
theorem dX4_cross_69 : decode cX4_cross 69 = .ok (.iload_n 1, 1) := by decide +kernel
theorem dX4_cross_70 : decode cX4_cross 70 = .ok (.iaload, 1) := by decide +kernel
theorem dX4_cross_71 : decode cX4_cross 71 = .ok (.invokevirtual 74, 3) := by decide +kernel
theorem dX4_cross_74 : decode cX4_cross 74 = .ok (.invokestatic 78, 3) := by decide +kernel
theorem dX4_cross_77 : decode cX4_cross 77 = .ok (.ifCond .eq 7, 3) := by decide +kernel
theorem dX4_cross_80 : decode cX4_cross 80 = .ok (.iconst 1, 1) := by decide +kernel
theorem dX4_cross_81 : decode cX4_cross 81 = .ok (.goto 4, 3) := by decide +kernel
theorem dX4_cross_84 : decode cX4_cross 84 = .ok (.iconst 0, 1) := by decide +kernel
theorem dX4_cross_85 : decode cX4_cross 85 = .ok (.ireturn, 1) := by decide +kernel
abbrev cX4_side : ByteArray := prog_7_method_9_code
def yX4_side : MethodName := ⟨RX4, "side", "(III)J"⟩
theorem dX4_side_0 : decode cX4_side 0 = .ok (.aload_n 0, 1) := by decide +kernel
theorem dX4_side_1 : decode cX4_side 1 = .ok (.iload_n 1, 1) := by decide +kernel
theorem dX4_side_2 : decode cX4_side 2 = .ok (.invokevirtual 64, 3) := by decide +kernel
theorem dX4_side_5 : decode cX4_side 5 = .ok (.iload_n 3, 1) := by decide +kernel
theorem dX4_side_6 : decode cX4_side 6 = .ok (.i2l, 1) := by decide +kernel
theorem dX4_side_7 : decode cX4_side 7 = .ok (.aload_n 0, 1) := by decide +kernel
theorem dX4_side_8 : decode cX4_side 8 = .ok (.getfield 13, 3) := by decide +kernel
theorem dX4_side_11 : decode cX4_side 11 = .ok (.iload_n 1, 1) := by decide +kernel
theorem dX4_side_12 : decode cX4_side 12 = .ok (.iaload, 1) := by decide +kernel
theorem dX4_side_13 : decode cX4_side 13 = .ok (.i2l, 1) := by decide +kernel
theorem dX4_side_14 : decode cX4_side 14 = .ok (.lsub, 1) := by decide +kernel
theorem dX4_side_15 : decode cX4_side 15 = .ok (.lmul, 1) := by decide +kernel
theorem dX4_side_16 : decode cX4_side 16 = .ok (.aload_n 0, 1) := by decide +kernel
theorem dX4_side_17 : decode cX4_side 17 = .ok (.iload_n 1, 1) := by decide +kernel
theorem dX4_side_18 : decode cX4_side 18 = .ok (.invokevirtual 68, 3) := by decide +kernel
theorem dX4_side_21 : decode cX4_side 21 = .ok (.iload_n 2, 1) := by decide +kernel
theorem dX4_side_22 : decode cX4_side 22 = .ok (.i2l, 1) := by decide +kernel
theorem dX4_side_23 : decode cX4_side 23 = .ok (.aload_n 0, 1) := by decide +kernel
theorem dX4_side_24 : decode cX4_side 24 = .ok (.getfield 7, 3) := by decide +kernel
theorem dX4_side_27 : decode cX4_side 27 = .ok (.iload_n 1, 1) := by decide +kernel
theorem dX4_side_28 : decode cX4_side 28 = .ok (.iaload, 1) := by decide +kernel
theorem dX4_side_29 : decode cX4_side 29 = .ok (.i2l, 1) := by decide +kernel
theorem dX4_side_30 : decode cX4_side 30 = .ok (.lsub, 1) := by decide +kernel
theorem dX4_side_31 : decode cX4_side 31 = .ok (.lmul, 1) := by decide +kernel
theorem dX4_side_32 : decode cX4_side 32 = .ok (.lsub, 1) := by decide +kernel
theorem dX4_side_33 : decode cX4_side 33 = .ok (.lreturn, 1) := by decide +kernel
abbrev cX4_byX : ByteArray := prog_7_method_7_code
def yX4_byX : MethodName := ⟨RX4, "byX", "(I)J"⟩
theorem dX4_byX_0 : decode cX4_byX 0 = .ok (.aload_n 0, 1) := by decide +kernel
theorem dX4_byX_1 : decode cX4_byX 1 = .ok (.getfield 16, 3) := by decide +kernel
theorem dX4_byX_4 : decode cX4_byX 4 = .ok (.iload_n 1, 1) := by decide +kernel
theorem dX4_byX_5 : decode cX4_byX 5 = .ok (.iaload, 1) := by decide +kernel
theorem dX4_byX_6 : decode cX4_byX 6 = .ok (.i2l, 1) := by decide +kernel
theorem dX4_byX_7 : decode cX4_byX 7 = .ok (.aload_n 0, 1) := by decide +kernel
theorem dX4_byX_8 : decode cX4_byX 8 = .ok (.getfield 7, 3) := by decide +kernel
theorem dX4_byX_11 : decode cX4_byX 11 = .ok (.iload_n 1, 1) := by decide +kernel
theorem dX4_byX_12 : decode cX4_byX 12 = .ok (.iaload, 1) := by decide +kernel
theorem dX4_byX_13 : decode cX4_byX 13 = .ok (.i2l, 1) := by decide +kernel
theorem dX4_byX_14 : decode cX4_byX 14 = .ok (.lsub, 1) := by decide +kernel
theorem dX4_byX_15 : decode cX4_byX 15 = .ok (.lreturn, 1) := by decide +kernel
abbrev cX4_byY : ByteArray := prog_7_method_8_code
def yX4_byY : MethodName := ⟨RX4, "byY", "(I)J"⟩
theorem dX4_byY_0 : decode cX4_byY 0 = .ok (.aload_n 0, 1) := by decide +kernel
theorem dX4_byY_1 : decode cX4_byY 1 = .ok (.getfield 19, 3) := by decide +kernel
theorem dX4_byY_4 : decode cX4_byY 4 = .ok (.iload_n 1, 1) := by decide +kernel
theorem dX4_byY_5 : decode cX4_byY 5 = .ok (.iaload, 1) := by decide +kernel
theorem dX4_byY_6 : decode cX4_byY 6 = .ok (.i2l, 1) := by decide +kernel
theorem dX4_byY_7 : decode cX4_byY 7 = .ok (.aload_n 0, 1) := by decide +kernel
theorem dX4_byY_8 : decode cX4_byY 8 = .ok (.getfield 13, 3) := by decide +kernel
theorem dX4_byY_11 : decode cX4_byY 11 = .ok (.iload_n 1, 1) := by decide +kernel
theorem dX4_byY_12 : decode cX4_byY 12 = .ok (.iaload, 1) := by decide +kernel
theorem dX4_byY_13 : decode cX4_byY 13 = .ok (.i2l, 1) := by decide +kernel
theorem dX4_byY_14 : decode cX4_byY 14 = .ok (.lsub, 1) := by decide +kernel
theorem dX4_byY_15 : decode cX4_byY 15 = .ok (.lreturn, 1) := by decide +kernel
abbrev cX4_differ : ByteArray := prog_7_method_12_code
def yX4_differ : MethodName := ⟨RX4, "differ", "(JJ)Z"⟩
theorem dX4_differ_0 : decode cX4_differ 0 = .ok (.lload_n 0, 1) := by decide +kernel
theorem dX4_differ_1 : decode cX4_differ 1 = .ok (.lconst 0, 1) := by decide +kernel
theorem dX4_differ_2 : decode cX4_differ 2 = .ok (.lcmp, 1) := by decide +kernel
theorem dX4_differ_3 : decode cX4_differ 3 = .ok (.ifCond .ge 9, 3) := by decide +kernel
theorem dX4_differ_6 : decode cX4_differ 6 = .ok (.lload_n 2, 1) := by decide +kernel
theorem dX4_differ_7 : decode cX4_differ 7 = .ok (.lconst 0, 1) := by decide +kernel
theorem dX4_differ_8 : decode cX4_differ 8 = .ok (.lcmp, 1) := by decide +kernel
theorem dX4_differ_9 : decode cX4_differ 9 = .ok (.ifCond .gt 15, 3) := by decide +kernel
theorem dX4_differ_12 : decode cX4_differ 12 = .ok (.lload_n 0, 1) := by decide +kernel
theorem dX4_differ_13 : decode cX4_differ 13 = .ok (.lconst 0, 1) := by decide +kernel
theorem dX4_differ_14 : decode cX4_differ 14 = .ok (.lcmp, 1) := by decide +kernel
theorem dX4_differ_15 : decode cX4_differ 15 = .ok (.ifCond .le 13, 3) := by decide +kernel
theorem dX4_differ_18 : decode cX4_differ 18 = .ok (.lload_n 2, 1) := by decide +kernel
theorem dX4_differ_19 : decode cX4_differ 19 = .ok (.lconst 0, 1) := by decide +kernel
theorem dX4_differ_20 : decode cX4_differ 20 = .ok (.lcmp, 1) := by decide +kernel
theorem dX4_differ_21 : decode cX4_differ 21 = .ok (.ifCond .ge 7, 3) := by decide +kernel
theorem dX4_differ_24 : decode cX4_differ 24 = .ok (.iconst 1, 1) := by decide +kernel
theorem dX4_differ_25 : decode cX4_differ 25 = .ok (.goto 4, 3) := by decide +kernel
theorem dX4_differ_28 : decode cX4_differ 28 = .ok (.iconst 0, 1) := by decide +kernel
theorem dX4_differ_29 : decode cX4_differ 29 = .ok (.ireturn, 1) := by decide +kernel
abbrev cX4_isOn : ByteArray := prog_7_method_11_code
def yX4_isOn : MethodName := ⟨RX4, "isOn", "(III)Z"⟩
theorem dX4_isOn_0 : decode cX4_isOn 0 = .ok (.iload_n 2, 1) := by decide +kernel
theorem dX4_isOn_1 : decode cX4_isOn 1 = .ok (.aload_n 0, 1) := by decide +kernel
theorem dX4_isOn_2 : decode cX4_isOn 2 = .ok (.getfield 7, 3) := by decide +kernel
theorem dX4_isOn_5 : decode cX4_isOn 5 = .ok (.iload_n 1, 1) := by decide +kernel
theorem dX4_isOn_6 : decode cX4_isOn 6 = .ok (.iaload, 1) := by decide +kernel
theorem dX4_isOn_7 : decode cX4_isOn 7 = .ok (.aload_n 0, 1) := by decide +kernel
theorem dX4_isOn_8 : decode cX4_isOn 8 = .ok (.getfield 16, 3) := by decide +kernel
theorem dX4_isOn_11 : decode cX4_isOn 11 = .ok (.iload_n 1, 1) := by decide +kernel
theorem dX4_isOn_12 : decode cX4_isOn 12 = .ok (.iaload, 1) := by decide +kernel
theorem dX4_isOn_13 : decode cX4_isOn 13 = .ok (.invokestatic 71, 3) := by decide +kernel
theorem dX4_isOn_16 : decode cX4_isOn 16 = .ok (.ifCond .eq 38, 3) := by decide +kernel
theorem dX4_isOn_19 : decode cX4_isOn 19 = .ok (.iload_n 3, 1) := by decide +kernel
theorem dX4_isOn_20 : decode cX4_isOn 20 = .ok (.aload_n 0, 1) := by decide +kernel
theorem dX4_isOn_21 : decode cX4_isOn 21 = .ok (.getfield 13, 3) := by decide +kernel
theorem dX4_isOn_24 : decode cX4_isOn 24 = .ok (.iload_n 1, 1) := by decide +kernel
theorem dX4_isOn_25 : decode cX4_isOn 25 = .ok (.iaload, 1) := by decide +kernel
theorem dX4_isOn_26 : decode cX4_isOn 26 = .ok (.aload_n 0, 1) := by decide +kernel
theorem dX4_isOn_27 : decode cX4_isOn 27 = .ok (.getfield 19, 3) := by decide +kernel
theorem dX4_isOn_30 : decode cX4_isOn 30 = .ok (.iload_n 1, 1) := by decide +kernel
theorem dX4_isOn_31 : decode cX4_isOn 31 = .ok (.iaload, 1) := by decide +kernel
theorem dX4_isOn_32 : decode cX4_isOn 32 = .ok (.invokestatic 71, 3) := by decide +kernel
theorem dX4_isOn_35 : decode cX4_isOn 35 = .ok (.ifCond .eq 19, 3) := by decide +kernel
theorem dX4_isOn_38 : decode cX4_isOn 38 = .ok (.aload_n 0, 1) := by decide +kernel
theorem dX4_isOn_39 : decode cX4_isOn 39 = .ok (.iload_n 1, 1) := by decide +kernel
theorem dX4_isOn_40 : decode cX4_isOn 40 = .ok (.iload_n 2, 1) := by decide +kernel
theorem dX4_isOn_41 : decode cX4_isOn 41 = .ok (.iload_n 3, 1) := by decide +kernel
theorem dX4_isOn_42 : decode cX4_isOn 42 = .ok (.invokevirtual 74, 3) := by decide +kernel
theorem dX4_isOn_45 : decode cX4_isOn 45 = .ok (.lconst 0, 1) := by decide +kernel
theorem dX4_isOn_46 : decode cX4_isOn 46 = .ok (.lcmp, 1) := by decide +kernel
theorem dX4_isOn_47 : decode cX4_isOn 47 = .ok (.ifCond .ne 7, 3) := by decide +kernel
theorem dX4_isOn_50 : decode cX4_isOn 50 = .ok (.iconst 1, 1) := by decide +kernel
theorem dX4_isOn_51 : decode cX4_isOn 51 = .ok (.goto 4, 3) := by decide +kernel
theorem dX4_isOn_54 : decode cX4_isOn 54 = .ok (.iconst 0, 1) := by decide +kernel
theorem dX4_isOn_55 : decode cX4_isOn 55 = .ok (.ireturn, 1) := by decide +kernel
abbrev cX4_between : ByteArray := prog_7_method_10_code
def yX4_between : MethodName := ⟨RX4, "between", "(III)Z"⟩
theorem dX4_between_0 : decode cX4_between 0 = .ok (.iload_n 1, 1) := by decide +kernel
theorem dX4_between_1 : decode cX4_between 1 = .ok (.iload_n 2, 1) := by decide +kernel
theorem dX4_between_2 : decode cX4_between 2 = .ok (.if_icmp .ge 21, 3) := by decide +kernel
theorem dX4_between_5 : decode cX4_between 5 = .ok (.iload_n 0, 1) := by decide +kernel
theorem dX4_between_6 : decode cX4_between 6 = .ok (.iload_n 1, 1) := by decide +kernel
theorem dX4_between_7 : decode cX4_between 7 = .ok (.if_icmp .lt 12, 3) := by decide +kernel
theorem dX4_between_10 : decode cX4_between 10 = .ok (.iload_n 0, 1) := by decide +kernel
theorem dX4_between_11 : decode cX4_between 11 = .ok (.iload_n 2, 1) := by decide +kernel
theorem dX4_between_12 : decode cX4_between 12 = .ok (.if_icmp .gt 7, 3) := by decide +kernel
theorem dX4_between_15 : decode cX4_between 15 = .ok (.iconst 1, 1) := by decide +kernel
theorem dX4_between_16 : decode cX4_between 16 = .ok (.goto 22, 3) := by decide +kernel
theorem dX4_between_19 : decode cX4_between 19 = .ok (.iconst 0, 1) := by decide +kernel
theorem dX4_between_20 : decode cX4_between 20 = .ok (.goto 18, 3) := by decide +kernel
theorem dX4_between_23 : decode cX4_between 23 = .ok (.iload_n 0, 1) := by decide +kernel
theorem dX4_between_24 : decode cX4_between 24 = .ok (.iload_n 2, 1) := by decide +kernel
theorem dX4_between_25 : decode cX4_between 25 = .ok (.if_icmp .lt 12, 3) := by decide +kernel
theorem dX4_between_28 : decode cX4_between 28 = .ok (.iload_n 0, 1) := by decide +kernel
theorem dX4_between_29 : decode cX4_between 29 = .ok (.iload_n 1, 1) := by decide +kernel
theorem dX4_between_30 : decode cX4_between 30 = .ok (.if_icmp .gt 7, 3) := by decide +kernel
theorem dX4_between_33 : decode cX4_between 33 = .ok (.iconst 1, 1) := by decide +kernel
theorem dX4_between_34 : decode cX4_between 34 = .ok (.goto 4, 3) := by decide +kernel
theorem dX4_between_37 : decode cX4_between 37 = .ok (.iconst 0, 1) := by decide +kernel
theorem dX4_between_38 : decode cX4_between 38 = .ok (.ireturn, 1) := by decide +kernel
abbrev cX4_isOnAny : ByteArray := prog_7_method_14_code
def yX4_isOnAny : MethodName := ⟨RX4, "isOnAny", "(III)Z"⟩
theorem dX4_isOnAny_0 : decode cX4_isOnAny 0 = .ok (.aload_n 0, 1) := by decide +kernel
theorem dX4_isOnAny_1 : decode cX4_isOnAny 1 = .ok (.iload_n 1, 1) := by decide +kernel
theorem dX4_isOnAny_2 : decode cX4_isOnAny 2 = .ok (.invokevirtual 82, 3) := by decide +kernel
theorem dX4_isOnAny_5 : decode cX4_isOnAny 5 = .ok (.istore 4, 2) := by decide +kernel
theorem dX4_isOnAny_7 : decode cX4_isOnAny 7 = .ok (.iload 4, 2) := by decide +kernel
theorem dX4_isOnAny_9 : decode cX4_isOnAny 9 = .ok (.aload_n 0, 1) := by decide +kernel
theorem dX4_isOnAny_10 : decode cX4_isOnAny 10 = .ok (.iload_n 1, 1) := by decide +kernel
theorem dX4_isOnAny_11 : decode cX4_isOnAny 11 = .ok (.invokevirtual 85, 3) := by decide +kernel
theorem dX4_isOnAny_14 : decode cX4_isOnAny 14 = .ok (.if_icmp .ge 22, 3) := by decide +kernel
theorem dX4_isOnAny_17 : decode cX4_isOnAny 17 = .ok (.aload_n 0, 1) := by decide +kernel
theorem dX4_isOnAny_18 : decode cX4_isOnAny 18 = .ok (.iload 4, 2) := by decide +kernel
theorem dX4_isOnAny_20 : decode cX4_isOnAny 20 = .ok (.iload_n 2, 1) := by decide +kernel
theorem dX4_isOnAny_21 : decode cX4_isOnAny 21 = .ok (.iload_n 3, 1) := by decide +kernel
theorem dX4_isOnAny_22 : decode cX4_isOnAny 22 = .ok (.invokevirtual 88, 3) := by decide +kernel
theorem dX4_isOnAny_25 : decode cX4_isOnAny 25 = .ok (.ifCond .eq 5, 3) := by decide +kernel
theorem dX4_isOnAny_28 : decode cX4_isOnAny 28 = .ok (.iconst 1, 1) := by decide +kernel
theorem dX4_isOnAny_29 : decode cX4_isOnAny 29 = .ok (.ireturn, 1) := by decide +kernel
theorem dX4_isOnAny_30 : decode cX4_isOnAny 30 = .ok (.iinc 4 1, 3) := by decide +kernel
theorem dX4_isOnAny_33 : decode cX4_isOnAny 33 = .ok (.goto (-26), 3) := by decide +kernel
theorem dX4_isOnAny_36 : decode cX4_isOnAny 36 = .ok (.iconst 0, 1) := by decide +kernel
theorem dX4_isOnAny_37 : decode cX4_isOnAny 37 = .ok (.ireturn, 1) := by decide +kernel
abbrev cX4_from : ByteArray := prog_7_method_5_code
def yX4_from : MethodName := ⟨RX4, "from", "(I)I"⟩
theorem dX4_from_0 : decode cX4_from 0 = .ok (.iload_n 1, 1) := by decide +kernel
theorem dX4_from_1 : decode cX4_from 1 = .ok (.ifCond .ne 7, 3) := by decide +kernel
theorem dX4_from_4 : decode cX4_from 4 = .ok (.iconst 0, 1) := by decide +kernel
theorem dX4_from_5 : decode cX4_from 5 = .ok (.goto 7, 3) := by decide +kernel
theorem dX4_from_8 : decode cX4_from 8 = .ok (.aload_n 0, 1) := by decide +kernel
theorem dX4_from_9 : decode cX4_from 9 = .ok (.getfield 61, 3) := by decide +kernel
theorem dX4_from_12 : decode cX4_from 12 = .ok (.ireturn, 1) := by decide +kernel
abbrev cX4_to : ByteArray := prog_7_method_6_code
def yX4_to : MethodName := ⟨RX4, "to", "(I)I"⟩
theorem dX4_to_0 : decode cX4_to 0 = .ok (.iload_n 1, 1) := by decide +kernel
theorem dX4_to_1 : decode cX4_to 1 = .ok (.ifCond .ne 10, 3) := by decide +kernel
theorem dX4_to_4 : decode cX4_to 4 = .ok (.aload_n 0, 1) := by decide +kernel
theorem dX4_to_5 : decode cX4_to 5 = .ok (.getfield 61, 3) := by decide +kernel
theorem dX4_to_8 : decode cX4_to 8 = .ok (.goto 7, 3) := by decide +kernel
theorem dX4_to_11 : decode cX4_to 11 = .ok (.aload_n 0, 1) := by decide +kernel
theorem dX4_to_12 : decode cX4_to 12 = .ok (.getfield 30, 3) := by decide +kernel
theorem dX4_to_15 : decode cX4_to 15 = .ok (.ireturn, 1) := by decide +kernel
abbrev cX4_isOdd : ByteArray := prog_7_method_18_code
def yX4_isOdd : MethodName := ⟨RX4, "isOdd", "(ILShapeRelator$Step;)Z"⟩
theorem dX4_isOdd_0 : decode cX4_isOdd 0 = .ok (.iconst 0, 1) := by decide +kernel
theorem dX4_isOdd_1 : decode cX4_isOdd 1 = .ok (.istore_n 3, 1) := by decide +kernel
theorem dX4_isOdd_2 : decode cX4_isOdd 2 = .ok (.aload_n 0, 1) := by decide +kernel
theorem dX4_isOdd_3 : decode cX4_isOdd 3 = .ok (.iload_n 1, 1) := by decide +kernel
theorem dX4_isOdd_4 : decode cX4_isOdd 4 = .ok (.invokevirtual 82, 3) := by decide +kernel
theorem dX4_isOdd_7 : decode cX4_isOdd 7 = .ok (.istore 4, 2) := by decide +kernel
theorem dX4_isOdd_9 : decode cX4_isOdd 9 = .ok (.iload 4, 2) := by decide +kernel
theorem dX4_isOdd_11 : decode cX4_isOdd 11 = .ok (.aload_n 0, 1) := by decide +kernel
theorem dX4_isOdd_12 : decode cX4_isOdd 12 = .ok (.iload_n 1, 1) := by decide +kernel
theorem dX4_isOdd_13 : decode cX4_isOdd 13 = .ok (.invokevirtual 85, 3) := by decide +kernel
theorem dX4_isOdd_16 : decode cX4_isOdd 16 = .ok (.if_icmp .ge 95, 3) := by decide +kernel
theorem dX4_isOdd_19 : decode cX4_isOdd 19 = .ok (.aload_n 2, 1) := by decide +kernel
theorem dX4_isOdd_20 : decode cX4_isOdd 20 = .ok (.aload_n 0, 1) := by decide +kernel
theorem dX4_isOdd_21 : decode cX4_isOdd 21 = .ok (.getfield 13, 3) := by decide +kernel
theorem dX4_isOdd_24 : decode cX4_isOdd 24 = .ok (.iload 4, 2) := by decide +kernel
theorem dX4_isOdd_26 : decode cX4_isOdd 26 = .ok (.iaload, 1) := by decide +kernel
theorem dX4_isOdd_27 : decode cX4_isOdd 27 = .ok (.invokevirtual 110, 3) := by decide +kernel
theorem dX4_isOdd_30 : decode cX4_isOdd 30 = .ok (.istore 5, 2) := by decide +kernel
theorem dX4_isOdd_32 : decode cX4_isOdd 32 = .ok (.aload_n 2, 1) := by decide +kernel
theorem dX4_isOdd_33 : decode cX4_isOdd 33 = .ok (.aload_n 0, 1) := by decide +kernel
theorem dX4_isOdd_34 : decode cX4_isOdd 34 = .ok (.getfield 19, 3) := by decide +kernel
theorem dX4_isOdd_37 : decode cX4_isOdd 37 = .ok (.iload 4, 2) := by decide +kernel
theorem dX4_isOdd_39 : decode cX4_isOdd 39 = .ok (.iaload, 1) := by decide +kernel
theorem dX4_isOdd_40 : decode cX4_isOdd 40 = .ok (.invokevirtual 110, 3) := by decide +kernel
theorem dX4_isOdd_43 : decode cX4_isOdd 43 = .ok (.istore 6, 2) := by decide +kernel
theorem dX4_isOdd_45 : decode cX4_isOdd 45 = .ok (.iload 5, 2) := by decide +kernel
theorem dX4_isOdd_47 : decode cX4_isOdd 47 = .ok (.iload 6, 2) := by decide +kernel
theorem dX4_isOdd_49 : decode cX4_isOdd 49 = .ok (.if_icmp .eq 56, 3) := by decide +kernel
theorem dX4_isOdd_52 : decode cX4_isOdd 52 = .ok (.aload_n 2, 1) := by decide +kernel
theorem dX4_isOdd_53 : decode cX4_isOdd 53 = .ok (.aload_n 0, 1) := by decide +kernel
theorem dX4_isOdd_54 : decode cX4_isOdd 54 = .ok (.getfield 7, 3) := by decide +kernel
theorem dX4_isOdd_57 : decode cX4_isOdd 57 = .ok (.iload 4, 2) := by decide +kernel
theorem dX4_isOdd_59 : decode cX4_isOdd 59 = .ok (.iaload, 1) := by decide +kernel
theorem dX4_isOdd_60 : decode cX4_isOdd 60 = .ok (.aload_n 0, 1) := by decide +kernel
theorem dX4_isOdd_61 : decode cX4_isOdd 61 = .ok (.getfield 13, 3) := by decide +kernel
theorem dX4_isOdd_64 : decode cX4_isOdd 64 = .ok (.iload 4, 2) := by decide +kernel
theorem dX4_isOdd_66 : decode cX4_isOdd 66 = .ok (.iaload, 1) := by decide +kernel
theorem dX4_isOdd_67 : decode cX4_isOdd 67 = .ok (.aload_n 0, 1) := by decide +kernel
theorem dX4_isOdd_68 : decode cX4_isOdd 68 = .ok (.iload 4, 2) := by decide +kernel
theorem dX4_isOdd_70 : decode cX4_isOdd 70 = .ok (.invokevirtual 64, 3) := by decide +kernel
theorem dX4_isOdd_73 : decode cX4_isOdd 73 = .ok (.aload_n 0, 1) := by decide +kernel
theorem dX4_isOdd_74 : decode cX4_isOdd 74 = .ok (.iload 4, 2) := by decide +kernel
theorem dX4_isOdd_76 : decode cX4_isOdd 76 = .ok (.invokevirtual 68, 3) := by decide +kernel
theorem dX4_isOdd_79 : decode cX4_isOdd 79 = .ok (.invokevirtual 114, 3) := by decide +kernel
theorem dX4_isOdd_82 : decode cX4_isOdd 82 = .ok (.ifCond .le 7, 3) := by decide +kernel
theorem dX4_isOdd_85 : decode cX4_isOdd 85 = .ok (.iconst 1, 1) := by decide +kernel
theorem dX4_isOdd_86 : decode cX4_isOdd 86 = .ok (.goto 4, 3) := by decide +kernel
theorem dX4_isOdd_89 : decode cX4_isOdd 89 = .ok (.iconst 0, 1) := by decide +kernel
theorem dX4_isOdd_90 : decode cX4_isOdd 90 = .ok (.iload 6, 2) := by decide +kernel
theorem dX4_isOdd_92 : decode cX4_isOdd 92 = .ok (.if_icmp .ne 13, 3) := by decide +kernel
theorem dX4_isOdd_95 : decode cX4_isOdd 95 = .ok (.iload_n 3, 1) := by decide +kernel
theorem dX4_isOdd_96 : decode cX4_isOdd 96 = .ok (.ifCond .ne 7, 3) := by decide +kernel
theorem dX4_isOdd_99 : decode cX4_isOdd 99 = .ok (.iconst 1, 1) := by decide +kernel
theorem dX4_isOdd_100 : decode cX4_isOdd 100 = .ok (.goto 4, 3) := by decide +kernel
theorem dX4_isOdd_103 : decode cX4_isOdd 103 = .ok (.iconst 0, 1) := by decide +kernel
theorem dX4_isOdd_104 : decode cX4_isOdd 104 = .ok (.istore_n 3, 1) := by decide +kernel
theorem dX4_isOdd_105 : decode cX4_isOdd 105 = .ok (.iinc 4 1, 3) := by decide +kernel
theorem dX4_isOdd_108 : decode cX4_isOdd 108 = .ok (.goto (-99), 3) := by decide +kernel
theorem dX4_isOdd_111 : decode cX4_isOdd 111 = .ok (.iload_n 3, 1) := by decide +kernel
theorem dX4_isOdd_112 : decode cX4_isOdd 112 = .ok (.ireturn, 1) := by decide +kernel
abbrev cX4_isAlong : ByteArray := prog_7_method_17_code
def yX4_isAlong : MethodName := ⟨RX4, "isAlong", "(ILShapeRelator$Step;)Z"⟩
theorem dX4_isAlong_0 : decode cX4_isAlong 0 = .ok (.aload_n 0, 1) := by decide +kernel
theorem dX4_isAlong_1 : decode cX4_isAlong 1 = .ok (.iload_n 1, 1) := by decide +kernel
theorem dX4_isAlong_2 : decode cX4_isAlong 2 = .ok (.invokevirtual 82, 3) := by decide +kernel
theorem dX4_isAlong_5 : decode cX4_isAlong 5 = .ok (.istore_n 3, 1) := by decide +kernel
theorem dX4_isAlong_6 : decode cX4_isAlong 6 = .ok (.iload_n 3, 1) := by decide +kernel
theorem dX4_isAlong_7 : decode cX4_isAlong 7 = .ok (.aload_n 0, 1) := by decide +kernel
theorem dX4_isAlong_8 : decode cX4_isAlong 8 = .ok (.iload_n 1, 1) := by decide +kernel
theorem dX4_isAlong_9 : decode cX4_isAlong 9 = .ok (.invokevirtual 85, 3) := by decide +kernel
theorem dX4_isAlong_12 : decode cX4_isAlong 12 = .ok (.if_icmp .ge 20, 3) := by decide +kernel
theorem dX4_isAlong_15 : decode cX4_isAlong 15 = .ok (.aload_n 0, 1) := by decide +kernel
theorem dX4_isAlong_16 : decode cX4_isAlong 16 = .ok (.iload_n 3, 1) := by decide +kernel
theorem dX4_isAlong_17 : decode cX4_isAlong 17 = .ok (.aload_n 2, 1) := by decide +kernel
theorem dX4_isAlong_18 : decode cX4_isAlong 18 = .ok (.invokevirtual 106, 3) := by decide +kernel
theorem dX4_isAlong_21 : decode cX4_isAlong 21 = .ok (.ifCond .eq 5, 3) := by decide +kernel
theorem dX4_isAlong_24 : decode cX4_isAlong 24 = .ok (.iconst 1, 1) := by decide +kernel
theorem dX4_isAlong_25 : decode cX4_isAlong 25 = .ok (.ireturn, 1) := by decide +kernel
theorem dX4_isAlong_26 : decode cX4_isAlong 26 = .ok (.iinc 3 1, 3) := by decide +kernel
theorem dX4_isAlong_29 : decode cX4_isAlong 29 = .ok (.goto (-23), 3) := by decide +kernel
theorem dX4_isAlong_32 : decode cX4_isAlong 32 = .ok (.iconst 0, 1) := by decide +kernel
theorem dX4_isAlong_33 : decode cX4_isAlong 33 = .ok (.ireturn, 1) := by decide +kernel
abbrev cX4_goesAlong : ByteArray := prog_7_method_15_code
def yX4_goesAlong : MethodName := ⟨RX4, "goesAlong", "(ILShapeRelator$Step;)Z"⟩
theorem dX4_goesAlong_0 : decode cX4_goesAlong 0 = .ok (.aload_n 0, 1) := by decide +kernel
theorem dX4_goesAlong_1 : decode cX4_goesAlong 1 = .ok (.iload_n 1, 1) := by decide +kernel
theorem dX4_goesAlong_2 : decode cX4_goesAlong 2 = .ok (.aload_n 2, 1) := by decide +kernel
theorem dX4_goesAlong_3 : decode cX4_goesAlong 3 = .ok (.getfield 91, 3) := by decide +kernel
theorem dX4_goesAlong_6 : decode cX4_goesAlong 6 = .ok (.aload_n 2, 1) := by decide +kernel
theorem dX4_goesAlong_7 : decode cX4_goesAlong 7 = .ok (.getfield 95, 3) := by decide +kernel
theorem dX4_goesAlong_10 : decode cX4_goesAlong 10 = .ok (.invokevirtual 88, 3) := by decide +kernel
theorem dX4_goesAlong_13 : decode cX4_goesAlong 13 = .ok (.ifCond .eq 29, 3) := by decide +kernel
theorem dX4_goesAlong_16 : decode cX4_goesAlong 16 = .ok (.aload_n 0, 1) := by decide +kernel
theorem dX4_goesAlong_17 : decode cX4_goesAlong 17 = .ok (.iload_n 1, 1) := by decide +kernel
theorem dX4_goesAlong_18 : decode cX4_goesAlong 18 = .ok (.invokevirtual 64, 3) := by decide +kernel
theorem dX4_goesAlong_21 : decode cX4_goesAlong 21 = .ok (.aload_n 2, 1) := by decide +kernel
theorem dX4_goesAlong_22 : decode cX4_goesAlong 22 = .ok (.getfield 97, 3) := by decide +kernel
theorem dX4_goesAlong_25 : decode cX4_goesAlong 25 = .ok (.lmul, 1) := by decide +kernel
theorem dX4_goesAlong_26 : decode cX4_goesAlong 26 = .ok (.aload_n 0, 1) := by decide +kernel
theorem dX4_goesAlong_27 : decode cX4_goesAlong 27 = .ok (.iload_n 1, 1) := by decide +kernel
theorem dX4_goesAlong_28 : decode cX4_goesAlong 28 = .ok (.invokevirtual 68, 3) := by decide +kernel
theorem dX4_goesAlong_31 : decode cX4_goesAlong 31 = .ok (.aload_n 2, 1) := by decide +kernel
theorem dX4_goesAlong_32 : decode cX4_goesAlong 32 = .ok (.getfield 100, 3) := by decide +kernel
theorem dX4_goesAlong_35 : decode cX4_goesAlong 35 = .ok (.lmul, 1) := by decide +kernel
theorem dX4_goesAlong_36 : decode cX4_goesAlong 36 = .ok (.lsub, 1) := by decide +kernel
theorem dX4_goesAlong_37 : decode cX4_goesAlong 37 = .ok (.lconst 0, 1) := by decide +kernel
theorem dX4_goesAlong_38 : decode cX4_goesAlong 38 = .ok (.lcmp, 1) := by decide +kernel
theorem dX4_goesAlong_39 : decode cX4_goesAlong 39 = .ok (.ifCond .eq 5, 3) := by decide +kernel
theorem dX4_goesAlong_42 : decode cX4_goesAlong 42 = .ok (.iconst 0, 1) := by decide +kernel
theorem dX4_goesAlong_43 : decode cX4_goesAlong 43 = .ok (.ireturn, 1) := by decide +kernel
theorem dX4_goesAlong_44 : decode cX4_goesAlong 44 = .ok (.aload_n 2, 1) := by decide +kernel
theorem dX4_goesAlong_45 : decode cX4_goesAlong 45 = .ok (.aload_n 0, 1) := by decide +kernel
theorem dX4_goesAlong_46 : decode cX4_goesAlong 46 = .ok (.getfield 7, 3) := by decide +kernel
theorem dX4_goesAlong_49 : decode cX4_goesAlong 49 = .ok (.iload_n 1, 1) := by decide +kernel
theorem dX4_goesAlong_50 : decode cX4_goesAlong 50 = .ok (.iaload, 1) := by decide +kernel
theorem dX4_goesAlong_51 : decode cX4_goesAlong 51 = .ok (.aload_n 0, 1) := by decide +kernel
theorem dX4_goesAlong_52 : decode cX4_goesAlong 52 = .ok (.getfield 13, 3) := by decide +kernel
theorem dX4_goesAlong_55 : decode cX4_goesAlong 55 = .ok (.iload_n 1, 1) := by decide +kernel
theorem dX4_goesAlong_56 : decode cX4_goesAlong 56 = .ok (.iaload, 1) := by decide +kernel
theorem dX4_goesAlong_57 : decode cX4_goesAlong 57 = .ok (.invokestatic 102, 3) := by decide +kernel
theorem dX4_goesAlong_60 : decode cX4_goesAlong 60 = .ok (.ifCond .ne 22, 3) := by decide +kernel
theorem dX4_goesAlong_63 : decode cX4_goesAlong 63 = .ok (.aload_n 2, 1) := by decide +kernel
theorem dX4_goesAlong_64 : decode cX4_goesAlong 64 = .ok (.aload_n 0, 1) := by decide +kernel
theorem dX4_goesAlong_65 : decode cX4_goesAlong 65 = .ok (.getfield 16, 3) := by decide +kernel
theorem dX4_goesAlong_68 : decode cX4_goesAlong 68 = .ok (.iload_n 1, 1) := by decide +kernel
theorem dX4_goesAlong_69 : decode cX4_goesAlong 69 = .ok (.iaload, 1) := by decide +kernel
theorem dX4_goesAlong_70 : decode cX4_goesAlong 70 = .ok (.aload_n 0, 1) := by decide +kernel
theorem dX4_goesAlong_71 : decode cX4_goesAlong 71 = .ok (.getfield 19, 3) := by decide +kernel
theorem dX4_goesAlong_74 : decode cX4_goesAlong 74 = .ok (.iload_n 1, 1) := by decide +kernel
theorem dX4_goesAlong_75 : decode cX4_goesAlong 75 = .ok (.iaload, 1) := by decide +kernel
theorem dX4_goesAlong_76 : decode cX4_goesAlong 76 = .ok (.invokestatic 102, 3) := by decide +kernel
theorem dX4_goesAlong_79 : decode cX4_goesAlong 79 = .ok (.ifCond .eq 7, 3) := by decide +kernel
theorem dX4_goesAlong_82 : decode cX4_goesAlong 82 = .ok (.iconst 1, 1) := by decide +kernel
theorem dX4_goesAlong_83 : decode cX4_goesAlong 83 = .ok (.goto 4, 3) := by decide +kernel
theorem dX4_goesAlong_86 : decode cX4_goesAlong 86 = .ok (.iconst 0, 1) := by decide +kernel
theorem dX4_goesAlong_87 : decode cX4_goesAlong 87 = .ok (.ireturn, 1) := by decide +kernel
abbrev cX4_leads : ByteArray := prog_7_method_16_code
def yX4_leads : MethodName := ⟨RX4, "leads", "(LShapeRelator$Step;II)Z"⟩
theorem dX4_leads_0 : decode cX4_leads 0 = .ok (.iload_n 1, 1) := by decide +kernel
theorem dX4_leads_1 : decode cX4_leads 1 = .ok (.i2l, 1) := by decide +kernel
theorem dX4_leads_2 : decode cX4_leads 2 = .ok (.aload_n 0, 1) := by decide +kernel
theorem dX4_leads_3 : decode cX4_leads 3 = .ok (.getfield 91, 3) := by decide +kernel
theorem dX4_leads_6 : decode cX4_leads 6 = .ok (.i2l, 1) := by decide +kernel
theorem dX4_leads_7 : decode cX4_leads 7 = .ok (.lsub, 1) := by decide +kernel
theorem dX4_leads_8 : decode cX4_leads 8 = .ok (.lstore_n 3, 1) := by decide +kernel
theorem dX4_leads_9 : decode cX4_leads 9 = .ok (.iload_n 2, 1) := by decide +kernel
theorem dX4_leads_10 : decode cX4_leads 10 = .ok (.i2l, 1) := by decide +kernel
theorem dX4_leads_11 : decode cX4_leads 11 = .ok (.aload_n 0, 1) := by decide +kernel
theorem dX4_leads_12 : decode cX4_leads 12 = .ok (.getfield 95, 3) := by decide +kernel
theorem dX4_leads_15 : decode cX4_leads 15 = .ok (.i2l, 1) := by decide +kernel
theorem dX4_leads_16 : decode cX4_leads 16 = .ok (.lsub, 1) := by decide +kernel
theorem dX4_leads_17 : decode cX4_leads 17 = .ok (.lstore 5, 2) := by decide +kernel
theorem dX4_leads_19 : decode cX4_leads 19 = .ok (.lload_n 3, 1) := by decide +kernel
theorem dX4_leads_20 : decode cX4_leads 20 = .ok (.aload_n 0, 1) := by decide +kernel
theorem dX4_leads_21 : decode cX4_leads 21 = .ok (.getfield 100, 3) := by decide +kernel
theorem dX4_leads_24 : decode cX4_leads 24 = .ok (.lmul, 1) := by decide +kernel
theorem dX4_leads_25 : decode cX4_leads 25 = .ok (.lconst 0, 1) := by decide +kernel
theorem dX4_leads_26 : decode cX4_leads 26 = .ok (.lcmp, 1) := by decide +kernel
theorem dX4_leads_27 : decode cX4_leads 27 = .ok (.ifCond .gt 15, 3) := by decide +kernel
theorem dX4_leads_30 : decode cX4_leads 30 = .ok (.lload 5, 2) := by decide +kernel
theorem dX4_leads_32 : decode cX4_leads 32 = .ok (.aload_n 0, 1) := by decide +kernel
theorem dX4_leads_33 : decode cX4_leads 33 = .ok (.getfield 97, 3) := by decide +kernel
theorem dX4_leads_36 : decode cX4_leads 36 = .ok (.lmul, 1) := by decide +kernel
theorem dX4_leads_37 : decode cX4_leads 37 = .ok (.lconst 0, 1) := by decide +kernel
theorem dX4_leads_38 : decode cX4_leads 38 = .ok (.lcmp, 1) := by decide +kernel
theorem dX4_leads_39 : decode cX4_leads 39 = .ok (.ifCond .le 7, 3) := by decide +kernel
theorem dX4_leads_42 : decode cX4_leads 42 = .ok (.iconst 1, 1) := by decide +kernel
theorem dX4_leads_43 : decode cX4_leads 43 = .ok (.goto 4, 3) := by decide +kernel
theorem dX4_leads_46 : decode cX4_leads 46 = .ok (.iconst 0, 1) := by decide +kernel
theorem dX4_leads_47 : decode cX4_leads 47 = .ok (.ireturn, 1) := by decide +kernel
theorem q74 : (Jvm.Cond.initialized "ShapeRelator$Segments") ∈ lw_all := lw_g (lw_at lw_m1 4 rfl) rfl
theorem q114 : (Jvm.Cond.fieldLinkNest "ShapeRelator$Segments" (43 : Nat) "ShapeRelator$Outline" "kind" "I" "ShapeRelator") ∈ lw_tbl := lw_at lw_m1 44 rfl
theorem q118 : (Jvm.Cond.fieldLinkNest "ShapeRelator$Segments" (46 : Nat) "ShapeRelator$Outline" "starts" "[I" "ShapeRelator") ∈ lw_tbl := lw_at lw_m1 48 rfl
theorem q120 : (Jvm.Cond.fieldLinkNest "ShapeRelator$Segments" (40 : Nat) "ShapeRelator$Outline" "parts" "I" "ShapeRelator") ∈ lw_tbl := lw_at lw_m1 50 rfl
theorem q123 : (Jvm.Cond.fieldLinkNest "ShapeRelator$Segments" (22 : Nat) "ShapeRelator$Outline" "x" "[I" "ShapeRelator") ∈ lw_tbl := lw_at lw_m1 53 rfl
theorem q126 : (Jvm.Cond.fieldLinkNest "ShapeRelator$Segments" (25 : Nat) "ShapeRelator$Outline" "y" "[I" "ShapeRelator") ∈ lw_tbl := lw_at lw_m1 56 rfl
theorem q146 : (Jvm.Cond.instantiable "ShapeRelator$Segments" (6 : Nat)) ∈ lw_all := lw_g (lw_at lw_m1 76 rfl) rfl
theorem q148 : (Jvm.Cond.instanceMethod ({ cls := "ShapeRelator$Segments", name := "<init>", desc := "()V" } : Jvm.MethodName)) ∈ lw_all := lw_g (lw_at lw_m1 78 rfl) rfl
theorem q149 : (Jvm.Cond.code ({ cls := "ShapeRelator$Segments", name := "<init>", desc := "()V" } : Jvm.MethodName) prog_7_method_1_code (1 : Nat) (Option.none : Option Jvm.ClassFile.FieldType)) ∈ lw_all := lw_g (lw_at lw_m1 79 rfl) rfl
theorem q150 : (Jvm.Cond.methodLink "ShapeRelator$Segments" (1 : Nat) ({ cls := "java/lang/Object", name := "<init>", desc := "()V" } : Jvm.MethodName)) ∈ lw_all := lw_g (lw_at lw_m1 80 rfl) rfl
theorem q151 : (Jvm.Cond.fieldLink "ShapeRelator$Segments" (7 : Nat) "ShapeRelator$Segments" "x" "[I") ∈ lw_all := lw_g (lw_at lw_m1 81 rfl) rfl
theorem q153 : (Jvm.Cond.fieldLink "ShapeRelator$Segments" (13 : Nat) "ShapeRelator$Segments" "y" "[I") ∈ lw_all := lw_g (lw_at lw_m1 83 rfl) rfl
theorem q155 : (Jvm.Cond.fieldLink "ShapeRelator$Segments" (16 : Nat) "ShapeRelator$Segments" "toX" "[I") ∈ lw_all := lw_g (lw_at lw_m1 85 rfl) rfl
theorem q157 : (Jvm.Cond.fieldLink "ShapeRelator$Segments" (19 : Nat) "ShapeRelator$Segments" "toY" "[I") ∈ lw_all := lw_g (lw_at lw_m1 87 rfl) rfl
theorem q159 : (Jvm.Cond.fieldLink "ShapeRelator$Segments" (30 : Nat) "ShapeRelator$Segments" "size" "I") ∈ lw_all := lw_g (lw_at lw_m1 89 rfl) rfl
theorem q161 : (Jvm.Cond.fieldLink "ShapeRelator$Segments" (61 : Nat) "ShapeRelator$Segments" "ofFirst" "I") ∈ lw_all := lw_g (lw_at lw_m1 91 rfl) rfl
theorem q163 : (Jvm.Cond.lays "ShapeRelator$Segments" "ShapeRelator$Segments" "x" "[I") ∈ lw_all := lw_g (lw_at lw_m1 93 rfl) rfl
theorem q164 : (Jvm.Cond.soleField "ShapeRelator$Segments" "x") ∈ lw_all := lw_g (lw_at lw_m1 94 rfl) rfl
theorem q165 : (Jvm.Cond.lays "ShapeRelator$Segments" "ShapeRelator$Segments" "y" "[I") ∈ lw_all := lw_g (lw_at lw_m1 95 rfl) rfl
theorem q166 : (Jvm.Cond.soleField "ShapeRelator$Segments" "y") ∈ lw_all := lw_g (lw_at lw_m1 96 rfl) rfl
theorem q167 : (Jvm.Cond.lays "ShapeRelator$Segments" "ShapeRelator$Segments" "toX" "[I") ∈ lw_all := lw_g (lw_at lw_m1 97 rfl) rfl
theorem q168 : (Jvm.Cond.soleField "ShapeRelator$Segments" "toX") ∈ lw_all := lw_g (lw_at lw_m1 98 rfl) rfl
theorem q169 : (Jvm.Cond.lays "ShapeRelator$Segments" "ShapeRelator$Segments" "toY" "[I") ∈ lw_all := lw_g (lw_at lw_m1 99 rfl) rfl
theorem q170 : (Jvm.Cond.soleField "ShapeRelator$Segments" "toY") ∈ lw_all := lw_g (lw_at lw_m1 100 rfl) rfl
theorem q171 : (Jvm.Cond.lays "ShapeRelator$Segments" "ShapeRelator$Segments" "size" "I") ∈ lw_all := lw_g (lw_at lw_m1 101 rfl) rfl
theorem q172 : (Jvm.Cond.soleField "ShapeRelator$Segments" "size") ∈ lw_all := lw_g (lw_at lw_m1 102 rfl) rfl
theorem q173 : (Jvm.Cond.lays "ShapeRelator$Segments" "ShapeRelator$Segments" "ofFirst" "I") ∈ lw_all := lw_g (lw_at lw_m1 103 rfl) rfl
theorem q174 : (Jvm.Cond.soleField "ShapeRelator$Segments" "ofFirst") ∈ lw_all := lw_g (lw_at lw_m1 104 rfl) rfl
theorem q175 : (Jvm.Cond.superclass "ShapeRelator$Segments" "java/lang/Object") ∈ lw_all := lw_g (lw_at lw_m1 105 rfl) rfl
theorem q293 : (Jvm.Cond.fieldLinkNest "ShapeRelator$Segments" (91 : Nat) "ShapeRelator$Step" "x" "I" "ShapeRelator") ∈ lw_tbl := lw_at lw_m1 223 rfl
theorem q295 : (Jvm.Cond.fieldLinkNest "ShapeRelator$Segments" (95 : Nat) "ShapeRelator$Step" "y" "I" "ShapeRelator") ∈ lw_tbl := lw_at lw_m1 225 rfl
theorem q297 : (Jvm.Cond.fieldLinkNest "ShapeRelator$Segments" (100 : Nat) "ShapeRelator$Step" "byX" "J" "ShapeRelator") ∈ lw_tbl := lw_at lw_m1 227 rfl
theorem q299 : (Jvm.Cond.fieldLinkNest "ShapeRelator$Segments" (97 : Nat) "ShapeRelator$Step" "byY" "J" "ShapeRelator") ∈ lw_tbl := lw_at lw_m1 229 rfl
theorem q375 : (Jvm.Cond.instanceMethod ({ cls := "ShapeRelator$Segments", name := "take", desc := "(LShapeRelator$Outline;LShapeRelator$Outline;)V" } : Jvm.MethodName)) ∈ lw_all := lw_g (lw_at lw_m2 65 rfl) rfl
theorem q376 : (Jvm.Cond.selects "ShapeRelator$Segments" ({ cls := "ShapeRelator$Segments", name := "take", desc := "(LShapeRelator$Outline;LShapeRelator$Outline;)V" } : Jvm.MethodName) ({ cls := "ShapeRelator$Segments", name := "take", desc := "(LShapeRelator$Outline;LShapeRelator$Outline;)V" } : Jvm.MethodName)) ∈ lw_all := lw_g (lw_at lw_m2 66 rfl) rfl
theorem q377 : (Jvm.Cond.code ({ cls := "ShapeRelator$Segments", name := "take", desc := "(LShapeRelator$Outline;LShapeRelator$Outline;)V" } : Jvm.MethodName) prog_7_method_4_code (3 : Nat) (Option.none : Option Jvm.ClassFile.FieldType)) ∈ lw_all := lw_g (lw_at lw_m2 67 rfl) rfl
theorem q378 : (Jvm.Cond.methodLink "ShapeRelator$Segments" (57 : Nat) ({ cls := "ShapeRelator$Segments", name := "addAll", desc := "(LShapeRelator$Outline;)V" } : Jvm.MethodName)) ∈ lw_all := lw_g (lw_at lw_m2 68 rfl) rfl
theorem q379 : (Jvm.Cond.privateMethod ({ cls := "ShapeRelator$Segments", name := "addAll", desc := "(LShapeRelator$Outline;)V" } : Jvm.MethodName)) ∈ lw_tbl := lw_at lw_m2 69 rfl
theorem q380 : (Jvm.Cond.instanceMethod ({ cls := "ShapeRelator$Segments", name := "addAll", desc := "(LShapeRelator$Outline;)V" } : Jvm.MethodName)) ∈ lw_all := lw_g (lw_at lw_m2 70 rfl) rfl
theorem q381 : (Jvm.Cond.code ({ cls := "ShapeRelator$Segments", name := "addAll", desc := "(LShapeRelator$Outline;)V" } : Jvm.MethodName) prog_7_method_3_code (4 : Nat) (Option.none : Option Jvm.ClassFile.FieldType)) ∈ lw_all := lw_g (lw_at lw_m2 71 rfl) rfl
theorem q382 : (Jvm.Cond.methodLink "ShapeRelator$Segments" (49 : Nat) ({ cls := "ShapeRelator$Outline", name := "end", desc := "(I)I" } : Jvm.MethodName)) ∈ lw_all := lw_g (lw_at lw_m2 72 rfl) rfl
theorem q386 : (Jvm.Cond.methodLink "ShapeRelator$Segments" (53 : Nat) ({ cls := "ShapeRelator$Segments", name := "add", desc := "(LShapeRelator$Outline;II)V" } : Jvm.MethodName)) ∈ lw_all := lw_g (lw_at lw_m2 76 rfl) rfl
theorem q387 : (Jvm.Cond.privateMethod ({ cls := "ShapeRelator$Segments", name := "add", desc := "(LShapeRelator$Outline;II)V" } : Jvm.MethodName)) ∈ lw_tbl := lw_at lw_m2 77 rfl
theorem q388 : (Jvm.Cond.instanceMethod ({ cls := "ShapeRelator$Segments", name := "add", desc := "(LShapeRelator$Outline;II)V" } : Jvm.MethodName)) ∈ lw_all := lw_g (lw_at lw_m2 78 rfl) rfl
theorem q389 : (Jvm.Cond.code ({ cls := "ShapeRelator$Segments", name := "add", desc := "(LShapeRelator$Outline;II)V" } : Jvm.MethodName) prog_7_method_2_code (4 : Nat) (Option.none : Option Jvm.ClassFile.FieldType)) ∈ lw_all := lw_g (lw_at lw_m2 79 rfl) rfl
theorem q390 : (Jvm.Cond.methodLink "ShapeRelator$Segments" (26 : Nat) ({ cls := "ShapeRelator$Outline", name := "isAt", desc := "(III)Z" } : Jvm.MethodName)) ∈ lw_all := lw_g (lw_at lw_m2 80 rfl) rfl
theorem q394 : (Jvm.Cond.methodLinkNest "ShapeRelator$Segments" (34 : Nat) ({ cls := "ShapeRelator$Bounds", name := "longer", desc := "([II)[I" } : Jvm.MethodName) "ShapeRelator") ∈ lw_tbl := lw_at lw_m2 84 rfl
theorem q515 : (Jvm.Cond.instanceMethod ({ cls := "ShapeRelator$Segments", name := "cross", desc := "(II)Z" } : Jvm.MethodName)) ∈ lw_all := lw_g (lw_at lw_m2 205 rfl) rfl
theorem q516 : (Jvm.Cond.selects "ShapeRelator$Segments" ({ cls := "ShapeRelator$Segments", name := "cross", desc := "(II)Z" } : Jvm.MethodName) ({ cls := "ShapeRelator$Segments", name := "cross", desc := "(II)Z" } : Jvm.MethodName)) ∈ lw_all := lw_g (lw_at lw_m2 206 rfl) rfl
theorem q517 : (Jvm.Cond.code ({ cls := "ShapeRelator$Segments", name := "cross", desc := "(II)Z" } : Jvm.MethodName) prog_7_method_13_code (3 : Nat) (Option.some Jvm.ClassFile.FieldType.boolean)) ∈ lw_all := lw_g (lw_at lw_m2 207 rfl) rfl
theorem q518 : (Jvm.Cond.methodLink "ShapeRelator$Segments" (74 : Nat) ({ cls := "ShapeRelator$Segments", name := "side", desc := "(III)J" } : Jvm.MethodName)) ∈ lw_all := lw_g (lw_at lw_m2 208 rfl) rfl
theorem q519 : (Jvm.Cond.instanceMethod ({ cls := "ShapeRelator$Segments", name := "side", desc := "(III)J" } : Jvm.MethodName)) ∈ lw_all := lw_g (lw_at lw_m2 209 rfl) rfl
theorem q520 : (Jvm.Cond.selects "ShapeRelator$Segments" ({ cls := "ShapeRelator$Segments", name := "side", desc := "(III)J" } : Jvm.MethodName) ({ cls := "ShapeRelator$Segments", name := "side", desc := "(III)J" } : Jvm.MethodName)) ∈ lw_all := lw_g (lw_at lw_m2 210 rfl) rfl
theorem q521 : (Jvm.Cond.code ({ cls := "ShapeRelator$Segments", name := "side", desc := "(III)J" } : Jvm.MethodName) prog_7_method_9_code (4 : Nat) (Option.some Jvm.ClassFile.FieldType.long)) ∈ lw_all := lw_g (lw_at lw_m2 211 rfl) rfl
theorem q522 : (Jvm.Cond.methodLink "ShapeRelator$Segments" (64 : Nat) ({ cls := "ShapeRelator$Segments", name := "byX", desc := "(I)J" } : Jvm.MethodName)) ∈ lw_all := lw_g (lw_at lw_m2 212 rfl) rfl
theorem q523 : (Jvm.Cond.instanceMethod ({ cls := "ShapeRelator$Segments", name := "byX", desc := "(I)J" } : Jvm.MethodName)) ∈ lw_all := lw_g (lw_at lw_m2 213 rfl) rfl
theorem q524 : (Jvm.Cond.selects "ShapeRelator$Segments" ({ cls := "ShapeRelator$Segments", name := "byX", desc := "(I)J" } : Jvm.MethodName) ({ cls := "ShapeRelator$Segments", name := "byX", desc := "(I)J" } : Jvm.MethodName)) ∈ lw_all := lw_g (lw_at lw_m2 214 rfl) rfl
theorem q525 : (Jvm.Cond.code ({ cls := "ShapeRelator$Segments", name := "byX", desc := "(I)J" } : Jvm.MethodName) prog_7_method_7_code (2 : Nat) (Option.some Jvm.ClassFile.FieldType.long)) ∈ lw_all := lw_g (lw_at lw_m2 215 rfl) rfl
theorem q526 : (Jvm.Cond.methodLink "ShapeRelator$Segments" (68 : Nat) ({ cls := "ShapeRelator$Segments", name := "byY", desc := "(I)J" } : Jvm.MethodName)) ∈ lw_all := lw_g (lw_at lw_m2 216 rfl) rfl
theorem q527 : (Jvm.Cond.instanceMethod ({ cls := "ShapeRelator$Segments", name := "byY", desc := "(I)J" } : Jvm.MethodName)) ∈ lw_all := lw_g (lw_at lw_m2 217 rfl) rfl
theorem q528 : (Jvm.Cond.selects "ShapeRelator$Segments" ({ cls := "ShapeRelator$Segments", name := "byY", desc := "(I)J" } : Jvm.MethodName) ({ cls := "ShapeRelator$Segments", name := "byY", desc := "(I)J" } : Jvm.MethodName)) ∈ lw_all := lw_g (lw_at lw_m2 218 rfl) rfl
theorem q529 : (Jvm.Cond.code ({ cls := "ShapeRelator$Segments", name := "byY", desc := "(I)J" } : Jvm.MethodName) prog_7_method_8_code (2 : Nat) (Option.some Jvm.ClassFile.FieldType.long)) ∈ lw_all := lw_g (lw_at lw_m2 219 rfl) rfl
theorem q530 : (Jvm.Cond.methodLink "ShapeRelator$Segments" (78 : Nat) ({ cls := "ShapeRelator$Segments", name := "differ", desc := "(JJ)Z" } : Jvm.MethodName)) ∈ lw_all := lw_g (lw_at lw_m2 220 rfl) rfl
theorem q531 : (Jvm.Cond.static ({ cls := "ShapeRelator$Segments", name := "differ", desc := "(JJ)Z" } : Jvm.MethodName)) ∈ lw_all := lw_g (lw_at lw_m2 221 rfl) rfl
theorem q532 : (Jvm.Cond.code ({ cls := "ShapeRelator$Segments", name := "differ", desc := "(JJ)Z" } : Jvm.MethodName) prog_7_method_12_code (4 : Nat) (Option.some Jvm.ClassFile.FieldType.boolean)) ∈ lw_all := lw_g (lw_at lw_m2 222 rfl) rfl
theorem q555 : (Jvm.Cond.instanceMethod ({ cls := "ShapeRelator$Segments", name := "isOn", desc := "(III)Z" } : Jvm.MethodName)) ∈ lw_all := lw_g (lw_at lw_m3 5 rfl) rfl
theorem q556 : (Jvm.Cond.selects "ShapeRelator$Segments" ({ cls := "ShapeRelator$Segments", name := "isOn", desc := "(III)Z" } : Jvm.MethodName) ({ cls := "ShapeRelator$Segments", name := "isOn", desc := "(III)Z" } : Jvm.MethodName)) ∈ lw_all := lw_g (lw_at lw_m3 6 rfl) rfl
theorem q557 : (Jvm.Cond.code ({ cls := "ShapeRelator$Segments", name := "isOn", desc := "(III)Z" } : Jvm.MethodName) prog_7_method_11_code (4 : Nat) (Option.some Jvm.ClassFile.FieldType.boolean)) ∈ lw_all := lw_g (lw_at lw_m3 7 rfl) rfl
theorem q558 : (Jvm.Cond.methodLink "ShapeRelator$Segments" (71 : Nat) ({ cls := "ShapeRelator$Segments", name := "between", desc := "(III)Z" } : Jvm.MethodName)) ∈ lw_all := lw_g (lw_at lw_m3 8 rfl) rfl
theorem q559 : (Jvm.Cond.static ({ cls := "ShapeRelator$Segments", name := "between", desc := "(III)Z" } : Jvm.MethodName)) ∈ lw_all := lw_g (lw_at lw_m3 9 rfl) rfl
theorem q560 : (Jvm.Cond.code ({ cls := "ShapeRelator$Segments", name := "between", desc := "(III)Z" } : Jvm.MethodName) prog_7_method_10_code (3 : Nat) (Option.some Jvm.ClassFile.FieldType.boolean)) ∈ lw_all := lw_g (lw_at lw_m3 10 rfl) rfl
theorem q607 : (Jvm.Cond.instanceMethod ({ cls := "ShapeRelator$Segments", name := "isOnAny", desc := "(III)Z" } : Jvm.MethodName)) ∈ lw_all := lw_g (lw_at lw_m3 57 rfl) rfl
theorem q608 : (Jvm.Cond.selects "ShapeRelator$Segments" ({ cls := "ShapeRelator$Segments", name := "isOnAny", desc := "(III)Z" } : Jvm.MethodName) ({ cls := "ShapeRelator$Segments", name := "isOnAny", desc := "(III)Z" } : Jvm.MethodName)) ∈ lw_all := lw_g (lw_at lw_m3 58 rfl) rfl
theorem q609 : (Jvm.Cond.code ({ cls := "ShapeRelator$Segments", name := "isOnAny", desc := "(III)Z" } : Jvm.MethodName) prog_7_method_14_code (5 : Nat) (Option.some Jvm.ClassFile.FieldType.boolean)) ∈ lw_all := lw_g (lw_at lw_m3 59 rfl) rfl
theorem q610 : (Jvm.Cond.methodLink "ShapeRelator$Segments" (82 : Nat) ({ cls := "ShapeRelator$Segments", name := "from", desc := "(I)I" } : Jvm.MethodName)) ∈ lw_all := lw_g (lw_at lw_m3 60 rfl) rfl
theorem q611 : (Jvm.Cond.instanceMethod ({ cls := "ShapeRelator$Segments", name := "from", desc := "(I)I" } : Jvm.MethodName)) ∈ lw_all := lw_g (lw_at lw_m3 61 rfl) rfl
theorem q612 : (Jvm.Cond.selects "ShapeRelator$Segments" ({ cls := "ShapeRelator$Segments", name := "from", desc := "(I)I" } : Jvm.MethodName) ({ cls := "ShapeRelator$Segments", name := "from", desc := "(I)I" } : Jvm.MethodName)) ∈ lw_all := lw_g (lw_at lw_m3 62 rfl) rfl
theorem q613 : (Jvm.Cond.code ({ cls := "ShapeRelator$Segments", name := "from", desc := "(I)I" } : Jvm.MethodName) prog_7_method_5_code (2 : Nat) (Option.some Jvm.ClassFile.FieldType.int)) ∈ lw_all := lw_g (lw_at lw_m3 63 rfl) rfl
theorem q614 : (Jvm.Cond.methodLink "ShapeRelator$Segments" (85 : Nat) ({ cls := "ShapeRelator$Segments", name := "to", desc := "(I)I" } : Jvm.MethodName)) ∈ lw_all := lw_g (lw_at lw_m3 64 rfl) rfl
theorem q615 : (Jvm.Cond.instanceMethod ({ cls := "ShapeRelator$Segments", name := "to", desc := "(I)I" } : Jvm.MethodName)) ∈ lw_all := lw_g (lw_at lw_m3 65 rfl) rfl
theorem q616 : (Jvm.Cond.selects "ShapeRelator$Segments" ({ cls := "ShapeRelator$Segments", name := "to", desc := "(I)I" } : Jvm.MethodName) ({ cls := "ShapeRelator$Segments", name := "to", desc := "(I)I" } : Jvm.MethodName)) ∈ lw_all := lw_g (lw_at lw_m3 66 rfl) rfl
theorem q617 : (Jvm.Cond.code ({ cls := "ShapeRelator$Segments", name := "to", desc := "(I)I" } : Jvm.MethodName) prog_7_method_6_code (2 : Nat) (Option.some Jvm.ClassFile.FieldType.int)) ∈ lw_all := lw_g (lw_at lw_m3 67 rfl) rfl
theorem q618 : (Jvm.Cond.methodLink "ShapeRelator$Segments" (88 : Nat) ({ cls := "ShapeRelator$Segments", name := "isOn", desc := "(III)Z" } : Jvm.MethodName)) ∈ lw_all := lw_g (lw_at lw_m3 68 rfl) rfl
theorem q624 : (Jvm.Cond.instanceMethod ({ cls := "ShapeRelator$Segments", name := "isOdd", desc := "(ILShapeRelator$Step;)Z" } : Jvm.MethodName)) ∈ lw_all := lw_g (lw_at lw_m3 74 rfl) rfl
theorem q625 : (Jvm.Cond.selects "ShapeRelator$Segments" ({ cls := "ShapeRelator$Segments", name := "isOdd", desc := "(ILShapeRelator$Step;)Z" } : Jvm.MethodName) ({ cls := "ShapeRelator$Segments", name := "isOdd", desc := "(ILShapeRelator$Step;)Z" } : Jvm.MethodName)) ∈ lw_all := lw_g (lw_at lw_m3 75 rfl) rfl
theorem q626 : (Jvm.Cond.code ({ cls := "ShapeRelator$Segments", name := "isOdd", desc := "(ILShapeRelator$Step;)Z" } : Jvm.MethodName) prog_7_method_18_code (7 : Nat) (Option.some Jvm.ClassFile.FieldType.boolean)) ∈ lw_all := lw_g (lw_at lw_m3 76 rfl) rfl
theorem q627 : (Jvm.Cond.methodLink "ShapeRelator$Segments" (110 : Nat) ({ cls := "ShapeRelator$Step", name := "isBelow", desc := "(I)Z" } : Jvm.MethodName)) ∈ lw_all := lw_g (lw_at lw_m3 77 rfl) rfl
theorem q631 : (Jvm.Cond.methodLink "ShapeRelator$Segments" (114 : Nat) ({ cls := "ShapeRelator$Step", name := "side", desc := "(IIJJ)I" } : Jvm.MethodName)) ∈ lw_all := lw_g (lw_at lw_m3 81 rfl) rfl
theorem q647 : (Jvm.Cond.instanceMethod ({ cls := "ShapeRelator$Segments", name := "isAlong", desc := "(ILShapeRelator$Step;)Z" } : Jvm.MethodName)) ∈ lw_all := lw_g (lw_at lw_m3 97 rfl) rfl
theorem q648 : (Jvm.Cond.selects "ShapeRelator$Segments" ({ cls := "ShapeRelator$Segments", name := "isAlong", desc := "(ILShapeRelator$Step;)Z" } : Jvm.MethodName) ({ cls := "ShapeRelator$Segments", name := "isAlong", desc := "(ILShapeRelator$Step;)Z" } : Jvm.MethodName)) ∈ lw_all := lw_g (lw_at lw_m3 98 rfl) rfl
theorem q649 : (Jvm.Cond.code ({ cls := "ShapeRelator$Segments", name := "isAlong", desc := "(ILShapeRelator$Step;)Z" } : Jvm.MethodName) prog_7_method_17_code (4 : Nat) (Option.some Jvm.ClassFile.FieldType.boolean)) ∈ lw_all := lw_g (lw_at lw_m3 99 rfl) rfl
theorem q650 : (Jvm.Cond.methodLink "ShapeRelator$Segments" (106 : Nat) ({ cls := "ShapeRelator$Segments", name := "goesAlong", desc := "(ILShapeRelator$Step;)Z" } : Jvm.MethodName)) ∈ lw_all := lw_g (lw_at lw_m3 100 rfl) rfl
theorem q651 : (Jvm.Cond.privateMethod ({ cls := "ShapeRelator$Segments", name := "goesAlong", desc := "(ILShapeRelator$Step;)Z" } : Jvm.MethodName)) ∈ lw_tbl := lw_at lw_m3 101 rfl
theorem q652 : (Jvm.Cond.instanceMethod ({ cls := "ShapeRelator$Segments", name := "goesAlong", desc := "(ILShapeRelator$Step;)Z" } : Jvm.MethodName)) ∈ lw_all := lw_g (lw_at lw_m3 102 rfl) rfl
theorem q653 : (Jvm.Cond.code ({ cls := "ShapeRelator$Segments", name := "goesAlong", desc := "(ILShapeRelator$Step;)Z" } : Jvm.MethodName) prog_7_method_15_code (3 : Nat) (Option.some Jvm.ClassFile.FieldType.boolean)) ∈ lw_all := lw_g (lw_at lw_m3 103 rfl) rfl
theorem q654 : (Jvm.Cond.methodLink "ShapeRelator$Segments" (102 : Nat) ({ cls := "ShapeRelator$Segments", name := "leads", desc := "(LShapeRelator$Step;II)Z" } : Jvm.MethodName)) ∈ lw_all := lw_g (lw_at lw_m3 104 rfl) rfl
theorem q655 : (Jvm.Cond.static ({ cls := "ShapeRelator$Segments", name := "leads", desc := "(LShapeRelator$Step;II)Z" } : Jvm.MethodName)) ∈ lw_all := lw_g (lw_at lw_m3 105 rfl) rfl
theorem q656 : (Jvm.Cond.code ({ cls := "ShapeRelator$Segments", name := "leads", desc := "(LShapeRelator$Step;II)Z" } : Jvm.MethodName) prog_7_method_16_code (7 : Nat) (Option.some Jvm.ClassFile.FieldType.boolean)) ∈ lw_all := lw_g (lw_at lw_m3 106 rfl) rfl
theorem in_X4 : ∀ w ∈ wsX40, w ∈ lw_all := lw_in wsX40 [163, 165, 167, 169, 171, 173] (by decide +kernel) (by decide +kernel)
/-! ShapeRelator$Tree -/
set_option maxRecDepth 100000
def RX6 : String := "ShapeRelator$Tree"
def TX6 : u_T := fun k => match k with
  | 0 => ("ShapeRelator$Bounds", "lowX", "[I", false)
  | 1 => ("ShapeRelator$Bounds", "lowY", "[I", false)
  | 2 => ("ShapeRelator$Bounds", "highX", "[I", false)
  | 3 => ("ShapeRelator$Bounds", "highY", "[I", false)
  | 4 => ("ShapeRelator$Tree", "order", "[I", false)
  | 5 => ("ShapeRelator$Tree", "from", "[I", false)
  | 6 => ("ShapeRelator$Tree", "to", "[I", false)
  | 7 => ("ShapeRelator$Tree", "nodes", "I", false)
  | 8 => ("ShapeRelator$Tree", "leaves", "I", false)
  | 9 => ("ShapeRelator$Tree", "sorter", "LShapeRelator$Sorter;", true)
  | _ => ("ShapeRelator$Tree", "pile", "[I", false)
def tyX6 : Nat → FieldType := fun k => match k with
  | 0 => .array .int
  | 1 => .array .int
  | 2 => .array .int
  | 3 => .array .int
  | 4 => .array .int
  | 5 => .array .int
  | 6 => .array .int
  | 7 => .int
  | 8 => .int
  | 9 => .object "ShapeRelator$Sorter"
  | _ => .array .int
abbrev wsX60 : List Cond := u_ws RX6 TX6 11
theorem nmX6 : ∀ a, a < 11 → ∀ b, b < 11 → a ≠ b → (TX6 a).2.1 ≠ (TX6 b).2.1 := by decide +kernel
theorem tyX6_ok : ∀ k, k < 11 → parseFieldDescriptor (TX6 k).2.2.1 = some (tyX6 k) := by decide +kernel
abbrev cX6_init : ByteArray := prog_10_method_1_code
def yX6_init : MethodName := ⟨RX6, "<init>", "()V"⟩
theorem dX6_init_0 : decode cX6_init 0 = .ok (.aload_n 0, 1) := by decide +kernel
theorem dX6_init_1 : decode cX6_init 1 = .ok (.invokespecial 3, 3) := by decide +kernel
theorem dX6_init_4 : decode cX6_init 4 = .ok (.aload_n 0, 1) := by decide +kernel
theorem dX6_init_5 : decode cX6_init 5 = .ok (.bipush 16, 2) := by decide +kernel
theorem dX6_init_7 : decode cX6_init 7 = .ok (.newarray .int, 2) := by decide +kernel
theorem dX6_init_9 : decode cX6_init 9 = .ok (.putfield 9, 3) := by decide +kernel
theorem dX6_init_12 : decode cX6_init 12 = .ok (.aload_n 0, 1) := by decide +kernel
theorem dX6_init_13 : decode cX6_init 13 = .ok (.bipush 16, 2) := by decide +kernel
theorem dX6_init_15 : decode cX6_init 15 = .ok (.newarray .int, 2) := by decide +kernel
theorem dX6_init_17 : decode cX6_init 17 = .ok (.putfield 15, 3) := by decide +kernel
theorem dX6_init_20 : decode cX6_init 20 = .ok (.aload_n 0, 1) := by decide +kernel
theorem dX6_init_21 : decode cX6_init 21 = .ok (.bipush 16, 2) := by decide +kernel
theorem dX6_init_23 : decode cX6_init 23 = .ok (.newarray .int, 2) := by decide +kernel
theorem dX6_init_25 : decode cX6_init 25 = .ok (.putfield 18, 3) := by decide +kernel
theorem dX6_init_28 : decode cX6_init 28 = .ok (.aload_n 0, 1) := by decide +kernel
theorem dX6_init_29 : decode cX6_init 29 = .ok (.new 21, 3) := by decide +kernel
theorem dX6_init_32 : decode cX6_init 32 = .ok (.dup, 1) := by decide +kernel
theorem dX6_init_33 : decode cX6_init 33 = .ok (.invokespecial 23, 3) := by decide +kernel
theorem dX6_init_36 : decode cX6_init 36 = .ok (.putfield 24, 3) := by decide +kernel
theorem dX6_init_39 : decode cX6_init 39 = .ok (.aload_n 0, 1) := by decide +kernel
theorem dX6_init_40 : decode cX6_init 40 = .ok (.bipush 64, 2) := by decide +kernel
theorem dX6_init_42 : decode cX6_init 42 = .ok (.newarray .int, 2) := by decide +kernel
theorem dX6_init_44 : decode cX6_init 44 = .ok (.putfield 28, 3) := by decide +kernel
theorem dX6_init_47 : decode cX6_init 47 = .ok (.return_, 1) := by decide +kernel
abbrev cX6_build : ByteArray := prog_10_method_6_code
def yX6_build : MethodName := ⟨RX6, "build", "(LShapeRelator$Bounds;[ZI)V"⟩
theorem dX6_build_0 : decode cX6_build 0 = .ok (.aload_n 0, 1) := by decide +kernel
theorem dX6_build_1 : decode cX6_build 1 = .ok (.getfield 9, 3) := by decide +kernel
theorem dX6_build_4 : decode cX6_build 4 = .ok (.arraylength, 1) := by decide +kernel
theorem dX6_build_5 : decode cX6_build 5 = .ok (.iload_n 3, 1) := by decide +kernel
theorem dX6_build_6 : decode cX6_build 6 = .ok (.if_icmp .ge 20, 3) := by decide +kernel
theorem dX6_build_9 : decode cX6_build 9 = .ok (.aload_n 0, 1) := by decide +kernel
theorem dX6_build_10 : decode cX6_build 10 = .ok (.iload_n 3, 1) := by decide +kernel
theorem dX6_build_11 : decode cX6_build 11 = .ok (.iconst 2, 1) := by decide +kernel
theorem dX6_build_12 : decode cX6_build 12 = .ok (.aload_n 0, 1) := by decide +kernel
theorem dX6_build_13 : decode cX6_build 13 = .ok (.getfield 9, 3) := by decide +kernel
theorem dX6_build_16 : decode cX6_build 16 = .ok (.arraylength, 1) := by decide +kernel
theorem dX6_build_17 : decode cX6_build 17 = .ok (.imul, 1) := by decide +kernel
theorem dX6_build_18 : decode cX6_build 18 = .ok (.invokestatic 67, 3) := by decide +kernel
theorem dX6_build_21 : decode cX6_build 21 = .ok (.newarray .int, 2) := by decide +kernel
theorem dX6_build_23 : decode cX6_build 23 = .ok (.putfield 9, 3) := by decide +kernel
theorem dX6_build_26 : decode cX6_build 26 = .ok (.iconst 0, 1) := by decide +kernel
theorem dX6_build_27 : decode cX6_build 27 = .ok (.istore 4, 2) := by decide +kernel
theorem dX6_build_29 : decode cX6_build 29 = .ok (.iconst 0, 1) := by decide +kernel
theorem dX6_build_30 : decode cX6_build 30 = .ok (.istore 5, 2) := by decide +kernel
theorem dX6_build_32 : decode cX6_build 32 = .ok (.iload 4, 2) := by decide +kernel
theorem dX6_build_34 : decode cX6_build 34 = .ok (.iload_n 3, 1) := by decide +kernel
theorem dX6_build_35 : decode cX6_build 35 = .ok (.if_icmp .ge 28, 3) := by decide +kernel
theorem dX6_build_38 : decode cX6_build 38 = .ok (.aload_n 2, 1) := by decide +kernel
theorem dX6_build_39 : decode cX6_build 39 = .ok (.iload 5, 2) := by decide +kernel
theorem dX6_build_41 : decode cX6_build 41 = .ok (.baload, 1) := by decide +kernel
theorem dX6_build_42 : decode cX6_build 42 = .ok (.ifCond .eq 15, 3) := by decide +kernel
theorem dX6_build_45 : decode cX6_build 45 = .ok (.aload_n 0, 1) := by decide +kernel
theorem dX6_build_46 : decode cX6_build 46 = .ok (.getfield 9, 3) := by decide +kernel
theorem dX6_build_49 : decode cX6_build 49 = .ok (.iload 4, 2) := by decide +kernel
theorem dX6_build_51 : decode cX6_build 51 = .ok (.iload 5, 2) := by decide +kernel
theorem dX6_build_53 : decode cX6_build 53 = .ok (.iastore, 1) := by decide +kernel
theorem dX6_build_54 : decode cX6_build 54 = .ok (.iinc 4 1, 3) := by decide +kernel
theorem dX6_build_57 : decode cX6_build 57 = .ok (.iinc 5 1, 3) := by decide +kernel
theorem dX6_build_60 : decode cX6_build 60 = .ok (.goto (-28), 3) := by decide +kernel
theorem dX6_build_63 : decode cX6_build 63 = .ok (.aload_n 0, 1) := by decide +kernel
theorem dX6_build_64 : decode cX6_build 64 = .ok (.iconst 0, 1) := by decide +kernel
theorem dX6_build_65 : decode cX6_build 65 = .ok (.putfield 31, 3) := by decide +kernel
theorem dX6_build_68 : decode cX6_build 68 = .ok (.aload_n 0, 1) := by decide +kernel
theorem dX6_build_69 : decode cX6_build 69 = .ok (.aload_n 1, 1) := by decide +kernel
theorem dX6_build_70 : decode cX6_build 70 = .ok (.iconst 0, 1) := by decide +kernel
theorem dX6_build_71 : decode cX6_build 71 = .ok (.iload_n 3, 1) := by decide +kernel
theorem dX6_build_72 : decode cX6_build 72 = .ok (.iconst 0, 1) := by decide +kernel
theorem dX6_build_73 : decode cX6_build 73 = .ok (.invokevirtual 73, 3) := by decide +kernel
theorem dX6_build_76 : decode cX6_build 76 = .ok (.iconst 1, 1) := by decide +kernel
theorem dX6_build_77 : decode cX6_build 77 = .ok (.istore 5, 2) := by decide +kernel
theorem dX6_build_79 : decode cX6_build 79 = .ok (.iload 5, 2) := by decide +kernel
theorem dX6_build_81 : decode cX6_build 81 = .ok (.iload 5, 2) := by decide +kernel
theorem dX6_build_83 : decode cX6_build 83 = .ok (.imul, 1) := by decide +kernel
theorem dX6_build_84 : decode cX6_build 84 = .ok (.bipush 8, 2) := by decide +kernel
theorem dX6_build_86 : decode cX6_build 86 = .ok (.imul, 1) := by decide +kernel
theorem dX6_build_87 : decode cX6_build 87 = .ok (.iload_n 3, 1) := by decide +kernel
theorem dX6_build_88 : decode cX6_build 88 = .ok (.if_icmp .ge 9, 3) := by decide +kernel
theorem dX6_build_91 : decode cX6_build 91 = .ok (.iinc 5 1, 3) := by decide +kernel
theorem dX6_build_94 : decode cX6_build 94 = .ok (.goto (-15), 3) := by decide +kernel
theorem dX6_build_97 : decode cX6_build 97 = .ok (.iload 5, 2) := by decide +kernel
theorem dX6_build_99 : decode cX6_build 99 = .ok (.bipush 8, 2) := by decide +kernel
theorem dX6_build_101 : decode cX6_build 101 = .ok (.imul, 1) := by decide +kernel
theorem dX6_build_102 : decode cX6_build 102 = .ok (.istore 6, 2) := by decide +kernel
theorem dX6_build_104 : decode cX6_build 104 = .ok (.iconst 0, 1) := by decide +kernel
theorem dX6_build_105 : decode cX6_build 105 = .ok (.istore 7, 2) := by decide +kernel
theorem dX6_build_107 : decode cX6_build 107 = .ok (.iload 7, 2) := by decide +kernel
theorem dX6_build_109 : decode cX6_build 109 = .ok (.iload_n 3, 1) := by decide +kernel
theorem dX6_build_110 : decode cX6_build 110 = .ok (.if_icmp .ge 30, 3) := by decide +kernel
theorem dX6_build_113 : decode cX6_build 113 = .ok (.aload_n 0, 1) := by decide +kernel
theorem dX6_build_114 : decode cX6_build 114 = .ok (.aload_n 1, 1) := by decide +kernel
theorem dX6_build_115 : decode cX6_build 115 = .ok (.iload 7, 2) := by decide +kernel
theorem dX6_build_117 : decode cX6_build 117 = .ok (.iload_n 3, 1) := by decide +kernel
theorem dX6_build_118 : decode cX6_build 118 = .ok (.iload 7, 2) := by decide +kernel
theorem dX6_build_120 : decode cX6_build 120 = .ok (.iload 6, 2) := by decide +kernel
theorem dX6_build_122 : decode cX6_build 122 = .ok (.iadd, 1) := by decide +kernel
theorem dX6_build_123 : decode cX6_build 123 = .ok (.invokestatic 77, 3) := by decide +kernel
theorem dX6_build_126 : decode cX6_build 126 = .ok (.iconst 1, 1) := by decide +kernel
theorem dX6_build_127 : decode cX6_build 127 = .ok (.invokevirtual 73, 3) := by decide +kernel
theorem dX6_build_130 : decode cX6_build 130 = .ok (.iload 7, 2) := by decide +kernel
theorem dX6_build_132 : decode cX6_build 132 = .ok (.iload 6, 2) := by decide +kernel
theorem dX6_build_134 : decode cX6_build 134 = .ok (.iadd, 1) := by decide +kernel
theorem dX6_build_135 : decode cX6_build 135 = .ok (.istore 7, 2) := by decide +kernel
theorem dX6_build_137 : decode cX6_build 137 = .ok (.goto (-30), 3) := by decide +kernel
theorem dX6_build_140 : decode cX6_build 140 = .ok (.iconst 0, 1) := by decide +kernel
theorem dX6_build_141 : decode cX6_build 141 = .ok (.istore 7, 2) := by decide +kernel
theorem dX6_build_143 : decode cX6_build 143 = .ok (.iload 7, 2) := by decide +kernel
theorem dX6_build_145 : decode cX6_build 145 = .ok (.iload_n 3, 1) := by decide +kernel
theorem dX6_build_146 : decode cX6_build 146 = .ok (.if_icmp .ge 26, 3) := by decide +kernel
theorem dX6_build_149 : decode cX6_build 149 = .ok (.aload_n 0, 1) := by decide +kernel
theorem dX6_build_150 : decode cX6_build 150 = .ok (.aload_n 1, 1) := by decide +kernel
theorem dX6_build_151 : decode cX6_build 151 = .ok (.iload 7, 2) := by decide +kernel
theorem dX6_build_153 : decode cX6_build 153 = .ok (.iload_n 3, 1) := by decide +kernel
theorem dX6_build_154 : decode cX6_build 154 = .ok (.iload 7, 2) := by decide +kernel
theorem dX6_build_156 : decode cX6_build 156 = .ok (.bipush 8, 2) := by decide +kernel
theorem dX6_build_158 : decode cX6_build 158 = .ok (.iadd, 1) := by decide +kernel
theorem dX6_build_159 : decode cX6_build 159 = .ok (.invokestatic 77, 3) := by decide +kernel
theorem dX6_build_162 : decode cX6_build 162 = .ok (.iconst 1, 1) := by decide +kernel
theorem dX6_build_163 : decode cX6_build 163 = .ok (.invokevirtual 80, 3) := by decide +kernel
theorem dX6_build_166 : decode cX6_build 166 = .ok (.iinc 7 8, 3) := by decide +kernel
theorem dX6_build_169 : decode cX6_build 169 = .ok (.goto (-26), 3) := by decide +kernel
theorem dX6_build_172 : decode cX6_build 172 = .ok (.aload_n 0, 1) := by decide +kernel
theorem dX6_build_173 : decode cX6_build 173 = .ok (.aload_n 0, 1) := by decide +kernel
theorem dX6_build_174 : decode cX6_build 174 = .ok (.getfield 31, 3) := by decide +kernel
theorem dX6_build_177 : decode cX6_build 177 = .ok (.putfield 35, 3) := by decide +kernel
theorem dX6_build_180 : decode cX6_build 180 = .ok (.iconst 0, 1) := by decide +kernel
theorem dX6_build_181 : decode cX6_build 181 = .ok (.istore 7, 2) := by decide +kernel
theorem dX6_build_183 : decode cX6_build 183 = .ok (.aload_n 0, 1) := by decide +kernel
theorem dX6_build_184 : decode cX6_build 184 = .ok (.getfield 31, 3) := by decide +kernel
theorem dX6_build_187 : decode cX6_build 187 = .ok (.iload 7, 2) := by decide +kernel
theorem dX6_build_189 : decode cX6_build 189 = .ok (.isub, 1) := by decide +kernel
theorem dX6_build_190 : decode cX6_build 190 = .ok (.iconst 1, 1) := by decide +kernel
theorem dX6_build_191 : decode cX6_build 191 = .ok (.if_icmp .le 51, 3) := by decide +kernel
theorem dX6_build_194 : decode cX6_build 194 = .ok (.aload_n 0, 1) := by decide +kernel
theorem dX6_build_195 : decode cX6_build 195 = .ok (.getfield 31, 3) := by decide +kernel
theorem dX6_build_198 : decode cX6_build 198 = .ok (.istore 8, 2) := by decide +kernel
theorem dX6_build_200 : decode cX6_build 200 = .ok (.iload 7, 2) := by decide +kernel
theorem dX6_build_202 : decode cX6_build 202 = .ok (.istore 9, 2) := by decide +kernel
theorem dX6_build_204 : decode cX6_build 204 = .ok (.iload 9, 2) := by decide +kernel
theorem dX6_build_206 : decode cX6_build 206 = .ok (.iload 8, 2) := by decide +kernel
theorem dX6_build_208 : decode cX6_build 208 = .ok (.if_icmp .ge 27, 3) := by decide +kernel
theorem dX6_build_211 : decode cX6_build 211 = .ok (.aload_n 0, 1) := by decide +kernel
theorem dX6_build_212 : decode cX6_build 212 = .ok (.aload_n 0, 1) := by decide +kernel
theorem dX6_build_213 : decode cX6_build 213 = .ok (.iload 9, 2) := by decide +kernel
theorem dX6_build_215 : decode cX6_build 215 = .ok (.iload 8, 2) := by decide +kernel
theorem dX6_build_217 : decode cX6_build 217 = .ok (.iload 9, 2) := by decide +kernel
theorem dX6_build_219 : decode cX6_build 219 = .ok (.bipush 8, 2) := by decide +kernel
theorem dX6_build_221 : decode cX6_build 221 = .ok (.iadd, 1) := by decide +kernel
theorem dX6_build_222 : decode cX6_build 222 = .ok (.invokestatic 77, 3) := by decide +kernel
theorem dX6_build_225 : decode cX6_build 225 = .ok (.iconst 0, 1) := by decide +kernel
theorem dX6_build_226 : decode cX6_build 226 = .ok (.invokevirtual 80, 3) := by decide +kernel
theorem dX6_build_229 : decode cX6_build 229 = .ok (.iinc 9 8, 3) := by decide +kernel
theorem dX6_build_232 : decode cX6_build 232 = .ok (.goto (-28), 3) := by decide +kernel
theorem dX6_build_235 : decode cX6_build 235 = .ok (.iload 8, 2) := by decide +kernel
theorem dX6_build_237 : decode cX6_build 237 = .ok (.istore 7, 2) := by decide +kernel
theorem dX6_build_239 : decode cX6_build 239 = .ok (.goto (-56), 3) := by decide +kernel
theorem dX6_build_242 : decode cX6_build 242 = .ok (.return_, 1) := by decide +kernel
abbrev cX6_sort : ByteArray := prog_10_method_4_code
def yX6_sort : MethodName := ⟨RX6, "sort", "(LShapeRelator$Bounds;IIZ)V"⟩
theorem dX6_sort_0 : decode cX6_sort 0 = .ok (.aload_n 0, 1) := by decide +kernel
theorem dX6_sort_1 : decode cX6_sort 1 = .ok (.getfield 24, 3) := by decide +kernel
theorem dX6_sort_4 : decode cX6_sort 4 = .ok (.invokevirtual 38, 3) := by decide +kernel
theorem dX6_sort_7 : decode cX6_sort 7 = .ok (.iload_n 2, 1) := by decide +kernel
theorem dX6_sort_8 : decode cX6_sort 8 = .ok (.istore 5, 2) := by decide +kernel
theorem dX6_sort_10 : decode cX6_sort 10 = .ok (.iload 5, 2) := by decide +kernel
theorem dX6_sort_12 : decode cX6_sort 12 = .ok (.iload_n 3, 1) := by decide +kernel
theorem dX6_sort_13 : decode cX6_sort 13 = .ok (.if_icmp .ge 36, 3) := by decide +kernel
theorem dX6_sort_16 : decode cX6_sort 16 = .ok (.aload_n 0, 1) := by decide +kernel
theorem dX6_sort_17 : decode cX6_sort 17 = .ok (.getfield 24, 3) := by decide +kernel
theorem dX6_sort_20 : decode cX6_sort 20 = .ok (.aload_n 1, 1) := by decide +kernel
theorem dX6_sort_21 : decode cX6_sort 21 = .ok (.aload_n 0, 1) := by decide +kernel
theorem dX6_sort_22 : decode cX6_sort 22 = .ok (.getfield 9, 3) := by decide +kernel
theorem dX6_sort_25 : decode cX6_sort 25 = .ok (.iload 5, 2) := by decide +kernel
theorem dX6_sort_27 : decode cX6_sort 27 = .ok (.iaload, 1) := by decide +kernel
theorem dX6_sort_28 : decode cX6_sort 28 = .ok (.iload 4, 2) := by decide +kernel
theorem dX6_sort_30 : decode cX6_sort 30 = .ok (.invokevirtual 41, 3) := by decide +kernel
theorem dX6_sort_33 : decode cX6_sort 33 = .ok (.aload_n 0, 1) := by decide +kernel
theorem dX6_sort_34 : decode cX6_sort 34 = .ok (.getfield 9, 3) := by decide +kernel
theorem dX6_sort_37 : decode cX6_sort 37 = .ok (.iload 5, 2) := by decide +kernel
theorem dX6_sort_39 : decode cX6_sort 39 = .ok (.iaload, 1) := by decide +kernel
theorem dX6_sort_40 : decode cX6_sort 40 = .ok (.invokevirtual 45, 3) := by decide +kernel
theorem dX6_sort_43 : decode cX6_sort 43 = .ok (.iinc 5 1, 3) := by decide +kernel
theorem dX6_sort_46 : decode cX6_sort 46 = .ok (.goto (-36), 3) := by decide +kernel
theorem dX6_sort_49 : decode cX6_sort 49 = .ok (.iload_n 2, 1) := by decide +kernel
theorem dX6_sort_50 : decode cX6_sort 50 = .ok (.istore 5, 2) := by decide +kernel
theorem dX6_sort_52 : decode cX6_sort 52 = .ok (.iload 5, 2) := by decide +kernel
theorem dX6_sort_54 : decode cX6_sort 54 = .ok (.iload_n 3, 1) := by decide +kernel
theorem dX6_sort_55 : decode cX6_sort 55 = .ok (.if_icmp .ge 23, 3) := by decide +kernel
theorem dX6_sort_58 : decode cX6_sort 58 = .ok (.aload_n 0, 1) := by decide +kernel
theorem dX6_sort_59 : decode cX6_sort 59 = .ok (.getfield 9, 3) := by decide +kernel
theorem dX6_sort_62 : decode cX6_sort 62 = .ok (.iload 5, 2) := by decide +kernel
theorem dX6_sort_64 : decode cX6_sort 64 = .ok (.aload_n 0, 1) := by decide +kernel
theorem dX6_sort_65 : decode cX6_sort 65 = .ok (.getfield 24, 3) := by decide +kernel
theorem dX6_sort_68 : decode cX6_sort 68 = .ok (.invokevirtual 49, 3) := by decide +kernel
theorem dX6_sort_71 : decode cX6_sort 71 = .ok (.iastore, 1) := by decide +kernel
theorem dX6_sort_72 : decode cX6_sort 72 = .ok (.iinc 5 1, 3) := by decide +kernel
theorem dX6_sort_75 : decode cX6_sort 75 = .ok (.goto (-23), 3) := by decide +kernel
theorem dX6_sort_78 : decode cX6_sort 78 = .ok (.return_, 1) := by decide +kernel
abbrev cX6_node : ByteArray := prog_10_method_5_code
def yX6_node : MethodName := ⟨RX6, "node", "(LShapeRelator$Bounds;IIZ)V"⟩
theorem dX6_node_0 : decode cX6_node 0 = .ok (.aload_n 0, 1) := by decide +kernel
theorem dX6_node_1 : decode cX6_node 1 = .ok (.getfield 31, 3) := by decide +kernel
theorem dX6_node_4 : decode cX6_node 4 = .ok (.aload_n 0, 1) := by decide +kernel
theorem dX6_node_5 : decode cX6_node 5 = .ok (.getfield 15, 3) := by decide +kernel
theorem dX6_node_8 : decode cX6_node 8 = .ok (.arraylength, 1) := by decide +kernel
theorem dX6_node_9 : decode cX6_node 9 = .ok (.if_icmp .ne 37, 3) := by decide +kernel
theorem dX6_node_12 : decode cX6_node 12 = .ok (.aload_n 0, 1) := by decide +kernel
theorem dX6_node_13 : decode cX6_node 13 = .ok (.aload_n 0, 1) := by decide +kernel
theorem dX6_node_14 : decode cX6_node 14 = .ok (.getfield 15, 3) := by decide +kernel
theorem dX6_node_17 : decode cX6_node 17 = .ok (.iconst 2, 1) := by decide +kernel
theorem dX6_node_18 : decode cX6_node 18 = .ok (.aload_n 0, 1) := by decide +kernel
theorem dX6_node_19 : decode cX6_node 19 = .ok (.getfield 31, 3) := by decide +kernel
theorem dX6_node_22 : decode cX6_node 22 = .ok (.imul, 1) := by decide +kernel
theorem dX6_node_23 : decode cX6_node 23 = .ok (.invokestatic 53, 3) := by decide +kernel
theorem dX6_node_26 : decode cX6_node 26 = .ok (.putfield 15, 3) := by decide +kernel
theorem dX6_node_29 : decode cX6_node 29 = .ok (.aload_n 0, 1) := by decide +kernel
theorem dX6_node_30 : decode cX6_node 30 = .ok (.aload_n 0, 1) := by decide +kernel
theorem dX6_node_31 : decode cX6_node 31 = .ok (.getfield 18, 3) := by decide +kernel
theorem dX6_node_34 : decode cX6_node 34 = .ok (.iconst 2, 1) := by decide +kernel
theorem dX6_node_35 : decode cX6_node 35 = .ok (.aload_n 0, 1) := by decide +kernel
theorem dX6_node_36 : decode cX6_node 36 = .ok (.getfield 31, 3) := by decide +kernel
theorem dX6_node_39 : decode cX6_node 39 = .ok (.imul, 1) := by decide +kernel
theorem dX6_node_40 : decode cX6_node 40 = .ok (.invokestatic 53, 3) := by decide +kernel
theorem dX6_node_43 : decode cX6_node 43 = .ok (.putfield 18, 3) := by decide +kernel
theorem dX6_node_46 : decode cX6_node 46 = .ok (.aload_n 0, 1) := by decide +kernel
theorem dX6_node_47 : decode cX6_node 47 = .ok (.getfield 15, 3) := by decide +kernel
theorem dX6_node_50 : decode cX6_node 50 = .ok (.aload_n 0, 1) := by decide +kernel
theorem dX6_node_51 : decode cX6_node 51 = .ok (.getfield 31, 3) := by decide +kernel
theorem dX6_node_54 : decode cX6_node 54 = .ok (.iload_n 2, 1) := by decide +kernel
theorem dX6_node_55 : decode cX6_node 55 = .ok (.iastore, 1) := by decide +kernel
theorem dX6_node_56 : decode cX6_node 56 = .ok (.aload_n 0, 1) := by decide +kernel
theorem dX6_node_57 : decode cX6_node 57 = .ok (.getfield 18, 3) := by decide +kernel
theorem dX6_node_60 : decode cX6_node 60 = .ok (.aload_n 0, 1) := by decide +kernel
theorem dX6_node_61 : decode cX6_node 61 = .ok (.getfield 31, 3) := by decide +kernel
theorem dX6_node_64 : decode cX6_node 64 = .ok (.iload_n 3, 1) := by decide +kernel
theorem dX6_node_65 : decode cX6_node 65 = .ok (.iastore, 1) := by decide +kernel
theorem dX6_node_66 : decode cX6_node 66 = .ok (.aload_n 0, 1) := by decide +kernel
theorem dX6_node_67 : decode cX6_node 67 = .ok (.aload_n 0, 1) := by decide +kernel
theorem dX6_node_68 : decode cX6_node 68 = .ok (.getfield 31, 3) := by decide +kernel
theorem dX6_node_71 : decode cX6_node 71 = .ok (.ldc 57, 2) := by decide +kernel
theorem dX6_node_73 : decode cX6_node 73 = .ok (.ldc 57, 2) := by decide +kernel
theorem dX6_node_75 : decode cX6_node 75 = .ok (.ldc 58, 2) := by decide +kernel
theorem dX6_node_77 : decode cX6_node 77 = .ok (.ldc 58, 2) := by decide +kernel
theorem dX6_node_79 : decode cX6_node 79 = .ok (.invokevirtual 59, 3) := by decide +kernel
theorem dX6_node_82 : decode cX6_node 82 = .ok (.iload_n 2, 1) := by decide +kernel
theorem dX6_node_83 : decode cX6_node 83 = .ok (.istore 5, 2) := by decide +kernel
theorem dX6_node_85 : decode cX6_node 85 = .ok (.iload 5, 2) := by decide +kernel
theorem dX6_node_87 : decode cX6_node 87 = .ok (.iload_n 3, 1) := by decide +kernel
theorem dX6_node_88 : decode cX6_node 88 = .ok (.if_icmp .ge 35, 3) := by decide +kernel
theorem dX6_node_91 : decode cX6_node 91 = .ok (.aload_n 0, 1) := by decide +kernel
theorem dX6_node_92 : decode cX6_node 92 = .ok (.aload_n 0, 1) := by decide +kernel
theorem dX6_node_93 : decode cX6_node 93 = .ok (.getfield 31, 3) := by decide +kernel
theorem dX6_node_96 : decode cX6_node 96 = .ok (.aload_n 1, 1) := by decide +kernel
theorem dX6_node_97 : decode cX6_node 97 = .ok (.iload 4, 2) := by decide +kernel
theorem dX6_node_99 : decode cX6_node 99 = .ok (.ifCond .eq 13, 3) := by decide +kernel
theorem dX6_node_102 : decode cX6_node 102 = .ok (.aload_n 0, 1) := by decide +kernel
theorem dX6_node_103 : decode cX6_node 103 = .ok (.getfield 9, 3) := by decide +kernel
theorem dX6_node_106 : decode cX6_node 106 = .ok (.iload 5, 2) := by decide +kernel
theorem dX6_node_108 : decode cX6_node 108 = .ok (.iaload, 1) := by decide +kernel
theorem dX6_node_109 : decode cX6_node 109 = .ok (.goto 5, 3) := by decide +kernel
theorem dX6_node_112 : decode cX6_node 112 = .ok (.iload 5, 2) := by decide +kernel
theorem dX6_node_114 : decode cX6_node 114 = .ok (.invokevirtual 63, 3) := by decide +kernel
theorem dX6_node_117 : decode cX6_node 117 = .ok (.iinc 5 1, 3) := by decide +kernel
theorem dX6_node_120 : decode cX6_node 120 = .ok (.goto (-35), 3) := by decide +kernel
theorem dX6_node_123 : decode cX6_node 123 = .ok (.aload_n 0, 1) := by decide +kernel
theorem dX6_node_124 : decode cX6_node 124 = .ok (.dup, 1) := by decide +kernel
theorem dX6_node_125 : decode cX6_node 125 = .ok (.getfield 31, 3) := by decide +kernel
theorem dX6_node_128 : decode cX6_node 128 = .ok (.iconst 1, 1) := by decide +kernel
theorem dX6_node_129 : decode cX6_node 129 = .ok (.iadd, 1) := by decide +kernel
theorem dX6_node_130 : decode cX6_node 130 = .ok (.putfield 31, 3) := by decide +kernel
theorem dX6_node_133 : decode cX6_node 133 = .ok (.return_, 1) := by decide +kernel
abbrev cX6_root : ByteArray := prog_10_method_2_code
def yX6_root : MethodName := ⟨RX6, "root", "()I"⟩
theorem dX6_root_0 : decode cX6_root 0 = .ok (.aload_n 0, 1) := by decide +kernel
theorem dX6_root_1 : decode cX6_root 1 = .ok (.getfield 31, 3) := by decide +kernel
theorem dX6_root_4 : decode cX6_root 4 = .ok (.iconst 1, 1) := by decide +kernel
theorem dX6_root_5 : decode cX6_root 5 = .ok (.isub, 1) := by decide +kernel
theorem dX6_root_6 : decode cX6_root 6 = .ok (.ireturn, 1) := by decide +kernel
abbrev cX6_push : ByteArray := prog_10_method_7_code
def yX6_push : MethodName := ⟨RX6, "push", "(II)V"⟩
theorem dX6_push_0 : decode cX6_push 0 = .ok (.iload_n 1, 1) := by decide +kernel
theorem dX6_push_1 : decode cX6_push 1 = .ok (.aload_n 0, 1) := by decide +kernel
theorem dX6_push_2 : decode cX6_push 2 = .ok (.getfield 28, 3) := by decide +kernel
theorem dX6_push_5 : decode cX6_push 5 = .ok (.arraylength, 1) := by decide +kernel
theorem dX6_push_6 : decode cX6_push 6 = .ok (.if_icmp .ne 17, 3) := by decide +kernel
theorem dX6_push_9 : decode cX6_push 9 = .ok (.aload_n 0, 1) := by decide +kernel
theorem dX6_push_10 : decode cX6_push 10 = .ok (.aload_n 0, 1) := by decide +kernel
theorem dX6_push_11 : decode cX6_push 11 = .ok (.getfield 28, 3) := by decide +kernel
theorem dX6_push_14 : decode cX6_push 14 = .ok (.iconst 2, 1) := by decide +kernel
theorem dX6_push_15 : decode cX6_push 15 = .ok (.iload_n 1, 1) := by decide +kernel
theorem dX6_push_16 : decode cX6_push 16 = .ok (.imul, 1) := by decide +kernel
theorem dX6_push_17 : decode cX6_push 17 = .ok (.invokestatic 53, 3) := by decide +kernel
theorem dX6_push_20 : decode cX6_push 20 = .ok (.putfield 28, 3) := by decide +kernel
theorem dX6_push_23 : decode cX6_push 23 = .ok (.aload_n 0, 1) := by decide +kernel
theorem dX6_push_24 : decode cX6_push 24 = .ok (.getfield 28, 3) := by decide +kernel
theorem dX6_push_27 : decode cX6_push 27 = .ok (.iload_n 1, 1) := by decide +kernel
theorem dX6_push_28 : decode cX6_push 28 = .ok (.iload_n 2, 1) := by decide +kernel
theorem dX6_push_29 : decode cX6_push 29 = .ok (.iastore, 1) := by decide +kernel
theorem dX6_push_30 : decode cX6_push 30 = .ok (.return_, 1) := by decide +kernel
abbrev cX6_isLeaf : ByteArray := prog_10_method_3_code
def yX6_isLeaf : MethodName := ⟨RX6, "isLeaf", "(I)Z"⟩
theorem dX6_isLeaf_0 : decode cX6_isLeaf 0 = .ok (.iload_n 1, 1) := by decide +kernel
theorem dX6_isLeaf_1 : decode cX6_isLeaf 1 = .ok (.aload_n 0, 1) := by decide +kernel
theorem dX6_isLeaf_2 : decode cX6_isLeaf 2 = .ok (.getfield 35, 3) := by decide +kernel
theorem dX6_isLeaf_5 : decode cX6_isLeaf 5 = .ok (.if_icmp .ge 7, 3) := by decide +kernel
theorem dX6_isLeaf_8 : decode cX6_isLeaf 8 = .ok (.iconst 1, 1) := by decide +kernel
theorem dX6_isLeaf_9 : decode cX6_isLeaf 9 = .ok (.goto 4, 3) := by decide +kernel
theorem dX6_isLeaf_12 : decode cX6_isLeaf 12 = .ok (.iconst 0, 1) := by decide +kernel
theorem dX6_isLeaf_13 : decode cX6_isLeaf 13 = .ok (.ireturn, 1) := by decide +kernel
theorem q76 : (Jvm.Cond.initialized "ShapeRelator$Tree") ∈ lw_all := lw_g (lw_at lw_m1 6 rfl) rfl
theorem q200 : (Jvm.Cond.instantiable "ShapeRelator$Tree" (11 : Nat)) ∈ lw_all := lw_g (lw_at lw_m1 130 rfl) rfl
theorem q202 : (Jvm.Cond.instanceMethod ({ cls := "ShapeRelator$Tree", name := "<init>", desc := "()V" } : Jvm.MethodName)) ∈ lw_all := lw_g (lw_at lw_m1 132 rfl) rfl
theorem q203 : (Jvm.Cond.code ({ cls := "ShapeRelator$Tree", name := "<init>", desc := "()V" } : Jvm.MethodName) prog_10_method_1_code (1 : Nat) (Option.none : Option Jvm.ClassFile.FieldType)) ∈ lw_all := lw_g (lw_at lw_m1 133 rfl) rfl
theorem q204 : (Jvm.Cond.methodLinkNest "ShapeRelator$Tree" (3 : Nat) ({ cls := "ShapeRelator$Bounds", name := "<init>", desc := "()V" } : Jvm.MethodName) "ShapeRelator") ∈ lw_tbl := lw_at lw_m1 134 rfl
theorem q205 : (Jvm.Cond.classLink "ShapeRelator$Tree" (21 : Nat) "ShapeRelator$Sorter") ∈ lw_all := lw_g (lw_at lw_m1 135 rfl) rfl
theorem q207 : (Jvm.Cond.methodLinkNest "ShapeRelator$Tree" (23 : Nat) ({ cls := "ShapeRelator$Sorter", name := "<init>", desc := "()V" } : Jvm.MethodName) "ShapeRelator") ∈ lw_tbl := lw_at lw_m1 137 rfl
theorem q223 : (Jvm.Cond.fieldLink "ShapeRelator$Tree" (9 : Nat) "ShapeRelator$Tree" "order" "[I") ∈ lw_all := lw_g (lw_at lw_m1 153 rfl) rfl
theorem q225 : (Jvm.Cond.fieldLink "ShapeRelator$Tree" (15 : Nat) "ShapeRelator$Tree" "from" "[I") ∈ lw_all := lw_g (lw_at lw_m1 155 rfl) rfl
theorem q227 : (Jvm.Cond.fieldLink "ShapeRelator$Tree" (18 : Nat) "ShapeRelator$Tree" "to" "[I") ∈ lw_all := lw_g (lw_at lw_m1 157 rfl) rfl
theorem q229 : (Jvm.Cond.fieldLink "ShapeRelator$Tree" (31 : Nat) "ShapeRelator$Tree" "nodes" "I") ∈ lw_all := lw_g (lw_at lw_m1 159 rfl) rfl
theorem q230 : (Jvm.Cond.fieldLink "ShapeRelator$Tree" (35 : Nat) "ShapeRelator$Tree" "leaves" "I") ∈ lw_all := lw_g (lw_at lw_m1 160 rfl) rfl
theorem q231 : (Jvm.Cond.fieldLink "ShapeRelator$Tree" (24 : Nat) "ShapeRelator$Tree" "sorter" "LShapeRelator$Sorter;") ∈ lw_all := lw_g (lw_at lw_m1 161 rfl) rfl
theorem q232 : (Jvm.Cond.fieldLink "ShapeRelator$Tree" (28 : Nat) "ShapeRelator$Tree" "pile" "[I") ∈ lw_all := lw_g (lw_at lw_m1 162 rfl) rfl
theorem q234 : (Jvm.Cond.lays "ShapeRelator$Tree" "ShapeRelator$Tree" "order" "[I") ∈ lw_all := lw_g (lw_at lw_m1 164 rfl) rfl
theorem q235 : (Jvm.Cond.soleField "ShapeRelator$Tree" "order") ∈ lw_all := lw_g (lw_at lw_m1 165 rfl) rfl
theorem q236 : (Jvm.Cond.lays "ShapeRelator$Tree" "ShapeRelator$Tree" "from" "[I") ∈ lw_all := lw_g (lw_at lw_m1 166 rfl) rfl
theorem q237 : (Jvm.Cond.soleField "ShapeRelator$Tree" "from") ∈ lw_all := lw_g (lw_at lw_m1 167 rfl) rfl
theorem q238 : (Jvm.Cond.lays "ShapeRelator$Tree" "ShapeRelator$Tree" "to" "[I") ∈ lw_all := lw_g (lw_at lw_m1 168 rfl) rfl
theorem q239 : (Jvm.Cond.soleField "ShapeRelator$Tree" "to") ∈ lw_all := lw_g (lw_at lw_m1 169 rfl) rfl
theorem q240 : (Jvm.Cond.lays "ShapeRelator$Tree" "ShapeRelator$Tree" "nodes" "I") ∈ lw_all := lw_g (lw_at lw_m1 170 rfl) rfl
theorem q241 : (Jvm.Cond.soleField "ShapeRelator$Tree" "nodes") ∈ lw_all := lw_g (lw_at lw_m1 171 rfl) rfl
theorem q242 : (Jvm.Cond.lays "ShapeRelator$Tree" "ShapeRelator$Tree" "leaves" "I") ∈ lw_all := lw_g (lw_at lw_m1 172 rfl) rfl
theorem q243 : (Jvm.Cond.soleField "ShapeRelator$Tree" "leaves") ∈ lw_all := lw_g (lw_at lw_m1 173 rfl) rfl
theorem q244 : (Jvm.Cond.laysFinal "ShapeRelator$Tree" "ShapeRelator$Tree" "sorter" "LShapeRelator$Sorter;") ∈ lw_all := lw_g (lw_at lw_m1 174 rfl) rfl
theorem q245 : (Jvm.Cond.soleField "ShapeRelator$Tree" "sorter") ∈ lw_all := lw_g (lw_at lw_m1 175 rfl) rfl
theorem q246 : (Jvm.Cond.lays "ShapeRelator$Tree" "ShapeRelator$Tree" "pile" "[I") ∈ lw_all := lw_g (lw_at lw_m1 176 rfl) rfl
theorem q247 : (Jvm.Cond.soleField "ShapeRelator$Tree" "pile") ∈ lw_all := lw_g (lw_at lw_m1 177 rfl) rfl
theorem q248 : (Jvm.Cond.lays "ShapeRelator$Tree" "ShapeRelator$Bounds" "lowX" "[I") ∈ lw_all := lw_g (lw_at lw_m1 178 rfl) rfl
theorem q249 : (Jvm.Cond.lays "ShapeRelator$Tree" "ShapeRelator$Bounds" "lowY" "[I") ∈ lw_all := lw_g (lw_at lw_m1 179 rfl) rfl
theorem q250 : (Jvm.Cond.lays "ShapeRelator$Tree" "ShapeRelator$Bounds" "highX" "[I") ∈ lw_all := lw_g (lw_at lw_m1 180 rfl) rfl
theorem q251 : (Jvm.Cond.lays "ShapeRelator$Tree" "ShapeRelator$Bounds" "highY" "[I") ∈ lw_all := lw_g (lw_at lw_m1 181 rfl) rfl
theorem q252 : (Jvm.Cond.superclass "ShapeRelator$Tree" "ShapeRelator$Bounds") ∈ lw_all := lw_g (lw_at lw_m1 182 rfl) rfl
theorem q410 : (Jvm.Cond.selects "ShapeRelator$Tree" ({ cls := "ShapeRelator$Bounds", name := "set", desc := "(IIIII)V" } : Jvm.MethodName) ({ cls := "ShapeRelator$Bounds", name := "set", desc := "(IIIII)V" } : Jvm.MethodName)) ∈ lw_all := lw_g (lw_at lw_m2 100 rfl) rfl
theorem q416 : (Jvm.Cond.selects "ShapeRelator$Tree" ({ cls := "ShapeRelator$Bounds", name := "ready", desc := "(I)V" } : Jvm.MethodName) ({ cls := "ShapeRelator$Bounds", name := "ready", desc := "(I)V" } : Jvm.MethodName)) ∈ lw_all := lw_g (lw_at lw_m2 106 rfl) rfl
theorem q420 : (Jvm.Cond.instanceMethod ({ cls := "ShapeRelator$Tree", name := "build", desc := "(LShapeRelator$Bounds;[ZI)V" } : Jvm.MethodName)) ∈ lw_all := lw_g (lw_at lw_m2 110 rfl) rfl
theorem q421 : (Jvm.Cond.selects "ShapeRelator$Tree" ({ cls := "ShapeRelator$Tree", name := "build", desc := "(LShapeRelator$Bounds;[ZI)V" } : Jvm.MethodName) ({ cls := "ShapeRelator$Tree", name := "build", desc := "(LShapeRelator$Bounds;[ZI)V" } : Jvm.MethodName)) ∈ lw_all := lw_g (lw_at lw_m2 111 rfl) rfl
theorem q422 : (Jvm.Cond.code ({ cls := "ShapeRelator$Tree", name := "build", desc := "(LShapeRelator$Bounds;[ZI)V" } : Jvm.MethodName) prog_10_method_6_code (10 : Nat) (Option.none : Option Jvm.ClassFile.FieldType)) ∈ lw_all := lw_g (lw_at lw_m2 112 rfl) rfl
theorem q423 : (Jvm.Cond.methodLink "ShapeRelator$Tree" (67 : Nat) ({ cls := "java/lang/Math", name := "max", desc := "(II)I" } : Jvm.MethodName)) ∈ lw_all := lw_g (lw_at lw_m2 113 rfl) rfl
theorem q424 : (Jvm.Cond.methodLink "ShapeRelator$Tree" (73 : Nat) ({ cls := "ShapeRelator$Tree", name := "sort", desc := "(LShapeRelator$Bounds;IIZ)V" } : Jvm.MethodName)) ∈ lw_all := lw_g (lw_at lw_m2 114 rfl) rfl
theorem q425 : (Jvm.Cond.privateMethod ({ cls := "ShapeRelator$Tree", name := "sort", desc := "(LShapeRelator$Bounds;IIZ)V" } : Jvm.MethodName)) ∈ lw_tbl := lw_at lw_m2 115 rfl
theorem q426 : (Jvm.Cond.instanceMethod ({ cls := "ShapeRelator$Tree", name := "sort", desc := "(LShapeRelator$Bounds;IIZ)V" } : Jvm.MethodName)) ∈ lw_all := lw_g (lw_at lw_m2 116 rfl) rfl
theorem q427 : (Jvm.Cond.code ({ cls := "ShapeRelator$Tree", name := "sort", desc := "(LShapeRelator$Bounds;IIZ)V" } : Jvm.MethodName) prog_10_method_4_code (6 : Nat) (Option.none : Option Jvm.ClassFile.FieldType)) ∈ lw_all := lw_g (lw_at lw_m2 117 rfl) rfl
theorem q428 : (Jvm.Cond.methodLink "ShapeRelator$Tree" (38 : Nat) ({ cls := "ShapeRelator$Sorter", name := "clear", desc := "()V" } : Jvm.MethodName)) ∈ lw_all := lw_g (lw_at lw_m2 118 rfl) rfl
theorem q432 : (Jvm.Cond.methodLink "ShapeRelator$Tree" (41 : Nat) ({ cls := "ShapeRelator$Bounds", name := "middle", desc := "(IZ)J" } : Jvm.MethodName)) ∈ lw_all := lw_g (lw_at lw_m2 122 rfl) rfl
theorem q436 : (Jvm.Cond.selects "ShapeRelator$Tree" ({ cls := "ShapeRelator$Bounds", name := "middle", desc := "(IZ)J" } : Jvm.MethodName) ({ cls := "ShapeRelator$Bounds", name := "middle", desc := "(IZ)J" } : Jvm.MethodName)) ∈ lw_all := lw_g (lw_at lw_m2 126 rfl) rfl
theorem q438 : (Jvm.Cond.methodLink "ShapeRelator$Tree" (45 : Nat) ({ cls := "ShapeRelator$Sorter", name := "add", desc := "(JI)V" } : Jvm.MethodName)) ∈ lw_all := lw_g (lw_at lw_m2 128 rfl) rfl
theorem q452 : (Jvm.Cond.methodLink "ShapeRelator$Tree" (49 : Nat) ({ cls := "ShapeRelator$Sorter", name := "take", desc := "()I" } : Jvm.MethodName)) ∈ lw_all := lw_g (lw_at lw_m2 142 rfl) rfl
theorem q460 : (Jvm.Cond.methodLink "ShapeRelator$Tree" (77 : Nat) ({ cls := "java/lang/Math", name := "min", desc := "(II)I" } : Jvm.MethodName)) ∈ lw_all := lw_g (lw_at lw_m2 150 rfl) rfl
theorem q461 : (Jvm.Cond.methodLink "ShapeRelator$Tree" (80 : Nat) ({ cls := "ShapeRelator$Tree", name := "node", desc := "(LShapeRelator$Bounds;IIZ)V" } : Jvm.MethodName)) ∈ lw_all := lw_g (lw_at lw_m2 151 rfl) rfl
theorem q462 : (Jvm.Cond.privateMethod ({ cls := "ShapeRelator$Tree", name := "node", desc := "(LShapeRelator$Bounds;IIZ)V" } : Jvm.MethodName)) ∈ lw_tbl := lw_at lw_m2 152 rfl
theorem q463 : (Jvm.Cond.instanceMethod ({ cls := "ShapeRelator$Tree", name := "node", desc := "(LShapeRelator$Bounds;IIZ)V" } : Jvm.MethodName)) ∈ lw_all := lw_g (lw_at lw_m2 153 rfl) rfl
theorem q464 : (Jvm.Cond.code ({ cls := "ShapeRelator$Tree", name := "node", desc := "(LShapeRelator$Bounds;IIZ)V" } : Jvm.MethodName) prog_10_method_5_code (6 : Nat) (Option.none : Option Jvm.ClassFile.FieldType)) ∈ lw_all := lw_g (lw_at lw_m2 154 rfl) rfl
theorem q465 : (Jvm.Cond.methodLinkNest "ShapeRelator$Tree" (53 : Nat) ({ cls := "ShapeRelator$Bounds", name := "longer", desc := "([II)[I" } : Jvm.MethodName) "ShapeRelator") ∈ lw_tbl := lw_at lw_m2 155 rfl
theorem q466 : (Jvm.Cond.constant "ShapeRelator$Tree" (57 : Nat) (1000000000 : Int32)) ∈ lw_all := lw_g (lw_at lw_m2 156 rfl) rfl
theorem q467 : (Jvm.Cond.constant "ShapeRelator$Tree" (58 : Nat) (-1000000000 : Int32)) ∈ lw_all := lw_g (lw_at lw_m2 157 rfl) rfl
theorem q468 : (Jvm.Cond.methodLink "ShapeRelator$Tree" (59 : Nat) ({ cls := "ShapeRelator$Tree", name := "set", desc := "(IIIII)V" } : Jvm.MethodName)) ∈ lw_all := lw_g (lw_at lw_m2 158 rfl) rfl
theorem q469 : (Jvm.Cond.sameMethod "ShapeRelator$Tree" "ShapeRelator$Bounds" "set" "(IIIII)V") ∈ lw_all := lw_g (lw_at lw_m2 159 rfl) rfl
theorem q471 : (Jvm.Cond.selects "ShapeRelator$Tree" ({ cls := "ShapeRelator$Tree", name := "set", desc := "(IIIII)V" } : Jvm.MethodName) ({ cls := "ShapeRelator$Bounds", name := "set", desc := "(IIIII)V" } : Jvm.MethodName)) ∈ lw_all := lw_g (lw_at lw_m2 161 rfl) rfl
theorem q472 : (Jvm.Cond.methodLink "ShapeRelator$Tree" (63 : Nat) ({ cls := "ShapeRelator$Tree", name := "join", desc := "(ILShapeRelator$Bounds;I)V" } : Jvm.MethodName)) ∈ lw_all := lw_g (lw_at lw_m2 162 rfl) rfl
theorem q473 : (Jvm.Cond.sameMethod "ShapeRelator$Tree" "ShapeRelator$Bounds" "join" "(ILShapeRelator$Bounds;I)V") ∈ lw_all := lw_g (lw_at lw_m2 163 rfl) rfl
theorem q475 : (Jvm.Cond.selects "ShapeRelator$Tree" ({ cls := "ShapeRelator$Tree", name := "join", desc := "(ILShapeRelator$Bounds;I)V" } : Jvm.MethodName) ({ cls := "ShapeRelator$Bounds", name := "join", desc := "(ILShapeRelator$Bounds;I)V" } : Jvm.MethodName)) ∈ lw_all := lw_g (lw_at lw_m2 165 rfl) rfl
theorem q493 : (Jvm.Cond.instanceMethod ({ cls := "ShapeRelator$Tree", name := "root", desc := "()I" } : Jvm.MethodName)) ∈ lw_all := lw_g (lw_at lw_m2 183 rfl) rfl
theorem q494 : (Jvm.Cond.selects "ShapeRelator$Tree" ({ cls := "ShapeRelator$Tree", name := "root", desc := "()I" } : Jvm.MethodName) ({ cls := "ShapeRelator$Tree", name := "root", desc := "()I" } : Jvm.MethodName)) ∈ lw_all := lw_g (lw_at lw_m2 184 rfl) rfl
theorem q495 : (Jvm.Cond.code ({ cls := "ShapeRelator$Tree", name := "root", desc := "()I" } : Jvm.MethodName) prog_10_method_2_code (1 : Nat) (Option.some Jvm.ClassFile.FieldType.int)) ∈ lw_all := lw_g (lw_at lw_m2 185 rfl) rfl
theorem q497 : (Jvm.Cond.instanceMethod ({ cls := "ShapeRelator$Tree", name := "push", desc := "(II)V" } : Jvm.MethodName)) ∈ lw_all := lw_g (lw_at lw_m2 187 rfl) rfl
theorem q498 : (Jvm.Cond.selects "ShapeRelator$Tree" ({ cls := "ShapeRelator$Tree", name := "push", desc := "(II)V" } : Jvm.MethodName) ({ cls := "ShapeRelator$Tree", name := "push", desc := "(II)V" } : Jvm.MethodName)) ∈ lw_all := lw_g (lw_at lw_m2 188 rfl) rfl
theorem q499 : (Jvm.Cond.code ({ cls := "ShapeRelator$Tree", name := "push", desc := "(II)V" } : Jvm.MethodName) prog_10_method_7_code (3 : Nat) (Option.none : Option Jvm.ClassFile.FieldType)) ∈ lw_all := lw_g (lw_at lw_m2 189 rfl) rfl
theorem q501 : (Jvm.Cond.sameMethod "ShapeRelator$Tree" "ShapeRelator$Bounds" "meets" "(IIIII)Z") ∈ lw_all := lw_g (lw_at lw_m2 191 rfl) rfl
theorem q503 : (Jvm.Cond.selects "ShapeRelator$Tree" ({ cls := "ShapeRelator$Tree", name := "meets", desc := "(IIIII)Z" } : Jvm.MethodName) ({ cls := "ShapeRelator$Bounds", name := "meets", desc := "(IIIII)Z" } : Jvm.MethodName)) ∈ lw_all := lw_g (lw_at lw_m2 193 rfl) rfl
theorem q507 : (Jvm.Cond.instanceMethod ({ cls := "ShapeRelator$Tree", name := "isLeaf", desc := "(I)Z" } : Jvm.MethodName)) ∈ lw_all := lw_g (lw_at lw_m2 197 rfl) rfl
theorem q508 : (Jvm.Cond.selects "ShapeRelator$Tree" ({ cls := "ShapeRelator$Tree", name := "isLeaf", desc := "(I)Z" } : Jvm.MethodName) ({ cls := "ShapeRelator$Tree", name := "isLeaf", desc := "(I)Z" } : Jvm.MethodName)) ∈ lw_all := lw_g (lw_at lw_m2 198 rfl) rfl
theorem q509 : (Jvm.Cond.code ({ cls := "ShapeRelator$Tree", name := "isLeaf", desc := "(I)Z" } : Jvm.MethodName) prog_10_method_3_code (2 : Nat) (Option.some Jvm.ClassFile.FieldType.boolean)) ∈ lw_all := lw_g (lw_at lw_m2 199 rfl) rfl
theorem in_X6 : ∀ w ∈ wsX60, w ∈ lw_all := lw_in wsX60 [248, 249, 250, 251, 234, 236, 238, 240, 242, 244, 246] (by decide +kernel) (by decide +kernel)
/-! ShapeRelator -/
set_option maxRecDepth 100000
def RX1 : String := "ShapeRelator"
def TX1 : u_T := fun k => match k with
  | _ => ("ShapeRelator", "relator", "LShapeRelator$Relator;", true)
def tyX1 : Nat → FieldType := fun k => match k with
  | _ => .object "ShapeRelator$Relator"
abbrev wsX10 : List Cond := u_ws RX1 TX1 1
theorem nmX1 : ∀ a, a < 1 → ∀ b, b < 1 → a ≠ b → (TX1 a).2.1 ≠ (TX1 b).2.1 := by decide +kernel
theorem tyX1_ok : ∀ k, k < 1 → parseFieldDescriptor (TX1 k).2.2.1 = some (tyX1 k) := by decide +kernel
abbrev cX1_init : ByteArray := prog_1_method_1_code
def yX1_init : MethodName := ⟨RX1, "<init>", "()V"⟩
theorem dX1_init_0 : decode cX1_init 0 = .ok (.aload_n 0, 1) := by decide +kernel
theorem dX1_init_1 : decode cX1_init 1 = .ok (.invokespecial 1, 3) := by decide +kernel
theorem dX1_init_4 : decode cX1_init 4 = .ok (.aload_n 0, 1) := by decide +kernel
theorem dX1_init_5 : decode cX1_init 5 = .ok (.new 7, 3) := by decide +kernel
theorem dX1_init_8 : decode cX1_init 8 = .ok (.dup, 1) := by decide +kernel
theorem dX1_init_9 : decode cX1_init 9 = .ok (.invokespecial 9, 3) := by decide +kernel
theorem dX1_init_12 : decode cX1_init 12 = .ok (.putfield 10, 3) := by decide +kernel
theorem dX1_init_15 : decode cX1_init 15 = .ok (.return_, 1) := by decide +kernel
abbrev cX1_relate : ByteArray := prog_1_method_11_code
def yX1_relate : MethodName := ⟨RX1, "relate", "()I"⟩
theorem dX1_relate_0 : decode cX1_relate 0 = .ok (.aload_n 0, 1) := by decide +kernel
theorem dX1_relate_1 : decode cX1_relate 1 = .ok (.getfield 10, 3) := by decide +kernel
theorem dX1_relate_4 : decode cX1_relate 4 = .ok (.invokevirtual 75, 3) := by decide +kernel
theorem dX1_relate_7 : decode cX1_relate 7 = .ok (.iconst 0, 1) := by decide +kernel
theorem dX1_relate_8 : decode cX1_relate 8 = .ok (.istore_n 1, 1) := by decide +kernel
theorem dX1_relate_9 : decode cX1_relate 9 = .ok (.iconst 0, 1) := by decide +kernel
theorem dX1_relate_10 : decode cX1_relate 10 = .ok (.istore_n 2, 1) := by decide +kernel
theorem dX1_relate_11 : decode cX1_relate 11 = .ok (.iload_n 2, 1) := by decide +kernel
theorem dX1_relate_12 : decode cX1_relate 12 = .ok (.bipush 9, 2) := by decide +kernel
theorem dX1_relate_14 : decode cX1_relate 14 = .ok (.if_icmp .ge 29, 3) := by decide +kernel
theorem dX1_relate_17 : decode cX1_relate 17 = .ok (.iconst 4, 1) := by decide +kernel
theorem dX1_relate_18 : decode cX1_relate 18 = .ok (.iload_n 1, 1) := by decide +kernel
theorem dX1_relate_19 : decode cX1_relate 19 = .ok (.imul, 1) := by decide +kernel
theorem dX1_relate_20 : decode cX1_relate 20 = .ok (.aload_n 0, 1) := by decide +kernel
theorem dX1_relate_21 : decode cX1_relate 21 = .ok (.getfield 10, 3) := by decide +kernel
theorem dX1_relate_24 : decode cX1_relate 24 = .ok (.iload_n 2, 1) := by decide +kernel
theorem dX1_relate_25 : decode cX1_relate 25 = .ok (.iconst 3, 1) := by decide +kernel
theorem dX1_relate_26 : decode cX1_relate 26 = .ok (.idiv, 1) := by decide +kernel
theorem dX1_relate_27 : decode cX1_relate 27 = .ok (.iload_n 2, 1) := by decide +kernel
theorem dX1_relate_28 : decode cX1_relate 28 = .ok (.iconst 3, 1) := by decide +kernel
theorem dX1_relate_29 : decode cX1_relate 29 = .ok (.irem, 1) := by decide +kernel
theorem dX1_relate_30 : decode cX1_relate 30 = .ok (.invokevirtual 78, 3) := by decide +kernel
theorem dX1_relate_33 : decode cX1_relate 33 = .ok (.iadd, 1) := by decide +kernel
theorem dX1_relate_34 : decode cX1_relate 34 = .ok (.iconst 1, 1) := by decide +kernel
theorem dX1_relate_35 : decode cX1_relate 35 = .ok (.iadd, 1) := by decide +kernel
theorem dX1_relate_36 : decode cX1_relate 36 = .ok (.istore_n 1, 1) := by decide +kernel
theorem dX1_relate_37 : decode cX1_relate 37 = .ok (.iinc 2 1, 3) := by decide +kernel
theorem dX1_relate_40 : decode cX1_relate 40 = .ok (.goto (-29), 3) := by decide +kernel
theorem dX1_relate_43 : decode cX1_relate 43 = .ok (.iload_n 1, 1) := by decide +kernel
theorem dX1_relate_44 : decode cX1_relate 44 = .ok (.ireturn, 1) := by decide +kernel
abbrev cX1_shape : ByteArray := prog_1_method_7_code
def yX1_shape : MethodName := ⟨RX1, "shape", "(II)I"⟩
theorem dX1_shape_0 : decode cX1_shape 0 = .ok (.aload_n 0, 1) := by decide +kernel
theorem dX1_shape_1 : decode cX1_shape 1 = .ok (.iload_n 1, 1) := by decide +kernel
theorem dX1_shape_2 : decode cX1_shape 2 = .ok (.invokevirtual 35, 3) := by decide +kernel
theorem dX1_shape_5 : decode cX1_shape 5 = .ok (.astore_n 3, 1) := by decide +kernel
theorem dX1_shape_6 : decode cX1_shape 6 = .ok (.iload_n 2, 1) := by decide +kernel
theorem dX1_shape_7 : decode cX1_shape 7 = .ok (.iconst 1, 1) := by decide +kernel
theorem dX1_shape_8 : decode cX1_shape 8 = .ok (.if_icmp .lt 12, 3) := by decide +kernel
theorem dX1_shape_11 : decode cX1_shape 11 = .ok (.iload_n 2, 1) := by decide +kernel
theorem dX1_shape_12 : decode cX1_shape 12 = .ok (.iconst 3, 1) := by decide +kernel
theorem dX1_shape_13 : decode cX1_shape 13 = .ok (.if_icmp .gt 7, 3) := by decide +kernel
theorem dX1_shape_16 : decode cX1_shape 16 = .ok (.iconst 1, 1) := by decide +kernel
theorem dX1_shape_17 : decode cX1_shape 17 = .ok (.goto 4, 3) := by decide +kernel
theorem dX1_shape_20 : decode cX1_shape 20 = .ok (.iconst 0, 1) := by decide +kernel
theorem dX1_shape_21 : decode cX1_shape 21 = .ok (.invokestatic 38, 3) := by decide +kernel
theorem dX1_shape_24 : decode cX1_shape 24 = .ok (.aload_n 3, 1) := by decide +kernel
theorem dX1_shape_25 : decode cX1_shape 25 = .ok (.getfield 41, 3) := by decide +kernel
theorem dX1_shape_28 : decode cX1_shape 28 = .ok (.istore 4, 2) := by decide +kernel
theorem dX1_shape_30 : decode cX1_shape 30 = .ok (.aload_n 3, 1) := by decide +kernel
theorem dX1_shape_31 : decode cX1_shape 31 = .ok (.iload_n 2, 1) := by decide +kernel
theorem dX1_shape_32 : decode cX1_shape 32 = .ok (.invokevirtual 47, 3) := by decide +kernel
theorem dX1_shape_35 : decode cX1_shape 35 = .ok (.aload_n 0, 1) := by decide +kernel
theorem dX1_shape_36 : decode cX1_shape 36 = .ok (.getfield 10, 3) := by decide +kernel
theorem dX1_shape_39 : decode cX1_shape 39 = .ok (.invokevirtual 51, 3) := by decide +kernel
theorem dX1_shape_42 : decode cX1_shape 42 = .ok (.iload 4, 2) := by decide +kernel
theorem dX1_shape_44 : decode cX1_shape 44 = .ok (.ireturn, 1) := by decide +kernel
abbrev cX1_known : ByteArray := prog_1_method_6_code
def yX1_known : MethodName := ⟨RX1, "known", "(I)LShapeRelator$Outline;"⟩
theorem dX1_known_0 : decode cX1_known 0 = .ok (.iload_n 1, 1) := by decide +kernel
theorem dX1_known_1 : decode cX1_known 1 = .ok (.ifCond .eq 8, 3) := by decide +kernel
theorem dX1_known_4 : decode cX1_known 4 = .ok (.iload_n 1, 1) := by decide +kernel
theorem dX1_known_5 : decode cX1_known 5 = .ok (.iconst 1, 1) := by decide +kernel
theorem dX1_known_6 : decode cX1_known 6 = .ok (.if_icmp .ne 7, 3) := by decide +kernel
theorem dX1_known_9 : decode cX1_known 9 = .ok (.iconst 1, 1) := by decide +kernel
theorem dX1_known_10 : decode cX1_known 10 = .ok (.goto 4, 3) := by decide +kernel
theorem dX1_known_13 : decode cX1_known 13 = .ok (.iconst 0, 1) := by decide +kernel
theorem dX1_known_14 : decode cX1_known 14 = .ok (.invokestatic 27, 3) := by decide +kernel
theorem dX1_known_17 : decode cX1_known 17 = .ok (.aload_n 0, 1) := by decide +kernel
theorem dX1_known_18 : decode cX1_known 18 = .ok (.getfield 10, 3) := by decide +kernel
theorem dX1_known_21 : decode cX1_known 21 = .ok (.iload_n 1, 1) := by decide +kernel
theorem dX1_known_22 : decode cX1_known 22 = .ok (.invokevirtual 31, 3) := by decide +kernel
theorem dX1_known_25 : decode cX1_known 25 = .ok (.areturn, 1) := by decide +kernel
abbrev cX1_there : ByteArray := prog_1_method_2_code
def yX1_there : MethodName := ⟨RX1, "there", "(Z)V"⟩
theorem dX1_there_0 : decode cX1_there 0 = .ok (.iload_n 0, 1) := by decide +kernel
theorem dX1_there_1 : decode cX1_there 1 = .ok (.ifCond .ne 11, 3) := by decide +kernel
theorem dX1_there_4 : decode cX1_there 4 = .ok (.new 16, 3) := by decide +kernel
theorem dX1_there_7 : decode cX1_there 7 = .ok (.dup, 1) := by decide +kernel
theorem dX1_there_8 : decode cX1_there 8 = .ok (.invokespecial 18, 3) := by decide +kernel
theorem dX1_there_11 : decode cX1_there 11 = .ok (.athrow, 1) := by decide +kernel
theorem dX1_there_12 : decode cX1_there 12 = .ok (.return_, 1) := by decide +kernel
abbrev cX1_right : ByteArray := prog_1_method_3_code
def yX1_right : MethodName := ⟨RX1, "right", "(Z)V"⟩
theorem dX1_right_0 : decode cX1_right 0 = .ok (.iload_n 0, 1) := by decide +kernel
theorem dX1_right_1 : decode cX1_right 1 = .ok (.ifCond .ne 11, 3) := by decide +kernel
theorem dX1_right_4 : decode cX1_right 4 = .ok (.new 19, 3) := by decide +kernel
theorem dX1_right_7 : decode cX1_right 7 = .ok (.dup, 1) := by decide +kernel
theorem dX1_right_8 : decode cX1_right 8 = .ok (.invokespecial 21, 3) := by decide +kernel
theorem dX1_right_11 : decode cX1_right 11 = .ok (.athrow, 1) := by decide +kernel
theorem dX1_right_12 : decode cX1_right 12 = .ok (.return_, 1) := by decide +kernel
abbrev cX1_part : ByteArray := prog_1_method_8_code
def yX1_part : MethodName := ⟨RX1, "part", "(I)I"⟩
theorem dX1_part_0 : decode cX1_part 0 = .ok (.aload_n 0, 1) := by decide +kernel
theorem dX1_part_1 : decode cX1_part 1 = .ok (.iload_n 1, 1) := by decide +kernel
theorem dX1_part_2 : decode cX1_part 2 = .ok (.invokevirtual 35, 3) := by decide +kernel
theorem dX1_part_5 : decode cX1_part 5 = .ok (.astore_n 2, 1) := by decide +kernel
theorem dX1_part_6 : decode cX1_part 6 = .ok (.aload_n 2, 1) := by decide +kernel
theorem dX1_part_7 : decode cX1_part 7 = .ok (.getfield 54, 3) := by decide +kernel
theorem dX1_part_10 : decode cX1_part 10 = .ok (.sipush 1024, 3) := by decide +kernel
theorem dX1_part_13 : decode cX1_part 13 = .ok (.if_icmp .ge 7, 3) := by decide +kernel
theorem dX1_part_16 : decode cX1_part 16 = .ok (.iconst 1, 1) := by decide +kernel
theorem dX1_part_17 : decode cX1_part 17 = .ok (.goto 4, 3) := by decide +kernel
theorem dX1_part_20 : decode cX1_part 20 = .ok (.iconst 0, 1) := by decide +kernel
theorem dX1_part_21 : decode cX1_part 21 = .ok (.invokestatic 57, 3) := by decide +kernel
theorem dX1_part_24 : decode cX1_part 24 = .ok (.aload_n 2, 1) := by decide +kernel
theorem dX1_part_25 : decode cX1_part 25 = .ok (.invokevirtual 60, 3) := by decide +kernel
theorem dX1_part_28 : decode cX1_part 28 = .ok (.aload_n 0, 1) := by decide +kernel
theorem dX1_part_29 : decode cX1_part 29 = .ok (.getfield 10, 3) := by decide +kernel
theorem dX1_part_32 : decode cX1_part 32 = .ok (.invokevirtual 51, 3) := by decide +kernel
theorem dX1_part_35 : decode cX1_part 35 = .ok (.aload_n 2, 1) := by decide +kernel
theorem dX1_part_36 : decode cX1_part 36 = .ok (.getfield 54, 3) := by decide +kernel
theorem dX1_part_39 : decode cX1_part 39 = .ok (.ireturn, 1) := by decide +kernel
abbrev cX1_can : ByteArray := prog_1_method_4_code
def yX1_can : MethodName := ⟨RX1, "can", "(Z)V"⟩
theorem dX1_can_0 : decode cX1_can 0 = .ok (.iload_n 0, 1) := by decide +kernel
theorem dX1_can_1 : decode cX1_can 1 = .ok (.ifCond .ne 11, 3) := by decide +kernel
theorem dX1_can_4 : decode cX1_can 4 = .ok (.new 22, 3) := by decide +kernel
theorem dX1_can_7 : decode cX1_can 7 = .ok (.dup, 1) := by decide +kernel
theorem dX1_can_8 : decode cX1_can 8 = .ok (.invokespecial 24, 3) := by decide +kernel
theorem dX1_can_11 : decode cX1_can 11 = .ok (.athrow, 1) := by decide +kernel
theorem dX1_can_12 : decode cX1_can 12 = .ok (.return_, 1) := by decide +kernel
abbrev cX1_point : ByteArray := prog_1_method_9_code
def yX1_point : MethodName := ⟨RX1, "point", "(III)I"⟩
theorem dX1_point_0 : decode cX1_point 0 = .ok (.aload_n 0, 1) := by decide +kernel
theorem dX1_point_1 : decode cX1_point 1 = .ok (.iload_n 1, 1) := by decide +kernel
theorem dX1_point_2 : decode cX1_point 2 = .ok (.invokevirtual 35, 3) := by decide +kernel
theorem dX1_point_5 : decode cX1_point 5 = .ok (.astore 4, 2) := by decide +kernel
theorem dX1_point_7 : decode cX1_point 7 = .ok (.iload_n 2, 1) := by decide +kernel
theorem dX1_point_8 : decode cX1_point 8 = .ok (.invokestatic 63, 3) := by decide +kernel
theorem dX1_point_11 : decode cX1_point 11 = .ok (.ifCond .eq 14, 3) := by decide +kernel
theorem dX1_point_14 : decode cX1_point 14 = .ok (.iload_n 3, 1) := by decide +kernel
theorem dX1_point_15 : decode cX1_point 15 = .ok (.invokestatic 63, 3) := by decide +kernel
theorem dX1_point_18 : decode cX1_point 18 = .ok (.ifCond .eq 7, 3) := by decide +kernel
theorem dX1_point_21 : decode cX1_point 21 = .ok (.iconst 1, 1) := by decide +kernel
theorem dX1_point_22 : decode cX1_point 22 = .ok (.goto 4, 3) := by decide +kernel
theorem dX1_point_25 : decode cX1_point 25 = .ok (.iconst 0, 1) := by decide +kernel
theorem dX1_point_26 : decode cX1_point 26 = .ok (.invokestatic 38, 3) := by decide +kernel
theorem dX1_point_29 : decode cX1_point 29 = .ok (.aload 4, 2) := by decide +kernel
theorem dX1_point_31 : decode cX1_point 31 = .ok (.getfield 54, 3) := by decide +kernel
theorem dX1_point_34 : decode cX1_point 34 = .ok (.ifCond .le 18, 3) := by decide +kernel
theorem dX1_point_37 : decode cX1_point 37 = .ok (.aload 4, 2) := by decide +kernel
theorem dX1_point_39 : decode cX1_point 39 = .ok (.getfield 41, 3) := by decide +kernel
theorem dX1_point_42 : decode cX1_point 42 = .ok (.sipush 2048, 3) := by decide +kernel
theorem dX1_point_45 : decode cX1_point 45 = .ok (.if_icmp .ge 7, 3) := by decide +kernel
theorem dX1_point_48 : decode cX1_point 48 = .ok (.iconst 1, 1) := by decide +kernel
theorem dX1_point_49 : decode cX1_point 49 = .ok (.goto 4, 3) := by decide +kernel
theorem dX1_point_52 : decode cX1_point 52 = .ok (.iconst 0, 1) := by decide +kernel
theorem dX1_point_53 : decode cX1_point 53 = .ok (.invokestatic 57, 3) := by decide +kernel
theorem dX1_point_56 : decode cX1_point 56 = .ok (.aload 4, 2) := by decide +kernel
theorem dX1_point_58 : decode cX1_point 58 = .ok (.iload_n 2, 1) := by decide +kernel
theorem dX1_point_59 : decode cX1_point 59 = .ok (.iload_n 3, 1) := by decide +kernel
theorem dX1_point_60 : decode cX1_point 60 = .ok (.invokevirtual 67, 3) := by decide +kernel
theorem dX1_point_63 : decode cX1_point 63 = .ok (.aload_n 0, 1) := by decide +kernel
theorem dX1_point_64 : decode cX1_point 64 = .ok (.getfield 10, 3) := by decide +kernel
theorem dX1_point_67 : decode cX1_point 67 = .ok (.invokevirtual 51, 3) := by decide +kernel
theorem dX1_point_70 : decode cX1_point 70 = .ok (.aload 4, 2) := by decide +kernel
theorem dX1_point_72 : decode cX1_point 72 = .ok (.getfield 41, 3) := by decide +kernel
theorem dX1_point_75 : decode cX1_point 75 = .ok (.ireturn, 1) := by decide +kernel
abbrev cX1_isPlace : ByteArray := prog_1_method_5_code
def yX1_isPlace : MethodName := ⟨RX1, "isPlace", "(I)Z"⟩
theorem dX1_isPlace_0 : decode cX1_isPlace 0 = .ok (.iload_n 0, 1) := by decide +kernel
theorem dX1_isPlace_1 : decode cX1_isPlace 1 = .ok (.ldc 25, 2) := by decide +kernel
theorem dX1_isPlace_3 : decode cX1_isPlace 3 = .ok (.if_icmp .lt 13, 3) := by decide +kernel
theorem dX1_isPlace_6 : decode cX1_isPlace 6 = .ok (.iload_n 0, 1) := by decide +kernel
theorem dX1_isPlace_7 : decode cX1_isPlace 7 = .ok (.ldc 26, 2) := by decide +kernel
theorem dX1_isPlace_9 : decode cX1_isPlace 9 = .ok (.if_icmp .gt 7, 3) := by decide +kernel
theorem dX1_isPlace_12 : decode cX1_isPlace 12 = .ok (.iconst 1, 1) := by decide +kernel
theorem dX1_isPlace_13 : decode cX1_isPlace 13 = .ok (.goto 4, 3) := by decide +kernel
theorem dX1_isPlace_16 : decode cX1_isPlace 16 = .ok (.iconst 0, 1) := by decide +kernel
theorem dX1_isPlace_17 : decode cX1_isPlace 17 = .ok (.ireturn, 1) := by decide +kernel
abbrev cX1_locate : ByteArray := prog_1_method_10_code
def yX1_locate : MethodName := ⟨RX1, "locate", "(III)I"⟩
theorem dX1_locate_0 : decode cX1_locate 0 = .ok (.aload_n 0, 1) := by decide +kernel
theorem dX1_locate_1 : decode cX1_locate 1 = .ok (.iload_n 1, 1) := by decide +kernel
theorem dX1_locate_2 : decode cX1_locate 2 = .ok (.invokevirtual 35, 3) := by decide +kernel
theorem dX1_locate_5 : decode cX1_locate 5 = .ok (.pop, 1) := by decide +kernel
theorem dX1_locate_6 : decode cX1_locate 6 = .ok (.iload_n 2, 1) := by decide +kernel
theorem dX1_locate_7 : decode cX1_locate 7 = .ok (.invokestatic 63, 3) := by decide +kernel
theorem dX1_locate_10 : decode cX1_locate 10 = .ok (.ifCond .eq 14, 3) := by decide +kernel
theorem dX1_locate_13 : decode cX1_locate 13 = .ok (.iload_n 3, 1) := by decide +kernel
theorem dX1_locate_14 : decode cX1_locate 14 = .ok (.invokestatic 63, 3) := by decide +kernel
theorem dX1_locate_17 : decode cX1_locate 17 = .ok (.ifCond .eq 7, 3) := by decide +kernel
theorem dX1_locate_20 : decode cX1_locate 20 = .ok (.iconst 1, 1) := by decide +kernel
theorem dX1_locate_21 : decode cX1_locate 21 = .ok (.goto 4, 3) := by decide +kernel
theorem dX1_locate_24 : decode cX1_locate 24 = .ok (.iconst 0, 1) := by decide +kernel
theorem dX1_locate_25 : decode cX1_locate 25 = .ok (.invokestatic 38, 3) := by decide +kernel
theorem dX1_locate_28 : decode cX1_locate 28 = .ok (.aload_n 0, 1) := by decide +kernel
theorem dX1_locate_29 : decode cX1_locate 29 = .ok (.getfield 10, 3) := by decide +kernel
theorem dX1_locate_32 : decode cX1_locate 32 = .ok (.iload_n 1, 1) := by decide +kernel
theorem dX1_locate_33 : decode cX1_locate 33 = .ok (.iload_n 2, 1) := by decide +kernel
theorem dX1_locate_34 : decode cX1_locate 34 = .ok (.iload_n 3, 1) := by decide +kernel
theorem dX1_locate_35 : decode cX1_locate 35 = .ok (.invokevirtual 71, 3) := by decide +kernel
theorem dX1_locate_38 : decode cX1_locate 38 = .ok (.ireturn, 1) := by decide +kernel
abbrev cX1_entry : ByteArray := prog_1_method_12_code
def yX1_entry : MethodName := ⟨RX1, "entry", "(II)I"⟩
theorem dX1_entry_0 : decode cX1_entry 0 = .ok (.iload_n 1, 1) := by decide +kernel
theorem dX1_entry_1 : decode cX1_entry 1 = .ok (.ifCond .lt 21, 3) := by decide +kernel
theorem dX1_entry_4 : decode cX1_entry 4 = .ok (.iload_n 1, 1) := by decide +kernel
theorem dX1_entry_5 : decode cX1_entry 5 = .ok (.iconst 3, 1) := by decide +kernel
theorem dX1_entry_6 : decode cX1_entry 6 = .ok (.if_icmp .ge 16, 3) := by decide +kernel
theorem dX1_entry_9 : decode cX1_entry 9 = .ok (.iload_n 2, 1) := by decide +kernel
theorem dX1_entry_10 : decode cX1_entry 10 = .ok (.ifCond .lt 12, 3) := by decide +kernel
theorem dX1_entry_13 : decode cX1_entry 13 = .ok (.iload_n 2, 1) := by decide +kernel
theorem dX1_entry_14 : decode cX1_entry 14 = .ok (.iconst 3, 1) := by decide +kernel
theorem dX1_entry_15 : decode cX1_entry 15 = .ok (.if_icmp .ge 7, 3) := by decide +kernel
theorem dX1_entry_18 : decode cX1_entry 18 = .ok (.iconst 1, 1) := by decide +kernel
theorem dX1_entry_19 : decode cX1_entry 19 = .ok (.goto 4, 3) := by decide +kernel
theorem dX1_entry_22 : decode cX1_entry 22 = .ok (.iconst 0, 1) := by decide +kernel
theorem dX1_entry_23 : decode cX1_entry 23 = .ok (.invokestatic 27, 3) := by decide +kernel
theorem dX1_entry_26 : decode cX1_entry 26 = .ok (.aload_n 0, 1) := by decide +kernel
theorem dX1_entry_27 : decode cX1_entry 27 = .ok (.getfield 10, 3) := by decide +kernel
theorem dX1_entry_30 : decode cX1_entry 30 = .ok (.invokevirtual 75, 3) := by decide +kernel
theorem dX1_entry_33 : decode cX1_entry 33 = .ok (.aload_n 0, 1) := by decide +kernel
theorem dX1_entry_34 : decode cX1_entry 34 = .ok (.getfield 10, 3) := by decide +kernel
theorem dX1_entry_37 : decode cX1_entry 37 = .ok (.iload_n 1, 1) := by decide +kernel
theorem dX1_entry_38 : decode cX1_entry 38 = .ok (.iload_n 2, 1) := by decide +kernel
theorem dX1_entry_39 : decode cX1_entry 39 = .ok (.invokevirtual 78, 3) := by decide +kernel
theorem dX1_entry_42 : decode cX1_entry 42 = .ok (.ireturn, 1) := by decide +kernel
abbrev cX1_is : ByteArray := prog_1_method_13_code
def yX1_is : MethodName := ⟨RX1, "is", "(I)Z"⟩
theorem dX1_is_0 : decode cX1_is 0 = .ok (.iload_n 1, 1) := by decide +kernel
theorem dX1_is_1 : decode cX1_is 1 = .ok (.ifCond .lt 13, 3) := by decide +kernel
theorem dX1_is_4 : decode cX1_is 4 = .ok (.iload_n 1, 1) := by decide +kernel
theorem dX1_is_5 : decode cX1_is 5 = .ok (.bipush 9, 2) := by decide +kernel
theorem dX1_is_7 : decode cX1_is 7 = .ok (.if_icmp .ge 7, 3) := by decide +kernel
theorem dX1_is_10 : decode cX1_is 10 = .ok (.iconst 1, 1) := by decide +kernel
theorem dX1_is_11 : decode cX1_is 11 = .ok (.goto 4, 3) := by decide +kernel
theorem dX1_is_14 : decode cX1_is 14 = .ok (.iconst 0, 1) := by decide +kernel
theorem dX1_is_15 : decode cX1_is 15 = .ok (.invokestatic 27, 3) := by decide +kernel
theorem dX1_is_18 : decode cX1_is 18 = .ok (.aload_n 0, 1) := by decide +kernel
theorem dX1_is_19 : decode cX1_is 19 = .ok (.getfield 10, 3) := by decide +kernel
theorem dX1_is_22 : decode cX1_is 22 = .ok (.invokevirtual 75, 3) := by decide +kernel
theorem dX1_is_25 : decode cX1_is 25 = .ok (.aload_n 0, 1) := by decide +kernel
theorem dX1_is_26 : decode cX1_is 26 = .ok (.getfield 10, 3) := by decide +kernel
theorem dX1_is_29 : decode cX1_is 29 = .ok (.iconst 0, 1) := by decide +kernel
theorem dX1_is_30 : decode cX1_is 30 = .ok (.iconst 0, 1) := by decide +kernel
theorem dX1_is_31 : decode cX1_is 31 = .ok (.invokevirtual 82, 3) := by decide +kernel
theorem dX1_is_34 : decode cX1_is 34 = .ok (.istore_n 2, 1) := by decide +kernel
theorem dX1_is_35 : decode cX1_is 35 = .ok (.iload_n 1, 1) := by decide +kernel
theorem dX1_is_36 : decode cX1_is 36 = .ok (.tableswitch 174 0 7 #[48, 56, 72, 92, 100, 120, 140, 148], 48) := by decide +kernel
theorem dX1_is_84 : decode cX1_is 84 = .ok (.aload_n 0, 1) := by decide +kernel
theorem dX1_is_85 : decode cX1_is 85 = .ok (.getfield 10, 3) := by decide +kernel
theorem dX1_is_88 : decode cX1_is 88 = .ok (.invokevirtual 86, 3) := by decide +kernel
theorem dX1_is_91 : decode cX1_is 91 = .ok (.ireturn, 1) := by decide +kernel
theorem dX1_is_92 : decode cX1_is 92 = .ok (.aload_n 0, 1) := by decide +kernel
theorem dX1_is_93 : decode cX1_is 93 = .ok (.getfield 10, 3) := by decide +kernel
theorem dX1_is_96 : decode cX1_is 96 = .ok (.invokevirtual 90, 3) := by decide +kernel
theorem dX1_is_99 : decode cX1_is 99 = .ok (.ifCond .ne 7, 3) := by decide +kernel
theorem dX1_is_102 : decode cX1_is 102 = .ok (.iconst 1, 1) := by decide +kernel
theorem dX1_is_103 : decode cX1_is 103 = .ok (.goto 4, 3) := by decide +kernel
theorem dX1_is_106 : decode cX1_is 106 = .ok (.iconst 0, 1) := by decide +kernel
theorem dX1_is_107 : decode cX1_is 107 = .ok (.ireturn, 1) := by decide +kernel
theorem dX1_is_108 : decode cX1_is 108 = .ok (.iload_n 2, 1) := by decide +kernel
theorem dX1_is_109 : decode cX1_is 109 = .ok (.ifCond .ne 17, 3) := by decide +kernel
theorem dX1_is_112 : decode cX1_is 112 = .ok (.aload_n 0, 1) := by decide +kernel
theorem dX1_is_113 : decode cX1_is 113 = .ok (.getfield 10, 3) := by decide +kernel
theorem dX1_is_116 : decode cX1_is 116 = .ok (.invokevirtual 90, 3) := by decide +kernel
theorem dX1_is_119 : decode cX1_is 119 = .ok (.ifCond .eq 7, 3) := by decide +kernel
theorem dX1_is_122 : decode cX1_is 122 = .ok (.iconst 1, 1) := by decide +kernel
theorem dX1_is_123 : decode cX1_is 123 = .ok (.goto 4, 3) := by decide +kernel
theorem dX1_is_126 : decode cX1_is 126 = .ok (.iconst 0, 1) := by decide +kernel
theorem dX1_is_127 : decode cX1_is 127 = .ok (.ireturn, 1) := by decide +kernel
theorem dX1_is_128 : decode cX1_is 128 = .ok (.aload_n 0, 1) := by decide +kernel
theorem dX1_is_129 : decode cX1_is 129 = .ok (.getfield 10, 3) := by decide +kernel
theorem dX1_is_132 : decode cX1_is 132 = .ok (.invokevirtual 93, 3) := by decide +kernel
theorem dX1_is_135 : decode cX1_is 135 = .ok (.ireturn, 1) := by decide +kernel
theorem dX1_is_136 : decode cX1_is 136 = .ok (.iload_n 2, 1) := by decide +kernel
theorem dX1_is_137 : decode cX1_is 137 = .ok (.ifCond .eq 17, 3) := by decide +kernel
theorem dX1_is_140 : decode cX1_is 140 = .ok (.aload_n 0, 1) := by decide +kernel
theorem dX1_is_141 : decode cX1_is 141 = .ok (.getfield 10, 3) := by decide +kernel
theorem dX1_is_144 : decode cX1_is 144 = .ok (.invokevirtual 96, 3) := by decide +kernel
theorem dX1_is_147 : decode cX1_is 147 = .ok (.ifCond .eq 7, 3) := by decide +kernel
theorem dX1_is_150 : decode cX1_is 150 = .ok (.iconst 1, 1) := by decide +kernel
theorem dX1_is_151 : decode cX1_is 151 = .ok (.goto 4, 3) := by decide +kernel
theorem dX1_is_154 : decode cX1_is 154 = .ok (.iconst 0, 1) := by decide +kernel
theorem dX1_is_155 : decode cX1_is 155 = .ok (.ireturn, 1) := by decide +kernel
theorem dX1_is_156 : decode cX1_is 156 = .ok (.iload_n 2, 1) := by decide +kernel
theorem dX1_is_157 : decode cX1_is 157 = .ok (.ifCond .eq 17, 3) := by decide +kernel
theorem dX1_is_160 : decode cX1_is 160 = .ok (.aload_n 0, 1) := by decide +kernel
theorem dX1_is_161 : decode cX1_is 161 = .ok (.getfield 10, 3) := by decide +kernel
theorem dX1_is_164 : decode cX1_is 164 = .ok (.invokevirtual 99, 3) := by decide +kernel
theorem dX1_is_167 : decode cX1_is 167 = .ok (.ifCond .eq 7, 3) := by decide +kernel
theorem dX1_is_170 : decode cX1_is 170 = .ok (.iconst 1, 1) := by decide +kernel
theorem dX1_is_171 : decode cX1_is 171 = .ok (.goto 4, 3) := by decide +kernel
theorem dX1_is_174 : decode cX1_is 174 = .ok (.iconst 0, 1) := by decide +kernel
theorem dX1_is_175 : decode cX1_is 175 = .ok (.ireturn, 1) := by decide +kernel
theorem dX1_is_176 : decode cX1_is 176 = .ok (.aload_n 0, 1) := by decide +kernel
theorem dX1_is_177 : decode cX1_is 177 = .ok (.getfield 10, 3) := by decide +kernel
theorem dX1_is_180 : decode cX1_is 180 = .ok (.invokevirtual 102, 3) := by decide +kernel
theorem dX1_is_183 : decode cX1_is 183 = .ok (.ireturn, 1) := by decide +kernel
theorem dX1_is_184 : decode cX1_is 184 = .ok (.aload_n 0, 1) := by decide +kernel
theorem dX1_is_185 : decode cX1_is 185 = .ok (.getfield 10, 3) := by decide +kernel
theorem dX1_is_188 : decode cX1_is 188 = .ok (.invokevirtual 90, 3) := by decide +kernel
theorem dX1_is_191 : decode cX1_is 191 = .ok (.ifCond .eq 17, 3) := by decide +kernel
theorem dX1_is_194 : decode cX1_is 194 = .ok (.aload_n 0, 1) := by decide +kernel
theorem dX1_is_195 : decode cX1_is 195 = .ok (.getfield 10, 3) := by decide +kernel
theorem dX1_is_198 : decode cX1_is 198 = .ok (.invokevirtual 96, 3) := by decide +kernel
theorem dX1_is_201 : decode cX1_is 201 = .ok (.ifCond .eq 7, 3) := by decide +kernel
theorem dX1_is_204 : decode cX1_is 204 = .ok (.iconst 1, 1) := by decide +kernel
theorem dX1_is_205 : decode cX1_is 205 = .ok (.goto 4, 3) := by decide +kernel
theorem dX1_is_208 : decode cX1_is 208 = .ok (.iconst 0, 1) := by decide +kernel
theorem dX1_is_209 : decode cX1_is 209 = .ok (.ireturn, 1) := by decide +kernel
theorem dX1_is_210 : decode cX1_is 210 = .ok (.aload_n 0, 1) := by decide +kernel
theorem dX1_is_211 : decode cX1_is 211 = .ok (.getfield 10, 3) := by decide +kernel
theorem dX1_is_214 : decode cX1_is 214 = .ok (.invokevirtual 90, 3) := by decide +kernel
theorem dX1_is_217 : decode cX1_is 217 = .ok (.ifCond .eq 17, 3) := by decide +kernel
theorem dX1_is_220 : decode cX1_is 220 = .ok (.aload_n 0, 1) := by decide +kernel
theorem dX1_is_221 : decode cX1_is 221 = .ok (.getfield 10, 3) := by decide +kernel
theorem dX1_is_224 : decode cX1_is 224 = .ok (.invokevirtual 99, 3) := by decide +kernel
theorem dX1_is_227 : decode cX1_is 227 = .ok (.ifCond .eq 7, 3) := by decide +kernel
theorem dX1_is_230 : decode cX1_is 230 = .ok (.iconst 1, 1) := by decide +kernel
theorem dX1_is_231 : decode cX1_is 231 = .ok (.goto 4, 3) := by decide +kernel
theorem dX1_is_234 : decode cX1_is 234 = .ok (.iconst 0, 1) := by decide +kernel
theorem dX1_is_235 : decode cX1_is 235 = .ok (.ireturn, 1) := by decide +kernel
abbrev cX1_dimension : ByteArray := prog_1_method_14_code
def yX1_dimension : MethodName := ⟨RX1, "dimension", "(I)I"⟩
theorem dX1_dimension_0 : decode cX1_dimension 0 = .ok (.aload_n 0, 1) := by decide +kernel
theorem dX1_dimension_1 : decode cX1_dimension 1 = .ok (.iload_n 1, 1) := by decide +kernel
theorem dX1_dimension_2 : decode cX1_dimension 2 = .ok (.invokevirtual 35, 3) := by decide +kernel
theorem dX1_dimension_5 : decode cX1_dimension 5 = .ok (.pop, 1) := by decide +kernel
theorem dX1_dimension_6 : decode cX1_dimension 6 = .ok (.aload_n 0, 1) := by decide +kernel
theorem dX1_dimension_7 : decode cX1_dimension 7 = .ok (.getfield 10, 3) := by decide +kernel
theorem dX1_dimension_10 : decode cX1_dimension 10 = .ok (.iload_n 1, 1) := by decide +kernel
theorem dX1_dimension_11 : decode cX1_dimension 11 = .ok (.invokevirtual 105, 3) := by decide +kernel
theorem dX1_dimension_14 : decode cX1_dimension 14 = .ok (.ireturn, 1) := by decide +kernel
abbrev cX1_count : ByteArray := prog_1_method_15_code
def yX1_count : MethodName := ⟨RX1, "count", "(II)I"⟩
theorem dX1_count_0 : decode cX1_count 0 = .ok (.aload_n 0, 1) := by decide +kernel
theorem dX1_count_1 : decode cX1_count 1 = .ok (.iload_n 1, 1) := by decide +kernel
theorem dX1_count_2 : decode cX1_count 2 = .ok (.invokevirtual 35, 3) := by decide +kernel
theorem dX1_count_5 : decode cX1_count 5 = .ok (.astore_n 3, 1) := by decide +kernel
theorem dX1_count_6 : decode cX1_count 6 = .ok (.iload_n 2, 1) := by decide +kernel
theorem dX1_count_7 : decode cX1_count 7 = .ok (.ifCond .lt 12, 3) := by decide +kernel
theorem dX1_count_10 : decode cX1_count 10 = .ok (.iload_n 2, 1) := by decide +kernel
theorem dX1_count_11 : decode cX1_count 11 = .ok (.iconst 3, 1) := by decide +kernel
theorem dX1_count_12 : decode cX1_count 12 = .ok (.if_icmp .ge 7, 3) := by decide +kernel
theorem dX1_count_15 : decode cX1_count 15 = .ok (.iconst 1, 1) := by decide +kernel
theorem dX1_count_16 : decode cX1_count 16 = .ok (.goto 4, 3) := by decide +kernel
theorem dX1_count_19 : decode cX1_count 19 = .ok (.iconst 0, 1) := by decide +kernel
theorem dX1_count_20 : decode cX1_count 20 = .ok (.invokestatic 27, 3) := by decide +kernel
theorem dX1_count_23 : decode cX1_count 23 = .ok (.iload_n 2, 1) := by decide +kernel
theorem dX1_count_24 : decode cX1_count 24 = .ok (.ifCond .ne 10, 3) := by decide +kernel
theorem dX1_count_27 : decode cX1_count 27 = .ok (.aload_n 3, 1) := by decide +kernel
theorem dX1_count_28 : decode cX1_count 28 = .ok (.getfield 109, 3) := by decide +kernel
theorem dX1_count_31 : decode cX1_count 31 = .ok (.goto 19, 3) := by decide +kernel
theorem dX1_count_34 : decode cX1_count 34 = .ok (.iload_n 2, 1) := by decide +kernel
theorem dX1_count_35 : decode cX1_count 35 = .ok (.iconst 1, 1) := by decide +kernel
theorem dX1_count_36 : decode cX1_count 36 = .ok (.if_icmp .ne 10, 3) := by decide +kernel
theorem dX1_count_39 : decode cX1_count 39 = .ok (.aload_n 3, 1) := by decide +kernel
theorem dX1_count_40 : decode cX1_count 40 = .ok (.getfield 54, 3) := by decide +kernel
theorem dX1_count_43 : decode cX1_count 43 = .ok (.goto 7, 3) := by decide +kernel
theorem dX1_count_46 : decode cX1_count 46 = .ok (.aload_n 3, 1) := by decide +kernel
theorem dX1_count_47 : decode cX1_count 47 = .ok (.getfield 41, 3) := by decide +kernel
theorem dX1_count_50 : decode cX1_count 50 = .ok (.ireturn, 1) := by decide +kernel
theorem q71 : (Jvm.Cond.initialized "ShapeRelator") ∈ lw_all := lw_g (lw_at lw_m1 1 rfl) rfl
theorem q93 : (Jvm.Cond.instantiable "ShapeRelator" (1 : Nat)) ∈ lw_all := lw_g (lw_at lw_m1 23 rfl) rfl
theorem q95 : (Jvm.Cond.instanceMethod ({ cls := "ShapeRelator", name := "<init>", desc := "()V" } : Jvm.MethodName)) ∈ lw_all := lw_g (lw_at lw_m1 25 rfl) rfl
theorem q96 : (Jvm.Cond.code ({ cls := "ShapeRelator", name := "<init>", desc := "()V" } : Jvm.MethodName) prog_1_method_1_code (1 : Nat) (Option.none : Option Jvm.ClassFile.FieldType)) ∈ lw_all := lw_g (lw_at lw_m1 26 rfl) rfl
theorem q97 : (Jvm.Cond.methodLink "ShapeRelator" (1 : Nat) ({ cls := "java/lang/Object", name := "<init>", desc := "()V" } : Jvm.MethodName)) ∈ lw_all := lw_g (lw_at lw_m1 27 rfl) rfl
theorem q100 : (Jvm.Cond.classLink "ShapeRelator" (7 : Nat) "ShapeRelator$Relator") ∈ lw_all := lw_g (lw_at lw_m1 30 rfl) rfl
theorem q102 : (Jvm.Cond.methodLink "ShapeRelator" (9 : Nat) ({ cls := "ShapeRelator$Relator", name := "<init>", desc := "()V" } : Jvm.MethodName)) ∈ lw_all := lw_g (lw_at lw_m1 32 rfl) rfl
theorem q116 : (Jvm.Cond.fieldLinkNest "ShapeRelator" (109 : Nat) "ShapeRelator$Outline" "kind" "I" "ShapeRelator") ∈ lw_tbl := lw_at lw_m1 46 rfl
theorem q121 : (Jvm.Cond.fieldLinkNest "ShapeRelator" (54 : Nat) "ShapeRelator$Outline" "parts" "I" "ShapeRelator") ∈ lw_tbl := lw_at lw_m1 51 rfl
theorem q130 : (Jvm.Cond.fieldLinkNest "ShapeRelator" (41 : Nat) "ShapeRelator$Outline" "points" "I" "ShapeRelator") ∈ lw_tbl := lw_at lw_m1 60 rfl
theorem q358 : (Jvm.Cond.fieldLink "ShapeRelator" (10 : Nat) "ShapeRelator" "relator" "LShapeRelator$Relator;") ∈ lw_all := lw_g (lw_at lw_m2 48 rfl) rfl
theorem q359 : (Jvm.Cond.laysFinal "ShapeRelator" "ShapeRelator" "relator" "LShapeRelator$Relator;") ∈ lw_all := lw_g (lw_at lw_m2 49 rfl) rfl
theorem q360 : (Jvm.Cond.soleField "ShapeRelator" "relator") ∈ lw_all := lw_g (lw_at lw_m2 50 rfl) rfl
theorem q361 : (Jvm.Cond.superclass "ShapeRelator" "java/lang/Object") ∈ lw_all := lw_g (lw_at lw_m2 51 rfl) rfl
theorem q363 : (Jvm.Cond.instanceMethod ({ cls := "ShapeRelator", name := "relate", desc := "()I" } : Jvm.MethodName)) ∈ lw_all := lw_g (lw_at lw_m2 53 rfl) rfl
theorem q364 : (Jvm.Cond.selects "ShapeRelator" ({ cls := "ShapeRelator", name := "relate", desc := "()I" } : Jvm.MethodName) ({ cls := "ShapeRelator", name := "relate", desc := "()I" } : Jvm.MethodName)) ∈ lw_all := lw_g (lw_at lw_m2 54 rfl) rfl
theorem q365 : (Jvm.Cond.code ({ cls := "ShapeRelator", name := "relate", desc := "()I" } : Jvm.MethodName) prog_1_method_11_code (3 : Nat) (Option.some Jvm.ClassFile.FieldType.int)) ∈ lw_all := lw_g (lw_at lw_m2 55 rfl) rfl
theorem q366 : (Jvm.Cond.methodLink "ShapeRelator" (75 : Nat) ({ cls := "ShapeRelator$Relator", name := "compute", desc := "()V" } : Jvm.MethodName)) ∈ lw_all := lw_g (lw_at lw_m2 56 rfl) rfl
theorem q689 : (Jvm.Cond.methodLink "ShapeRelator" (78 : Nat) ({ cls := "ShapeRelator$Relator", name := "number", desc := "(II)I" } : Jvm.MethodName)) ∈ lw_all := lw_g (lw_at lw_m3 139 rfl) rfl
theorem q775 : (Jvm.Cond.instanceMethod ({ cls := "ShapeRelator", name := "shape", desc := "(II)I" } : Jvm.MethodName)) ∈ lw_all := lw_g (lw_at lw_m3 225 rfl) rfl
theorem q776 : (Jvm.Cond.selects "ShapeRelator" ({ cls := "ShapeRelator", name := "shape", desc := "(II)I" } : Jvm.MethodName) ({ cls := "ShapeRelator", name := "shape", desc := "(II)I" } : Jvm.MethodName)) ∈ lw_all := lw_g (lw_at lw_m3 226 rfl) rfl
theorem q777 : (Jvm.Cond.code ({ cls := "ShapeRelator", name := "shape", desc := "(II)I" } : Jvm.MethodName) prog_1_method_7_code (5 : Nat) (Option.some Jvm.ClassFile.FieldType.int)) ∈ lw_all := lw_g (lw_at lw_m3 227 rfl) rfl
theorem q778 : (Jvm.Cond.methodLink "ShapeRelator" (35 : Nat) ({ cls := "ShapeRelator", name := "known", desc := "(I)LShapeRelator$Outline;" } : Jvm.MethodName)) ∈ lw_all := lw_g (lw_at lw_m3 228 rfl) rfl
theorem q779 : (Jvm.Cond.privateMethod ({ cls := "ShapeRelator", name := "known", desc := "(I)LShapeRelator$Outline;" } : Jvm.MethodName)) ∈ lw_tbl := lw_at lw_m3 229 rfl
theorem q780 : (Jvm.Cond.instanceMethod ({ cls := "ShapeRelator", name := "known", desc := "(I)LShapeRelator$Outline;" } : Jvm.MethodName)) ∈ lw_all := lw_g (lw_at lw_m3 230 rfl) rfl
theorem q781 : (Jvm.Cond.code ({ cls := "ShapeRelator", name := "known", desc := "(I)LShapeRelator$Outline;" } : Jvm.MethodName) prog_1_method_6_code (2 : Nat) (Option.some (Jvm.ClassFile.FieldType.object "ShapeRelator$Outline"))) ∈ lw_all := lw_g (lw_at lw_m3 231 rfl) rfl
theorem q782 : (Jvm.Cond.methodLink "ShapeRelator" (27 : Nat) ({ cls := "ShapeRelator", name := "there", desc := "(Z)V" } : Jvm.MethodName)) ∈ lw_all := lw_g (lw_at lw_m3 232 rfl) rfl
theorem q783 : (Jvm.Cond.static ({ cls := "ShapeRelator", name := "there", desc := "(Z)V" } : Jvm.MethodName)) ∈ lw_all := lw_g (lw_at lw_m3 233 rfl) rfl
theorem q784 : (Jvm.Cond.code ({ cls := "ShapeRelator", name := "there", desc := "(Z)V" } : Jvm.MethodName) prog_1_method_2_code (1 : Nat) (Option.none : Option Jvm.ClassFile.FieldType)) ∈ lw_all := lw_g (lw_at lw_m3 234 rfl) rfl
theorem q785 : (Jvm.Cond.classLink "ShapeRelator" (16 : Nat) "java/lang/IndexOutOfBoundsException") ∈ lw_all := lw_g (lw_at lw_m3 235 rfl) rfl
theorem q794 : (Jvm.Cond.methodLink "ShapeRelator" (18 : Nat) ({ cls := "java/lang/IndexOutOfBoundsException", name := "<init>", desc := "()V" } : Jvm.MethodName)) ∈ lw_all := lw_g (lw_at lw_m4 4 rfl) rfl
theorem q806 : (Jvm.Cond.methodLink "ShapeRelator" (31 : Nat) ({ cls := "ShapeRelator$Relator", name := "shape", desc := "(I)LShapeRelator$Outline;" } : Jvm.MethodName)) ∈ lw_all := lw_g (lw_at lw_m4 16 rfl) rfl
theorem q810 : (Jvm.Cond.methodLink "ShapeRelator" (38 : Nat) ({ cls := "ShapeRelator", name := "right", desc := "(Z)V" } : Jvm.MethodName)) ∈ lw_all := lw_g (lw_at lw_m4 20 rfl) rfl
theorem q811 : (Jvm.Cond.static ({ cls := "ShapeRelator", name := "right", desc := "(Z)V" } : Jvm.MethodName)) ∈ lw_all := lw_g (lw_at lw_m4 21 rfl) rfl
theorem q812 : (Jvm.Cond.code ({ cls := "ShapeRelator", name := "right", desc := "(Z)V" } : Jvm.MethodName) prog_1_method_3_code (1 : Nat) (Option.none : Option Jvm.ClassFile.FieldType)) ∈ lw_all := lw_g (lw_at lw_m4 22 rfl) rfl
theorem q813 : (Jvm.Cond.classLink "ShapeRelator" (19 : Nat) "java/lang/IllegalArgumentException") ∈ lw_all := lw_g (lw_at lw_m4 23 rfl) rfl
theorem q822 : (Jvm.Cond.methodLink "ShapeRelator" (21 : Nat) ({ cls := "java/lang/IllegalArgumentException", name := "<init>", desc := "()V" } : Jvm.MethodName)) ∈ lw_all := lw_g (lw_at lw_m4 32 rfl) rfl
theorem q828 : (Jvm.Cond.methodLink "ShapeRelator" (47 : Nat) ({ cls := "ShapeRelator$Outline", name := "begin", desc := "(I)V" } : Jvm.MethodName)) ∈ lw_all := lw_g (lw_at lw_m4 38 rfl) rfl
theorem q832 : (Jvm.Cond.methodLink "ShapeRelator" (51 : Nat) ({ cls := "ShapeRelator$Relator", name := "change", desc := "()V" } : Jvm.MethodName)) ∈ lw_all := lw_g (lw_at lw_m4 42 rfl) rfl
theorem q841 : (Jvm.Cond.instanceMethod ({ cls := "ShapeRelator", name := "part", desc := "(I)I" } : Jvm.MethodName)) ∈ lw_all := lw_g (lw_at lw_m4 51 rfl) rfl
theorem q842 : (Jvm.Cond.selects "ShapeRelator" ({ cls := "ShapeRelator", name := "part", desc := "(I)I" } : Jvm.MethodName) ({ cls := "ShapeRelator", name := "part", desc := "(I)I" } : Jvm.MethodName)) ∈ lw_all := lw_g (lw_at lw_m4 52 rfl) rfl
theorem q843 : (Jvm.Cond.code ({ cls := "ShapeRelator", name := "part", desc := "(I)I" } : Jvm.MethodName) prog_1_method_8_code (3 : Nat) (Option.some Jvm.ClassFile.FieldType.int)) ∈ lw_all := lw_g (lw_at lw_m4 53 rfl) rfl
theorem q844 : (Jvm.Cond.methodLink "ShapeRelator" (57 : Nat) ({ cls := "ShapeRelator", name := "can", desc := "(Z)V" } : Jvm.MethodName)) ∈ lw_all := lw_g (lw_at lw_m4 54 rfl) rfl
theorem q845 : (Jvm.Cond.static ({ cls := "ShapeRelator", name := "can", desc := "(Z)V" } : Jvm.MethodName)) ∈ lw_all := lw_g (lw_at lw_m4 55 rfl) rfl
theorem q846 : (Jvm.Cond.code ({ cls := "ShapeRelator", name := "can", desc := "(Z)V" } : Jvm.MethodName) prog_1_method_4_code (1 : Nat) (Option.none : Option Jvm.ClassFile.FieldType)) ∈ lw_all := lw_g (lw_at lw_m4 56 rfl) rfl
theorem q847 : (Jvm.Cond.classLink "ShapeRelator" (22 : Nat) "java/lang/IllegalStateException") ∈ lw_all := lw_g (lw_at lw_m4 57 rfl) rfl
theorem q856 : (Jvm.Cond.methodLink "ShapeRelator" (24 : Nat) ({ cls := "java/lang/IllegalStateException", name := "<init>", desc := "()V" } : Jvm.MethodName)) ∈ lw_all := lw_g (lw_at lw_m4 66 rfl) rfl
theorem q862 : (Jvm.Cond.methodLink "ShapeRelator" (60 : Nat) ({ cls := "ShapeRelator$Outline", name := "part", desc := "()V" } : Jvm.MethodName)) ∈ lw_all := lw_g (lw_at lw_m4 72 rfl) rfl
theorem q871 : (Jvm.Cond.instanceMethod ({ cls := "ShapeRelator", name := "point", desc := "(III)I" } : Jvm.MethodName)) ∈ lw_all := lw_g (lw_at lw_m4 81 rfl) rfl
theorem q872 : (Jvm.Cond.selects "ShapeRelator" ({ cls := "ShapeRelator", name := "point", desc := "(III)I" } : Jvm.MethodName) ({ cls := "ShapeRelator", name := "point", desc := "(III)I" } : Jvm.MethodName)) ∈ lw_all := lw_g (lw_at lw_m4 82 rfl) rfl
theorem q873 : (Jvm.Cond.code ({ cls := "ShapeRelator", name := "point", desc := "(III)I" } : Jvm.MethodName) prog_1_method_9_code (5 : Nat) (Option.some Jvm.ClassFile.FieldType.int)) ∈ lw_all := lw_g (lw_at lw_m4 83 rfl) rfl
theorem q874 : (Jvm.Cond.methodLink "ShapeRelator" (63 : Nat) ({ cls := "ShapeRelator", name := "isPlace", desc := "(I)Z" } : Jvm.MethodName)) ∈ lw_all := lw_g (lw_at lw_m4 84 rfl) rfl
theorem q875 : (Jvm.Cond.static ({ cls := "ShapeRelator", name := "isPlace", desc := "(I)Z" } : Jvm.MethodName)) ∈ lw_all := lw_g (lw_at lw_m4 85 rfl) rfl
theorem q876 : (Jvm.Cond.code ({ cls := "ShapeRelator", name := "isPlace", desc := "(I)Z" } : Jvm.MethodName) prog_1_method_5_code (1 : Nat) (Option.some Jvm.ClassFile.FieldType.boolean)) ∈ lw_all := lw_g (lw_at lw_m4 86 rfl) rfl
theorem q877 : (Jvm.Cond.constant "ShapeRelator" (25 : Nat) (-500000000 : Int32)) ∈ lw_all := lw_g (lw_at lw_m4 87 rfl) rfl
theorem q878 : (Jvm.Cond.constant "ShapeRelator" (26 : Nat) (500000000 : Int32)) ∈ lw_all := lw_g (lw_at lw_m4 88 rfl) rfl
theorem q879 : (Jvm.Cond.methodLink "ShapeRelator" (67 : Nat) ({ cls := "ShapeRelator$Outline", name := "point", desc := "(II)V" } : Jvm.MethodName)) ∈ lw_all := lw_g (lw_at lw_m4 89 rfl) rfl
theorem q887 : (Jvm.Cond.instanceMethod ({ cls := "ShapeRelator", name := "locate", desc := "(III)I" } : Jvm.MethodName)) ∈ lw_all := lw_g (lw_at lw_m4 97 rfl) rfl
theorem q888 : (Jvm.Cond.selects "ShapeRelator" ({ cls := "ShapeRelator", name := "locate", desc := "(III)I" } : Jvm.MethodName) ({ cls := "ShapeRelator", name := "locate", desc := "(III)I" } : Jvm.MethodName)) ∈ lw_all := lw_g (lw_at lw_m4 98 rfl) rfl
theorem q889 : (Jvm.Cond.code ({ cls := "ShapeRelator", name := "locate", desc := "(III)I" } : Jvm.MethodName) prog_1_method_10_code (4 : Nat) (Option.some Jvm.ClassFile.FieldType.int)) ∈ lw_all := lw_g (lw_at lw_m4 99 rfl) rfl
theorem q890 : (Jvm.Cond.methodLink "ShapeRelator" (71 : Nat) ({ cls := "ShapeRelator$Relator", name := "locate", desc := "(III)I" } : Jvm.MethodName)) ∈ lw_all := lw_g (lw_at lw_m4 100 rfl) rfl
theorem q898 : (Jvm.Cond.instanceMethod ({ cls := "ShapeRelator", name := "entry", desc := "(II)I" } : Jvm.MethodName)) ∈ lw_all := lw_g (lw_at lw_m4 108 rfl) rfl
theorem q899 : (Jvm.Cond.selects "ShapeRelator" ({ cls := "ShapeRelator", name := "entry", desc := "(II)I" } : Jvm.MethodName) ({ cls := "ShapeRelator", name := "entry", desc := "(II)I" } : Jvm.MethodName)) ∈ lw_all := lw_g (lw_at lw_m4 109 rfl) rfl
theorem q900 : (Jvm.Cond.code ({ cls := "ShapeRelator", name := "entry", desc := "(II)I" } : Jvm.MethodName) prog_1_method_12_code (3 : Nat) (Option.some Jvm.ClassFile.FieldType.int)) ∈ lw_all := lw_g (lw_at lw_m4 110 rfl) rfl
theorem q905 : (Jvm.Cond.instanceMethod ({ cls := "ShapeRelator", name := "is", desc := "(I)Z" } : Jvm.MethodName)) ∈ lw_all := lw_g (lw_at lw_m4 115 rfl) rfl
theorem q906 : (Jvm.Cond.selects "ShapeRelator" ({ cls := "ShapeRelator", name := "is", desc := "(I)Z" } : Jvm.MethodName) ({ cls := "ShapeRelator", name := "is", desc := "(I)Z" } : Jvm.MethodName)) ∈ lw_all := lw_g (lw_at lw_m4 116 rfl) rfl
theorem q907 : (Jvm.Cond.code ({ cls := "ShapeRelator", name := "is", desc := "(I)Z" } : Jvm.MethodName) prog_1_method_13_code (3 : Nat) (Option.some Jvm.ClassFile.FieldType.boolean)) ∈ lw_all := lw_g (lw_at lw_m4 117 rfl) rfl
theorem q908 : (Jvm.Cond.methodLink "ShapeRelator" (82 : Nat) ({ cls := "ShapeRelator$Relator", name := "has", desc := "(II)Z" } : Jvm.MethodName)) ∈ lw_all := lw_g (lw_at lw_m4 118 rfl) rfl
theorem q913 : (Jvm.Cond.methodLink "ShapeRelator" (86 : Nat) ({ cls := "ShapeRelator$Relator", name := "areEqual", desc := "()Z" } : Jvm.MethodName)) ∈ lw_all := lw_g (lw_at lw_m4 123 rfl) rfl
theorem q930 : (Jvm.Cond.methodLink "ShapeRelator" (90 : Nat) ({ cls := "ShapeRelator$Relator", name := "meets", desc := "()Z" } : Jvm.MethodName)) ∈ lw_all := lw_g (lw_at lw_m4 140 rfl) rfl
theorem q934 : (Jvm.Cond.methodLink "ShapeRelator" (93 : Nat) ({ cls := "ShapeRelator$Relator", name := "crosses", desc := "()Z" } : Jvm.MethodName)) ∈ lw_all := lw_g (lw_at lw_m4 144 rfl) rfl
theorem q938 : (Jvm.Cond.methodLink "ShapeRelator" (96 : Nat) ({ cls := "ShapeRelator$Relator", name := "isIn", desc := "()Z" } : Jvm.MethodName)) ∈ lw_all := lw_g (lw_at lw_m4 148 rfl) rfl
theorem q939 : (Jvm.Cond.methodLink "ShapeRelator" (99 : Nat) ({ cls := "ShapeRelator$Relator", name := "isAround", desc := "()Z" } : Jvm.MethodName)) ∈ lw_all := lw_g (lw_at lw_m4 149 rfl) rfl
theorem q940 : (Jvm.Cond.methodLink "ShapeRelator" (102 : Nat) ({ cls := "ShapeRelator$Relator", name := "overlaps", desc := "()Z" } : Jvm.MethodName)) ∈ lw_all := lw_g (lw_at lw_m4 150 rfl) rfl
theorem q948 : (Jvm.Cond.instanceMethod ({ cls := "ShapeRelator", name := "dimension", desc := "(I)I" } : Jvm.MethodName)) ∈ lw_all := lw_g (lw_at lw_m4 158 rfl) rfl
theorem q949 : (Jvm.Cond.selects "ShapeRelator" ({ cls := "ShapeRelator", name := "dimension", desc := "(I)I" } : Jvm.MethodName) ({ cls := "ShapeRelator", name := "dimension", desc := "(I)I" } : Jvm.MethodName)) ∈ lw_all := lw_g (lw_at lw_m4 159 rfl) rfl
theorem q950 : (Jvm.Cond.code ({ cls := "ShapeRelator", name := "dimension", desc := "(I)I" } : Jvm.MethodName) prog_1_method_14_code (2 : Nat) (Option.some Jvm.ClassFile.FieldType.int)) ∈ lw_all := lw_g (lw_at lw_m4 160 rfl) rfl
theorem q951 : (Jvm.Cond.methodLink "ShapeRelator" (105 : Nat) ({ cls := "ShapeRelator$Relator", name := "dimension", desc := "(I)I" } : Jvm.MethodName)) ∈ lw_all := lw_g (lw_at lw_m4 161 rfl) rfl
theorem q960 : (Jvm.Cond.instanceMethod ({ cls := "ShapeRelator", name := "count", desc := "(II)I" } : Jvm.MethodName)) ∈ lw_all := lw_g (lw_at lw_m4 170 rfl) rfl
theorem q961 : (Jvm.Cond.selects "ShapeRelator" ({ cls := "ShapeRelator", name := "count", desc := "(II)I" } : Jvm.MethodName) ({ cls := "ShapeRelator", name := "count", desc := "(II)I" } : Jvm.MethodName)) ∈ lw_all := lw_g (lw_at lw_m4 171 rfl) rfl
theorem q962 : (Jvm.Cond.code ({ cls := "ShapeRelator", name := "count", desc := "(II)I" } : Jvm.MethodName) prog_1_method_15_code (4 : Nat) (Option.some Jvm.ClassFile.FieldType.int)) ∈ lw_all := lw_g (lw_at lw_m4 172 rfl) rfl
theorem in_X1 : ∀ w ∈ wsX10, w ∈ lw_all := lw_in wsX10 [359] (by decide +kernel) (by decide +kernel)
