/-! ShapeRelator$Relator -/
set_option maxRecDepth 100000
def RX2 : String := "ShapeRelator$Relator"
def TX2 : u_T := fun k => match k with
  | 0 => ("ShapeRelator$Relator", "shapes", "[LShapeRelator$Outline;", true)
  | 1 => ("ShapeRelator$Relator", "segments", "LShapeRelator$Segments;", true)
  | 2 => ("ShapeRelator$Relator", "isTaken", "Z", false)
  | 3 => ("ShapeRelator$Relator", "boxes", "LShapeRelator$Bounds;", true)
  | 4 => ("ShapeRelator$Relator", "there", "[Z", true)
  | 5 => ("ShapeRelator$Relator", "tree", "LShapeRelator$Tree;", true)
  | 6 => ("ShapeRelator$Relator", "events", "LShapeRelator$Events;", true)
  | 7 => ("ShapeRelator$Relator", "step", "LShapeRelator$Step;", true)
  | 8 => ("ShapeRelator$Relator", "matrix", "[I", true)
  | 9 => ("ShapeRelator$Relator", "isRelated", "Z", false)
  | 10 => ("ShapeRelator$Relator", "where", "[I", true)
  | 11 => ("ShapeRelator$Relator", "left", "[Z", true)
  | 12 => ("ShapeRelator$Relator", "right", "[Z", true)
  | _ => ("ShapeRelator$Relator", "times", "[I", true)
def tyX2 : Nat → FieldType := fun k => match k with
  | 0 => .array (.object "ShapeRelator$Outline")
  | 1 => .object "ShapeRelator$Segments"
  | 2 => .boolean
  | 3 => .object "ShapeRelator$Bounds"
  | 4 => .array .boolean
  | 5 => .object "ShapeRelator$Tree"
  | 6 => .object "ShapeRelator$Events"
  | 7 => .object "ShapeRelator$Step"
  | 8 => .array .int
  | 9 => .boolean
  | 10 => .array .int
  | 11 => .array .boolean
  | 12 => .array .boolean
  | _ => .array .int
abbrev wsX20 : List Cond := u_ws RX2 TX2 14
set_option maxRecDepth 100000 in
theorem nmX2 : ∀ a, a < 14 → ∀ b, b < 14 → a ≠ b → (TX2 a).2.1 ≠ (TX2 b).2.1 := by decide +kernel
set_option maxRecDepth 100000 in
theorem tyX2_ok : ∀ k, k < 14 → parseFieldDescriptor (TX2 k).2.2.1 = some (tyX2 k) := by decide +kernel
abbrev cX2_init : ByteArray := prog_6_method_1_code
def yX2_init : MethodName := ⟨RX2, "<init>", "()V"⟩
theorem dX2_init_0 : decode cX2_init 0 = .ok (.aload_n 0, 1) := by decide +kernel
theorem dX2_init_1 : decode cX2_init 1 = .ok (.invokespecial 3, 3) := by decide +kernel
theorem dX2_init_4 : decode cX2_init 4 = .ok (.aload_n 0, 1) := by decide +kernel
theorem dX2_init_5 : decode cX2_init 5 = .ok (.iconst 2, 1) := by decide +kernel
theorem dX2_init_6 : decode cX2_init 6 = .ok (.anewarray 9, 3) := by decide +kernel
theorem dX2_init_9 : decode cX2_init 9 = .ok (.dup, 1) := by decide +kernel
theorem dX2_init_10 : decode cX2_init 10 = .ok (.iconst 0, 1) := by decide +kernel
theorem dX2_init_11 : decode cX2_init 11 = .ok (.new 9, 3) := by decide +kernel
theorem dX2_init_14 : decode cX2_init 14 = .ok (.dup, 1) := by decide +kernel
theorem dX2_init_15 : decode cX2_init 15 = .ok (.invokespecial 11, 3) := by decide +kernel
theorem dX2_init_18 : decode cX2_init 18 = .ok (.aastore, 1) := by decide +kernel
theorem dX2_init_19 : decode cX2_init 19 = .ok (.dup, 1) := by decide +kernel
theorem dX2_init_20 : decode cX2_init 20 = .ok (.iconst 1, 1) := by decide +kernel
theorem dX2_init_21 : decode cX2_init 21 = .ok (.new 9, 3) := by decide +kernel
theorem dX2_init_24 : decode cX2_init 24 = .ok (.dup, 1) := by decide +kernel
theorem dX2_init_25 : decode cX2_init 25 = .ok (.invokespecial 11, 3) := by decide +kernel
theorem dX2_init_28 : decode cX2_init 28 = .ok (.aastore, 1) := by decide +kernel
theorem dX2_init_29 : decode cX2_init 29 = .ok (.putfield 12, 3) := by decide +kernel
theorem dX2_init_32 : decode cX2_init 32 = .ok (.aload_n 0, 1) := by decide +kernel
theorem dX2_init_33 : decode cX2_init 33 = .ok (.new 18, 3) := by decide +kernel
theorem dX2_init_36 : decode cX2_init 36 = .ok (.dup, 1) := by decide +kernel
theorem dX2_init_37 : decode cX2_init 37 = .ok (.invokespecial 20, 3) := by decide +kernel
theorem dX2_init_40 : decode cX2_init 40 = .ok (.putfield 21, 3) := by decide +kernel
theorem dX2_init_43 : decode cX2_init 43 = .ok (.aload_n 0, 1) := by decide +kernel
theorem dX2_init_44 : decode cX2_init 44 = .ok (.new 25, 3) := by decide +kernel
theorem dX2_init_47 : decode cX2_init 47 = .ok (.dup, 1) := by decide +kernel
theorem dX2_init_48 : decode cX2_init 48 = .ok (.invokespecial 27, 3) := by decide +kernel
theorem dX2_init_51 : decode cX2_init 51 = .ok (.putfield 28, 3) := by decide +kernel
theorem dX2_init_54 : decode cX2_init 54 = .ok (.aload_n 0, 1) := by decide +kernel
theorem dX2_init_55 : decode cX2_init 55 = .ok (.sipush 4096, 3) := by decide +kernel
theorem dX2_init_58 : decode cX2_init 58 = .ok (.newarray .boolean, 2) := by decide +kernel
theorem dX2_init_60 : decode cX2_init 60 = .ok (.putfield 32, 3) := by decide +kernel
theorem dX2_init_63 : decode cX2_init 63 = .ok (.aload_n 0, 1) := by decide +kernel
theorem dX2_init_64 : decode cX2_init 64 = .ok (.new 36, 3) := by decide +kernel
theorem dX2_init_67 : decode cX2_init 67 = .ok (.dup, 1) := by decide +kernel
theorem dX2_init_68 : decode cX2_init 68 = .ok (.invokespecial 38, 3) := by decide +kernel
theorem dX2_init_71 : decode cX2_init 71 = .ok (.putfield 39, 3) := by decide +kernel
theorem dX2_init_74 : decode cX2_init 74 = .ok (.aload_n 0, 1) := by decide +kernel
theorem dX2_init_75 : decode cX2_init 75 = .ok (.new 43, 3) := by decide +kernel
theorem dX2_init_78 : decode cX2_init 78 = .ok (.dup, 1) := by decide +kernel
theorem dX2_init_79 : decode cX2_init 79 = .ok (.invokespecial 45, 3) := by decide +kernel
theorem dX2_init_82 : decode cX2_init 82 = .ok (.putfield 46, 3) := by decide +kernel
theorem dX2_init_85 : decode cX2_init 85 = .ok (.aload_n 0, 1) := by decide +kernel
theorem dX2_init_86 : decode cX2_init 86 = .ok (.new 50, 3) := by decide +kernel
theorem dX2_init_89 : decode cX2_init 89 = .ok (.dup, 1) := by decide +kernel
theorem dX2_init_90 : decode cX2_init 90 = .ok (.invokespecial 52, 3) := by decide +kernel
theorem dX2_init_93 : decode cX2_init 93 = .ok (.putfield 53, 3) := by decide +kernel
theorem dX2_init_96 : decode cX2_init 96 = .ok (.aload_n 0, 1) := by decide +kernel
theorem dX2_init_97 : decode cX2_init 97 = .ok (.bipush 9, 2) := by decide +kernel
theorem dX2_init_99 : decode cX2_init 99 = .ok (.newarray .int, 2) := by decide +kernel
theorem dX2_init_101 : decode cX2_init 101 = .ok (.putfield 57, 3) := by decide +kernel
theorem dX2_init_104 : decode cX2_init 104 = .ok (.aload_n 0, 1) := by decide +kernel
theorem dX2_init_105 : decode cX2_init 105 = .ok (.iconst 2, 1) := by decide +kernel
theorem dX2_init_106 : decode cX2_init 106 = .ok (.newarray .int, 2) := by decide +kernel
theorem dX2_init_108 : decode cX2_init 108 = .ok (.putfield 61, 3) := by decide +kernel
theorem dX2_init_111 : decode cX2_init 111 = .ok (.aload_n 0, 1) := by decide +kernel
theorem dX2_init_112 : decode cX2_init 112 = .ok (.iconst 2, 1) := by decide +kernel
theorem dX2_init_113 : decode cX2_init 113 = .ok (.newarray .boolean, 2) := by decide +kernel
theorem dX2_init_115 : decode cX2_init 115 = .ok (.putfield 64, 3) := by decide +kernel
theorem dX2_init_118 : decode cX2_init 118 = .ok (.aload_n 0, 1) := by decide +kernel
theorem dX2_init_119 : decode cX2_init 119 = .ok (.iconst 2, 1) := by decide +kernel
theorem dX2_init_120 : decode cX2_init 120 = .ok (.newarray .boolean, 2) := by decide +kernel
theorem dX2_init_122 : decode cX2_init 122 = .ok (.putfield 67, 3) := by decide +kernel
theorem dX2_init_125 : decode cX2_init 125 = .ok (.aload_n 0, 1) := by decide +kernel
theorem dX2_init_126 : decode cX2_init 126 = .ok (.iconst 2, 1) := by decide +kernel
theorem dX2_init_127 : decode cX2_init 127 = .ok (.newarray .int, 2) := by decide +kernel
theorem dX2_init_129 : decode cX2_init 129 = .ok (.putfield 70, 3) := by decide +kernel
theorem dX2_init_132 : decode cX2_init 132 = .ok (.iconst 0, 1) := by decide +kernel
theorem dX2_init_133 : decode cX2_init 133 = .ok (.istore_n 1, 1) := by decide +kernel
theorem dX2_init_134 : decode cX2_init 134 = .ok (.iload_n 1, 1) := by decide +kernel
theorem dX2_init_135 : decode cX2_init 135 = .ok (.aload_n 0, 1) := by decide +kernel
theorem dX2_init_136 : decode cX2_init 136 = .ok (.getfield 32, 3) := by decide +kernel
theorem dX2_init_139 : decode cX2_init 139 = .ok (.arraylength, 1) := by decide +kernel
theorem dX2_init_140 : decode cX2_init 140 = .ok (.if_icmp .ge 16, 3) := by decide +kernel
theorem dX2_init_143 : decode cX2_init 143 = .ok (.aload_n 0, 1) := by decide +kernel
theorem dX2_init_144 : decode cX2_init 144 = .ok (.getfield 32, 3) := by decide +kernel
theorem dX2_init_147 : decode cX2_init 147 = .ok (.iload_n 1, 1) := by decide +kernel
theorem dX2_init_148 : decode cX2_init 148 = .ok (.iconst 1, 1) := by decide +kernel
theorem dX2_init_149 : decode cX2_init 149 = .ok (.bastore, 1) := by decide +kernel
theorem dX2_init_150 : decode cX2_init 150 = .ok (.iinc 1 1, 3) := by decide +kernel
theorem dX2_init_153 : decode cX2_init 153 = .ok (.goto (-19), 3) := by decide +kernel
theorem dX2_init_156 : decode cX2_init 156 = .ok (.return_, 1) := by decide +kernel
abbrev cX2_compute : ByteArray := prog_6_method_21_code
def yX2_compute : MethodName := ⟨RX2, "compute", "()V"⟩
theorem dX2_compute_0 : decode cX2_compute 0 = .ok (.aload_n 0, 1) := by decide +kernel
theorem dX2_compute_1 : decode cX2_compute 1 = .ok (.getfield 77, 3) := by decide +kernel
theorem dX2_compute_4 : decode cX2_compute 4 = .ok (.ifCond .eq 4, 3) := by decide +kernel
theorem dX2_compute_7 : decode cX2_compute 7 = .ok (.return_, 1) := by decide +kernel
theorem dX2_compute_8 : decode cX2_compute 8 = .ok (.aload_n 0, 1) := by decide +kernel
theorem dX2_compute_9 : decode cX2_compute 9 = .ok (.invokevirtual 114, 3) := by decide +kernel
theorem dX2_compute_12 : decode cX2_compute 12 = .ok (.iconst 0, 1) := by decide +kernel
theorem dX2_compute_13 : decode cX2_compute 13 = .ok (.istore_n 1, 1) := by decide +kernel
theorem dX2_compute_14 : decode cX2_compute 14 = .ok (.iload_n 1, 1) := by decide +kernel
theorem dX2_compute_15 : decode cX2_compute 15 = .ok (.bipush 9, 2) := by decide +kernel
theorem dX2_compute_17 : decode cX2_compute 17 = .ok (.if_icmp .ge 16, 3) := by decide +kernel
theorem dX2_compute_20 : decode cX2_compute 20 = .ok (.aload_n 0, 1) := by decide +kernel
theorem dX2_compute_21 : decode cX2_compute 21 = .ok (.getfield 57, 3) := by decide +kernel
theorem dX2_compute_24 : decode cX2_compute 24 = .ok (.iload_n 1, 1) := by decide +kernel
theorem dX2_compute_25 : decode cX2_compute 25 = .ok (.iconst (-1), 1) := by decide +kernel
theorem dX2_compute_26 : decode cX2_compute 26 = .ok (.iastore, 1) := by decide +kernel
theorem dX2_compute_27 : decode cX2_compute 27 = .ok (.iinc 1 1, 3) := by decide +kernel
theorem dX2_compute_30 : decode cX2_compute 30 = .ok (.goto (-16), 3) := by decide +kernel
theorem dX2_compute_33 : decode cX2_compute 33 = .ok (.aload_n 0, 1) := by decide +kernel
theorem dX2_compute_34 : decode cX2_compute 34 = .ok (.getfield 57, 3) := by decide +kernel
theorem dX2_compute_37 : decode cX2_compute 37 = .ok (.bipush 8, 2) := by decide +kernel
theorem dX2_compute_39 : decode cX2_compute 39 = .ok (.iconst 2, 1) := by decide +kernel
theorem dX2_compute_40 : decode cX2_compute 40 = .ok (.iastore, 1) := by decide +kernel
theorem dX2_compute_41 : decode cX2_compute 41 = .ok (.iconst 0, 1) := by decide +kernel
theorem dX2_compute_42 : decode cX2_compute 42 = .ok (.istore_n 1, 1) := by decide +kernel
theorem dX2_compute_43 : decode cX2_compute 43 = .ok (.iload_n 1, 1) := by decide +kernel
theorem dX2_compute_44 : decode cX2_compute 44 = .ok (.aload_n 0, 1) := by decide +kernel
theorem dX2_compute_45 : decode cX2_compute 45 = .ok (.getfield 21, 3) := by decide +kernel
theorem dX2_compute_48 : decode cX2_compute 48 = .ok (.getfield 273, 3) := by decide +kernel
theorem dX2_compute_51 : decode cX2_compute 51 = .ok (.if_icmp .ge 101, 3) := by decide +kernel
theorem dX2_compute_54 : decode cX2_compute 54 = .ok (.aload_n 0, 1) := by decide +kernel
theorem dX2_compute_55 : decode cX2_compute 55 = .ok (.getfield 28, 3) := by decide +kernel
theorem dX2_compute_58 : decode cX2_compute 58 = .ok (.iload_n 1, 1) := by decide +kernel
theorem dX2_compute_59 : decode cX2_compute 59 = .ok (.aload_n 0, 1) := by decide +kernel
theorem dX2_compute_60 : decode cX2_compute 60 = .ok (.getfield 21, 3) := by decide +kernel
theorem dX2_compute_63 : decode cX2_compute 63 = .ok (.getfield 182, 3) := by decide +kernel
theorem dX2_compute_66 : decode cX2_compute 66 = .ok (.iload_n 1, 1) := by decide +kernel
theorem dX2_compute_67 : decode cX2_compute 67 = .ok (.iaload, 1) := by decide +kernel
theorem dX2_compute_68 : decode cX2_compute 68 = .ok (.aload_n 0, 1) := by decide +kernel
theorem dX2_compute_69 : decode cX2_compute 69 = .ok (.getfield 21, 3) := by decide +kernel
theorem dX2_compute_72 : decode cX2_compute 72 = .ok (.getfield 196, 3) := by decide +kernel
theorem dX2_compute_75 : decode cX2_compute 75 = .ok (.iload_n 1, 1) := by decide +kernel
theorem dX2_compute_76 : decode cX2_compute 76 = .ok (.iaload, 1) := by decide +kernel
theorem dX2_compute_77 : decode cX2_compute 77 = .ok (.invokestatic 274, 3) := by decide +kernel
theorem dX2_compute_80 : decode cX2_compute 80 = .ok (.aload_n 0, 1) := by decide +kernel
theorem dX2_compute_81 : decode cX2_compute 81 = .ok (.getfield 21, 3) := by decide +kernel
theorem dX2_compute_84 : decode cX2_compute 84 = .ok (.getfield 185, 3) := by decide +kernel
theorem dX2_compute_87 : decode cX2_compute 87 = .ok (.iload_n 1, 1) := by decide +kernel
theorem dX2_compute_88 : decode cX2_compute 88 = .ok (.iaload, 1) := by decide +kernel
theorem dX2_compute_89 : decode cX2_compute 89 = .ok (.aload_n 0, 1) := by decide +kernel
theorem dX2_compute_90 : decode cX2_compute 90 = .ok (.getfield 21, 3) := by decide +kernel
theorem dX2_compute_93 : decode cX2_compute 93 = .ok (.getfield 199, 3) := by decide +kernel
theorem dX2_compute_96 : decode cX2_compute 96 = .ok (.iload_n 1, 1) := by decide +kernel
theorem dX2_compute_97 : decode cX2_compute 97 = .ok (.iaload, 1) := by decide +kernel
theorem dX2_compute_98 : decode cX2_compute 98 = .ok (.invokestatic 274, 3) := by decide +kernel
theorem dX2_compute_101 : decode cX2_compute 101 = .ok (.aload_n 0, 1) := by decide +kernel
theorem dX2_compute_102 : decode cX2_compute 102 = .ok (.getfield 21, 3) := by decide +kernel
theorem dX2_compute_105 : decode cX2_compute 105 = .ok (.getfield 182, 3) := by decide +kernel
theorem dX2_compute_108 : decode cX2_compute 108 = .ok (.iload_n 1, 1) := by decide +kernel
theorem dX2_compute_109 : decode cX2_compute 109 = .ok (.iaload, 1) := by decide +kernel
theorem dX2_compute_110 : decode cX2_compute 110 = .ok (.aload_n 0, 1) := by decide +kernel
theorem dX2_compute_111 : decode cX2_compute 111 = .ok (.getfield 21, 3) := by decide +kernel
theorem dX2_compute_114 : decode cX2_compute 114 = .ok (.getfield 196, 3) := by decide +kernel
theorem dX2_compute_117 : decode cX2_compute 117 = .ok (.iload_n 1, 1) := by decide +kernel
theorem dX2_compute_118 : decode cX2_compute 118 = .ok (.iaload, 1) := by decide +kernel
theorem dX2_compute_119 : decode cX2_compute 119 = .ok (.invokestatic 120, 3) := by decide +kernel
theorem dX2_compute_122 : decode cX2_compute 122 = .ok (.aload_n 0, 1) := by decide +kernel
theorem dX2_compute_123 : decode cX2_compute 123 = .ok (.getfield 21, 3) := by decide +kernel
theorem dX2_compute_126 : decode cX2_compute 126 = .ok (.getfield 185, 3) := by decide +kernel
theorem dX2_compute_129 : decode cX2_compute 129 = .ok (.iload_n 1, 1) := by decide +kernel
theorem dX2_compute_130 : decode cX2_compute 130 = .ok (.iaload, 1) := by decide +kernel
theorem dX2_compute_131 : decode cX2_compute 131 = .ok (.aload_n 0, 1) := by decide +kernel
theorem dX2_compute_132 : decode cX2_compute 132 = .ok (.getfield 21, 3) := by decide +kernel
theorem dX2_compute_135 : decode cX2_compute 135 = .ok (.getfield 199, 3) := by decide +kernel
theorem dX2_compute_138 : decode cX2_compute 138 = .ok (.iload_n 1, 1) := by decide +kernel
theorem dX2_compute_139 : decode cX2_compute 139 = .ok (.iaload, 1) := by decide +kernel
theorem dX2_compute_140 : decode cX2_compute 140 = .ok (.invokestatic 120, 3) := by decide +kernel
theorem dX2_compute_143 : decode cX2_compute 143 = .ok (.invokevirtual 277, 3) := by decide +kernel
theorem dX2_compute_146 : decode cX2_compute 146 = .ok (.iinc 1 1, 3) := by decide +kernel
theorem dX2_compute_149 : decode cX2_compute 149 = .ok (.goto (-106), 3) := by decide +kernel
theorem dX2_compute_152 : decode cX2_compute 152 = .ok (.aload_n 0, 1) := by decide +kernel
theorem dX2_compute_153 : decode cX2_compute 153 = .ok (.getfield 21, 3) := by decide +kernel
theorem dX2_compute_156 : decode cX2_compute 156 = .ok (.getfield 273, 3) := by decide +kernel
theorem dX2_compute_159 : decode cX2_compute 159 = .ok (.ifCond .le 25, 3) := by decide +kernel
theorem dX2_compute_162 : decode cX2_compute 162 = .ok (.aload_n 0, 1) := by decide +kernel
theorem dX2_compute_163 : decode cX2_compute 163 = .ok (.getfield 39, 3) := by decide +kernel
theorem dX2_compute_166 : decode cX2_compute 166 = .ok (.aload_n 0, 1) := by decide +kernel
theorem dX2_compute_167 : decode cX2_compute 167 = .ok (.getfield 28, 3) := by decide +kernel
theorem dX2_compute_170 : decode cX2_compute 170 = .ok (.aload_n 0, 1) := by decide +kernel
theorem dX2_compute_171 : decode cX2_compute 171 = .ok (.getfield 32, 3) := by decide +kernel
theorem dX2_compute_174 : decode cX2_compute 174 = .ok (.aload_n 0, 1) := by decide +kernel
theorem dX2_compute_175 : decode cX2_compute 175 = .ok (.getfield 21, 3) := by decide +kernel
theorem dX2_compute_178 : decode cX2_compute 178 = .ok (.getfield 273, 3) := by decide +kernel
theorem dX2_compute_181 : decode cX2_compute 181 = .ok (.invokevirtual 280, 3) := by decide +kernel
theorem dX2_compute_184 : decode cX2_compute 184 = .ok (.iconst 0, 1) := by decide +kernel
theorem dX2_compute_185 : decode cX2_compute 185 = .ok (.istore_n 1, 1) := by decide +kernel
theorem dX2_compute_186 : decode cX2_compute 186 = .ok (.iload_n 1, 1) := by decide +kernel
theorem dX2_compute_187 : decode cX2_compute 187 = .ok (.aload_n 0, 1) := by decide +kernel
theorem dX2_compute_188 : decode cX2_compute 188 = .ok (.getfield 21, 3) := by decide +kernel
theorem dX2_compute_191 : decode cX2_compute 191 = .ok (.getfield 273, 3) := by decide +kernel
theorem dX2_compute_194 : decode cX2_compute 194 = .ok (.if_icmp .ge 14, 3) := by decide +kernel
theorem dX2_compute_197 : decode cX2_compute 197 = .ok (.aload_n 0, 1) := by decide +kernel
theorem dX2_compute_198 : decode cX2_compute 198 = .ok (.iload_n 1, 1) := by decide +kernel
theorem dX2_compute_199 : decode cX2_compute 199 = .ok (.invokevirtual 284, 3) := by decide +kernel
theorem dX2_compute_202 : decode cX2_compute 202 = .ok (.iinc 1 1, 3) := by decide +kernel
theorem dX2_compute_205 : decode cX2_compute 205 = .ok (.goto (-19), 3) := by decide +kernel
theorem dX2_compute_208 : decode cX2_compute 208 = .ok (.iconst 0, 1) := by decide +kernel
theorem dX2_compute_209 : decode cX2_compute 209 = .ok (.istore_n 1, 1) := by decide +kernel
theorem dX2_compute_210 : decode cX2_compute 210 = .ok (.iload_n 1, 1) := by decide +kernel
theorem dX2_compute_211 : decode cX2_compute 211 = .ok (.iconst 2, 1) := by decide +kernel
theorem dX2_compute_212 : decode cX2_compute 212 = .ok (.if_icmp .ge 19, 3) := by decide +kernel
theorem dX2_compute_215 : decode cX2_compute 215 = .ok (.aload_n 0, 1) := by decide +kernel
theorem dX2_compute_216 : decode cX2_compute 216 = .ok (.aload_n 0, 1) := by decide +kernel
theorem dX2_compute_217 : decode cX2_compute 217 = .ok (.getfield 12, 3) := by decide +kernel
theorem dX2_compute_220 : decode cX2_compute 220 = .ok (.iload_n 1, 1) := by decide +kernel
theorem dX2_compute_221 : decode cX2_compute 221 = .ok (.aaload, 1) := by decide +kernel
theorem dX2_compute_222 : decode cX2_compute 222 = .ok (.invokevirtual 287, 3) := by decide +kernel
theorem dX2_compute_225 : decode cX2_compute 225 = .ok (.iinc 1 1, 3) := by decide +kernel
theorem dX2_compute_228 : decode cX2_compute 228 = .ok (.goto (-18), 3) := by decide +kernel
theorem dX2_compute_231 : decode cX2_compute 231 = .ok (.aload_n 0, 1) := by decide +kernel
theorem dX2_compute_232 : decode cX2_compute 232 = .ok (.iconst 1, 1) := by decide +kernel
theorem dX2_compute_233 : decode cX2_compute 233 = .ok (.putfield 77, 3) := by decide +kernel
theorem dX2_compute_236 : decode cX2_compute 236 = .ok (.return_, 1) := by decide +kernel
abbrev cX2_take : ByteArray := prog_6_method_4_code
def yX2_take : MethodName := ⟨RX2, "take", "()V"⟩
theorem dX2_take_0 : decode cX2_take 0 = .ok (.aload_n 0, 1) := by decide +kernel
theorem dX2_take_1 : decode cX2_take 1 = .ok (.getfield 73, 3) := by decide +kernel
theorem dX2_take_4 : decode cX2_take 4 = .ok (.ifCond .ne 22, 3) := by decide +kernel
theorem dX2_take_7 : decode cX2_take 7 = .ok (.aload_n 0, 1) := by decide +kernel
theorem dX2_take_8 : decode cX2_take 8 = .ok (.getfield 21, 3) := by decide +kernel
theorem dX2_take_11 : decode cX2_take 11 = .ok (.aload_n 0, 1) := by decide +kernel
theorem dX2_take_12 : decode cX2_take 12 = .ok (.getfield 12, 3) := by decide +kernel
theorem dX2_take_15 : decode cX2_take 15 = .ok (.iconst 0, 1) := by decide +kernel
theorem dX2_take_16 : decode cX2_take 16 = .ok (.aaload, 1) := by decide +kernel
theorem dX2_take_17 : decode cX2_take 17 = .ok (.aload_n 0, 1) := by decide +kernel
theorem dX2_take_18 : decode cX2_take 18 = .ok (.getfield 12, 3) := by decide +kernel
theorem dX2_take_21 : decode cX2_take 21 = .ok (.iconst 1, 1) := by decide +kernel
theorem dX2_take_22 : decode cX2_take 22 = .ok (.aaload, 1) := by decide +kernel
theorem dX2_take_23 : decode cX2_take 23 = .ok (.invokevirtual 80, 3) := by decide +kernel
theorem dX2_take_26 : decode cX2_take 26 = .ok (.aload_n 0, 1) := by decide +kernel
theorem dX2_take_27 : decode cX2_take 27 = .ok (.iconst 1, 1) := by decide +kernel
theorem dX2_take_28 : decode cX2_take 28 = .ok (.putfield 73, 3) := by decide +kernel
theorem dX2_take_31 : decode cX2_take 31 = .ok (.return_, 1) := by decide +kernel
abbrev cX2_walk : ByteArray := prog_6_method_20_code
def yX2_walk : MethodName := ⟨RX2, "walk", "(I)V"⟩
theorem dX2_walk_0 : decode cX2_walk 0 = .ok (.aload_n 0, 1) := by decide +kernel
theorem dX2_walk_1 : decode cX2_walk 1 = .ok (.iload_n 1, 1) := by decide +kernel
theorem dX2_walk_2 : decode cX2_walk 2 = .ok (.invokevirtual 244, 3) := by decide +kernel
theorem dX2_walk_5 : decode cX2_walk 5 = .ok (.aload_n 0, 1) := by decide +kernel
theorem dX2_walk_6 : decode cX2_walk 6 = .ok (.aload_n 0, 1) := by decide +kernel
theorem dX2_walk_7 : decode cX2_walk 7 = .ok (.getfield 21, 3) := by decide +kernel
theorem dX2_walk_10 : decode cX2_walk 10 = .ok (.getfield 182, 3) := by decide +kernel
theorem dX2_walk_13 : decode cX2_walk 13 = .ok (.iload_n 1, 1) := by decide +kernel
theorem dX2_walk_14 : decode cX2_walk 14 = .ok (.iaload, 1) := by decide +kernel
theorem dX2_walk_15 : decode cX2_walk 15 = .ok (.aload_n 0, 1) := by decide +kernel
theorem dX2_walk_16 : decode cX2_walk 16 = .ok (.getfield 21, 3) := by decide +kernel
theorem dX2_walk_19 : decode cX2_walk 19 = .ok (.getfield 185, 3) := by decide +kernel
theorem dX2_walk_22 : decode cX2_walk 22 = .ok (.iload_n 1, 1) := by decide +kernel
theorem dX2_walk_23 : decode cX2_walk 23 = .ok (.iaload, 1) := by decide +kernel
theorem dX2_walk_24 : decode cX2_walk 24 = .ok (.invokevirtual 247, 3) := by decide +kernel
theorem dX2_walk_27 : decode cX2_walk 27 = .ok (.aload_n 0, 1) := by decide +kernel
theorem dX2_walk_28 : decode cX2_walk 28 = .ok (.aload_n 0, 1) := by decide +kernel
theorem dX2_walk_29 : decode cX2_walk 29 = .ok (.getfield 21, 3) := by decide +kernel
theorem dX2_walk_32 : decode cX2_walk 32 = .ok (.getfield 196, 3) := by decide +kernel
theorem dX2_walk_35 : decode cX2_walk 35 = .ok (.iload_n 1, 1) := by decide +kernel
theorem dX2_walk_36 : decode cX2_walk 36 = .ok (.iaload, 1) := by decide +kernel
theorem dX2_walk_37 : decode cX2_walk 37 = .ok (.aload_n 0, 1) := by decide +kernel
theorem dX2_walk_38 : decode cX2_walk 38 = .ok (.getfield 21, 3) := by decide +kernel
theorem dX2_walk_41 : decode cX2_walk 41 = .ok (.getfield 199, 3) := by decide +kernel
theorem dX2_walk_44 : decode cX2_walk 44 = .ok (.iload_n 1, 1) := by decide +kernel
theorem dX2_walk_45 : decode cX2_walk 45 = .ok (.iaload, 1) := by decide +kernel
theorem dX2_walk_46 : decode cX2_walk 46 = .ok (.invokevirtual 247, 3) := by decide +kernel
theorem dX2_walk_49 : decode cX2_walk 49 = .ok (.aload_n 0, 1) := by decide +kernel
theorem dX2_walk_50 : decode cX2_walk 50 = .ok (.iload_n 1, 1) := by decide +kernel
theorem dX2_walk_51 : decode cX2_walk 51 = .ok (.aload_n 0, 1) := by decide +kernel
theorem dX2_walk_52 : decode cX2_walk 52 = .ok (.getfield 21, 3) := by decide +kernel
theorem dX2_walk_55 : decode cX2_walk 55 = .ok (.getfield 182, 3) := by decide +kernel
theorem dX2_walk_58 : decode cX2_walk 58 = .ok (.iload_n 1, 1) := by decide +kernel
theorem dX2_walk_59 : decode cX2_walk 59 = .ok (.iaload, 1) := by decide +kernel
theorem dX2_walk_60 : decode cX2_walk 60 = .ok (.aload_n 0, 1) := by decide +kernel
theorem dX2_walk_61 : decode cX2_walk 61 = .ok (.getfield 21, 3) := by decide +kernel
theorem dX2_walk_64 : decode cX2_walk 64 = .ok (.getfield 185, 3) := by decide +kernel
theorem dX2_walk_67 : decode cX2_walk 67 = .ok (.iload_n 1, 1) := by decide +kernel
theorem dX2_walk_68 : decode cX2_walk 68 = .ok (.iaload, 1) := by decide +kernel
theorem dX2_walk_69 : decode cX2_walk 69 = .ok (.invokevirtual 250, 3) := by decide +kernel
theorem dX2_walk_72 : decode cX2_walk 72 = .ok (.iconst 0, 1) := by decide +kernel
theorem dX2_walk_73 : decode cX2_walk 73 = .ok (.istore_n 2, 1) := by decide +kernel
theorem dX2_walk_74 : decode cX2_walk 74 = .ok (.iload_n 2, 1) := by decide +kernel
theorem dX2_walk_75 : decode cX2_walk 75 = .ok (.aload_n 0, 1) := by decide +kernel
theorem dX2_walk_76 : decode cX2_walk 76 = .ok (.getfield 46, 3) := by decide +kernel
theorem dX2_walk_79 : decode cX2_walk 79 = .ok (.getfield 253, 3) := by decide +kernel
theorem dX2_walk_82 : decode cX2_walk 82 = .ok (.if_icmp .ge 264, 3) := by decide +kernel
theorem dX2_walk_85 : decode cX2_walk 85 = .ok (.aload_n 0, 1) := by decide +kernel
theorem dX2_walk_86 : decode cX2_walk 86 = .ok (.getfield 46, 3) := by decide +kernel
theorem dX2_walk_89 : decode cX2_walk 89 = .ok (.getfield 256, 3) := by decide +kernel
theorem dX2_walk_92 : decode cX2_walk 92 = .ok (.iload_n 2, 1) := by decide +kernel
theorem dX2_walk_93 : decode cX2_walk 93 = .ok (.iaload, 1) := by decide +kernel
theorem dX2_walk_94 : decode cX2_walk 94 = .ok (.istore_n 3, 1) := by decide +kernel
theorem dX2_walk_95 : decode cX2_walk 95 = .ok (.iload_n 2, 1) := by decide +kernel
theorem dX2_walk_96 : decode cX2_walk 96 = .ok (.istore 4, 2) := by decide +kernel
theorem dX2_walk_98 : decode cX2_walk 98 = .ok (.aload_n 0, 1) := by decide +kernel
theorem dX2_walk_99 : decode cX2_walk 99 = .ok (.getfield 70, 3) := by decide +kernel
theorem dX2_walk_102 : decode cX2_walk 102 = .ok (.astore 5, 2) := by decide +kernel
theorem dX2_walk_104 : decode cX2_walk 104 = .ok (.aload 5, 2) := by decide +kernel
theorem dX2_walk_106 : decode cX2_walk 106 = .ok (.iconst 0, 1) := by decide +kernel
theorem dX2_walk_107 : decode cX2_walk 107 = .ok (.iconst 0, 1) := by decide +kernel
theorem dX2_walk_108 : decode cX2_walk 108 = .ok (.iastore, 1) := by decide +kernel
theorem dX2_walk_109 : decode cX2_walk 109 = .ok (.aload 5, 2) := by decide +kernel
theorem dX2_walk_111 : decode cX2_walk 111 = .ok (.iconst 1, 1) := by decide +kernel
theorem dX2_walk_112 : decode cX2_walk 112 = .ok (.iconst 0, 1) := by decide +kernel
theorem dX2_walk_113 : decode cX2_walk 113 = .ok (.iastore, 1) := by decide +kernel
theorem dX2_walk_114 : decode cX2_walk 114 = .ok (.iload 4, 2) := by decide +kernel
theorem dX2_walk_116 : decode cX2_walk 116 = .ok (.aload_n 0, 1) := by decide +kernel
theorem dX2_walk_117 : decode cX2_walk 117 = .ok (.getfield 46, 3) := by decide +kernel
theorem dX2_walk_120 : decode cX2_walk 120 = .ok (.getfield 253, 3) := by decide +kernel
theorem dX2_walk_123 : decode cX2_walk 123 = .ok (.if_icmp .ge 65, 3) := by decide +kernel
theorem dX2_walk_126 : decode cX2_walk 126 = .ok (.aload_n 0, 1) := by decide +kernel
theorem dX2_walk_127 : decode cX2_walk 127 = .ok (.getfield 46, 3) := by decide +kernel
theorem dX2_walk_130 : decode cX2_walk 130 = .ok (.aload_n 0, 1) := by decide +kernel
theorem dX2_walk_131 : decode cX2_walk 131 = .ok (.getfield 46, 3) := by decide +kernel
theorem dX2_walk_134 : decode cX2_walk 134 = .ok (.getfield 256, 3) := by decide +kernel
theorem dX2_walk_137 : decode cX2_walk 137 = .ok (.iload 4, 2) := by decide +kernel
theorem dX2_walk_139 : decode cX2_walk 139 = .ok (.iaload, 1) := by decide +kernel
theorem dX2_walk_140 : decode cX2_walk 140 = .ok (.iload_n 3, 1) := by decide +kernel
theorem dX2_walk_141 : decode cX2_walk 141 = .ok (.invokevirtual 257, 3) := by decide +kernel
theorem dX2_walk_144 : decode cX2_walk 144 = .ok (.ifCond .ne 44, 3) := by decide +kernel
theorem dX2_walk_147 : decode cX2_walk 147 = .ok (.aload_n 0, 1) := by decide +kernel
theorem dX2_walk_148 : decode cX2_walk 148 = .ok (.getfield 46, 3) := by decide +kernel
theorem dX2_walk_151 : decode cX2_walk 151 = .ok (.getfield 260, 3) := by decide +kernel
theorem dX2_walk_154 : decode cX2_walk 154 = .ok (.aload_n 0, 1) := by decide +kernel
theorem dX2_walk_155 : decode cX2_walk 155 = .ok (.getfield 46, 3) := by decide +kernel
theorem dX2_walk_158 : decode cX2_walk 158 = .ok (.getfield 256, 3) := by decide +kernel
theorem dX2_walk_161 : decode cX2_walk 161 = .ok (.iload 4, 2) := by decide +kernel
theorem dX2_walk_163 : decode cX2_walk 163 = .ok (.iaload, 1) := by decide +kernel
theorem dX2_walk_164 : decode cX2_walk 164 = .ok (.iaload, 1) := by decide +kernel
theorem dX2_walk_165 : decode cX2_walk 165 = .ok (.istore 6, 2) := by decide +kernel
theorem dX2_walk_167 : decode cX2_walk 167 = .ok (.iload 6, 2) := by decide +kernel
theorem dX2_walk_169 : decode cX2_walk 169 = .ok (.iconst 2, 1) := by decide +kernel
theorem dX2_walk_170 : decode cX2_walk 170 = .ok (.if_icmp .ge 12, 3) := by decide +kernel
theorem dX2_walk_173 : decode cX2_walk 173 = .ok (.aload 5, 2) := by decide +kernel
theorem dX2_walk_175 : decode cX2_walk 175 = .ok (.iload 6, 2) := by decide +kernel
theorem dX2_walk_177 : decode cX2_walk 177 = .ok (.dup2, 1) := by decide +kernel
theorem dX2_walk_178 : decode cX2_walk 178 = .ok (.iaload, 1) := by decide +kernel
theorem dX2_walk_179 : decode cX2_walk 179 = .ok (.iconst 1, 1) := by decide +kernel
theorem dX2_walk_180 : decode cX2_walk 180 = .ok (.iadd, 1) := by decide +kernel
theorem dX2_walk_181 : decode cX2_walk 181 = .ok (.iastore, 1) := by decide +kernel
theorem dX2_walk_182 : decode cX2_walk 182 = .ok (.iinc 4 1, 3) := by decide +kernel
theorem dX2_walk_185 : decode cX2_walk 185 = .ok (.goto (-71), 3) := by decide +kernel
theorem dX2_walk_188 : decode cX2_walk 188 = .ok (.aload_n 0, 1) := by decide +kernel
theorem dX2_walk_189 : decode cX2_walk 189 = .ok (.getfield 46, 3) := by decide +kernel
theorem dX2_walk_192 : decode cX2_walk 192 = .ok (.getfield 260, 3) := by decide +kernel
theorem dX2_walk_195 : decode cX2_walk 195 = .ok (.iload_n 3, 1) := by decide +kernel
theorem dX2_walk_196 : decode cX2_walk 196 = .ok (.iaload, 1) := by decide +kernel
theorem dX2_walk_197 : decode cX2_walk 197 = .ok (.iconst 2, 1) := by decide +kernel
theorem dX2_walk_198 : decode cX2_walk 198 = .ok (.if_icmp .ne 51, 3) := by decide +kernel
theorem dX2_walk_201 : decode cX2_walk 201 = .ok (.aload_n 0, 1) := by decide +kernel
theorem dX2_walk_202 : decode cX2_walk 202 = .ok (.aload_n 0, 1) := by decide +kernel
theorem dX2_walk_203 : decode cX2_walk 203 = .ok (.getfield 46, 3) := by decide +kernel
theorem dX2_walk_206 : decode cX2_walk 206 = .ok (.getfield 263, 3) := by decide +kernel
theorem dX2_walk_209 : decode cX2_walk 209 = .ok (.iload_n 3, 1) := by decide +kernel
theorem dX2_walk_210 : decode cX2_walk 210 = .ok (.iaload, 1) := by decide +kernel
theorem dX2_walk_211 : decode cX2_walk 211 = .ok (.aload_n 0, 1) := by decide +kernel
theorem dX2_walk_212 : decode cX2_walk 212 = .ok (.getfield 46, 3) := by decide +kernel
theorem dX2_walk_215 : decode cX2_walk 215 = .ok (.getfield 264, 3) := by decide +kernel
theorem dX2_walk_218 : decode cX2_walk 218 = .ok (.iload_n 3, 1) := by decide +kernel
theorem dX2_walk_219 : decode cX2_walk 219 = .ok (.iaload, 1) := by decide +kernel
theorem dX2_walk_220 : decode cX2_walk 220 = .ok (.invokevirtual 247, 3) := by decide +kernel
theorem dX2_walk_223 : decode cX2_walk 223 = .ok (.aload_n 0, 1) := by decide +kernel
theorem dX2_walk_224 : decode cX2_walk 224 = .ok (.iload_n 1, 1) := by decide +kernel
theorem dX2_walk_225 : decode cX2_walk 225 = .ok (.aload_n 0, 1) := by decide +kernel
theorem dX2_walk_226 : decode cX2_walk 226 = .ok (.getfield 46, 3) := by decide +kernel
theorem dX2_walk_229 : decode cX2_walk 229 = .ok (.getfield 263, 3) := by decide +kernel
theorem dX2_walk_232 : decode cX2_walk 232 = .ok (.iload_n 3, 1) := by decide +kernel
theorem dX2_walk_233 : decode cX2_walk 233 = .ok (.iaload, 1) := by decide +kernel
theorem dX2_walk_234 : decode cX2_walk 234 = .ok (.aload_n 0, 1) := by decide +kernel
theorem dX2_walk_235 : decode cX2_walk 235 = .ok (.getfield 46, 3) := by decide +kernel
theorem dX2_walk_238 : decode cX2_walk 238 = .ok (.getfield 264, 3) := by decide +kernel
theorem dX2_walk_241 : decode cX2_walk 241 = .ok (.iload_n 3, 1) := by decide +kernel
theorem dX2_walk_242 : decode cX2_walk 242 = .ok (.iaload, 1) := by decide +kernel
theorem dX2_walk_243 : decode cX2_walk 243 = .ok (.invokevirtual 250, 3) := by decide +kernel
theorem dX2_walk_246 : decode cX2_walk 246 = .ok (.goto 94, 3) := by decide +kernel
theorem dX2_walk_249 : decode cX2_walk 249 = .ok (.iload_n 1, 1) := by decide +kernel
theorem dX2_walk_250 : decode cX2_walk 250 = .ok (.aload_n 0, 1) := by decide +kernel
theorem dX2_walk_251 : decode cX2_walk 251 = .ok (.getfield 21, 3) := by decide +kernel
theorem dX2_walk_254 : decode cX2_walk 254 = .ok (.getfield 202, 3) := by decide +kernel
theorem dX2_walk_257 : decode cX2_walk 257 = .ok (.if_icmp .ge 7, 3) := by decide +kernel
theorem dX2_walk_260 : decode cX2_walk 260 = .ok (.iconst 1, 1) := by decide +kernel
theorem dX2_walk_261 : decode cX2_walk 261 = .ok (.goto 4, 3) := by decide +kernel
theorem dX2_walk_264 : decode cX2_walk 264 = .ok (.iconst 0, 1) := by decide +kernel
theorem dX2_walk_265 : decode cX2_walk 265 = .ok (.istore 6, 2) := by decide +kernel
theorem dX2_walk_267 : decode cX2_walk 267 = .ok (.aload_n 0, 1) := by decide +kernel
theorem dX2_walk_268 : decode cX2_walk 268 = .ok (.iload 6, 2) := by decide +kernel
theorem dX2_walk_270 : decode cX2_walk 270 = .ok (.ifCond .ne 10, 3) := by decide +kernel
theorem dX2_walk_273 : decode cX2_walk 273 = .ok (.aload 5, 2) := by decide +kernel
theorem dX2_walk_275 : decode cX2_walk 275 = .ok (.iconst 0, 1) := by decide +kernel
theorem dX2_walk_276 : decode cX2_walk 276 = .ok (.iaload, 1) := by decide +kernel
theorem dX2_walk_277 : decode cX2_walk 277 = .ok (.ifCond .le 7, 3) := by decide +kernel
theorem dX2_walk_280 : decode cX2_walk 280 = .ok (.iconst 1, 1) := by decide +kernel
theorem dX2_walk_281 : decode cX2_walk 281 = .ok (.goto 4, 3) := by decide +kernel
theorem dX2_walk_284 : decode cX2_walk 284 = .ok (.iconst 0, 1) := by decide +kernel
theorem dX2_walk_285 : decode cX2_walk 285 = .ok (.iload 6, 2) := by decide +kernel
theorem dX2_walk_287 : decode cX2_walk 287 = .ok (.ifCond .eq 10, 3) := by decide +kernel
theorem dX2_walk_290 : decode cX2_walk 290 = .ok (.aload 5, 2) := by decide +kernel
theorem dX2_walk_292 : decode cX2_walk 292 = .ok (.iconst 1, 1) := by decide +kernel
theorem dX2_walk_293 : decode cX2_walk 293 = .ok (.iaload, 1) := by decide +kernel
theorem dX2_walk_294 : decode cX2_walk 294 = .ok (.ifCond .le 7, 3) := by decide +kernel
theorem dX2_walk_297 : decode cX2_walk 297 = .ok (.iconst 1, 1) := by decide +kernel
theorem dX2_walk_298 : decode cX2_walk 298 = .ok (.goto 4, 3) := by decide +kernel
theorem dX2_walk_301 : decode cX2_walk 301 = .ok (.iconst 0, 1) := by decide +kernel
theorem dX2_walk_302 : decode cX2_walk 302 = .ok (.invokevirtual 265, 3) := by decide +kernel
theorem dX2_walk_305 : decode cX2_walk 305 = .ok (.aload_n 0, 1) := by decide +kernel
theorem dX2_walk_306 : decode cX2_walk 306 = .ok (.iload_n 1, 1) := by decide +kernel
theorem dX2_walk_307 : decode cX2_walk 307 = .ok (.aload 5, 2) := by decide +kernel
theorem dX2_walk_309 : decode cX2_walk 309 = .ok (.iconst 0, 1) := by decide +kernel
theorem dX2_walk_310 : decode cX2_walk 310 = .ok (.iaload, 1) := by decide +kernel
theorem dX2_walk_311 : decode cX2_walk 311 = .ok (.iconst 2, 1) := by decide +kernel
theorem dX2_walk_312 : decode cX2_walk 312 = .ok (.irem, 1) := by decide +kernel
theorem dX2_walk_313 : decode cX2_walk 313 = .ok (.iconst 1, 1) := by decide +kernel
theorem dX2_walk_314 : decode cX2_walk 314 = .ok (.if_icmp .ne 7, 3) := by decide +kernel
theorem dX2_walk_317 : decode cX2_walk 317 = .ok (.iconst 1, 1) := by decide +kernel
theorem dX2_walk_318 : decode cX2_walk 318 = .ok (.goto 4, 3) := by decide +kernel
theorem dX2_walk_321 : decode cX2_walk 321 = .ok (.iconst 0, 1) := by decide +kernel
theorem dX2_walk_322 : decode cX2_walk 322 = .ok (.aload 5, 2) := by decide +kernel
theorem dX2_walk_324 : decode cX2_walk 324 = .ok (.iconst 1, 1) := by decide +kernel
theorem dX2_walk_325 : decode cX2_walk 325 = .ok (.iaload, 1) := by decide +kernel
theorem dX2_walk_326 : decode cX2_walk 326 = .ok (.iconst 2, 1) := by decide +kernel
theorem dX2_walk_327 : decode cX2_walk 327 = .ok (.irem, 1) := by decide +kernel
theorem dX2_walk_328 : decode cX2_walk 328 = .ok (.iconst 1, 1) := by decide +kernel
theorem dX2_walk_329 : decode cX2_walk 329 = .ok (.if_icmp .ne 7, 3) := by decide +kernel
theorem dX2_walk_332 : decode cX2_walk 332 = .ok (.iconst 1, 1) := by decide +kernel
theorem dX2_walk_333 : decode cX2_walk 333 = .ok (.goto 4, 3) := by decide +kernel
theorem dX2_walk_336 : decode cX2_walk 336 = .ok (.iconst 0, 1) := by decide +kernel
theorem dX2_walk_337 : decode cX2_walk 337 = .ok (.invokevirtual 269, 3) := by decide +kernel
theorem dX2_walk_340 : decode cX2_walk 340 = .ok (.iload 4, 2) := by decide +kernel
theorem dX2_walk_342 : decode cX2_walk 342 = .ok (.istore_n 2, 1) := by decide +kernel
theorem dX2_walk_343 : decode cX2_walk 343 = .ok (.goto (-269), 3) := by decide +kernel
theorem dX2_walk_346 : decode cX2_walk 346 = .ok (.return_, 1) := by decide +kernel
abbrev cX2_gather : ByteArray := prog_6_method_10_code
def yX2_gather : MethodName := ⟨RX2, "gather", "(I)V"⟩
theorem dX2_gather_0 : decode cX2_gather 0 = .ok (.aload_n 0, 1) := by decide +kernel
theorem dX2_gather_1 : decode cX2_gather 1 = .ok (.getfield 46, 3) := by decide +kernel
theorem dX2_gather_4 : decode cX2_gather 4 = .ok (.invokevirtual 129, 3) := by decide +kernel
theorem dX2_gather_7 : decode cX2_gather 7 = .ok (.iconst 1, 1) := by decide +kernel
theorem dX2_gather_8 : decode cX2_gather 8 = .ok (.istore_n 2, 1) := by decide +kernel
theorem dX2_gather_9 : decode cX2_gather 9 = .ok (.aload_n 0, 1) := by decide +kernel
theorem dX2_gather_10 : decode cX2_gather 10 = .ok (.getfield 39, 3) := by decide +kernel
theorem dX2_gather_13 : decode cX2_gather 13 = .ok (.iconst 0, 1) := by decide +kernel
theorem dX2_gather_14 : decode cX2_gather 14 = .ok (.aload_n 0, 1) := by decide +kernel
theorem dX2_gather_15 : decode cX2_gather 15 = .ok (.getfield 39, 3) := by decide +kernel
theorem dX2_gather_18 : decode cX2_gather 18 = .ok (.invokevirtual 132, 3) := by decide +kernel
theorem dX2_gather_21 : decode cX2_gather 21 = .ok (.invokevirtual 136, 3) := by decide +kernel
theorem dX2_gather_24 : decode cX2_gather 24 = .ok (.iload_n 2, 1) := by decide +kernel
theorem dX2_gather_25 : decode cX2_gather 25 = .ok (.ifCond .le 156, 3) := by decide +kernel
theorem dX2_gather_28 : decode cX2_gather 28 = .ok (.iinc 2 (-1), 3) := by decide +kernel
theorem dX2_gather_31 : decode cX2_gather 31 = .ok (.aload_n 0, 1) := by decide +kernel
theorem dX2_gather_32 : decode cX2_gather 32 = .ok (.getfield 39, 3) := by decide +kernel
theorem dX2_gather_35 : decode cX2_gather 35 = .ok (.getfield 140, 3) := by decide +kernel
theorem dX2_gather_38 : decode cX2_gather 38 = .ok (.iload_n 2, 1) := by decide +kernel
theorem dX2_gather_39 : decode cX2_gather 39 = .ok (.iaload, 1) := by decide +kernel
theorem dX2_gather_40 : decode cX2_gather 40 = .ok (.istore_n 3, 1) := by decide +kernel
theorem dX2_gather_41 : decode cX2_gather 41 = .ok (.aload_n 0, 1) := by decide +kernel
theorem dX2_gather_42 : decode cX2_gather 42 = .ok (.getfield 39, 3) := by decide +kernel
theorem dX2_gather_45 : decode cX2_gather 45 = .ok (.iload_n 3, 1) := by decide +kernel
theorem dX2_gather_46 : decode cX2_gather 46 = .ok (.aload_n 0, 1) := by decide +kernel
theorem dX2_gather_47 : decode cX2_gather 47 = .ok (.getfield 28, 3) := by decide +kernel
theorem dX2_gather_50 : decode cX2_gather 50 = .ok (.getfield 143, 3) := by decide +kernel
theorem dX2_gather_53 : decode cX2_gather 53 = .ok (.iload_n 1, 1) := by decide +kernel
theorem dX2_gather_54 : decode cX2_gather 54 = .ok (.iaload, 1) := by decide +kernel
theorem dX2_gather_55 : decode cX2_gather 55 = .ok (.aload_n 0, 1) := by decide +kernel
theorem dX2_gather_56 : decode cX2_gather 56 = .ok (.getfield 28, 3) := by decide +kernel
theorem dX2_gather_59 : decode cX2_gather 59 = .ok (.getfield 146, 3) := by decide +kernel
theorem dX2_gather_62 : decode cX2_gather 62 = .ok (.iload_n 1, 1) := by decide +kernel
theorem dX2_gather_63 : decode cX2_gather 63 = .ok (.iaload, 1) := by decide +kernel
theorem dX2_gather_64 : decode cX2_gather 64 = .ok (.aload_n 0, 1) := by decide +kernel
theorem dX2_gather_65 : decode cX2_gather 65 = .ok (.getfield 28, 3) := by decide +kernel
theorem dX2_gather_68 : decode cX2_gather 68 = .ok (.getfield 149, 3) := by decide +kernel
theorem dX2_gather_71 : decode cX2_gather 71 = .ok (.iload_n 1, 1) := by decide +kernel
theorem dX2_gather_72 : decode cX2_gather 72 = .ok (.iaload, 1) := by decide +kernel
theorem dX2_gather_73 : decode cX2_gather 73 = .ok (.aload_n 0, 1) := by decide +kernel
theorem dX2_gather_74 : decode cX2_gather 74 = .ok (.getfield 28, 3) := by decide +kernel
theorem dX2_gather_77 : decode cX2_gather 77 = .ok (.getfield 152, 3) := by decide +kernel
theorem dX2_gather_80 : decode cX2_gather 80 = .ok (.iload_n 1, 1) := by decide +kernel
theorem dX2_gather_81 : decode cX2_gather 81 = .ok (.iaload, 1) := by decide +kernel
theorem dX2_gather_82 : decode cX2_gather 82 = .ok (.invokevirtual 155, 3) := by decide +kernel
theorem dX2_gather_85 : decode cX2_gather 85 = .ok (.ifCond .ne 6, 3) := by decide +kernel
theorem dX2_gather_88 : decode cX2_gather 88 = .ok (.goto (-64), 3) := by decide +kernel
theorem dX2_gather_91 : decode cX2_gather 91 = .ok (.aload_n 0, 1) := by decide +kernel
theorem dX2_gather_92 : decode cX2_gather 92 = .ok (.getfield 39, 3) := by decide +kernel
theorem dX2_gather_95 : decode cX2_gather 95 = .ok (.getfield 159, 3) := by decide +kernel
theorem dX2_gather_98 : decode cX2_gather 98 = .ok (.iload_n 3, 1) := by decide +kernel
theorem dX2_gather_99 : decode cX2_gather 99 = .ok (.iaload, 1) := by decide +kernel
theorem dX2_gather_100 : decode cX2_gather 100 = .ok (.istore 4, 2) := by decide +kernel
theorem dX2_gather_102 : decode cX2_gather 102 = .ok (.iload 4, 2) := by decide +kernel
theorem dX2_gather_104 : decode cX2_gather 104 = .ok (.aload_n 0, 1) := by decide +kernel
theorem dX2_gather_105 : decode cX2_gather 105 = .ok (.getfield 39, 3) := by decide +kernel
theorem dX2_gather_108 : decode cX2_gather 108 = .ok (.getfield 162, 3) := by decide +kernel
theorem dX2_gather_111 : decode cX2_gather 111 = .ok (.iload_n 3, 1) := by decide +kernel
theorem dX2_gather_112 : decode cX2_gather 112 = .ok (.iaload, 1) := by decide +kernel
theorem dX2_gather_113 : decode cX2_gather 113 = .ok (.if_icmp .ge 65, 3) := by decide +kernel
theorem dX2_gather_116 : decode cX2_gather 116 = .ok (.aload_n 0, 1) := by decide +kernel
theorem dX2_gather_117 : decode cX2_gather 117 = .ok (.getfield 39, 3) := by decide +kernel
theorem dX2_gather_120 : decode cX2_gather 120 = .ok (.iload_n 3, 1) := by decide +kernel
theorem dX2_gather_121 : decode cX2_gather 121 = .ok (.invokevirtual 165, 3) := by decide +kernel
theorem dX2_gather_124 : decode cX2_gather 124 = .ok (.ifCond .ne 19, 3) := by decide +kernel
theorem dX2_gather_127 : decode cX2_gather 127 = .ok (.aload_n 0, 1) := by decide +kernel
theorem dX2_gather_128 : decode cX2_gather 128 = .ok (.getfield 39, 3) := by decide +kernel
theorem dX2_gather_131 : decode cX2_gather 131 = .ok (.iload_n 2, 1) := by decide +kernel
theorem dX2_gather_132 : decode cX2_gather 132 = .ok (.iload 4, 2) := by decide +kernel
theorem dX2_gather_134 : decode cX2_gather 134 = .ok (.invokevirtual 136, 3) := by decide +kernel
theorem dX2_gather_137 : decode cX2_gather 137 = .ok (.iinc 2 1, 3) := by decide +kernel
theorem dX2_gather_140 : decode cX2_gather 140 = .ok (.goto 32, 3) := by decide +kernel
theorem dX2_gather_143 : decode cX2_gather 143 = .ok (.aload_n 0, 1) := by decide +kernel
theorem dX2_gather_144 : decode cX2_gather 144 = .ok (.getfield 39, 3) := by decide +kernel
theorem dX2_gather_147 : decode cX2_gather 147 = .ok (.getfield 169, 3) := by decide +kernel
theorem dX2_gather_150 : decode cX2_gather 150 = .ok (.iload 4, 2) := by decide +kernel
theorem dX2_gather_152 : decode cX2_gather 152 = .ok (.iaload, 1) := by decide +kernel
theorem dX2_gather_153 : decode cX2_gather 153 = .ok (.iload_n 1, 1) := by decide +kernel
theorem dX2_gather_154 : decode cX2_gather 154 = .ok (.if_icmp .eq 18, 3) := by decide +kernel
theorem dX2_gather_157 : decode cX2_gather 157 = .ok (.aload_n 0, 1) := by decide +kernel
theorem dX2_gather_158 : decode cX2_gather 158 = .ok (.iload_n 1, 1) := by decide +kernel
theorem dX2_gather_159 : decode cX2_gather 159 = .ok (.aload_n 0, 1) := by decide +kernel
theorem dX2_gather_160 : decode cX2_gather 160 = .ok (.getfield 39, 3) := by decide +kernel
theorem dX2_gather_163 : decode cX2_gather 163 = .ok (.getfield 169, 3) := by decide +kernel
theorem dX2_gather_166 : decode cX2_gather 166 = .ok (.iload 4, 2) := by decide +kernel
theorem dX2_gather_168 : decode cX2_gather 168 = .ok (.iaload, 1) := by decide +kernel
theorem dX2_gather_169 : decode cX2_gather 169 = .ok (.invokevirtual 172, 3) := by decide +kernel
theorem dX2_gather_172 : decode cX2_gather 172 = .ok (.iinc 4 1, 3) := by decide +kernel
theorem dX2_gather_175 : decode cX2_gather 175 = .ok (.goto (-73), 3) := by decide +kernel
theorem dX2_gather_178 : decode cX2_gather 178 = .ok (.goto (-154), 3) := by decide +kernel
theorem dX2_gather_181 : decode cX2_gather 181 = .ok (.aload_n 0, 1) := by decide +kernel
theorem dX2_gather_182 : decode cX2_gather 182 = .ok (.getfield 46, 3) := by decide +kernel
theorem dX2_gather_185 : decode cX2_gather 185 = .ok (.invokevirtual 175, 3) := by decide +kernel
theorem dX2_gather_188 : decode cX2_gather 188 = .ok (.return_, 1) := by decide +kernel
abbrev cX2_meet : ByteArray := prog_6_method_11_code
def yX2_meet : MethodName := ⟨RX2, "meet", "(II)V"⟩
theorem dX2_meet_0 : decode cX2_meet 0 = .ok (.aload_n 0, 1) := by decide +kernel
theorem dX2_meet_1 : decode cX2_meet 1 = .ok (.getfield 21, 3) := by decide +kernel
theorem dX2_meet_4 : decode cX2_meet 4 = .ok (.iload_n 1, 1) := by decide +kernel
theorem dX2_meet_5 : decode cX2_meet 5 = .ok (.iload_n 2, 1) := by decide +kernel
theorem dX2_meet_6 : decode cX2_meet 6 = .ok (.invokevirtual 178, 3) := by decide +kernel
theorem dX2_meet_9 : decode cX2_meet 9 = .ok (.ifCond .eq 95, 3) := by decide +kernel
theorem dX2_meet_12 : decode cX2_meet 12 = .ok (.aload_n 0, 1) := by decide +kernel
theorem dX2_meet_13 : decode cX2_meet 13 = .ok (.getfield 21, 3) := by decide +kernel
theorem dX2_meet_16 : decode cX2_meet 16 = .ok (.iload_n 2, 1) := by decide +kernel
theorem dX2_meet_17 : decode cX2_meet 17 = .ok (.aload_n 0, 1) := by decide +kernel
theorem dX2_meet_18 : decode cX2_meet 18 = .ok (.getfield 21, 3) := by decide +kernel
theorem dX2_meet_21 : decode cX2_meet 21 = .ok (.getfield 182, 3) := by decide +kernel
theorem dX2_meet_24 : decode cX2_meet 24 = .ok (.iload_n 1, 1) := by decide +kernel
theorem dX2_meet_25 : decode cX2_meet 25 = .ok (.iaload, 1) := by decide +kernel
theorem dX2_meet_26 : decode cX2_meet 26 = .ok (.aload_n 0, 1) := by decide +kernel
theorem dX2_meet_27 : decode cX2_meet 27 = .ok (.getfield 21, 3) := by decide +kernel
theorem dX2_meet_30 : decode cX2_meet 30 = .ok (.getfield 185, 3) := by decide +kernel
theorem dX2_meet_33 : decode cX2_meet 33 = .ok (.iload_n 1, 1) := by decide +kernel
theorem dX2_meet_34 : decode cX2_meet 34 = .ok (.iaload, 1) := by decide +kernel
theorem dX2_meet_35 : decode cX2_meet 35 = .ok (.invokevirtual 188, 3) := by decide +kernel
theorem dX2_meet_38 : decode cX2_meet 38 = .ok (.invokestatic 192, 3) := by decide +kernel
theorem dX2_meet_41 : decode cX2_meet 41 = .ok (.lstore_n 3, 1) := by decide +kernel
theorem dX2_meet_42 : decode cX2_meet 42 = .ok (.aload_n 0, 1) := by decide +kernel
theorem dX2_meet_43 : decode cX2_meet 43 = .ok (.getfield 21, 3) := by decide +kernel
theorem dX2_meet_46 : decode cX2_meet 46 = .ok (.iload_n 2, 1) := by decide +kernel
theorem dX2_meet_47 : decode cX2_meet 47 = .ok (.aload_n 0, 1) := by decide +kernel
theorem dX2_meet_48 : decode cX2_meet 48 = .ok (.getfield 21, 3) := by decide +kernel
theorem dX2_meet_51 : decode cX2_meet 51 = .ok (.getfield 196, 3) := by decide +kernel
theorem dX2_meet_54 : decode cX2_meet 54 = .ok (.iload_n 1, 1) := by decide +kernel
theorem dX2_meet_55 : decode cX2_meet 55 = .ok (.iaload, 1) := by decide +kernel
theorem dX2_meet_56 : decode cX2_meet 56 = .ok (.aload_n 0, 1) := by decide +kernel
theorem dX2_meet_57 : decode cX2_meet 57 = .ok (.getfield 21, 3) := by decide +kernel
theorem dX2_meet_60 : decode cX2_meet 60 = .ok (.getfield 199, 3) := by decide +kernel
theorem dX2_meet_63 : decode cX2_meet 63 = .ok (.iload_n 1, 1) := by decide +kernel
theorem dX2_meet_64 : decode cX2_meet 64 = .ok (.iaload, 1) := by decide +kernel
theorem dX2_meet_65 : decode cX2_meet 65 = .ok (.invokevirtual 188, 3) := by decide +kernel
theorem dX2_meet_68 : decode cX2_meet 68 = .ok (.invokestatic 192, 3) := by decide +kernel
theorem dX2_meet_71 : decode cX2_meet 71 = .ok (.lstore 5, 2) := by decide +kernel
theorem dX2_meet_73 : decode cX2_meet 73 = .ok (.aload_n 0, 1) := by decide +kernel
theorem dX2_meet_74 : decode cX2_meet 74 = .ok (.getfield 46, 3) := by decide +kernel
theorem dX2_meet_77 : decode cX2_meet 77 = .ok (.lload_n 3, 1) := by decide +kernel
theorem dX2_meet_78 : decode cX2_meet 78 = .ok (.lload_n 3, 1) := by decide +kernel
theorem dX2_meet_79 : decode cX2_meet 79 = .ok (.lload 5, 2) := by decide +kernel
theorem dX2_meet_81 : decode cX2_meet 81 = .ok (.ladd, 1) := by decide +kernel
theorem dX2_meet_82 : decode cX2_meet 82 = .ok (.iload_n 2, 1) := by decide +kernel
theorem dX2_meet_83 : decode cX2_meet 83 = .ok (.aload_n 0, 1) := by decide +kernel
theorem dX2_meet_84 : decode cX2_meet 84 = .ok (.getfield 21, 3) := by decide +kernel
theorem dX2_meet_87 : decode cX2_meet 87 = .ok (.getfield 202, 3) := by decide +kernel
theorem dX2_meet_90 : decode cX2_meet 90 = .ok (.if_icmp .ge 7, 3) := by decide +kernel
theorem dX2_meet_93 : decode cX2_meet 93 = .ok (.iconst 0, 1) := by decide +kernel
theorem dX2_meet_94 : decode cX2_meet 94 = .ok (.goto 4, 3) := by decide +kernel
theorem dX2_meet_97 : decode cX2_meet 97 = .ok (.iconst 1, 1) := by decide +kernel
theorem dX2_meet_98 : decode cX2_meet 98 = .ok (.iconst 0, 1) := by decide +kernel
theorem dX2_meet_99 : decode cX2_meet 99 = .ok (.iconst 0, 1) := by decide +kernel
theorem dX2_meet_100 : decode cX2_meet 100 = .ok (.invokevirtual 205, 3) := by decide +kernel
theorem dX2_meet_103 : decode cX2_meet 103 = .ok (.return_, 1) := by decide +kernel
theorem dX2_meet_104 : decode cX2_meet 104 = .ok (.aload_n 0, 1) := by decide +kernel
theorem dX2_meet_105 : decode cX2_meet 105 = .ok (.iload_n 1, 1) := by decide +kernel
theorem dX2_meet_106 : decode cX2_meet 106 = .ok (.aload_n 0, 1) := by decide +kernel
theorem dX2_meet_107 : decode cX2_meet 107 = .ok (.getfield 21, 3) := by decide +kernel
theorem dX2_meet_110 : decode cX2_meet 110 = .ok (.getfield 182, 3) := by decide +kernel
theorem dX2_meet_113 : decode cX2_meet 113 = .ok (.iload_n 2, 1) := by decide +kernel
theorem dX2_meet_114 : decode cX2_meet 114 = .ok (.iaload, 1) := by decide +kernel
theorem dX2_meet_115 : decode cX2_meet 115 = .ok (.aload_n 0, 1) := by decide +kernel
theorem dX2_meet_116 : decode cX2_meet 116 = .ok (.getfield 21, 3) := by decide +kernel
theorem dX2_meet_119 : decode cX2_meet 119 = .ok (.getfield 185, 3) := by decide +kernel
theorem dX2_meet_122 : decode cX2_meet 122 = .ok (.iload_n 2, 1) := by decide +kernel
theorem dX2_meet_123 : decode cX2_meet 123 = .ok (.iaload, 1) := by decide +kernel
theorem dX2_meet_124 : decode cX2_meet 124 = .ok (.invokevirtual 209, 3) := by decide +kernel
theorem dX2_meet_127 : decode cX2_meet 127 = .ok (.aload_n 0, 1) := by decide +kernel
theorem dX2_meet_128 : decode cX2_meet 128 = .ok (.iload_n 1, 1) := by decide +kernel
theorem dX2_meet_129 : decode cX2_meet 129 = .ok (.aload_n 0, 1) := by decide +kernel
theorem dX2_meet_130 : decode cX2_meet 130 = .ok (.getfield 21, 3) := by decide +kernel
theorem dX2_meet_133 : decode cX2_meet 133 = .ok (.getfield 196, 3) := by decide +kernel
theorem dX2_meet_136 : decode cX2_meet 136 = .ok (.iload_n 2, 1) := by decide +kernel
theorem dX2_meet_137 : decode cX2_meet 137 = .ok (.iaload, 1) := by decide +kernel
theorem dX2_meet_138 : decode cX2_meet 138 = .ok (.aload_n 0, 1) := by decide +kernel
theorem dX2_meet_139 : decode cX2_meet 139 = .ok (.getfield 21, 3) := by decide +kernel
theorem dX2_meet_142 : decode cX2_meet 142 = .ok (.getfield 199, 3) := by decide +kernel
theorem dX2_meet_145 : decode cX2_meet 145 = .ok (.iload_n 2, 1) := by decide +kernel
theorem dX2_meet_146 : decode cX2_meet 146 = .ok (.iaload, 1) := by decide +kernel
theorem dX2_meet_147 : decode cX2_meet 147 = .ok (.invokevirtual 209, 3) := by decide +kernel
theorem dX2_meet_150 : decode cX2_meet 150 = .ok (.return_, 1) := by decide +kernel
abbrev cX2_meetPlace : ByteArray := prog_6_method_12_code
def yX2_meetPlace : MethodName := ⟨RX2, "meetPlace", "(III)V"⟩
theorem dX2_meetPlace_0 : decode cX2_meetPlace 0 = .ok (.aload_n 0, 1) := by decide +kernel
theorem dX2_meetPlace_1 : decode cX2_meetPlace 1 = .ok (.getfield 21, 3) := by decide +kernel
theorem dX2_meetPlace_4 : decode cX2_meetPlace 4 = .ok (.iload_n 1, 1) := by decide +kernel
theorem dX2_meetPlace_5 : decode cX2_meetPlace 5 = .ok (.iload_n 2, 1) := by decide +kernel
theorem dX2_meetPlace_6 : decode cX2_meetPlace 6 = .ok (.iload_n 3, 1) := by decide +kernel
theorem dX2_meetPlace_7 : decode cX2_meetPlace 7 = .ok (.invokevirtual 212, 3) := by decide +kernel
theorem dX2_meetPlace_10 : decode cX2_meetPlace 10 = .ok (.ifCond .ne 4, 3) := by decide +kernel
theorem dX2_meetPlace_13 : decode cX2_meetPlace 13 = .ok (.return_, 1) := by decide +kernel
theorem dX2_meetPlace_14 : decode cX2_meetPlace 14 = .ok (.aload_n 0, 1) := by decide +kernel
theorem dX2_meetPlace_15 : decode cX2_meetPlace 15 = .ok (.getfield 21, 3) := by decide +kernel
theorem dX2_meetPlace_18 : decode cX2_meetPlace 18 = .ok (.iload_n 1, 1) := by decide +kernel
theorem dX2_meetPlace_19 : decode cX2_meetPlace 19 = .ok (.invokevirtual 215, 3) := by decide +kernel
theorem dX2_meetPlace_22 : decode cX2_meetPlace 22 = .ok (.invokestatic 192, 3) := by decide +kernel
theorem dX2_meetPlace_25 : decode cX2_meetPlace 25 = .ok (.aload_n 0, 1) := by decide +kernel
theorem dX2_meetPlace_26 : decode cX2_meetPlace 26 = .ok (.getfield 21, 3) := by decide +kernel
theorem dX2_meetPlace_29 : decode cX2_meetPlace 29 = .ok (.iload_n 1, 1) := by decide +kernel
theorem dX2_meetPlace_30 : decode cX2_meetPlace 30 = .ok (.invokevirtual 219, 3) := by decide +kernel
theorem dX2_meetPlace_33 : decode cX2_meetPlace 33 = .ok (.invokestatic 192, 3) := by decide +kernel
theorem dX2_meetPlace_36 : decode cX2_meetPlace 36 = .ok (.lcmp, 1) := by decide +kernel
theorem dX2_meetPlace_37 : decode cX2_meetPlace 37 = .ok (.ifCond .lt 7, 3) := by decide +kernel
theorem dX2_meetPlace_40 : decode cX2_meetPlace 40 = .ok (.iconst 1, 1) := by decide +kernel
theorem dX2_meetPlace_41 : decode cX2_meetPlace 41 = .ok (.goto 4, 3) := by decide +kernel
theorem dX2_meetPlace_44 : decode cX2_meetPlace 44 = .ok (.iconst 0, 1) := by decide +kernel
theorem dX2_meetPlace_45 : decode cX2_meetPlace 45 = .ok (.istore 4, 2) := by decide +kernel
theorem dX2_meetPlace_47 : decode cX2_meetPlace 47 = .ok (.iload 4, 2) := by decide +kernel
theorem dX2_meetPlace_49 : decode cX2_meetPlace 49 = .ok (.ifCond .eq 22, 3) := by decide +kernel
theorem dX2_meetPlace_52 : decode cX2_meetPlace 52 = .ok (.iload_n 2, 1) := by decide +kernel
theorem dX2_meetPlace_53 : decode cX2_meetPlace 53 = .ok (.i2l, 1) := by decide +kernel
theorem dX2_meetPlace_54 : decode cX2_meetPlace 54 = .ok (.aload_n 0, 1) := by decide +kernel
theorem dX2_meetPlace_55 : decode cX2_meetPlace 55 = .ok (.getfield 21, 3) := by decide +kernel
theorem dX2_meetPlace_58 : decode cX2_meetPlace 58 = .ok (.getfield 182, 3) := by decide +kernel
theorem dX2_meetPlace_61 : decode cX2_meetPlace 61 = .ok (.iload_n 1, 1) := by decide +kernel
theorem dX2_meetPlace_62 : decode cX2_meetPlace 62 = .ok (.iaload, 1) := by decide +kernel
theorem dX2_meetPlace_63 : decode cX2_meetPlace 63 = .ok (.i2l, 1) := by decide +kernel
theorem dX2_meetPlace_64 : decode cX2_meetPlace 64 = .ok (.lsub, 1) := by decide +kernel
theorem dX2_meetPlace_65 : decode cX2_meetPlace 65 = .ok (.invokestatic 192, 3) := by decide +kernel
theorem dX2_meetPlace_68 : decode cX2_meetPlace 68 = .ok (.goto 19, 3) := by decide +kernel
theorem dX2_meetPlace_71 : decode cX2_meetPlace 71 = .ok (.iload_n 3, 1) := by decide +kernel
theorem dX2_meetPlace_72 : decode cX2_meetPlace 72 = .ok (.i2l, 1) := by decide +kernel
theorem dX2_meetPlace_73 : decode cX2_meetPlace 73 = .ok (.aload_n 0, 1) := by decide +kernel
theorem dX2_meetPlace_74 : decode cX2_meetPlace 74 = .ok (.getfield 21, 3) := by decide +kernel
theorem dX2_meetPlace_77 : decode cX2_meetPlace 77 = .ok (.getfield 185, 3) := by decide +kernel
theorem dX2_meetPlace_80 : decode cX2_meetPlace 80 = .ok (.iload_n 1, 1) := by decide +kernel
theorem dX2_meetPlace_81 : decode cX2_meetPlace 81 = .ok (.iaload, 1) := by decide +kernel
theorem dX2_meetPlace_82 : decode cX2_meetPlace 82 = .ok (.i2l, 1) := by decide +kernel
theorem dX2_meetPlace_83 : decode cX2_meetPlace 83 = .ok (.lsub, 1) := by decide +kernel
theorem dX2_meetPlace_84 : decode cX2_meetPlace 84 = .ok (.invokestatic 192, 3) := by decide +kernel
theorem dX2_meetPlace_87 : decode cX2_meetPlace 87 = .ok (.lstore 5, 2) := by decide +kernel
theorem dX2_meetPlace_89 : decode cX2_meetPlace 89 = .ok (.iload 4, 2) := by decide +kernel
theorem dX2_meetPlace_91 : decode cX2_meetPlace 91 = .ok (.ifCond .eq 17, 3) := by decide +kernel
theorem dX2_meetPlace_94 : decode cX2_meetPlace 94 = .ok (.aload_n 0, 1) := by decide +kernel
theorem dX2_meetPlace_95 : decode cX2_meetPlace 95 = .ok (.getfield 21, 3) := by decide +kernel
theorem dX2_meetPlace_98 : decode cX2_meetPlace 98 = .ok (.iload_n 1, 1) := by decide +kernel
theorem dX2_meetPlace_99 : decode cX2_meetPlace 99 = .ok (.invokevirtual 215, 3) := by decide +kernel
theorem dX2_meetPlace_102 : decode cX2_meetPlace 102 = .ok (.invokestatic 192, 3) := by decide +kernel
theorem dX2_meetPlace_105 : decode cX2_meetPlace 105 = .ok (.goto 14, 3) := by decide +kernel
theorem dX2_meetPlace_108 : decode cX2_meetPlace 108 = .ok (.aload_n 0, 1) := by decide +kernel
theorem dX2_meetPlace_109 : decode cX2_meetPlace 109 = .ok (.getfield 21, 3) := by decide +kernel
theorem dX2_meetPlace_112 : decode cX2_meetPlace 112 = .ok (.iload_n 1, 1) := by decide +kernel
theorem dX2_meetPlace_113 : decode cX2_meetPlace 113 = .ok (.invokevirtual 219, 3) := by decide +kernel
theorem dX2_meetPlace_116 : decode cX2_meetPlace 116 = .ok (.invokestatic 192, 3) := by decide +kernel
theorem dX2_meetPlace_119 : decode cX2_meetPlace 119 = .ok (.lstore 7, 2) := by decide +kernel
theorem dX2_meetPlace_121 : decode cX2_meetPlace 121 = .ok (.lload 5, 2) := by decide +kernel
theorem dX2_meetPlace_123 : decode cX2_meetPlace 123 = .ok (.lconst 0, 1) := by decide +kernel
theorem dX2_meetPlace_124 : decode cX2_meetPlace 124 = .ok (.lcmp, 1) := by decide +kernel
theorem dX2_meetPlace_125 : decode cX2_meetPlace 125 = .ok (.ifCond .le 25, 3) := by decide +kernel
theorem dX2_meetPlace_128 : decode cX2_meetPlace 128 = .ok (.lload 5, 2) := by decide +kernel
theorem dX2_meetPlace_130 : decode cX2_meetPlace 130 = .ok (.lload 7, 2) := by decide +kernel
theorem dX2_meetPlace_132 : decode cX2_meetPlace 132 = .ok (.lcmp, 1) := by decide +kernel
theorem dX2_meetPlace_133 : decode cX2_meetPlace 133 = .ok (.ifCond .ge 17, 3) := by decide +kernel
theorem dX2_meetPlace_136 : decode cX2_meetPlace 136 = .ok (.aload_n 0, 1) := by decide +kernel
theorem dX2_meetPlace_137 : decode cX2_meetPlace 137 = .ok (.getfield 46, 3) := by decide +kernel
theorem dX2_meetPlace_140 : decode cX2_meetPlace 140 = .ok (.lload 5, 2) := by decide +kernel
theorem dX2_meetPlace_142 : decode cX2_meetPlace 142 = .ok (.lload 7, 2) := by decide +kernel
theorem dX2_meetPlace_144 : decode cX2_meetPlace 144 = .ok (.iconst 2, 1) := by decide +kernel
theorem dX2_meetPlace_145 : decode cX2_meetPlace 145 = .ok (.iload_n 2, 1) := by decide +kernel
theorem dX2_meetPlace_146 : decode cX2_meetPlace 146 = .ok (.iload_n 3, 1) := by decide +kernel
theorem dX2_meetPlace_147 : decode cX2_meetPlace 147 = .ok (.invokevirtual 205, 3) := by decide +kernel
theorem dX2_meetPlace_150 : decode cX2_meetPlace 150 = .ok (.return_, 1) := by decide +kernel
abbrev cX2_notePlace : ByteArray := prog_6_method_9_code
def yX2_notePlace : MethodName := ⟨RX2, "notePlace", "(II)V"⟩
theorem dX2_notePlace_0 : decode cX2_notePlace 0 = .ok (.aload_n 0, 1) := by decide +kernel
theorem dX2_notePlace_1 : decode cX2_notePlace 1 = .ok (.aload_n 0, 1) := by decide +kernel
theorem dX2_notePlace_2 : decode cX2_notePlace 2 = .ok (.iconst 0, 1) := by decide +kernel
theorem dX2_notePlace_3 : decode cX2_notePlace 3 = .ok (.iload_n 1, 1) := by decide +kernel
theorem dX2_notePlace_4 : decode cX2_notePlace 4 = .ok (.iload_n 2, 1) := by decide +kernel
theorem dX2_notePlace_5 : decode cX2_notePlace 5 = .ok (.invokevirtual 116, 3) := by decide +kernel
theorem dX2_notePlace_8 : decode cX2_notePlace 8 = .ok (.aload_n 0, 1) := by decide +kernel
theorem dX2_notePlace_9 : decode cX2_notePlace 9 = .ok (.iconst 1, 1) := by decide +kernel
theorem dX2_notePlace_10 : decode cX2_notePlace 10 = .ok (.iload_n 1, 1) := by decide +kernel
theorem dX2_notePlace_11 : decode cX2_notePlace 11 = .ok (.iload_n 2, 1) := by decide +kernel
theorem dX2_notePlace_12 : decode cX2_notePlace 12 = .ok (.invokevirtual 116, 3) := by decide +kernel
theorem dX2_notePlace_15 : decode cX2_notePlace 15 = .ok (.iconst 0, 1) := by decide +kernel
theorem dX2_notePlace_16 : decode cX2_notePlace 16 = .ok (.invokevirtual 125, 3) := by decide +kernel
theorem dX2_notePlace_19 : decode cX2_notePlace 19 = .ok (.return_, 1) := by decide +kernel
abbrev cX2_placeOf : ByteArray := prog_6_method_6_code
def yX2_placeOf : MethodName := ⟨RX2, "placeOf", "(III)I"⟩
theorem dX2_placeOf_0 : decode cX2_placeOf 0 = .ok (.aload_n 0, 1) := by decide +kernel
theorem dX2_placeOf_1 : decode cX2_placeOf 1 = .ok (.getfield 12, 3) := by decide +kernel
theorem dX2_placeOf_4 : decode cX2_placeOf 4 = .ok (.iload_n 1, 1) := by decide +kernel
theorem dX2_placeOf_5 : decode cX2_placeOf 5 = .ok (.aaload, 1) := by decide +kernel
theorem dX2_placeOf_6 : decode cX2_placeOf 6 = .ok (.astore 4, 2) := by decide +kernel
theorem dX2_placeOf_8 : decode cX2_placeOf 8 = .ok (.aload 4, 2) := by decide +kernel
theorem dX2_placeOf_10 : decode cX2_placeOf 10 = .ok (.getfield 92, 3) := by decide +kernel
theorem dX2_placeOf_13 : decode cX2_placeOf 13 = .ok (.iconst 1, 1) := by decide +kernel
theorem dX2_placeOf_14 : decode cX2_placeOf 14 = .ok (.if_icmp .ne 20, 3) := by decide +kernel
theorem dX2_placeOf_17 : decode cX2_placeOf 17 = .ok (.aload_n 0, 1) := by decide +kernel
theorem dX2_placeOf_18 : decode cX2_placeOf 18 = .ok (.aload 4, 2) := by decide +kernel
theorem dX2_placeOf_20 : decode cX2_placeOf 20 = .ok (.iload_n 2, 1) := by decide +kernel
theorem dX2_placeOf_21 : decode cX2_placeOf 21 = .ok (.iload_n 3, 1) := by decide +kernel
theorem dX2_placeOf_22 : decode cX2_placeOf 22 = .ok (.invokevirtual 95, 3) := by decide +kernel
theorem dX2_placeOf_25 : decode cX2_placeOf 25 = .ok (.ifCond .eq 7, 3) := by decide +kernel
theorem dX2_placeOf_28 : decode cX2_placeOf 28 = .ok (.iconst 0, 1) := by decide +kernel
theorem dX2_placeOf_29 : decode cX2_placeOf 29 = .ok (.goto 4, 3) := by decide +kernel
theorem dX2_placeOf_32 : decode cX2_placeOf 32 = .ok (.iconst 2, 1) := by decide +kernel
theorem dX2_placeOf_33 : decode cX2_placeOf 33 = .ok (.ireturn, 1) := by decide +kernel
theorem dX2_placeOf_34 : decode cX2_placeOf 34 = .ok (.aload 4, 2) := by decide +kernel
theorem dX2_placeOf_36 : decode cX2_placeOf 36 = .ok (.getfield 92, 3) := by decide +kernel
theorem dX2_placeOf_39 : decode cX2_placeOf 39 = .ok (.iconst 2, 1) := by decide +kernel
theorem dX2_placeOf_40 : decode cX2_placeOf 40 = .ok (.if_icmp .ne 39, 3) := by decide +kernel
theorem dX2_placeOf_43 : decode cX2_placeOf 43 = .ok (.aload 4, 2) := by decide +kernel
theorem dX2_placeOf_45 : decode cX2_placeOf 45 = .ok (.iload_n 2, 1) := by decide +kernel
theorem dX2_placeOf_46 : decode cX2_placeOf 46 = .ok (.iload_n 3, 1) := by decide +kernel
theorem dX2_placeOf_47 : decode cX2_placeOf 47 = .ok (.invokevirtual 99, 3) := by decide +kernel
theorem dX2_placeOf_50 : decode cX2_placeOf 50 = .ok (.iconst 2, 1) := by decide +kernel
theorem dX2_placeOf_51 : decode cX2_placeOf 51 = .ok (.irem, 1) := by decide +kernel
theorem dX2_placeOf_52 : decode cX2_placeOf 52 = .ok (.iconst 1, 1) := by decide +kernel
theorem dX2_placeOf_53 : decode cX2_placeOf 53 = .ok (.if_icmp .ne 7, 3) := by decide +kernel
theorem dX2_placeOf_56 : decode cX2_placeOf 56 = .ok (.iconst 1, 1) := by decide +kernel
theorem dX2_placeOf_57 : decode cX2_placeOf 57 = .ok (.goto 21, 3) := by decide +kernel
theorem dX2_placeOf_60 : decode cX2_placeOf 60 = .ok (.aload_n 0, 1) := by decide +kernel
theorem dX2_placeOf_61 : decode cX2_placeOf 61 = .ok (.getfield 21, 3) := by decide +kernel
theorem dX2_placeOf_64 : decode cX2_placeOf 64 = .ok (.iload_n 1, 1) := by decide +kernel
theorem dX2_placeOf_65 : decode cX2_placeOf 65 = .ok (.iload_n 2, 1) := by decide +kernel
theorem dX2_placeOf_66 : decode cX2_placeOf 66 = .ok (.iload_n 3, 1) := by decide +kernel
theorem dX2_placeOf_67 : decode cX2_placeOf 67 = .ok (.invokevirtual 103, 3) := by decide +kernel
theorem dX2_placeOf_70 : decode cX2_placeOf 70 = .ok (.ifCond .eq 7, 3) := by decide +kernel
theorem dX2_placeOf_73 : decode cX2_placeOf 73 = .ok (.iconst 0, 1) := by decide +kernel
theorem dX2_placeOf_74 : decode cX2_placeOf 74 = .ok (.goto 4, 3) := by decide +kernel
theorem dX2_placeOf_77 : decode cX2_placeOf 77 = .ok (.iconst 2, 1) := by decide +kernel
theorem dX2_placeOf_78 : decode cX2_placeOf 78 = .ok (.ireturn, 1) := by decide +kernel
theorem dX2_placeOf_79 : decode cX2_placeOf 79 = .ok (.aload_n 0, 1) := by decide +kernel
theorem dX2_placeOf_80 : decode cX2_placeOf 80 = .ok (.getfield 21, 3) := by decide +kernel
theorem dX2_placeOf_83 : decode cX2_placeOf 83 = .ok (.iload_n 1, 1) := by decide +kernel
theorem dX2_placeOf_84 : decode cX2_placeOf 84 = .ok (.iload_n 2, 1) := by decide +kernel
theorem dX2_placeOf_85 : decode cX2_placeOf 85 = .ok (.iload_n 3, 1) := by decide +kernel
theorem dX2_placeOf_86 : decode cX2_placeOf 86 = .ok (.invokevirtual 103, 3) := by decide +kernel
theorem dX2_placeOf_89 : decode cX2_placeOf 89 = .ok (.ifCond .eq 5, 3) := by decide +kernel
theorem dX2_placeOf_92 : decode cX2_placeOf 92 = .ok (.iconst 1, 1) := by decide +kernel
theorem dX2_placeOf_93 : decode cX2_placeOf 93 = .ok (.ireturn, 1) := by decide +kernel
theorem dX2_placeOf_94 : decode cX2_placeOf 94 = .ok (.aload_n 0, 1) := by decide +kernel
theorem dX2_placeOf_95 : decode cX2_placeOf 95 = .ok (.getfield 53, 3) := by decide +kernel
theorem dX2_placeOf_98 : decode cX2_placeOf 98 = .ok (.iload_n 2, 1) := by decide +kernel
theorem dX2_placeOf_99 : decode cX2_placeOf 99 = .ok (.iload_n 3, 1) := by decide +kernel
theorem dX2_placeOf_100 : decode cX2_placeOf 100 = .ok (.lconst 0, 1) := by decide +kernel
theorem dX2_placeOf_101 : decode cX2_placeOf 101 = .ok (.lconst 0, 1) := by decide +kernel
theorem dX2_placeOf_102 : decode cX2_placeOf 102 = .ok (.invokevirtual 106, 3) := by decide +kernel
theorem dX2_placeOf_105 : decode cX2_placeOf 105 = .ok (.aload_n 0, 1) := by decide +kernel
theorem dX2_placeOf_106 : decode cX2_placeOf 106 = .ok (.getfield 21, 3) := by decide +kernel
theorem dX2_placeOf_109 : decode cX2_placeOf 109 = .ok (.iload_n 1, 1) := by decide +kernel
theorem dX2_placeOf_110 : decode cX2_placeOf 110 = .ok (.aload_n 0, 1) := by decide +kernel
theorem dX2_placeOf_111 : decode cX2_placeOf 111 = .ok (.getfield 53, 3) := by decide +kernel
theorem dX2_placeOf_114 : decode cX2_placeOf 114 = .ok (.invokevirtual 110, 3) := by decide +kernel
theorem dX2_placeOf_117 : decode cX2_placeOf 117 = .ok (.ifCond .eq 7, 3) := by decide +kernel
theorem dX2_placeOf_120 : decode cX2_placeOf 120 = .ok (.iconst 0, 1) := by decide +kernel
theorem dX2_placeOf_121 : decode cX2_placeOf 121 = .ok (.goto 4, 3) := by decide +kernel
theorem dX2_placeOf_124 : decode cX2_placeOf 124 = .ok (.iconst 2, 1) := by decide +kernel
theorem dX2_placeOf_125 : decode cX2_placeOf 125 = .ok (.ireturn, 1) := by decide +kernel
abbrev cX2_isPoint : ByteArray := prog_6_method_5_code
def yX2_isPoint : MethodName := ⟨RX2, "isPoint", "(LShapeRelator$Outline;II)Z"⟩
theorem dX2_isPoint_0 : decode cX2_isPoint 0 = .ok (.iconst 0, 1) := by decide +kernel
theorem dX2_isPoint_1 : decode cX2_isPoint 1 = .ok (.istore 4, 2) := by decide +kernel
theorem dX2_isPoint_3 : decode cX2_isPoint 3 = .ok (.iload 4, 2) := by decide +kernel
theorem dX2_isPoint_5 : decode cX2_isPoint 5 = .ok (.aload_n 1, 1) := by decide +kernel
theorem dX2_isPoint_6 : decode cX2_isPoint 6 = .ok (.getfield 84, 3) := by decide +kernel
theorem dX2_isPoint_9 : decode cX2_isPoint 9 = .ok (.if_icmp .ge 22, 3) := by decide +kernel
theorem dX2_isPoint_12 : decode cX2_isPoint 12 = .ok (.aload_n 1, 1) := by decide +kernel
theorem dX2_isPoint_13 : decode cX2_isPoint 13 = .ok (.iload 4, 2) := by decide +kernel
theorem dX2_isPoint_15 : decode cX2_isPoint 15 = .ok (.iload_n 2, 1) := by decide +kernel
theorem dX2_isPoint_16 : decode cX2_isPoint 16 = .ok (.iload_n 3, 1) := by decide +kernel
theorem dX2_isPoint_17 : decode cX2_isPoint 17 = .ok (.invokevirtual 88, 3) := by decide +kernel
theorem dX2_isPoint_20 : decode cX2_isPoint 20 = .ok (.ifCond .eq 5, 3) := by decide +kernel
theorem dX2_isPoint_23 : decode cX2_isPoint 23 = .ok (.iconst 1, 1) := by decide +kernel
theorem dX2_isPoint_24 : decode cX2_isPoint 24 = .ok (.ireturn, 1) := by decide +kernel
theorem dX2_isPoint_25 : decode cX2_isPoint 25 = .ok (.iinc 4 1, 3) := by decide +kernel
theorem dX2_isPoint_28 : decode cX2_isPoint 28 = .ok (.goto (-25), 3) := by decide +kernel
theorem dX2_isPoint_31 : decode cX2_isPoint 31 = .ok (.iconst 0, 1) := by decide +kernel
theorem dX2_isPoint_32 : decode cX2_isPoint 32 = .ok (.ireturn, 1) := by decide +kernel
abbrev cX2_note : ByteArray := prog_6_method_8_code
def yX2_note : MethodName := ⟨RX2, "note", "(III)V"⟩
theorem dX2_note_0 : decode cX2_note 0 = .ok (.aload_n 0, 1) := by decide +kernel
theorem dX2_note_1 : decode cX2_note 1 = .ok (.getfield 57, 3) := by decide +kernel
theorem dX2_note_4 : decode cX2_note 4 = .ok (.iconst 3, 1) := by decide +kernel
theorem dX2_note_5 : decode cX2_note 5 = .ok (.iload_n 1, 1) := by decide +kernel
theorem dX2_note_6 : decode cX2_note 6 = .ok (.imul, 1) := by decide +kernel
theorem dX2_note_7 : decode cX2_note 7 = .ok (.iload_n 2, 1) := by decide +kernel
theorem dX2_note_8 : decode cX2_note 8 = .ok (.iadd, 1) := by decide +kernel
theorem dX2_note_9 : decode cX2_note 9 = .ok (.aload_n 0, 1) := by decide +kernel
theorem dX2_note_10 : decode cX2_note 10 = .ok (.getfield 57, 3) := by decide +kernel
theorem dX2_note_13 : decode cX2_note 13 = .ok (.iconst 3, 1) := by decide +kernel
theorem dX2_note_14 : decode cX2_note 14 = .ok (.iload_n 1, 1) := by decide +kernel
theorem dX2_note_15 : decode cX2_note 15 = .ok (.imul, 1) := by decide +kernel
theorem dX2_note_16 : decode cX2_note 16 = .ok (.iload_n 2, 1) := by decide +kernel
theorem dX2_note_17 : decode cX2_note 17 = .ok (.iadd, 1) := by decide +kernel
theorem dX2_note_18 : decode cX2_note 18 = .ok (.iaload, 1) := by decide +kernel
theorem dX2_note_19 : decode cX2_note 19 = .ok (.iload_n 3, 1) := by decide +kernel
theorem dX2_note_20 : decode cX2_note 20 = .ok (.invokestatic 120, 3) := by decide +kernel
theorem dX2_note_23 : decode cX2_note 23 = .ok (.iastore, 1) := by decide +kernel
theorem dX2_note_24 : decode cX2_note 24 = .ok (.return_, 1) := by decide +kernel
abbrev cX2_look : ByteArray := prog_6_method_13_code
def yX2_look : MethodName := ⟨RX2, "look", "(III)V"⟩
theorem dX2_look_0 : decode cX2_look 0 = .ok (.iconst 0, 1) := by decide +kernel
theorem dX2_look_1 : decode cX2_look 1 = .ok (.istore 4, 2) := by decide +kernel
theorem dX2_look_3 : decode cX2_look 3 = .ok (.iload 4, 2) := by decide +kernel
theorem dX2_look_5 : decode cX2_look 5 = .ok (.iconst 2, 1) := by decide +kernel
theorem dX2_look_6 : decode cX2_look 6 = .ok (.if_icmp .ge 210, 3) := by decide +kernel
theorem dX2_look_9 : decode cX2_look 9 = .ok (.aload_n 0, 1) := by decide +kernel
theorem dX2_look_10 : decode cX2_look 10 = .ok (.getfield 12, 3) := by decide +kernel
theorem dX2_look_13 : decode cX2_look 13 = .ok (.iload 4, 2) := by decide +kernel
theorem dX2_look_15 : decode cX2_look 15 = .ok (.aaload, 1) := by decide +kernel
theorem dX2_look_16 : decode cX2_look 16 = .ok (.getfield 92, 3) := by decide +kernel
theorem dX2_look_19 : decode cX2_look 19 = .ok (.istore 5, 2) := by decide +kernel
theorem dX2_look_21 : decode cX2_look 21 = .ok (.aload_n 0, 1) := by decide +kernel
theorem dX2_look_22 : decode cX2_look 22 = .ok (.getfield 53, 3) := by decide +kernel
theorem dX2_look_25 : decode cX2_look 25 = .ok (.iload_n 2, 1) := by decide +kernel
theorem dX2_look_26 : decode cX2_look 26 = .ok (.iload_n 3, 1) := by decide +kernel
theorem dX2_look_27 : decode cX2_look 27 = .ok (.aload_n 0, 1) := by decide +kernel
theorem dX2_look_28 : decode cX2_look 28 = .ok (.getfield 21, 3) := by decide +kernel
theorem dX2_look_31 : decode cX2_look 31 = .ok (.iload_n 1, 1) := by decide +kernel
theorem dX2_look_32 : decode cX2_look 32 = .ok (.invokevirtual 215, 3) := by decide +kernel
theorem dX2_look_35 : decode cX2_look 35 = .ok (.aload_n 0, 1) := by decide +kernel
theorem dX2_look_36 : decode cX2_look 36 = .ok (.getfield 21, 3) := by decide +kernel
theorem dX2_look_39 : decode cX2_look 39 = .ok (.iload_n 1, 1) := by decide +kernel
theorem dX2_look_40 : decode cX2_look 40 = .ok (.invokevirtual 219, 3) := by decide +kernel
theorem dX2_look_43 : decode cX2_look 43 = .ok (.invokevirtual 106, 3) := by decide +kernel
theorem dX2_look_46 : decode cX2_look 46 = .ok (.aload_n 0, 1) := by decide +kernel
theorem dX2_look_47 : decode cX2_look 47 = .ok (.getfield 61, 3) := by decide +kernel
theorem dX2_look_50 : decode cX2_look 50 = .ok (.iload 4, 2) := by decide +kernel
theorem dX2_look_52 : decode cX2_look 52 = .ok (.iconst 2, 1) := by decide +kernel
theorem dX2_look_53 : decode cX2_look 53 = .ok (.iastore, 1) := by decide +kernel
theorem dX2_look_54 : decode cX2_look 54 = .ok (.aload_n 0, 1) := by decide +kernel
theorem dX2_look_55 : decode cX2_look 55 = .ok (.getfield 64, 3) := by decide +kernel
theorem dX2_look_58 : decode cX2_look 58 = .ok (.iload 4, 2) := by decide +kernel
theorem dX2_look_60 : decode cX2_look 60 = .ok (.iconst 0, 1) := by decide +kernel
theorem dX2_look_61 : decode cX2_look 61 = .ok (.bastore, 1) := by decide +kernel
theorem dX2_look_62 : decode cX2_look 62 = .ok (.aload_n 0, 1) := by decide +kernel
theorem dX2_look_63 : decode cX2_look 63 = .ok (.getfield 67, 3) := by decide +kernel
theorem dX2_look_66 : decode cX2_look 66 = .ok (.iload 4, 2) := by decide +kernel
theorem dX2_look_68 : decode cX2_look 68 = .ok (.iconst 0, 1) := by decide +kernel
theorem dX2_look_69 : decode cX2_look 69 = .ok (.bastore, 1) := by decide +kernel
theorem dX2_look_70 : decode cX2_look 70 = .ok (.iload 5, 2) := by decide +kernel
theorem dX2_look_72 : decode cX2_look 72 = .ok (.iconst 2, 1) := by decide +kernel
theorem dX2_look_73 : decode cX2_look 73 = .ok (.if_icmp .ne 27, 3) := by decide +kernel
theorem dX2_look_76 : decode cX2_look 76 = .ok (.aload_n 0, 1) := by decide +kernel
theorem dX2_look_77 : decode cX2_look 77 = .ok (.getfield 21, 3) := by decide +kernel
theorem dX2_look_80 : decode cX2_look 80 = .ok (.iload 4, 2) := by decide +kernel
theorem dX2_look_82 : decode cX2_look 82 = .ok (.aload_n 0, 1) := by decide +kernel
theorem dX2_look_83 : decode cX2_look 83 = .ok (.getfield 53, 3) := by decide +kernel
theorem dX2_look_86 : decode cX2_look 86 = .ok (.invokevirtual 222, 3) := by decide +kernel
theorem dX2_look_89 : decode cX2_look 89 = .ok (.ifCond .eq 11, 3) := by decide +kernel
theorem dX2_look_92 : decode cX2_look 92 = .ok (.aload_n 0, 1) := by decide +kernel
theorem dX2_look_93 : decode cX2_look 93 = .ok (.getfield 61, 3) := by decide +kernel
theorem dX2_look_96 : decode cX2_look 96 = .ok (.iload 4, 2) := by decide +kernel
theorem dX2_look_98 : decode cX2_look 98 = .ok (.iconst 0, 1) := by decide +kernel
theorem dX2_look_99 : decode cX2_look 99 = .ok (.iastore, 1) := by decide +kernel
theorem dX2_look_100 : decode cX2_look 100 = .ok (.iload 5, 2) := by decide +kernel
theorem dX2_look_102 : decode cX2_look 102 = .ok (.iconst 3, 1) := by decide +kernel
theorem dX2_look_103 : decode cX2_look 103 = .ok (.if_icmp .ne 107, 3) := by decide +kernel
theorem dX2_look_106 : decode cX2_look 106 = .ok (.aload_n 0, 1) := by decide +kernel
theorem dX2_look_107 : decode cX2_look 107 = .ok (.getfield 61, 3) := by decide +kernel
theorem dX2_look_110 : decode cX2_look 110 = .ok (.iload 4, 2) := by decide +kernel
theorem dX2_look_112 : decode cX2_look 112 = .ok (.aload_n 0, 1) := by decide +kernel
theorem dX2_look_113 : decode cX2_look 113 = .ok (.getfield 21, 3) := by decide +kernel
theorem dX2_look_116 : decode cX2_look 116 = .ok (.iload 4, 2) := by decide +kernel
theorem dX2_look_118 : decode cX2_look 118 = .ok (.aload_n 0, 1) := by decide +kernel
theorem dX2_look_119 : decode cX2_look 119 = .ok (.getfield 53, 3) := by decide +kernel
theorem dX2_look_122 : decode cX2_look 122 = .ok (.invokevirtual 222, 3) := by decide +kernel
theorem dX2_look_125 : decode cX2_look 125 = .ok (.ifCond .eq 7, 3) := by decide +kernel
theorem dX2_look_128 : decode cX2_look 128 = .ok (.iconst 1, 1) := by decide +kernel
theorem dX2_look_129 : decode cX2_look 129 = .ok (.goto 24, 3) := by decide +kernel
theorem dX2_look_132 : decode cX2_look 132 = .ok (.aload_n 0, 1) := by decide +kernel
theorem dX2_look_133 : decode cX2_look 133 = .ok (.getfield 21, 3) := by decide +kernel
theorem dX2_look_136 : decode cX2_look 136 = .ok (.iload 4, 2) := by decide +kernel
theorem dX2_look_138 : decode cX2_look 138 = .ok (.aload_n 0, 1) := by decide +kernel
theorem dX2_look_139 : decode cX2_look 139 = .ok (.getfield 53, 3) := by decide +kernel
theorem dX2_look_142 : decode cX2_look 142 = .ok (.invokevirtual 110, 3) := by decide +kernel
theorem dX2_look_145 : decode cX2_look 145 = .ok (.ifCond .eq 7, 3) := by decide +kernel
theorem dX2_look_148 : decode cX2_look 148 = .ok (.iconst 0, 1) := by decide +kernel
theorem dX2_look_149 : decode cX2_look 149 = .ok (.goto 4, 3) := by decide +kernel
theorem dX2_look_152 : decode cX2_look 152 = .ok (.iconst 2, 1) := by decide +kernel
theorem dX2_look_153 : decode cX2_look 153 = .ok (.iastore, 1) := by decide +kernel
theorem dX2_look_154 : decode cX2_look 154 = .ok (.aload_n 0, 1) := by decide +kernel
theorem dX2_look_155 : decode cX2_look 155 = .ok (.getfield 53, 3) := by decide +kernel
theorem dX2_look_158 : decode cX2_look 158 = .ok (.iconst 1, 1) := by decide +kernel
theorem dX2_look_159 : decode cX2_look 159 = .ok (.invokevirtual 225, 3) := by decide +kernel
theorem dX2_look_162 : decode cX2_look 162 = .ok (.aload_n 0, 1) := by decide +kernel
theorem dX2_look_163 : decode cX2_look 163 = .ok (.getfield 64, 3) := by decide +kernel
theorem dX2_look_166 : decode cX2_look 166 = .ok (.iload 4, 2) := by decide +kernel
theorem dX2_look_168 : decode cX2_look 168 = .ok (.aload_n 0, 1) := by decide +kernel
theorem dX2_look_169 : decode cX2_look 169 = .ok (.getfield 21, 3) := by decide +kernel
theorem dX2_look_172 : decode cX2_look 172 = .ok (.iload 4, 2) := by decide +kernel
theorem dX2_look_174 : decode cX2_look 174 = .ok (.aload_n 0, 1) := by decide +kernel
theorem dX2_look_175 : decode cX2_look 175 = .ok (.getfield 53, 3) := by decide +kernel
theorem dX2_look_178 : decode cX2_look 178 = .ok (.invokevirtual 110, 3) := by decide +kernel
theorem dX2_look_181 : decode cX2_look 181 = .ok (.bastore, 1) := by decide +kernel
theorem dX2_look_182 : decode cX2_look 182 = .ok (.aload_n 0, 1) := by decide +kernel
theorem dX2_look_183 : decode cX2_look 183 = .ok (.getfield 53, 3) := by decide +kernel
theorem dX2_look_186 : decode cX2_look 186 = .ok (.iconst (-1), 1) := by decide +kernel
theorem dX2_look_187 : decode cX2_look 187 = .ok (.invokevirtual 225, 3) := by decide +kernel
theorem dX2_look_190 : decode cX2_look 190 = .ok (.aload_n 0, 1) := by decide +kernel
theorem dX2_look_191 : decode cX2_look 191 = .ok (.getfield 67, 3) := by decide +kernel
theorem dX2_look_194 : decode cX2_look 194 = .ok (.iload 4, 2) := by decide +kernel
theorem dX2_look_196 : decode cX2_look 196 = .ok (.aload_n 0, 1) := by decide +kernel
theorem dX2_look_197 : decode cX2_look 197 = .ok (.getfield 21, 3) := by decide +kernel
theorem dX2_look_200 : decode cX2_look 200 = .ok (.iload 4, 2) := by decide +kernel
theorem dX2_look_202 : decode cX2_look 202 = .ok (.aload_n 0, 1) := by decide +kernel
theorem dX2_look_203 : decode cX2_look 203 = .ok (.getfield 53, 3) := by decide +kernel
theorem dX2_look_206 : decode cX2_look 206 = .ok (.invokevirtual 110, 3) := by decide +kernel
theorem dX2_look_209 : decode cX2_look 209 = .ok (.bastore, 1) := by decide +kernel
theorem dX2_look_210 : decode cX2_look 210 = .ok (.iinc 4 1, 3) := by decide +kernel
theorem dX2_look_213 : decode cX2_look 213 = .ok (.goto (-210), 3) := by decide +kernel
theorem dX2_look_216 : decode cX2_look 216 = .ok (.aload_n 0, 1) := by decide +kernel
theorem dX2_look_217 : decode cX2_look 217 = .ok (.invokevirtual 229, 3) := by decide +kernel
theorem dX2_look_220 : decode cX2_look 220 = .ok (.return_, 1) := by decide +kernel
abbrev cX2_notePiece : ByteArray := prog_6_method_15_code
def yX2_notePiece : MethodName := ⟨RX2, "notePiece", "()V"⟩
theorem dX2_notePiece_0 : decode cX2_notePiece 0 = .ok (.aload_n 0, 1) := by decide +kernel
theorem dX2_notePiece_1 : decode cX2_notePiece 1 = .ok (.aload_n 0, 1) := by decide +kernel
theorem dX2_notePiece_2 : decode cX2_notePiece 2 = .ok (.getfield 61, 3) := by decide +kernel
theorem dX2_notePiece_5 : decode cX2_notePiece 5 = .ok (.iconst 0, 1) := by decide +kernel
theorem dX2_notePiece_6 : decode cX2_notePiece 6 = .ok (.iaload, 1) := by decide +kernel
theorem dX2_notePiece_7 : decode cX2_notePiece 7 = .ok (.aload_n 0, 1) := by decide +kernel
theorem dX2_notePiece_8 : decode cX2_notePiece 8 = .ok (.getfield 61, 3) := by decide +kernel
theorem dX2_notePiece_11 : decode cX2_notePiece 11 = .ok (.iconst 1, 1) := by decide +kernel
theorem dX2_notePiece_12 : decode cX2_notePiece 12 = .ok (.iaload, 1) := by decide +kernel
theorem dX2_notePiece_13 : decode cX2_notePiece 13 = .ok (.iconst 1, 1) := by decide +kernel
theorem dX2_notePiece_14 : decode cX2_notePiece 14 = .ok (.invokevirtual 125, 3) := by decide +kernel
theorem dX2_notePiece_17 : decode cX2_notePiece 17 = .ok (.aload_n 0, 1) := by decide +kernel
theorem dX2_notePiece_18 : decode cX2_notePiece 18 = .ok (.aload_n 0, 1) := by decide +kernel
theorem dX2_notePiece_19 : decode cX2_notePiece 19 = .ok (.getfield 64, 3) := by decide +kernel
theorem dX2_notePiece_22 : decode cX2_notePiece 22 = .ok (.iconst 0, 1) := by decide +kernel
theorem dX2_notePiece_23 : decode cX2_notePiece 23 = .ok (.baload, 1) := by decide +kernel
theorem dX2_notePiece_24 : decode cX2_notePiece 24 = .ok (.invokestatic 232, 3) := by decide +kernel
theorem dX2_notePiece_27 : decode cX2_notePiece 27 = .ok (.aload_n 0, 1) := by decide +kernel
theorem dX2_notePiece_28 : decode cX2_notePiece 28 = .ok (.getfield 64, 3) := by decide +kernel
theorem dX2_notePiece_31 : decode cX2_notePiece 31 = .ok (.iconst 1, 1) := by decide +kernel
theorem dX2_notePiece_32 : decode cX2_notePiece 32 = .ok (.baload, 1) := by decide +kernel
theorem dX2_notePiece_33 : decode cX2_notePiece 33 = .ok (.invokestatic 232, 3) := by decide +kernel
theorem dX2_notePiece_36 : decode cX2_notePiece 36 = .ok (.iconst 2, 1) := by decide +kernel
theorem dX2_notePiece_37 : decode cX2_notePiece 37 = .ok (.invokevirtual 125, 3) := by decide +kernel
theorem dX2_notePiece_40 : decode cX2_notePiece 40 = .ok (.aload_n 0, 1) := by decide +kernel
theorem dX2_notePiece_41 : decode cX2_notePiece 41 = .ok (.aload_n 0, 1) := by decide +kernel
theorem dX2_notePiece_42 : decode cX2_notePiece 42 = .ok (.getfield 67, 3) := by decide +kernel
theorem dX2_notePiece_45 : decode cX2_notePiece 45 = .ok (.iconst 0, 1) := by decide +kernel
theorem dX2_notePiece_46 : decode cX2_notePiece 46 = .ok (.baload, 1) := by decide +kernel
theorem dX2_notePiece_47 : decode cX2_notePiece 47 = .ok (.invokestatic 232, 3) := by decide +kernel
theorem dX2_notePiece_50 : decode cX2_notePiece 50 = .ok (.aload_n 0, 1) := by decide +kernel
theorem dX2_notePiece_51 : decode cX2_notePiece 51 = .ok (.getfield 67, 3) := by decide +kernel
theorem dX2_notePiece_54 : decode cX2_notePiece 54 = .ok (.iconst 1, 1) := by decide +kernel
theorem dX2_notePiece_55 : decode cX2_notePiece 55 = .ok (.baload, 1) := by decide +kernel
theorem dX2_notePiece_56 : decode cX2_notePiece 56 = .ok (.invokestatic 232, 3) := by decide +kernel
theorem dX2_notePiece_59 : decode cX2_notePiece 59 = .ok (.iconst 2, 1) := by decide +kernel
theorem dX2_notePiece_60 : decode cX2_notePiece 60 = .ok (.invokevirtual 125, 3) := by decide +kernel
theorem dX2_notePiece_63 : decode cX2_notePiece 63 = .ok (.return_, 1) := by decide +kernel
abbrev cX2_inOrOut : ByteArray := prog_6_method_14_code
def yX2_inOrOut : MethodName := ⟨RX2, "inOrOut", "(Z)I"⟩
theorem dX2_inOrOut_0 : decode cX2_inOrOut 0 = .ok (.iload_n 0, 1) := by decide +kernel
theorem dX2_inOrOut_1 : decode cX2_inOrOut 1 = .ok (.ifCond .eq 7, 3) := by decide +kernel
theorem dX2_inOrOut_4 : decode cX2_inOrOut 4 = .ok (.iconst 0, 1) := by decide +kernel
theorem dX2_inOrOut_5 : decode cX2_inOrOut 5 = .ok (.goto 4, 3) := by decide +kernel
theorem dX2_inOrOut_8 : decode cX2_inOrOut 8 = .ok (.iconst 2, 1) := by decide +kernel
theorem dX2_inOrOut_9 : decode cX2_inOrOut 9 = .ok (.ireturn, 1) := by decide +kernel
abbrev cX2_noteCrossing : ByteArray := prog_6_method_18_code
def yX2_noteCrossing : MethodName := ⟨RX2, "noteCrossing", "(ZZ)V"⟩
theorem dX2_noteCrossing_0 : decode cX2_noteCrossing 0 = .ok (.aload_n 0, 1) := by decide +kernel
theorem dX2_noteCrossing_1 : decode cX2_noteCrossing 1 = .ok (.aload_n 0, 1) := by decide +kernel
theorem dX2_noteCrossing_2 : decode cX2_noteCrossing 2 = .ok (.iconst 0, 1) := by decide +kernel
theorem dX2_noteCrossing_3 : decode cX2_noteCrossing 3 = .ok (.iload_n 1, 1) := by decide +kernel
theorem dX2_noteCrossing_4 : decode cX2_noteCrossing 4 = .ok (.invokevirtual 240, 3) := by decide +kernel
theorem dX2_noteCrossing_7 : decode cX2_noteCrossing 7 = .ok (.aload_n 0, 1) := by decide +kernel
theorem dX2_noteCrossing_8 : decode cX2_noteCrossing 8 = .ok (.iconst 1, 1) := by decide +kernel
theorem dX2_noteCrossing_9 : decode cX2_noteCrossing 9 = .ok (.iload_n 2, 1) := by decide +kernel
theorem dX2_noteCrossing_10 : decode cX2_noteCrossing 10 = .ok (.invokevirtual 240, 3) := by decide +kernel
theorem dX2_noteCrossing_13 : decode cX2_noteCrossing 13 = .ok (.iconst 0, 1) := by decide +kernel
theorem dX2_noteCrossing_14 : decode cX2_noteCrossing 14 = .ok (.invokevirtual 125, 3) := by decide +kernel
theorem dX2_noteCrossing_17 : decode cX2_noteCrossing 17 = .ok (.return_, 1) := by decide +kernel
abbrev cX2_crossed : ByteArray := prog_6_method_19_code
def yX2_crossed : MethodName := ⟨RX2, "crossed", "(IZ)I"⟩
theorem dX2_crossed_0 : decode cX2_crossed 0 = .ok (.aload_n 0, 1) := by decide +kernel
theorem dX2_crossed_1 : decode cX2_crossed 1 = .ok (.getfield 12, 3) := by decide +kernel
theorem dX2_crossed_4 : decode cX2_crossed 4 = .ok (.iload_n 1, 1) := by decide +kernel
theorem dX2_crossed_5 : decode cX2_crossed 5 = .ok (.aaload, 1) := by decide +kernel
theorem dX2_crossed_6 : decode cX2_crossed 6 = .ok (.getfield 92, 3) := by decide +kernel
theorem dX2_crossed_9 : decode cX2_crossed 9 = .ok (.istore_n 3, 1) := by decide +kernel
theorem dX2_crossed_10 : decode cX2_crossed 10 = .ok (.iload_n 2, 1) := by decide +kernel
theorem dX2_crossed_11 : decode cX2_crossed 11 = .ok (.ifCond .ne 12, 3) := by decide +kernel
theorem dX2_crossed_14 : decode cX2_crossed 14 = .ok (.aload_n 0, 1) := by decide +kernel
theorem dX2_crossed_15 : decode cX2_crossed 15 = .ok (.getfield 61, 3) := by decide +kernel
theorem dX2_crossed_18 : decode cX2_crossed 18 = .ok (.iload_n 1, 1) := by decide +kernel
theorem dX2_crossed_19 : decode cX2_crossed 19 = .ok (.iaload, 1) := by decide +kernel
theorem dX2_crossed_20 : decode cX2_crossed 20 = .ok (.goto 13, 3) := by decide +kernel
theorem dX2_crossed_23 : decode cX2_crossed 23 = .ok (.iload_n 3, 1) := by decide +kernel
theorem dX2_crossed_24 : decode cX2_crossed 24 = .ok (.iconst 3, 1) := by decide +kernel
theorem dX2_crossed_25 : decode cX2_crossed 25 = .ok (.if_icmp .ne 7, 3) := by decide +kernel
theorem dX2_crossed_28 : decode cX2_crossed 28 = .ok (.iconst 1, 1) := by decide +kernel
theorem dX2_crossed_29 : decode cX2_crossed 29 = .ok (.goto 4, 3) := by decide +kernel
theorem dX2_crossed_32 : decode cX2_crossed 32 = .ok (.iconst 0, 1) := by decide +kernel
theorem dX2_crossed_33 : decode cX2_crossed 33 = .ok (.ireturn, 1) := by decide +kernel
abbrev cX2_turn : ByteArray := prog_6_method_16_code
def yX2_turn : MethodName := ⟨RX2, "turn", "(IZZ)V"⟩
theorem dX2_turn_0 : decode cX2_turn 0 = .ok (.aload_n 0, 1) := by decide +kernel
theorem dX2_turn_1 : decode cX2_turn 1 = .ok (.iconst 0, 1) := by decide +kernel
theorem dX2_turn_2 : decode cX2_turn 2 = .ok (.iload_n 2, 1) := by decide +kernel
theorem dX2_turn_3 : decode cX2_turn 3 = .ok (.invokevirtual 236, 3) := by decide +kernel
theorem dX2_turn_6 : decode cX2_turn 6 = .ok (.aload_n 0, 1) := by decide +kernel
theorem dX2_turn_7 : decode cX2_turn 7 = .ok (.iconst 1, 1) := by decide +kernel
theorem dX2_turn_8 : decode cX2_turn 8 = .ok (.iload_n 3, 1) := by decide +kernel
theorem dX2_turn_9 : decode cX2_turn 9 = .ok (.invokevirtual 236, 3) := by decide +kernel
theorem dX2_turn_12 : decode cX2_turn 12 = .ok (.aload_n 0, 1) := by decide +kernel
theorem dX2_turn_13 : decode cX2_turn 13 = .ok (.invokevirtual 229, 3) := by decide +kernel
theorem dX2_turn_16 : decode cX2_turn 16 = .ok (.return_, 1) := by decide +kernel
abbrev cX2_turnOne : ByteArray := prog_6_method_17_code
def yX2_turnOne : MethodName := ⟨RX2, "turnOne", "(IZ)V"⟩
theorem dX2_turnOne_0 : decode cX2_turnOne 0 = .ok (.aload_n 0, 1) := by decide +kernel
theorem dX2_turnOne_1 : decode cX2_turnOne 1 = .ok (.getfield 12, 3) := by decide +kernel
theorem dX2_turnOne_4 : decode cX2_turnOne 4 = .ok (.iload_n 1, 1) := by decide +kernel
theorem dX2_turnOne_5 : decode cX2_turnOne 5 = .ok (.aaload, 1) := by decide +kernel
theorem dX2_turnOne_6 : decode cX2_turnOne 6 = .ok (.getfield 92, 3) := by decide +kernel
theorem dX2_turnOne_9 : decode cX2_turnOne 9 = .ok (.iconst 3, 1) := by decide +kernel
theorem dX2_turnOne_10 : decode cX2_turnOne 10 = .ok (.if_icmp .lt 7, 3) := by decide +kernel
theorem dX2_turnOne_13 : decode cX2_turnOne 13 = .ok (.iload_n 2, 1) := by decide +kernel
theorem dX2_turnOne_14 : decode cX2_turnOne 14 = .ok (.ifCond .ne 4, 3) := by decide +kernel
theorem dX2_turnOne_17 : decode cX2_turnOne 17 = .ok (.return_, 1) := by decide +kernel
theorem dX2_turnOne_18 : decode cX2_turnOne 18 = .ok (.aload_n 0, 1) := by decide +kernel
theorem dX2_turnOne_19 : decode cX2_turnOne 19 = .ok (.getfield 61, 3) := by decide +kernel
theorem dX2_turnOne_22 : decode cX2_turnOne 22 = .ok (.iload_n 1, 1) := by decide +kernel
theorem dX2_turnOne_23 : decode cX2_turnOne 23 = .ok (.aload_n 0, 1) := by decide +kernel
theorem dX2_turnOne_24 : decode cX2_turnOne 24 = .ok (.getfield 61, 3) := by decide +kernel
theorem dX2_turnOne_27 : decode cX2_turnOne 27 = .ok (.iload_n 1, 1) := by decide +kernel
theorem dX2_turnOne_28 : decode cX2_turnOne 28 = .ok (.iaload, 1) := by decide +kernel
theorem dX2_turnOne_29 : decode cX2_turnOne 29 = .ok (.iconst 1, 1) := by decide +kernel
theorem dX2_turnOne_30 : decode cX2_turnOne 30 = .ok (.if_icmp .ne 7, 3) := by decide +kernel
theorem dX2_turnOne_33 : decode cX2_turnOne 33 = .ok (.iconst 1, 1) := by decide +kernel
theorem dX2_turnOne_34 : decode cX2_turnOne 34 = .ok (.goto 11, 3) := by decide +kernel
theorem dX2_turnOne_37 : decode cX2_turnOne 37 = .ok (.iconst 2, 1) := by decide +kernel
theorem dX2_turnOne_38 : decode cX2_turnOne 38 = .ok (.aload_n 0, 1) := by decide +kernel
theorem dX2_turnOne_39 : decode cX2_turnOne 39 = .ok (.getfield 61, 3) := by decide +kernel
theorem dX2_turnOne_42 : decode cX2_turnOne 42 = .ok (.iload_n 1, 1) := by decide +kernel
theorem dX2_turnOne_43 : decode cX2_turnOne 43 = .ok (.iaload, 1) := by decide +kernel
theorem dX2_turnOne_44 : decode cX2_turnOne 44 = .ok (.isub, 1) := by decide +kernel
theorem dX2_turnOne_45 : decode cX2_turnOne 45 = .ok (.iastore, 1) := by decide +kernel
theorem dX2_turnOne_46 : decode cX2_turnOne 46 = .ok (.aload_n 0, 1) := by decide +kernel
theorem dX2_turnOne_47 : decode cX2_turnOne 47 = .ok (.getfield 64, 3) := by decide +kernel
theorem dX2_turnOne_50 : decode cX2_turnOne 50 = .ok (.iload_n 1, 1) := by decide +kernel
theorem dX2_turnOne_51 : decode cX2_turnOne 51 = .ok (.aload_n 0, 1) := by decide +kernel
theorem dX2_turnOne_52 : decode cX2_turnOne 52 = .ok (.getfield 64, 3) := by decide +kernel
theorem dX2_turnOne_55 : decode cX2_turnOne 55 = .ok (.iload_n 1, 1) := by decide +kernel
theorem dX2_turnOne_56 : decode cX2_turnOne 56 = .ok (.baload, 1) := by decide +kernel
theorem dX2_turnOne_57 : decode cX2_turnOne 57 = .ok (.ifCond .ne 7, 3) := by decide +kernel
theorem dX2_turnOne_60 : decode cX2_turnOne 60 = .ok (.iconst 1, 1) := by decide +kernel
theorem dX2_turnOne_61 : decode cX2_turnOne 61 = .ok (.goto 4, 3) := by decide +kernel
theorem dX2_turnOne_64 : decode cX2_turnOne 64 = .ok (.iconst 0, 1) := by decide +kernel
theorem dX2_turnOne_65 : decode cX2_turnOne 65 = .ok (.bastore, 1) := by decide +kernel
theorem dX2_turnOne_66 : decode cX2_turnOne 66 = .ok (.aload_n 0, 1) := by decide +kernel
theorem dX2_turnOne_67 : decode cX2_turnOne 67 = .ok (.getfield 67, 3) := by decide +kernel
theorem dX2_turnOne_70 : decode cX2_turnOne 70 = .ok (.iload_n 1, 1) := by decide +kernel
theorem dX2_turnOne_71 : decode cX2_turnOne 71 = .ok (.aload_n 0, 1) := by decide +kernel
theorem dX2_turnOne_72 : decode cX2_turnOne 72 = .ok (.getfield 67, 3) := by decide +kernel
theorem dX2_turnOne_75 : decode cX2_turnOne 75 = .ok (.iload_n 1, 1) := by decide +kernel
theorem dX2_turnOne_76 : decode cX2_turnOne 76 = .ok (.baload, 1) := by decide +kernel
theorem dX2_turnOne_77 : decode cX2_turnOne 77 = .ok (.ifCond .ne 7, 3) := by decide +kernel
theorem dX2_turnOne_80 : decode cX2_turnOne 80 = .ok (.iconst 1, 1) := by decide +kernel
theorem dX2_turnOne_81 : decode cX2_turnOne 81 = .ok (.goto 4, 3) := by decide +kernel
theorem dX2_turnOne_84 : decode cX2_turnOne 84 = .ok (.iconst 0, 1) := by decide +kernel
theorem dX2_turnOne_85 : decode cX2_turnOne 85 = .ok (.bastore, 1) := by decide +kernel
theorem dX2_turnOne_86 : decode cX2_turnOne 86 = .ok (.return_, 1) := by decide +kernel
abbrev cX2_noteEnds : ByteArray := prog_6_method_22_code
def yX2_noteEnds : MethodName := ⟨RX2, "noteEnds", "(LShapeRelator$Outline;)V"⟩
theorem dX2_noteEnds_0 : decode cX2_noteEnds 0 = .ok (.iconst 0, 1) := by decide +kernel
theorem dX2_noteEnds_1 : decode cX2_noteEnds 1 = .ok (.istore_n 2, 1) := by decide +kernel
theorem dX2_noteEnds_2 : decode cX2_noteEnds 2 = .ok (.iload_n 2, 1) := by decide +kernel
theorem dX2_noteEnds_3 : decode cX2_noteEnds 3 = .ok (.aload_n 1, 1) := by decide +kernel
theorem dX2_noteEnds_4 : decode cX2_noteEnds 4 = .ok (.getfield 84, 3) := by decide +kernel
theorem dX2_noteEnds_7 : decode cX2_noteEnds 7 = .ok (.if_icmp .ge 33, 3) := by decide +kernel
theorem dX2_noteEnds_10 : decode cX2_noteEnds 10 = .ok (.aload_n 1, 1) := by decide +kernel
theorem dX2_noteEnds_11 : decode cX2_noteEnds 11 = .ok (.getfield 92, 3) := by decide +kernel
theorem dX2_noteEnds_14 : decode cX2_noteEnds 14 = .ok (.iconst 3, 1) := by decide +kernel
theorem dX2_noteEnds_15 : decode cX2_noteEnds 15 = .ok (.if_icmp .ge 25, 3) := by decide +kernel
theorem dX2_noteEnds_18 : decode cX2_noteEnds 18 = .ok (.aload_n 0, 1) := by decide +kernel
theorem dX2_noteEnds_19 : decode cX2_noteEnds 19 = .ok (.aload_n 1, 1) := by decide +kernel
theorem dX2_noteEnds_20 : decode cX2_noteEnds 20 = .ok (.getfield 291, 3) := by decide +kernel
theorem dX2_noteEnds_23 : decode cX2_noteEnds 23 = .ok (.iload_n 2, 1) := by decide +kernel
theorem dX2_noteEnds_24 : decode cX2_noteEnds 24 = .ok (.iaload, 1) := by decide +kernel
theorem dX2_noteEnds_25 : decode cX2_noteEnds 25 = .ok (.aload_n 1, 1) := by decide +kernel
theorem dX2_noteEnds_26 : decode cX2_noteEnds 26 = .ok (.getfield 292, 3) := by decide +kernel
theorem dX2_noteEnds_29 : decode cX2_noteEnds 29 = .ok (.iload_n 2, 1) := by decide +kernel
theorem dX2_noteEnds_30 : decode cX2_noteEnds 30 = .ok (.iaload, 1) := by decide +kernel
theorem dX2_noteEnds_31 : decode cX2_noteEnds 31 = .ok (.invokevirtual 247, 3) := by decide +kernel
theorem dX2_noteEnds_34 : decode cX2_noteEnds 34 = .ok (.iinc 2 1, 3) := by decide +kernel
theorem dX2_noteEnds_37 : decode cX2_noteEnds 37 = .ok (.goto (-35), 3) := by decide +kernel
theorem dX2_noteEnds_40 : decode cX2_noteEnds 40 = .ok (.return_, 1) := by decide +kernel
abbrev cX2_number : ByteArray := prog_6_method_23_code
def yX2_number : MethodName := ⟨RX2, "number", "(II)I"⟩
theorem dX2_number_0 : decode cX2_number 0 = .ok (.aload_n 0, 1) := by decide +kernel
theorem dX2_number_1 : decode cX2_number 1 = .ok (.getfield 57, 3) := by decide +kernel
theorem dX2_number_4 : decode cX2_number 4 = .ok (.iconst 3, 1) := by decide +kernel
theorem dX2_number_5 : decode cX2_number 5 = .ok (.iload_n 1, 1) := by decide +kernel
theorem dX2_number_6 : decode cX2_number 6 = .ok (.imul, 1) := by decide +kernel
theorem dX2_number_7 : decode cX2_number 7 = .ok (.iload_n 2, 1) := by decide +kernel
theorem dX2_number_8 : decode cX2_number 8 = .ok (.iadd, 1) := by decide +kernel
theorem dX2_number_9 : decode cX2_number 9 = .ok (.iaload, 1) := by decide +kernel
theorem dX2_number_10 : decode cX2_number 10 = .ok (.ireturn, 1) := by decide +kernel
abbrev cX2_shape : ByteArray := prog_6_method_2_code
def yX2_shape : MethodName := ⟨RX2, "shape", "(I)LShapeRelator$Outline;"⟩
theorem dX2_shape_0 : decode cX2_shape 0 = .ok (.aload_n 0, 1) := by decide +kernel
theorem dX2_shape_1 : decode cX2_shape 1 = .ok (.getfield 12, 3) := by decide +kernel
theorem dX2_shape_4 : decode cX2_shape 4 = .ok (.iload_n 1, 1) := by decide +kernel
theorem dX2_shape_5 : decode cX2_shape 5 = .ok (.aaload, 1) := by decide +kernel
theorem dX2_shape_6 : decode cX2_shape 6 = .ok (.areturn, 1) := by decide +kernel
abbrev cX2_change : ByteArray := prog_6_method_3_code
def yX2_change : MethodName := ⟨RX2, "change", "()V"⟩
theorem dX2_change_0 : decode cX2_change 0 = .ok (.aload_n 0, 1) := by decide +kernel
theorem dX2_change_1 : decode cX2_change 1 = .ok (.iconst 0, 1) := by decide +kernel
theorem dX2_change_2 : decode cX2_change 2 = .ok (.putfield 73, 3) := by decide +kernel
theorem dX2_change_5 : decode cX2_change 5 = .ok (.aload_n 0, 1) := by decide +kernel
theorem dX2_change_6 : decode cX2_change 6 = .ok (.iconst 0, 1) := by decide +kernel
theorem dX2_change_7 : decode cX2_change 7 = .ok (.putfield 77, 3) := by decide +kernel
theorem dX2_change_10 : decode cX2_change 10 = .ok (.return_, 1) := by decide +kernel
abbrev cX2_locate : ByteArray := prog_6_method_7_code
def yX2_locate : MethodName := ⟨RX2, "locate", "(III)I"⟩
theorem dX2_locate_0 : decode cX2_locate 0 = .ok (.aload_n 0, 1) := by decide +kernel
theorem dX2_locate_1 : decode cX2_locate 1 = .ok (.invokevirtual 114, 3) := by decide +kernel
theorem dX2_locate_4 : decode cX2_locate 4 = .ok (.aload_n 0, 1) := by decide +kernel
theorem dX2_locate_5 : decode cX2_locate 5 = .ok (.iload_n 1, 1) := by decide +kernel
theorem dX2_locate_6 : decode cX2_locate 6 = .ok (.iload_n 2, 1) := by decide +kernel
theorem dX2_locate_7 : decode cX2_locate 7 = .ok (.iload_n 3, 1) := by decide +kernel
theorem dX2_locate_8 : decode cX2_locate 8 = .ok (.invokevirtual 116, 3) := by decide +kernel
theorem dX2_locate_11 : decode cX2_locate 11 = .ok (.ireturn, 1) := by decide +kernel
abbrev cX2_has : ByteArray := prog_6_method_24_code
def yX2_has : MethodName := ⟨RX2, "has", "(II)Z"⟩
theorem dX2_has_0 : decode cX2_has 0 = .ok (.aload_n 0, 1) := by decide +kernel
theorem dX2_has_1 : decode cX2_has 1 = .ok (.iload_n 1, 1) := by decide +kernel
theorem dX2_has_2 : decode cX2_has 2 = .ok (.iload_n 2, 1) := by decide +kernel
theorem dX2_has_3 : decode cX2_has 3 = .ok (.invokevirtual 293, 3) := by decide +kernel
theorem dX2_has_6 : decode cX2_has 6 = .ok (.ifCond .lt 7, 3) := by decide +kernel
theorem dX2_has_9 : decode cX2_has 9 = .ok (.iconst 1, 1) := by decide +kernel
theorem dX2_has_10 : decode cX2_has 10 = .ok (.goto 4, 3) := by decide +kernel
theorem dX2_has_13 : decode cX2_has 13 = .ok (.iconst 0, 1) := by decide +kernel
theorem dX2_has_14 : decode cX2_has 14 = .ok (.ireturn, 1) := by decide +kernel
abbrev cX2_areEqual : ByteArray := prog_6_method_31_code
def yX2_areEqual : MethodName := ⟨RX2, "areEqual", "()Z"⟩
theorem dX2_areEqual_0 : decode cX2_areEqual 0 = .ok (.aload_n 0, 1) := by decide +kernel
theorem dX2_areEqual_1 : decode cX2_areEqual 1 = .ok (.iconst 0, 1) := by decide +kernel
theorem dX2_areEqual_2 : decode cX2_areEqual 2 = .ok (.invokevirtual 299, 3) := by decide +kernel
theorem dX2_areEqual_5 : decode cX2_areEqual 5 = .ok (.ifCond .ge 11, 3) := by decide +kernel
theorem dX2_areEqual_8 : decode cX2_areEqual 8 = .ok (.aload_n 0, 1) := by decide +kernel
theorem dX2_areEqual_9 : decode cX2_areEqual 9 = .ok (.iconst 1, 1) := by decide +kernel
theorem dX2_areEqual_10 : decode cX2_areEqual 10 = .ok (.invokevirtual 299, 3) := by decide +kernel
theorem dX2_areEqual_13 : decode cX2_areEqual 13 = .ok (.ifCond .lt 26, 3) := by decide +kernel
theorem dX2_areEqual_16 : decode cX2_areEqual 16 = .ok (.aload_n 0, 1) := by decide +kernel
theorem dX2_areEqual_17 : decode cX2_areEqual 17 = .ok (.iconst 0, 1) := by decide +kernel
theorem dX2_areEqual_18 : decode cX2_areEqual 18 = .ok (.iconst 0, 1) := by decide +kernel
theorem dX2_areEqual_19 : decode cX2_areEqual 19 = .ok (.invokevirtual 296, 3) := by decide +kernel
theorem dX2_areEqual_22 : decode cX2_areEqual 22 = .ok (.ifCond .eq 21, 3) := by decide +kernel
theorem dX2_areEqual_25 : decode cX2_areEqual 25 = .ok (.aload_n 0, 1) := by decide +kernel
theorem dX2_areEqual_26 : decode cX2_areEqual 26 = .ok (.invokevirtual 303, 3) := by decide +kernel
theorem dX2_areEqual_29 : decode cX2_areEqual 29 = .ok (.ifCond .eq 14, 3) := by decide +kernel
theorem dX2_areEqual_32 : decode cX2_areEqual 32 = .ok (.aload_n 0, 1) := by decide +kernel
theorem dX2_areEqual_33 : decode cX2_areEqual 33 = .ok (.invokevirtual 307, 3) := by decide +kernel
theorem dX2_areEqual_36 : decode cX2_areEqual 36 = .ok (.ifCond .eq 7, 3) := by decide +kernel
theorem dX2_areEqual_39 : decode cX2_areEqual 39 = .ok (.iconst 1, 1) := by decide +kernel
theorem dX2_areEqual_40 : decode cX2_areEqual 40 = .ok (.goto 4, 3) := by decide +kernel
theorem dX2_areEqual_43 : decode cX2_areEqual 43 = .ok (.iconst 0, 1) := by decide +kernel
theorem dX2_areEqual_44 : decode cX2_areEqual 44 = .ok (.ireturn, 1) := by decide +kernel
abbrev cX2_insideOf : ByteArray := prog_6_method_28_code
def yX2_insideOf : MethodName := ⟨RX2, "insideOf", "(I)I"⟩
theorem dX2_insideOf_0 : decode cX2_insideOf 0 = .ok (.iconst (-1), 1) := by decide +kernel
theorem dX2_insideOf_1 : decode cX2_insideOf 1 = .ok (.istore_n 2, 1) := by decide +kernel
theorem dX2_insideOf_2 : decode cX2_insideOf 2 = .ok (.iconst 0, 1) := by decide +kernel
theorem dX2_insideOf_3 : decode cX2_insideOf 3 = .ok (.istore_n 3, 1) := by decide +kernel
theorem dX2_insideOf_4 : decode cX2_insideOf 4 = .ok (.iload_n 3, 1) := by decide +kernel
theorem dX2_insideOf_5 : decode cX2_insideOf 5 = .ok (.iconst 3, 1) := by decide +kernel
theorem dX2_insideOf_6 : decode cX2_insideOf 6 = .ok (.if_icmp .ge 33, 3) := by decide +kernel
theorem dX2_insideOf_9 : decode cX2_insideOf 9 = .ok (.iload_n 2, 1) := by decide +kernel
theorem dX2_insideOf_10 : decode cX2_insideOf 10 = .ok (.iload_n 1, 1) := by decide +kernel
theorem dX2_insideOf_11 : decode cX2_insideOf 11 = .ok (.ifCond .ne 12, 3) := by decide +kernel
theorem dX2_insideOf_14 : decode cX2_insideOf 14 = .ok (.aload_n 0, 1) := by decide +kernel
theorem dX2_insideOf_15 : decode cX2_insideOf 15 = .ok (.iconst 0, 1) := by decide +kernel
theorem dX2_insideOf_16 : decode cX2_insideOf 16 = .ok (.iload_n 3, 1) := by decide +kernel
theorem dX2_insideOf_17 : decode cX2_insideOf 17 = .ok (.invokevirtual 293, 3) := by decide +kernel
theorem dX2_insideOf_20 : decode cX2_insideOf 20 = .ok (.goto 9, 3) := by decide +kernel
theorem dX2_insideOf_23 : decode cX2_insideOf 23 = .ok (.aload_n 0, 1) := by decide +kernel
theorem dX2_insideOf_24 : decode cX2_insideOf 24 = .ok (.iload_n 3, 1) := by decide +kernel
theorem dX2_insideOf_25 : decode cX2_insideOf 25 = .ok (.iconst 0, 1) := by decide +kernel
theorem dX2_insideOf_26 : decode cX2_insideOf 26 = .ok (.invokevirtual 293, 3) := by decide +kernel
theorem dX2_insideOf_29 : decode cX2_insideOf 29 = .ok (.invokestatic 120, 3) := by decide +kernel
theorem dX2_insideOf_32 : decode cX2_insideOf 32 = .ok (.istore_n 2, 1) := by decide +kernel
theorem dX2_insideOf_33 : decode cX2_insideOf 33 = .ok (.iinc 3 1, 3) := by decide +kernel
theorem dX2_insideOf_36 : decode cX2_insideOf 36 = .ok (.goto (-32), 3) := by decide +kernel
theorem dX2_insideOf_39 : decode cX2_insideOf 39 = .ok (.iload_n 2, 1) := by decide +kernel
theorem dX2_insideOf_40 : decode cX2_insideOf 40 = .ok (.ireturn, 1) := by decide +kernel
abbrev cX2_isIn : ByteArray := prog_6_method_26_code
def yX2_isIn : MethodName := ⟨RX2, "isIn", "()Z"⟩
theorem dX2_isIn_0 : decode cX2_isIn 0 = .ok (.aload_n 0, 1) := by decide +kernel
theorem dX2_isIn_1 : decode cX2_isIn 1 = .ok (.iconst 0, 1) := by decide +kernel
theorem dX2_isIn_2 : decode cX2_isIn 2 = .ok (.iconst 2, 1) := by decide +kernel
theorem dX2_isIn_3 : decode cX2_isIn 3 = .ok (.invokevirtual 296, 3) := by decide +kernel
theorem dX2_isIn_6 : decode cX2_isIn 6 = .ok (.ifCond .ne 16, 3) := by decide +kernel
theorem dX2_isIn_9 : decode cX2_isIn 9 = .ok (.aload_n 0, 1) := by decide +kernel
theorem dX2_isIn_10 : decode cX2_isIn 10 = .ok (.iconst 1, 1) := by decide +kernel
theorem dX2_isIn_11 : decode cX2_isIn 11 = .ok (.iconst 2, 1) := by decide +kernel
theorem dX2_isIn_12 : decode cX2_isIn 12 = .ok (.invokevirtual 296, 3) := by decide +kernel
theorem dX2_isIn_15 : decode cX2_isIn 15 = .ok (.ifCond .ne 7, 3) := by decide +kernel
theorem dX2_isIn_18 : decode cX2_isIn 18 = .ok (.iconst 1, 1) := by decide +kernel
theorem dX2_isIn_19 : decode cX2_isIn 19 = .ok (.goto 4, 3) := by decide +kernel
theorem dX2_isIn_22 : decode cX2_isIn 22 = .ok (.iconst 0, 1) := by decide +kernel
theorem dX2_isIn_23 : decode cX2_isIn 23 = .ok (.ireturn, 1) := by decide +kernel
abbrev cX2_isAround : ByteArray := prog_6_method_27_code
def yX2_isAround : MethodName := ⟨RX2, "isAround", "()Z"⟩
theorem dX2_isAround_0 : decode cX2_isAround 0 = .ok (.aload_n 0, 1) := by decide +kernel
theorem dX2_isAround_1 : decode cX2_isAround 1 = .ok (.iconst 2, 1) := by decide +kernel
theorem dX2_isAround_2 : decode cX2_isAround 2 = .ok (.iconst 0, 1) := by decide +kernel
theorem dX2_isAround_3 : decode cX2_isAround 3 = .ok (.invokevirtual 296, 3) := by decide +kernel
theorem dX2_isAround_6 : decode cX2_isAround 6 = .ok (.ifCond .ne 16, 3) := by decide +kernel
theorem dX2_isAround_9 : decode cX2_isAround 9 = .ok (.aload_n 0, 1) := by decide +kernel
theorem dX2_isAround_10 : decode cX2_isAround 10 = .ok (.iconst 2, 1) := by decide +kernel
theorem dX2_isAround_11 : decode cX2_isAround 11 = .ok (.iconst 1, 1) := by decide +kernel
theorem dX2_isAround_12 : decode cX2_isAround 12 = .ok (.invokevirtual 296, 3) := by decide +kernel
theorem dX2_isAround_15 : decode cX2_isAround 15 = .ok (.ifCond .ne 7, 3) := by decide +kernel
theorem dX2_isAround_18 : decode cX2_isAround 18 = .ok (.iconst 1, 1) := by decide +kernel
theorem dX2_isAround_19 : decode cX2_isAround 19 = .ok (.goto 4, 3) := by decide +kernel
theorem dX2_isAround_22 : decode cX2_isAround 22 = .ok (.iconst 0, 1) := by decide +kernel
theorem dX2_isAround_23 : decode cX2_isAround 23 = .ok (.ireturn, 1) := by decide +kernel
abbrev cX2_meets : ByteArray := prog_6_method_25_code
def yX2_meets : MethodName := ⟨RX2, "meets", "()Z"⟩
theorem dX2_meets_0 : decode cX2_meets 0 = .ok (.aload_n 0, 1) := by decide +kernel
theorem dX2_meets_1 : decode cX2_meets 1 = .ok (.iconst 0, 1) := by decide +kernel
theorem dX2_meets_2 : decode cX2_meets 2 = .ok (.iconst 0, 1) := by decide +kernel
theorem dX2_meets_3 : decode cX2_meets 3 = .ok (.invokevirtual 296, 3) := by decide +kernel
theorem dX2_meets_6 : decode cX2_meets 6 = .ok (.ifCond .ne 30, 3) := by decide +kernel
theorem dX2_meets_9 : decode cX2_meets 9 = .ok (.aload_n 0, 1) := by decide +kernel
theorem dX2_meets_10 : decode cX2_meets 10 = .ok (.iconst 0, 1) := by decide +kernel
theorem dX2_meets_11 : decode cX2_meets 11 = .ok (.iconst 1, 1) := by decide +kernel
theorem dX2_meets_12 : decode cX2_meets 12 = .ok (.invokevirtual 296, 3) := by decide +kernel
theorem dX2_meets_15 : decode cX2_meets 15 = .ok (.ifCond .ne 21, 3) := by decide +kernel
theorem dX2_meets_18 : decode cX2_meets 18 = .ok (.aload_n 0, 1) := by decide +kernel
theorem dX2_meets_19 : decode cX2_meets 19 = .ok (.iconst 1, 1) := by decide +kernel
theorem dX2_meets_20 : decode cX2_meets 20 = .ok (.iconst 0, 1) := by decide +kernel
theorem dX2_meets_21 : decode cX2_meets 21 = .ok (.invokevirtual 296, 3) := by decide +kernel
theorem dX2_meets_24 : decode cX2_meets 24 = .ok (.ifCond .ne 12, 3) := by decide +kernel
theorem dX2_meets_27 : decode cX2_meets 27 = .ok (.aload_n 0, 1) := by decide +kernel
theorem dX2_meets_28 : decode cX2_meets 28 = .ok (.iconst 1, 1) := by decide +kernel
theorem dX2_meets_29 : decode cX2_meets 29 = .ok (.iconst 1, 1) := by decide +kernel
theorem dX2_meets_30 : decode cX2_meets 30 = .ok (.invokevirtual 296, 3) := by decide +kernel
theorem dX2_meets_33 : decode cX2_meets 33 = .ok (.ifCond .eq 7, 3) := by decide +kernel
theorem dX2_meets_36 : decode cX2_meets 36 = .ok (.iconst 1, 1) := by decide +kernel
theorem dX2_meets_37 : decode cX2_meets 37 = .ok (.goto 4, 3) := by decide +kernel
theorem dX2_meets_40 : decode cX2_meets 40 = .ok (.iconst 0, 1) := by decide +kernel
theorem dX2_meets_41 : decode cX2_meets 41 = .ok (.ireturn, 1) := by decide +kernel
abbrev cX2_crosses : ByteArray := prog_6_method_29_code
def yX2_crosses : MethodName := ⟨RX2, "crosses", "()Z"⟩
theorem dX2_crosses_0 : decode cX2_crosses 0 = .ok (.aload_n 0, 1) := by decide +kernel
theorem dX2_crosses_1 : decode cX2_crosses 1 = .ok (.iconst 0, 1) := by decide +kernel
theorem dX2_crosses_2 : decode cX2_crosses 2 = .ok (.invokevirtual 299, 3) := by decide +kernel
theorem dX2_crosses_5 : decode cX2_crosses 5 = .ok (.istore_n 1, 1) := by decide +kernel
theorem dX2_crosses_6 : decode cX2_crosses 6 = .ok (.aload_n 0, 1) := by decide +kernel
theorem dX2_crosses_7 : decode cX2_crosses 7 = .ok (.iconst 1, 1) := by decide +kernel
theorem dX2_crosses_8 : decode cX2_crosses 8 = .ok (.invokevirtual 299, 3) := by decide +kernel
theorem dX2_crosses_11 : decode cX2_crosses 11 = .ok (.istore_n 2, 1) := by decide +kernel
theorem dX2_crosses_12 : decode cX2_crosses 12 = .ok (.aload_n 0, 1) := by decide +kernel
theorem dX2_crosses_13 : decode cX2_crosses 13 = .ok (.iconst 0, 1) := by decide +kernel
theorem dX2_crosses_14 : decode cX2_crosses 14 = .ok (.iconst 0, 1) := by decide +kernel
theorem dX2_crosses_15 : decode cX2_crosses 15 = .ok (.invokevirtual 296, 3) := by decide +kernel
theorem dX2_crosses_18 : decode cX2_crosses 18 = .ok (.ifCond .ne 5, 3) := by decide +kernel
theorem dX2_crosses_21 : decode cX2_crosses 21 = .ok (.iconst 0, 1) := by decide +kernel
theorem dX2_crosses_22 : decode cX2_crosses 22 = .ok (.ireturn, 1) := by decide +kernel
theorem dX2_crosses_23 : decode cX2_crosses 23 = .ok (.iload_n 1, 1) := by decide +kernel
theorem dX2_crosses_24 : decode cX2_crosses 24 = .ok (.iload_n 2, 1) := by decide +kernel
theorem dX2_crosses_25 : decode cX2_crosses 25 = .ok (.if_icmp .ge 12, 3) := by decide +kernel
theorem dX2_crosses_28 : decode cX2_crosses 28 = .ok (.aload_n 0, 1) := by decide +kernel
theorem dX2_crosses_29 : decode cX2_crosses 29 = .ok (.iconst 0, 1) := by decide +kernel
theorem dX2_crosses_30 : decode cX2_crosses 30 = .ok (.iconst 2, 1) := by decide +kernel
theorem dX2_crosses_31 : decode cX2_crosses 31 = .ok (.invokevirtual 296, 3) := by decide +kernel
theorem dX2_crosses_34 : decode cX2_crosses 34 = .ok (.goto 36, 3) := by decide +kernel
theorem dX2_crosses_37 : decode cX2_crosses 37 = .ok (.iload_n 1, 1) := by decide +kernel
theorem dX2_crosses_38 : decode cX2_crosses 38 = .ok (.iload_n 2, 1) := by decide +kernel
theorem dX2_crosses_39 : decode cX2_crosses 39 = .ok (.if_icmp .le 12, 3) := by decide +kernel
theorem dX2_crosses_42 : decode cX2_crosses 42 = .ok (.aload_n 0, 1) := by decide +kernel
theorem dX2_crosses_43 : decode cX2_crosses 43 = .ok (.iconst 2, 1) := by decide +kernel
theorem dX2_crosses_44 : decode cX2_crosses 44 = .ok (.iconst 0, 1) := by decide +kernel
theorem dX2_crosses_45 : decode cX2_crosses 45 = .ok (.invokevirtual 296, 3) := by decide +kernel
theorem dX2_crosses_48 : decode cX2_crosses 48 = .ok (.goto 22, 3) := by decide +kernel
theorem dX2_crosses_51 : decode cX2_crosses 51 = .ok (.iload_n 1, 1) := by decide +kernel
theorem dX2_crosses_52 : decode cX2_crosses 52 = .ok (.iconst 1, 1) := by decide +kernel
theorem dX2_crosses_53 : decode cX2_crosses 53 = .ok (.if_icmp .ne 16, 3) := by decide +kernel
theorem dX2_crosses_56 : decode cX2_crosses 56 = .ok (.aload_n 0, 1) := by decide +kernel
theorem dX2_crosses_57 : decode cX2_crosses 57 = .ok (.iconst 0, 1) := by decide +kernel
theorem dX2_crosses_58 : decode cX2_crosses 58 = .ok (.iconst 0, 1) := by decide +kernel
theorem dX2_crosses_59 : decode cX2_crosses 59 = .ok (.invokevirtual 293, 3) := by decide +kernel
theorem dX2_crosses_62 : decode cX2_crosses 62 = .ok (.ifCond .ne 7, 3) := by decide +kernel
theorem dX2_crosses_65 : decode cX2_crosses 65 = .ok (.iconst 1, 1) := by decide +kernel
theorem dX2_crosses_66 : decode cX2_crosses 66 = .ok (.goto 4, 3) := by decide +kernel
theorem dX2_crosses_69 : decode cX2_crosses 69 = .ok (.iconst 0, 1) := by decide +kernel
theorem dX2_crosses_70 : decode cX2_crosses 70 = .ok (.ireturn, 1) := by decide +kernel
abbrev cX2_overlaps : ByteArray := prog_6_method_30_code
def yX2_overlaps : MethodName := ⟨RX2, "overlaps", "()Z"⟩
theorem dX2_overlaps_0 : decode cX2_overlaps 0 = .ok (.aload_n 0, 1) := by decide +kernel
theorem dX2_overlaps_1 : decode cX2_overlaps 1 = .ok (.iconst 0, 1) := by decide +kernel
theorem dX2_overlaps_2 : decode cX2_overlaps 2 = .ok (.invokevirtual 299, 3) := by decide +kernel
theorem dX2_overlaps_5 : decode cX2_overlaps 5 = .ok (.istore_n 1, 1) := by decide +kernel
theorem dX2_overlaps_6 : decode cX2_overlaps 6 = .ok (.iload_n 1, 1) := by decide +kernel
theorem dX2_overlaps_7 : decode cX2_overlaps 7 = .ok (.aload_n 0, 1) := by decide +kernel
theorem dX2_overlaps_8 : decode cX2_overlaps 8 = .ok (.iconst 1, 1) := by decide +kernel
theorem dX2_overlaps_9 : decode cX2_overlaps 9 = .ok (.invokevirtual 299, 3) := by decide +kernel
theorem dX2_overlaps_12 : decode cX2_overlaps 12 = .ok (.if_icmp .ne 39, 3) := by decide +kernel
theorem dX2_overlaps_15 : decode cX2_overlaps 15 = .ok (.iload_n 1, 1) := by decide +kernel
theorem dX2_overlaps_16 : decode cX2_overlaps 16 = .ok (.ifCond .lt 35, 3) := by decide +kernel
theorem dX2_overlaps_19 : decode cX2_overlaps 19 = .ok (.aload_n 0, 1) := by decide +kernel
theorem dX2_overlaps_20 : decode cX2_overlaps 20 = .ok (.iconst 0, 1) := by decide +kernel
theorem dX2_overlaps_21 : decode cX2_overlaps 21 = .ok (.iconst 0, 1) := by decide +kernel
theorem dX2_overlaps_22 : decode cX2_overlaps 22 = .ok (.invokevirtual 293, 3) := by decide +kernel
theorem dX2_overlaps_25 : decode cX2_overlaps 25 = .ok (.iload_n 1, 1) := by decide +kernel
theorem dX2_overlaps_26 : decode cX2_overlaps 26 = .ok (.if_icmp .ne 25, 3) := by decide +kernel
theorem dX2_overlaps_29 : decode cX2_overlaps 29 = .ok (.aload_n 0, 1) := by decide +kernel
theorem dX2_overlaps_30 : decode cX2_overlaps 30 = .ok (.iconst 0, 1) := by decide +kernel
theorem dX2_overlaps_31 : decode cX2_overlaps 31 = .ok (.iconst 2, 1) := by decide +kernel
theorem dX2_overlaps_32 : decode cX2_overlaps 32 = .ok (.invokevirtual 296, 3) := by decide +kernel
theorem dX2_overlaps_35 : decode cX2_overlaps 35 = .ok (.ifCond .eq 16, 3) := by decide +kernel
theorem dX2_overlaps_38 : decode cX2_overlaps 38 = .ok (.aload_n 0, 1) := by decide +kernel
theorem dX2_overlaps_39 : decode cX2_overlaps 39 = .ok (.iconst 2, 1) := by decide +kernel
theorem dX2_overlaps_40 : decode cX2_overlaps 40 = .ok (.iconst 0, 1) := by decide +kernel
theorem dX2_overlaps_41 : decode cX2_overlaps 41 = .ok (.invokevirtual 296, 3) := by decide +kernel
theorem dX2_overlaps_44 : decode cX2_overlaps 44 = .ok (.ifCond .eq 7, 3) := by decide +kernel
theorem dX2_overlaps_47 : decode cX2_overlaps 47 = .ok (.iconst 1, 1) := by decide +kernel
theorem dX2_overlaps_48 : decode cX2_overlaps 48 = .ok (.goto 4, 3) := by decide +kernel
theorem dX2_overlaps_51 : decode cX2_overlaps 51 = .ok (.iconst 0, 1) := by decide +kernel
theorem dX2_overlaps_52 : decode cX2_overlaps 52 = .ok (.ireturn, 1) := by decide +kernel
abbrev cX2_dimension : ByteArray := prog_6_method_32_code
def yX2_dimension : MethodName := ⟨RX2, "dimension", "(I)I"⟩
theorem dX2_dimension_0 : decode cX2_dimension 0 = .ok (.aload_n 0, 1) := by decide +kernel
theorem dX2_dimension_1 : decode cX2_dimension 1 = .ok (.invokevirtual 310, 3) := by decide +kernel
theorem dX2_dimension_4 : decode cX2_dimension 4 = .ok (.iconst (-1), 1) := by decide +kernel
theorem dX2_dimension_5 : decode cX2_dimension 5 = .ok (.istore_n 2, 1) := by decide +kernel
theorem dX2_dimension_6 : decode cX2_dimension 6 = .ok (.iconst 0, 1) := by decide +kernel
theorem dX2_dimension_7 : decode cX2_dimension 7 = .ok (.istore_n 3, 1) := by decide +kernel
theorem dX2_dimension_8 : decode cX2_dimension 8 = .ok (.iload_n 3, 1) := by decide +kernel
theorem dX2_dimension_9 : decode cX2_dimension 9 = .ok (.iconst 3, 1) := by decide +kernel
theorem dX2_dimension_10 : decode cX2_dimension 10 = .ok (.if_icmp .ge 51, 3) := by decide +kernel
theorem dX2_dimension_13 : decode cX2_dimension 13 = .ok (.iload_n 2, 1) := by decide +kernel
theorem dX2_dimension_14 : decode cX2_dimension 14 = .ok (.iload_n 1, 1) := by decide +kernel
theorem dX2_dimension_15 : decode cX2_dimension 15 = .ok (.ifCond .ne 21, 3) := by decide +kernel
theorem dX2_dimension_18 : decode cX2_dimension 18 = .ok (.aload_n 0, 1) := by decide +kernel
theorem dX2_dimension_19 : decode cX2_dimension 19 = .ok (.iconst 0, 1) := by decide +kernel
theorem dX2_dimension_20 : decode cX2_dimension 20 = .ok (.iload_n 3, 1) := by decide +kernel
theorem dX2_dimension_21 : decode cX2_dimension 21 = .ok (.invokevirtual 293, 3) := by decide +kernel
theorem dX2_dimension_24 : decode cX2_dimension 24 = .ok (.aload_n 0, 1) := by decide +kernel
theorem dX2_dimension_25 : decode cX2_dimension 25 = .ok (.iconst 1, 1) := by decide +kernel
theorem dX2_dimension_26 : decode cX2_dimension 26 = .ok (.iload_n 3, 1) := by decide +kernel
theorem dX2_dimension_27 : decode cX2_dimension 27 = .ok (.invokevirtual 293, 3) := by decide +kernel
theorem dX2_dimension_30 : decode cX2_dimension 30 = .ok (.invokestatic 120, 3) := by decide +kernel
theorem dX2_dimension_33 : decode cX2_dimension 33 = .ok (.goto 18, 3) := by decide +kernel
theorem dX2_dimension_36 : decode cX2_dimension 36 = .ok (.aload_n 0, 1) := by decide +kernel
theorem dX2_dimension_37 : decode cX2_dimension 37 = .ok (.iload_n 3, 1) := by decide +kernel
theorem dX2_dimension_38 : decode cX2_dimension 38 = .ok (.iconst 0, 1) := by decide +kernel
theorem dX2_dimension_39 : decode cX2_dimension 39 = .ok (.invokevirtual 293, 3) := by decide +kernel
theorem dX2_dimension_42 : decode cX2_dimension 42 = .ok (.aload_n 0, 1) := by decide +kernel
theorem dX2_dimension_43 : decode cX2_dimension 43 = .ok (.iload_n 3, 1) := by decide +kernel
theorem dX2_dimension_44 : decode cX2_dimension 44 = .ok (.iconst 1, 1) := by decide +kernel
theorem dX2_dimension_45 : decode cX2_dimension 45 = .ok (.invokevirtual 293, 3) := by decide +kernel
theorem dX2_dimension_48 : decode cX2_dimension 48 = .ok (.invokestatic 120, 3) := by decide +kernel
theorem dX2_dimension_51 : decode cX2_dimension 51 = .ok (.invokestatic 120, 3) := by decide +kernel
theorem dX2_dimension_54 : decode cX2_dimension 54 = .ok (.istore_n 2, 1) := by decide +kernel
theorem dX2_dimension_55 : decode cX2_dimension 55 = .ok (.iinc 3 1, 3) := by decide +kernel
theorem dX2_dimension_58 : decode cX2_dimension 58 = .ok (.goto (-50), 3) := by decide +kernel
theorem dX2_dimension_61 : decode cX2_dimension 61 = .ok (.iload_n 2, 1) := by decide +kernel
theorem dX2_dimension_62 : decode cX2_dimension 62 = .ok (.ireturn, 1) := by decide +kernel
theorem q72 : (Jvm.Cond.initialized "ShapeRelator$Relator") ∈ lw_all := lw_g (lw_at lw_m1 2 rfl) rfl
theorem q101 : (Jvm.Cond.instantiable "ShapeRelator$Relator" (14 : Nat)) ∈ lw_all := lw_g (lw_at lw_m1 31 rfl) rfl
theorem q103 : (Jvm.Cond.instanceMethod ({ cls := "ShapeRelator$Relator", name := "<init>", desc := "()V" } : Jvm.MethodName)) ∈ lw_all := lw_g (lw_at lw_m1 33 rfl) rfl
theorem q104 : (Jvm.Cond.code ({ cls := "ShapeRelator$Relator", name := "<init>", desc := "()V" } : Jvm.MethodName) prog_6_method_1_code (2 : Nat) (Option.none : Option Jvm.ClassFile.FieldType)) ∈ lw_all := lw_g (lw_at lw_m1 34 rfl) rfl
theorem q105 : (Jvm.Cond.methodLink "ShapeRelator$Relator" (3 : Nat) ({ cls := "java/lang/Object", name := "<init>", desc := "()V" } : Jvm.MethodName)) ∈ lw_all := lw_g (lw_at lw_m1 35 rfl) rfl
theorem q106 : (Jvm.Cond.classLink "ShapeRelator$Relator" (9 : Nat) "ShapeRelator$Outline") ∈ lw_all := lw_g (lw_at lw_m1 36 rfl) rfl
theorem q109 : (Jvm.Cond.methodLinkNest "ShapeRelator$Relator" (11 : Nat) ({ cls := "ShapeRelator$Outline", name := "<init>", desc := "()V" } : Jvm.MethodName) "ShapeRelator") ∈ lw_tbl := lw_at lw_m1 39 rfl
theorem q115 : (Jvm.Cond.fieldLinkNest "ShapeRelator$Relator" (92 : Nat) "ShapeRelator$Outline" "kind" "I" "ShapeRelator") ∈ lw_tbl := lw_at lw_m1 45 rfl
theorem q124 : (Jvm.Cond.fieldLinkNest "ShapeRelator$Relator" (291 : Nat) "ShapeRelator$Outline" "x" "[I" "ShapeRelator") ∈ lw_tbl := lw_at lw_m1 54 rfl
theorem q127 : (Jvm.Cond.fieldLinkNest "ShapeRelator$Relator" (292 : Nat) "ShapeRelator$Outline" "y" "[I" "ShapeRelator") ∈ lw_tbl := lw_at lw_m1 57 rfl
theorem q129 : (Jvm.Cond.fieldLinkNest "ShapeRelator$Relator" (84 : Nat) "ShapeRelator$Outline" "points" "I" "ShapeRelator") ∈ lw_tbl := lw_at lw_m1 59 rfl
theorem q145 : (Jvm.Cond.classLink "ShapeRelator$Relator" (18 : Nat) "ShapeRelator$Segments") ∈ lw_all := lw_g (lw_at lw_m1 75 rfl) rfl
theorem q147 : (Jvm.Cond.methodLinkNest "ShapeRelator$Relator" (20 : Nat) ({ cls := "ShapeRelator$Segments", name := "<init>", desc := "()V" } : Jvm.MethodName) "ShapeRelator") ∈ lw_tbl := lw_at lw_m1 77 rfl
theorem q152 : (Jvm.Cond.fieldLinkNest "ShapeRelator$Relator" (182 : Nat) "ShapeRelator$Segments" "x" "[I" "ShapeRelator") ∈ lw_tbl := lw_at lw_m1 82 rfl
theorem q154 : (Jvm.Cond.fieldLinkNest "ShapeRelator$Relator" (185 : Nat) "ShapeRelator$Segments" "y" "[I" "ShapeRelator") ∈ lw_tbl := lw_at lw_m1 84 rfl
theorem q156 : (Jvm.Cond.fieldLinkNest "ShapeRelator$Relator" (196 : Nat) "ShapeRelator$Segments" "toX" "[I" "ShapeRelator") ∈ lw_tbl := lw_at lw_m1 86 rfl
theorem q158 : (Jvm.Cond.fieldLinkNest "ShapeRelator$Relator" (199 : Nat) "ShapeRelator$Segments" "toY" "[I" "ShapeRelator") ∈ lw_tbl := lw_at lw_m1 88 rfl
theorem q160 : (Jvm.Cond.fieldLinkNest "ShapeRelator$Relator" (273 : Nat) "ShapeRelator$Segments" "size" "I" "ShapeRelator") ∈ lw_tbl := lw_at lw_m1 90 rfl
theorem q162 : (Jvm.Cond.fieldLinkNest "ShapeRelator$Relator" (202 : Nat) "ShapeRelator$Segments" "ofFirst" "I" "ShapeRelator") ∈ lw_tbl := lw_at lw_m1 92 rfl
theorem q176 : (Jvm.Cond.classLink "ShapeRelator$Relator" (25 : Nat) "ShapeRelator$Bounds") ∈ lw_all := lw_g (lw_at lw_m1 106 rfl) rfl
theorem q178 : (Jvm.Cond.methodLinkNest "ShapeRelator$Relator" (27 : Nat) ({ cls := "ShapeRelator$Bounds", name := "<init>", desc := "()V" } : Jvm.MethodName) "ShapeRelator") ∈ lw_tbl := lw_at lw_m1 108 rfl
theorem q183 : (Jvm.Cond.fieldLinkNest "ShapeRelator$Relator" (143 : Nat) "ShapeRelator$Bounds" "lowX" "[I" "ShapeRelator") ∈ lw_tbl := lw_at lw_m1 113 rfl
theorem q185 : (Jvm.Cond.fieldLinkNest "ShapeRelator$Relator" (146 : Nat) "ShapeRelator$Bounds" "lowY" "[I" "ShapeRelator") ∈ lw_tbl := lw_at lw_m1 115 rfl
theorem q187 : (Jvm.Cond.fieldLinkNest "ShapeRelator$Relator" (149 : Nat) "ShapeRelator$Bounds" "highX" "[I" "ShapeRelator") ∈ lw_tbl := lw_at lw_m1 117 rfl
theorem q189 : (Jvm.Cond.fieldLinkNest "ShapeRelator$Relator" (152 : Nat) "ShapeRelator$Bounds" "highY" "[I" "ShapeRelator") ∈ lw_tbl := lw_at lw_m1 119 rfl
theorem q199 : (Jvm.Cond.classLink "ShapeRelator$Relator" (36 : Nat) "ShapeRelator$Tree") ∈ lw_all := lw_g (lw_at lw_m1 129 rfl) rfl
theorem q201 : (Jvm.Cond.methodLinkNest "ShapeRelator$Relator" (38 : Nat) ({ cls := "ShapeRelator$Tree", name := "<init>", desc := "()V" } : Jvm.MethodName) "ShapeRelator") ∈ lw_tbl := lw_at lw_m1 131 rfl
theorem q224 : (Jvm.Cond.fieldLinkNest "ShapeRelator$Relator" (169 : Nat) "ShapeRelator$Tree" "order" "[I" "ShapeRelator") ∈ lw_tbl := lw_at lw_m1 154 rfl
theorem q226 : (Jvm.Cond.fieldLinkNest "ShapeRelator$Relator" (159 : Nat) "ShapeRelator$Tree" "from" "[I" "ShapeRelator") ∈ lw_tbl := lw_at lw_m1 156 rfl
theorem q228 : (Jvm.Cond.fieldLinkNest "ShapeRelator$Relator" (162 : Nat) "ShapeRelator$Tree" "to" "[I" "ShapeRelator") ∈ lw_tbl := lw_at lw_m1 158 rfl
theorem q233 : (Jvm.Cond.fieldLinkNest "ShapeRelator$Relator" (140 : Nat) "ShapeRelator$Tree" "pile" "[I" "ShapeRelator") ∈ lw_tbl := lw_at lw_m1 163 rfl
theorem q253 : (Jvm.Cond.classLink "ShapeRelator$Relator" (43 : Nat) "ShapeRelator$Events") ∈ lw_all := lw_g (lw_at lw_m1 183 rfl) rfl
theorem q255 : (Jvm.Cond.methodLinkNest "ShapeRelator$Relator" (45 : Nat) ({ cls := "ShapeRelator$Events", name := "<init>", desc := "()V" } : Jvm.MethodName) "ShapeRelator") ∈ lw_tbl := lw_at lw_m1 185 rfl
theorem q262 : (Jvm.Cond.fieldLinkNest "ShapeRelator$Relator" (260 : Nat) "ShapeRelator$Events" "whats" "[I" "ShapeRelator") ∈ lw_tbl := lw_at lw_m1 192 rfl
theorem q264 : (Jvm.Cond.fieldLinkNest "ShapeRelator$Relator" (263 : Nat) "ShapeRelator$Events" "x" "[I" "ShapeRelator") ∈ lw_tbl := lw_at lw_m1 194 rfl
theorem q266 : (Jvm.Cond.fieldLinkNest "ShapeRelator$Relator" (264 : Nat) "ShapeRelator$Events" "y" "[I" "ShapeRelator") ∈ lw_tbl := lw_at lw_m1 196 rfl
theorem q268 : (Jvm.Cond.fieldLinkNest "ShapeRelator$Relator" (256 : Nat) "ShapeRelator$Events" "order" "[I" "ShapeRelator") ∈ lw_tbl := lw_at lw_m1 198 rfl
theorem q270 : (Jvm.Cond.fieldLinkNest "ShapeRelator$Relator" (253 : Nat) "ShapeRelator$Events" "size" "I" "ShapeRelator") ∈ lw_tbl := lw_at lw_m1 200 rfl
theorem q286 : (Jvm.Cond.classLink "ShapeRelator$Relator" (50 : Nat) "ShapeRelator$Step") ∈ lw_all := lw_g (lw_at lw_m1 216 rfl) rfl
theorem q288 : (Jvm.Cond.methodLinkNest "ShapeRelator$Relator" (52 : Nat) ({ cls := "ShapeRelator$Step", name := "<init>", desc := "()V" } : Jvm.MethodName) "ShapeRelator") ∈ lw_tbl := lw_at lw_m1 218 rfl
theorem q315 : (Jvm.Cond.fieldLink "ShapeRelator$Relator" (12 : Nat) "ShapeRelator$Relator" "shapes" "[LShapeRelator$Outline;") ∈ lw_all := lw_g (lw_at lw_m2 5 rfl) rfl
theorem q316 : (Jvm.Cond.fieldLink "ShapeRelator$Relator" (21 : Nat) "ShapeRelator$Relator" "segments" "LShapeRelator$Segments;") ∈ lw_all := lw_g (lw_at lw_m2 6 rfl) rfl
theorem q317 : (Jvm.Cond.fieldLink "ShapeRelator$Relator" (73 : Nat) "ShapeRelator$Relator" "isTaken" "Z") ∈ lw_all := lw_g (lw_at lw_m2 7 rfl) rfl
theorem q318 : (Jvm.Cond.fieldLink "ShapeRelator$Relator" (28 : Nat) "ShapeRelator$Relator" "boxes" "LShapeRelator$Bounds;") ∈ lw_all := lw_g (lw_at lw_m2 8 rfl) rfl
theorem q319 : (Jvm.Cond.fieldLink "ShapeRelator$Relator" (32 : Nat) "ShapeRelator$Relator" "there" "[Z") ∈ lw_all := lw_g (lw_at lw_m2 9 rfl) rfl
theorem q320 : (Jvm.Cond.fieldLink "ShapeRelator$Relator" (39 : Nat) "ShapeRelator$Relator" "tree" "LShapeRelator$Tree;") ∈ lw_all := lw_g (lw_at lw_m2 10 rfl) rfl
theorem q321 : (Jvm.Cond.fieldLink "ShapeRelator$Relator" (46 : Nat) "ShapeRelator$Relator" "events" "LShapeRelator$Events;") ∈ lw_all := lw_g (lw_at lw_m2 11 rfl) rfl
theorem q322 : (Jvm.Cond.fieldLink "ShapeRelator$Relator" (53 : Nat) "ShapeRelator$Relator" "step" "LShapeRelator$Step;") ∈ lw_all := lw_g (lw_at lw_m2 12 rfl) rfl
theorem q323 : (Jvm.Cond.fieldLink "ShapeRelator$Relator" (57 : Nat) "ShapeRelator$Relator" "matrix" "[I") ∈ lw_all := lw_g (lw_at lw_m2 13 rfl) rfl
theorem q324 : (Jvm.Cond.fieldLink "ShapeRelator$Relator" (77 : Nat) "ShapeRelator$Relator" "isRelated" "Z") ∈ lw_all := lw_g (lw_at lw_m2 14 rfl) rfl
theorem q325 : (Jvm.Cond.fieldLink "ShapeRelator$Relator" (61 : Nat) "ShapeRelator$Relator" "where" "[I") ∈ lw_all := lw_g (lw_at lw_m2 15 rfl) rfl
theorem q326 : (Jvm.Cond.fieldLink "ShapeRelator$Relator" (64 : Nat) "ShapeRelator$Relator" "left" "[Z") ∈ lw_all := lw_g (lw_at lw_m2 16 rfl) rfl
theorem q327 : (Jvm.Cond.fieldLink "ShapeRelator$Relator" (67 : Nat) "ShapeRelator$Relator" "right" "[Z") ∈ lw_all := lw_g (lw_at lw_m2 17 rfl) rfl
theorem q328 : (Jvm.Cond.fieldLink "ShapeRelator$Relator" (70 : Nat) "ShapeRelator$Relator" "times" "[I") ∈ lw_all := lw_g (lw_at lw_m2 18 rfl) rfl
theorem q329 : (Jvm.Cond.laysFinal "ShapeRelator$Relator" "ShapeRelator$Relator" "shapes" "[LShapeRelator$Outline;") ∈ lw_all := lw_g (lw_at lw_m2 19 rfl) rfl
theorem q330 : (Jvm.Cond.soleField "ShapeRelator$Relator" "shapes") ∈ lw_all := lw_g (lw_at lw_m2 20 rfl) rfl
theorem q331 : (Jvm.Cond.laysFinal "ShapeRelator$Relator" "ShapeRelator$Relator" "segments" "LShapeRelator$Segments;") ∈ lw_all := lw_g (lw_at lw_m2 21 rfl) rfl
theorem q332 : (Jvm.Cond.soleField "ShapeRelator$Relator" "segments") ∈ lw_all := lw_g (lw_at lw_m2 22 rfl) rfl
theorem q333 : (Jvm.Cond.lays "ShapeRelator$Relator" "ShapeRelator$Relator" "isTaken" "Z") ∈ lw_all := lw_g (lw_at lw_m2 23 rfl) rfl
theorem q334 : (Jvm.Cond.soleField "ShapeRelator$Relator" "isTaken") ∈ lw_all := lw_g (lw_at lw_m2 24 rfl) rfl
theorem q335 : (Jvm.Cond.laysFinal "ShapeRelator$Relator" "ShapeRelator$Relator" "boxes" "LShapeRelator$Bounds;") ∈ lw_all := lw_g (lw_at lw_m2 25 rfl) rfl
theorem q336 : (Jvm.Cond.soleField "ShapeRelator$Relator" "boxes") ∈ lw_all := lw_g (lw_at lw_m2 26 rfl) rfl
theorem q337 : (Jvm.Cond.laysFinal "ShapeRelator$Relator" "ShapeRelator$Relator" "there" "[Z") ∈ lw_all := lw_g (lw_at lw_m2 27 rfl) rfl
theorem q338 : (Jvm.Cond.soleField "ShapeRelator$Relator" "there") ∈ lw_all := lw_g (lw_at lw_m2 28 rfl) rfl
theorem q339 : (Jvm.Cond.laysFinal "ShapeRelator$Relator" "ShapeRelator$Relator" "tree" "LShapeRelator$Tree;") ∈ lw_all := lw_g (lw_at lw_m2 29 rfl) rfl
theorem q340 : (Jvm.Cond.soleField "ShapeRelator$Relator" "tree") ∈ lw_all := lw_g (lw_at lw_m2 30 rfl) rfl
theorem q341 : (Jvm.Cond.laysFinal "ShapeRelator$Relator" "ShapeRelator$Relator" "events" "LShapeRelator$Events;") ∈ lw_all := lw_g (lw_at lw_m2 31 rfl) rfl
theorem q342 : (Jvm.Cond.soleField "ShapeRelator$Relator" "events") ∈ lw_all := lw_g (lw_at lw_m2 32 rfl) rfl
theorem q343 : (Jvm.Cond.laysFinal "ShapeRelator$Relator" "ShapeRelator$Relator" "step" "LShapeRelator$Step;") ∈ lw_all := lw_g (lw_at lw_m2 33 rfl) rfl
theorem q344 : (Jvm.Cond.soleField "ShapeRelator$Relator" "step") ∈ lw_all := lw_g (lw_at lw_m2 34 rfl) rfl
theorem q345 : (Jvm.Cond.laysFinal "ShapeRelator$Relator" "ShapeRelator$Relator" "matrix" "[I") ∈ lw_all := lw_g (lw_at lw_m2 35 rfl) rfl
theorem q346 : (Jvm.Cond.soleField "ShapeRelator$Relator" "matrix") ∈ lw_all := lw_g (lw_at lw_m2 36 rfl) rfl
theorem q347 : (Jvm.Cond.lays "ShapeRelator$Relator" "ShapeRelator$Relator" "isRelated" "Z") ∈ lw_all := lw_g (lw_at lw_m2 37 rfl) rfl
theorem q348 : (Jvm.Cond.soleField "ShapeRelator$Relator" "isRelated") ∈ lw_all := lw_g (lw_at lw_m2 38 rfl) rfl
theorem q349 : (Jvm.Cond.laysFinal "ShapeRelator$Relator" "ShapeRelator$Relator" "where" "[I") ∈ lw_all := lw_g (lw_at lw_m2 39 rfl) rfl
theorem q350 : (Jvm.Cond.soleField "ShapeRelator$Relator" "where") ∈ lw_all := lw_g (lw_at lw_m2 40 rfl) rfl
theorem q351 : (Jvm.Cond.laysFinal "ShapeRelator$Relator" "ShapeRelator$Relator" "left" "[Z") ∈ lw_all := lw_g (lw_at lw_m2 41 rfl) rfl
theorem q352 : (Jvm.Cond.soleField "ShapeRelator$Relator" "left") ∈ lw_all := lw_g (lw_at lw_m2 42 rfl) rfl
theorem q353 : (Jvm.Cond.laysFinal "ShapeRelator$Relator" "ShapeRelator$Relator" "right" "[Z") ∈ lw_all := lw_g (lw_at lw_m2 43 rfl) rfl
theorem q354 : (Jvm.Cond.soleField "ShapeRelator$Relator" "right") ∈ lw_all := lw_g (lw_at lw_m2 44 rfl) rfl
theorem q355 : (Jvm.Cond.laysFinal "ShapeRelator$Relator" "ShapeRelator$Relator" "times" "[I") ∈ lw_all := lw_g (lw_at lw_m2 45 rfl) rfl
theorem q356 : (Jvm.Cond.soleField "ShapeRelator$Relator" "times") ∈ lw_all := lw_g (lw_at lw_m2 46 rfl) rfl
theorem q357 : (Jvm.Cond.superclass "ShapeRelator$Relator" "java/lang/Object") ∈ lw_all := lw_g (lw_at lw_m2 47 rfl) rfl
theorem q367 : (Jvm.Cond.instanceMethod ({ cls := "ShapeRelator$Relator", name := "compute", desc := "()V" } : Jvm.MethodName)) ∈ lw_all := lw_g (lw_at lw_m2 57 rfl) rfl
theorem q368 : (Jvm.Cond.selects "ShapeRelator$Relator" ({ cls := "ShapeRelator$Relator", name := "compute", desc := "()V" } : Jvm.MethodName) ({ cls := "ShapeRelator$Relator", name := "compute", desc := "()V" } : Jvm.MethodName)) ∈ lw_all := lw_g (lw_at lw_m2 58 rfl) rfl
theorem q369 : (Jvm.Cond.code ({ cls := "ShapeRelator$Relator", name := "compute", desc := "()V" } : Jvm.MethodName) prog_6_method_21_code (2 : Nat) (Option.none : Option Jvm.ClassFile.FieldType)) ∈ lw_all := lw_g (lw_at lw_m2 59 rfl) rfl
theorem q370 : (Jvm.Cond.methodLink "ShapeRelator$Relator" (114 : Nat) ({ cls := "ShapeRelator$Relator", name := "take", desc := "()V" } : Jvm.MethodName)) ∈ lw_all := lw_g (lw_at lw_m2 60 rfl) rfl
theorem q371 : (Jvm.Cond.privateMethod ({ cls := "ShapeRelator$Relator", name := "take", desc := "()V" } : Jvm.MethodName)) ∈ lw_tbl := lw_at lw_m2 61 rfl
theorem q372 : (Jvm.Cond.instanceMethod ({ cls := "ShapeRelator$Relator", name := "take", desc := "()V" } : Jvm.MethodName)) ∈ lw_all := lw_g (lw_at lw_m2 62 rfl) rfl
theorem q373 : (Jvm.Cond.code ({ cls := "ShapeRelator$Relator", name := "take", desc := "()V" } : Jvm.MethodName) prog_6_method_4_code (1 : Nat) (Option.none : Option Jvm.ClassFile.FieldType)) ∈ lw_all := lw_g (lw_at lw_m2 63 rfl) rfl
theorem q374 : (Jvm.Cond.methodLink "ShapeRelator$Relator" (80 : Nat) ({ cls := "ShapeRelator$Segments", name := "take", desc := "(LShapeRelator$Outline;LShapeRelator$Outline;)V" } : Jvm.MethodName)) ∈ lw_all := lw_g (lw_at lw_m2 64 rfl) rfl
theorem q400 : (Jvm.Cond.methodLink "ShapeRelator$Relator" (274 : Nat) ({ cls := "java/lang/Math", name := "min", desc := "(II)I" } : Jvm.MethodName)) ∈ lw_all := lw_g (lw_at lw_m2 90 rfl) rfl
theorem q403 : (Jvm.Cond.methodLink "ShapeRelator$Relator" (120 : Nat) ({ cls := "java/lang/Math", name := "max", desc := "(II)I" } : Jvm.MethodName)) ∈ lw_all := lw_g (lw_at lw_m2 93 rfl) rfl
theorem q406 : (Jvm.Cond.methodLink "ShapeRelator$Relator" (277 : Nat) ({ cls := "ShapeRelator$Bounds", name := "set", desc := "(IIIII)V" } : Jvm.MethodName)) ∈ lw_all := lw_g (lw_at lw_m2 96 rfl) rfl
theorem q419 : (Jvm.Cond.methodLink "ShapeRelator$Relator" (280 : Nat) ({ cls := "ShapeRelator$Tree", name := "build", desc := "(LShapeRelator$Bounds;[ZI)V" } : Jvm.MethodName)) ∈ lw_all := lw_g (lw_at lw_m2 109 rfl) rfl
theorem q480 : (Jvm.Cond.methodLink "ShapeRelator$Relator" (284 : Nat) ({ cls := "ShapeRelator$Relator", name := "walk", desc := "(I)V" } : Jvm.MethodName)) ∈ lw_all := lw_g (lw_at lw_m2 170 rfl) rfl
theorem q481 : (Jvm.Cond.privateMethod ({ cls := "ShapeRelator$Relator", name := "walk", desc := "(I)V" } : Jvm.MethodName)) ∈ lw_tbl := lw_at lw_m2 171 rfl
theorem q482 : (Jvm.Cond.instanceMethod ({ cls := "ShapeRelator$Relator", name := "walk", desc := "(I)V" } : Jvm.MethodName)) ∈ lw_all := lw_g (lw_at lw_m2 172 rfl) rfl
theorem q483 : (Jvm.Cond.code ({ cls := "ShapeRelator$Relator", name := "walk", desc := "(I)V" } : Jvm.MethodName) prog_6_method_20_code (7 : Nat) (Option.none : Option Jvm.ClassFile.FieldType)) ∈ lw_all := lw_g (lw_at lw_m2 173 rfl) rfl
theorem q484 : (Jvm.Cond.methodLink "ShapeRelator$Relator" (244 : Nat) ({ cls := "ShapeRelator$Relator", name := "gather", desc := "(I)V" } : Jvm.MethodName)) ∈ lw_all := lw_g (lw_at lw_m2 174 rfl) rfl
theorem q485 : (Jvm.Cond.privateMethod ({ cls := "ShapeRelator$Relator", name := "gather", desc := "(I)V" } : Jvm.MethodName)) ∈ lw_tbl := lw_at lw_m2 175 rfl
theorem q486 : (Jvm.Cond.instanceMethod ({ cls := "ShapeRelator$Relator", name := "gather", desc := "(I)V" } : Jvm.MethodName)) ∈ lw_all := lw_g (lw_at lw_m2 176 rfl) rfl
theorem q487 : (Jvm.Cond.code ({ cls := "ShapeRelator$Relator", name := "gather", desc := "(I)V" } : Jvm.MethodName) prog_6_method_10_code (5 : Nat) (Option.none : Option Jvm.ClassFile.FieldType)) ∈ lw_all := lw_g (lw_at lw_m2 177 rfl) rfl
theorem q488 : (Jvm.Cond.methodLink "ShapeRelator$Relator" (129 : Nat) ({ cls := "ShapeRelator$Events", name := "clear", desc := "()V" } : Jvm.MethodName)) ∈ lw_all := lw_g (lw_at lw_m2 178 rfl) rfl
theorem q492 : (Jvm.Cond.methodLink "ShapeRelator$Relator" (132 : Nat) ({ cls := "ShapeRelator$Tree", name := "root", desc := "()I" } : Jvm.MethodName)) ∈ lw_all := lw_g (lw_at lw_m2 182 rfl) rfl
theorem q496 : (Jvm.Cond.methodLink "ShapeRelator$Relator" (136 : Nat) ({ cls := "ShapeRelator$Tree", name := "push", desc := "(II)V" } : Jvm.MethodName)) ∈ lw_all := lw_g (lw_at lw_m2 186 rfl) rfl
theorem q500 : (Jvm.Cond.methodLink "ShapeRelator$Relator" (155 : Nat) ({ cls := "ShapeRelator$Tree", name := "meets", desc := "(IIIII)Z" } : Jvm.MethodName)) ∈ lw_all := lw_g (lw_at lw_m2 190 rfl) rfl
theorem q506 : (Jvm.Cond.methodLink "ShapeRelator$Relator" (165 : Nat) ({ cls := "ShapeRelator$Tree", name := "isLeaf", desc := "(I)Z" } : Jvm.MethodName)) ∈ lw_all := lw_g (lw_at lw_m2 196 rfl) rfl
theorem q510 : (Jvm.Cond.methodLink "ShapeRelator$Relator" (172 : Nat) ({ cls := "ShapeRelator$Relator", name := "meet", desc := "(II)V" } : Jvm.MethodName)) ∈ lw_all := lw_g (lw_at lw_m2 200 rfl) rfl
theorem q511 : (Jvm.Cond.privateMethod ({ cls := "ShapeRelator$Relator", name := "meet", desc := "(II)V" } : Jvm.MethodName)) ∈ lw_tbl := lw_at lw_m2 201 rfl
theorem q512 : (Jvm.Cond.instanceMethod ({ cls := "ShapeRelator$Relator", name := "meet", desc := "(II)V" } : Jvm.MethodName)) ∈ lw_all := lw_g (lw_at lw_m2 202 rfl) rfl
theorem q513 : (Jvm.Cond.code ({ cls := "ShapeRelator$Relator", name := "meet", desc := "(II)V" } : Jvm.MethodName) prog_6_method_11_code (7 : Nat) (Option.none : Option Jvm.ClassFile.FieldType)) ∈ lw_all := lw_g (lw_at lw_m2 203 rfl) rfl
theorem q514 : (Jvm.Cond.methodLink "ShapeRelator$Relator" (178 : Nat) ({ cls := "ShapeRelator$Segments", name := "cross", desc := "(II)Z" } : Jvm.MethodName)) ∈ lw_all := lw_g (lw_at lw_m2 204 rfl) rfl
theorem q533 : (Jvm.Cond.methodLink "ShapeRelator$Relator" (188 : Nat) ({ cls := "ShapeRelator$Segments", name := "side", desc := "(III)J" } : Jvm.MethodName)) ∈ lw_all := lw_g (lw_at lw_m2 223 rfl) rfl
theorem q534 : (Jvm.Cond.methodLink "ShapeRelator$Relator" (192 : Nat) ({ cls := "java/lang/Math", name := "abs", desc := "(J)J" } : Jvm.MethodName)) ∈ lw_all := lw_g (lw_at lw_m2 224 rfl) rfl
theorem q537 : (Jvm.Cond.methodLink "ShapeRelator$Relator" (205 : Nat) ({ cls := "ShapeRelator$Events", name := "add", desc := "(JJIII)V" } : Jvm.MethodName)) ∈ lw_all := lw_g (lw_at lw_m2 227 rfl) rfl
theorem q550 : (Jvm.Cond.methodLink "ShapeRelator$Relator" (209 : Nat) ({ cls := "ShapeRelator$Relator", name := "meetPlace", desc := "(III)V" } : Jvm.MethodName)) ∈ lw_all := lw_g (lw_at lw_m3 0 rfl) rfl
theorem q551 : (Jvm.Cond.privateMethod ({ cls := "ShapeRelator$Relator", name := "meetPlace", desc := "(III)V" } : Jvm.MethodName)) ∈ lw_tbl := lw_at lw_m3 1 rfl
theorem q552 : (Jvm.Cond.instanceMethod ({ cls := "ShapeRelator$Relator", name := "meetPlace", desc := "(III)V" } : Jvm.MethodName)) ∈ lw_all := lw_g (lw_at lw_m3 2 rfl) rfl
theorem q553 : (Jvm.Cond.code ({ cls := "ShapeRelator$Relator", name := "meetPlace", desc := "(III)V" } : Jvm.MethodName) prog_6_method_12_code (9 : Nat) (Option.none : Option Jvm.ClassFile.FieldType)) ∈ lw_all := lw_g (lw_at lw_m3 3 rfl) rfl
theorem q554 : (Jvm.Cond.methodLink "ShapeRelator$Relator" (212 : Nat) ({ cls := "ShapeRelator$Segments", name := "isOn", desc := "(III)Z" } : Jvm.MethodName)) ∈ lw_all := lw_g (lw_at lw_m3 4 rfl) rfl
theorem q561 : (Jvm.Cond.methodLink "ShapeRelator$Relator" (215 : Nat) ({ cls := "ShapeRelator$Segments", name := "byX", desc := "(I)J" } : Jvm.MethodName)) ∈ lw_all := lw_g (lw_at lw_m3 11 rfl) rfl
theorem q562 : (Jvm.Cond.methodLink "ShapeRelator$Relator" (219 : Nat) ({ cls := "ShapeRelator$Segments", name := "byY", desc := "(I)J" } : Jvm.MethodName)) ∈ lw_all := lw_g (lw_at lw_m3 12 rfl) rfl
theorem q563 : (Jvm.Cond.methodLink "ShapeRelator$Relator" (175 : Nat) ({ cls := "ShapeRelator$Events", name := "sort", desc := "()V" } : Jvm.MethodName)) ∈ lw_all := lw_g (lw_at lw_m3 13 rfl) rfl
theorem q587 : (Jvm.Cond.methodLink "ShapeRelator$Relator" (247 : Nat) ({ cls := "ShapeRelator$Relator", name := "notePlace", desc := "(II)V" } : Jvm.MethodName)) ∈ lw_all := lw_g (lw_at lw_m3 37 rfl) rfl
theorem q588 : (Jvm.Cond.privateMethod ({ cls := "ShapeRelator$Relator", name := "notePlace", desc := "(II)V" } : Jvm.MethodName)) ∈ lw_tbl := lw_at lw_m3 38 rfl
theorem q589 : (Jvm.Cond.instanceMethod ({ cls := "ShapeRelator$Relator", name := "notePlace", desc := "(II)V" } : Jvm.MethodName)) ∈ lw_all := lw_g (lw_at lw_m3 39 rfl) rfl
theorem q590 : (Jvm.Cond.code ({ cls := "ShapeRelator$Relator", name := "notePlace", desc := "(II)V" } : Jvm.MethodName) prog_6_method_9_code (3 : Nat) (Option.none : Option Jvm.ClassFile.FieldType)) ∈ lw_all := lw_g (lw_at lw_m3 40 rfl) rfl
theorem q591 : (Jvm.Cond.methodLink "ShapeRelator$Relator" (116 : Nat) ({ cls := "ShapeRelator$Relator", name := "placeOf", desc := "(III)I" } : Jvm.MethodName)) ∈ lw_all := lw_g (lw_at lw_m3 41 rfl) rfl
theorem q592 : (Jvm.Cond.privateMethod ({ cls := "ShapeRelator$Relator", name := "placeOf", desc := "(III)I" } : Jvm.MethodName)) ∈ lw_tbl := lw_at lw_m3 42 rfl
theorem q593 : (Jvm.Cond.instanceMethod ({ cls := "ShapeRelator$Relator", name := "placeOf", desc := "(III)I" } : Jvm.MethodName)) ∈ lw_all := lw_g (lw_at lw_m3 43 rfl) rfl
theorem q594 : (Jvm.Cond.code ({ cls := "ShapeRelator$Relator", name := "placeOf", desc := "(III)I" } : Jvm.MethodName) prog_6_method_6_code (5 : Nat) (Option.some Jvm.ClassFile.FieldType.int)) ∈ lw_all := lw_g (lw_at lw_m3 44 rfl) rfl
theorem q595 : (Jvm.Cond.methodLink "ShapeRelator$Relator" (95 : Nat) ({ cls := "ShapeRelator$Relator", name := "isPoint", desc := "(LShapeRelator$Outline;II)Z" } : Jvm.MethodName)) ∈ lw_all := lw_g (lw_at lw_m3 45 rfl) rfl
theorem q596 : (Jvm.Cond.privateMethod ({ cls := "ShapeRelator$Relator", name := "isPoint", desc := "(LShapeRelator$Outline;II)Z" } : Jvm.MethodName)) ∈ lw_tbl := lw_at lw_m3 46 rfl
theorem q597 : (Jvm.Cond.instanceMethod ({ cls := "ShapeRelator$Relator", name := "isPoint", desc := "(LShapeRelator$Outline;II)Z" } : Jvm.MethodName)) ∈ lw_all := lw_g (lw_at lw_m3 47 rfl) rfl
theorem q598 : (Jvm.Cond.code ({ cls := "ShapeRelator$Relator", name := "isPoint", desc := "(LShapeRelator$Outline;II)Z" } : Jvm.MethodName) prog_6_method_5_code (5 : Nat) (Option.some Jvm.ClassFile.FieldType.boolean)) ∈ lw_all := lw_g (lw_at lw_m3 48 rfl) rfl
theorem q599 : (Jvm.Cond.methodLink "ShapeRelator$Relator" (88 : Nat) ({ cls := "ShapeRelator$Outline", name := "isAt", desc := "(III)Z" } : Jvm.MethodName)) ∈ lw_all := lw_g (lw_at lw_m3 49 rfl) rfl
theorem q600 : (Jvm.Cond.methodLink "ShapeRelator$Relator" (99 : Nat) ({ cls := "ShapeRelator$Outline", name := "ends", desc := "(II)I" } : Jvm.MethodName)) ∈ lw_all := lw_g (lw_at lw_m3 50 rfl) rfl
theorem q606 : (Jvm.Cond.methodLink "ShapeRelator$Relator" (103 : Nat) ({ cls := "ShapeRelator$Segments", name := "isOnAny", desc := "(III)Z" } : Jvm.MethodName)) ∈ lw_all := lw_g (lw_at lw_m3 56 rfl) rfl
theorem q619 : (Jvm.Cond.methodLink "ShapeRelator$Relator" (106 : Nat) ({ cls := "ShapeRelator$Step", name := "set", desc := "(IIJJ)V" } : Jvm.MethodName)) ∈ lw_all := lw_g (lw_at lw_m3 69 rfl) rfl
theorem q623 : (Jvm.Cond.methodLink "ShapeRelator$Relator" (110 : Nat) ({ cls := "ShapeRelator$Segments", name := "isOdd", desc := "(ILShapeRelator$Step;)Z" } : Jvm.MethodName)) ∈ lw_all := lw_g (lw_at lw_m3 73 rfl) rfl
theorem q638 : (Jvm.Cond.methodLink "ShapeRelator$Relator" (125 : Nat) ({ cls := "ShapeRelator$Relator", name := "note", desc := "(III)V" } : Jvm.MethodName)) ∈ lw_all := lw_g (lw_at lw_m3 88 rfl) rfl
theorem q639 : (Jvm.Cond.privateMethod ({ cls := "ShapeRelator$Relator", name := "note", desc := "(III)V" } : Jvm.MethodName)) ∈ lw_tbl := lw_at lw_m3 89 rfl
theorem q640 : (Jvm.Cond.instanceMethod ({ cls := "ShapeRelator$Relator", name := "note", desc := "(III)V" } : Jvm.MethodName)) ∈ lw_all := lw_g (lw_at lw_m3 90 rfl) rfl
theorem q641 : (Jvm.Cond.code ({ cls := "ShapeRelator$Relator", name := "note", desc := "(III)V" } : Jvm.MethodName) prog_6_method_8_code (4 : Nat) (Option.none : Option Jvm.ClassFile.FieldType)) ∈ lw_all := lw_g (lw_at lw_m3 91 rfl) rfl
theorem q642 : (Jvm.Cond.methodLink "ShapeRelator$Relator" (250 : Nat) ({ cls := "ShapeRelator$Relator", name := "look", desc := "(III)V" } : Jvm.MethodName)) ∈ lw_all := lw_g (lw_at lw_m3 92 rfl) rfl
theorem q643 : (Jvm.Cond.privateMethod ({ cls := "ShapeRelator$Relator", name := "look", desc := "(III)V" } : Jvm.MethodName)) ∈ lw_tbl := lw_at lw_m3 93 rfl
theorem q644 : (Jvm.Cond.instanceMethod ({ cls := "ShapeRelator$Relator", name := "look", desc := "(III)V" } : Jvm.MethodName)) ∈ lw_all := lw_g (lw_at lw_m3 94 rfl) rfl
theorem q645 : (Jvm.Cond.code ({ cls := "ShapeRelator$Relator", name := "look", desc := "(III)V" } : Jvm.MethodName) prog_6_method_13_code (6 : Nat) (Option.none : Option Jvm.ClassFile.FieldType)) ∈ lw_all := lw_g (lw_at lw_m3 95 rfl) rfl
theorem q646 : (Jvm.Cond.methodLink "ShapeRelator$Relator" (222 : Nat) ({ cls := "ShapeRelator$Segments", name := "isAlong", desc := "(ILShapeRelator$Step;)Z" } : Jvm.MethodName)) ∈ lw_all := lw_g (lw_at lw_m3 96 rfl) rfl
theorem q657 : (Jvm.Cond.methodLink "ShapeRelator$Relator" (225 : Nat) ({ cls := "ShapeRelator$Step", name := "lean", desc := "(I)V" } : Jvm.MethodName)) ∈ lw_all := lw_g (lw_at lw_m3 107 rfl) rfl
theorem q661 : (Jvm.Cond.methodLink "ShapeRelator$Relator" (229 : Nat) ({ cls := "ShapeRelator$Relator", name := "notePiece", desc := "()V" } : Jvm.MethodName)) ∈ lw_all := lw_g (lw_at lw_m3 111 rfl) rfl
theorem q662 : (Jvm.Cond.privateMethod ({ cls := "ShapeRelator$Relator", name := "notePiece", desc := "()V" } : Jvm.MethodName)) ∈ lw_tbl := lw_at lw_m3 112 rfl
theorem q663 : (Jvm.Cond.instanceMethod ({ cls := "ShapeRelator$Relator", name := "notePiece", desc := "()V" } : Jvm.MethodName)) ∈ lw_all := lw_g (lw_at lw_m3 113 rfl) rfl
theorem q664 : (Jvm.Cond.code ({ cls := "ShapeRelator$Relator", name := "notePiece", desc := "()V" } : Jvm.MethodName) prog_6_method_15_code (1 : Nat) (Option.none : Option Jvm.ClassFile.FieldType)) ∈ lw_all := lw_g (lw_at lw_m3 114 rfl) rfl
theorem q665 : (Jvm.Cond.methodLink "ShapeRelator$Relator" (232 : Nat) ({ cls := "ShapeRelator$Relator", name := "inOrOut", desc := "(Z)I" } : Jvm.MethodName)) ∈ lw_all := lw_g (lw_at lw_m3 115 rfl) rfl
theorem q666 : (Jvm.Cond.static ({ cls := "ShapeRelator$Relator", name := "inOrOut", desc := "(Z)I" } : Jvm.MethodName)) ∈ lw_all := lw_g (lw_at lw_m3 116 rfl) rfl
theorem q667 : (Jvm.Cond.code ({ cls := "ShapeRelator$Relator", name := "inOrOut", desc := "(Z)I" } : Jvm.MethodName) prog_6_method_14_code (1 : Nat) (Option.some Jvm.ClassFile.FieldType.int)) ∈ lw_all := lw_g (lw_at lw_m3 117 rfl) rfl
theorem q668 : (Jvm.Cond.methodLink "ShapeRelator$Relator" (257 : Nat) ({ cls := "ShapeRelator$Events", name := "compare", desc := "(II)I" } : Jvm.MethodName)) ∈ lw_all := lw_g (lw_at lw_m3 118 rfl) rfl
theorem q669 : (Jvm.Cond.methodLink "ShapeRelator$Relator" (265 : Nat) ({ cls := "ShapeRelator$Relator", name := "noteCrossing", desc := "(ZZ)V" } : Jvm.MethodName)) ∈ lw_all := lw_g (lw_at lw_m3 119 rfl) rfl
theorem q670 : (Jvm.Cond.privateMethod ({ cls := "ShapeRelator$Relator", name := "noteCrossing", desc := "(ZZ)V" } : Jvm.MethodName)) ∈ lw_tbl := lw_at lw_m3 120 rfl
theorem q671 : (Jvm.Cond.instanceMethod ({ cls := "ShapeRelator$Relator", name := "noteCrossing", desc := "(ZZ)V" } : Jvm.MethodName)) ∈ lw_all := lw_g (lw_at lw_m3 121 rfl) rfl
theorem q672 : (Jvm.Cond.code ({ cls := "ShapeRelator$Relator", name := "noteCrossing", desc := "(ZZ)V" } : Jvm.MethodName) prog_6_method_18_code (3 : Nat) (Option.none : Option Jvm.ClassFile.FieldType)) ∈ lw_all := lw_g (lw_at lw_m3 122 rfl) rfl
theorem q673 : (Jvm.Cond.methodLink "ShapeRelator$Relator" (240 : Nat) ({ cls := "ShapeRelator$Relator", name := "crossed", desc := "(IZ)I" } : Jvm.MethodName)) ∈ lw_all := lw_g (lw_at lw_m3 123 rfl) rfl
theorem q674 : (Jvm.Cond.privateMethod ({ cls := "ShapeRelator$Relator", name := "crossed", desc := "(IZ)I" } : Jvm.MethodName)) ∈ lw_tbl := lw_at lw_m3 124 rfl
theorem q675 : (Jvm.Cond.instanceMethod ({ cls := "ShapeRelator$Relator", name := "crossed", desc := "(IZ)I" } : Jvm.MethodName)) ∈ lw_all := lw_g (lw_at lw_m3 125 rfl) rfl
theorem q676 : (Jvm.Cond.code ({ cls := "ShapeRelator$Relator", name := "crossed", desc := "(IZ)I" } : Jvm.MethodName) prog_6_method_19_code (4 : Nat) (Option.some Jvm.ClassFile.FieldType.int)) ∈ lw_all := lw_g (lw_at lw_m3 126 rfl) rfl
theorem q677 : (Jvm.Cond.methodLink "ShapeRelator$Relator" (269 : Nat) ({ cls := "ShapeRelator$Relator", name := "turn", desc := "(IZZ)V" } : Jvm.MethodName)) ∈ lw_all := lw_g (lw_at lw_m3 127 rfl) rfl
theorem q678 : (Jvm.Cond.privateMethod ({ cls := "ShapeRelator$Relator", name := "turn", desc := "(IZZ)V" } : Jvm.MethodName)) ∈ lw_tbl := lw_at lw_m3 128 rfl
theorem q679 : (Jvm.Cond.instanceMethod ({ cls := "ShapeRelator$Relator", name := "turn", desc := "(IZZ)V" } : Jvm.MethodName)) ∈ lw_all := lw_g (lw_at lw_m3 129 rfl) rfl
theorem q680 : (Jvm.Cond.code ({ cls := "ShapeRelator$Relator", name := "turn", desc := "(IZZ)V" } : Jvm.MethodName) prog_6_method_16_code (4 : Nat) (Option.none : Option Jvm.ClassFile.FieldType)) ∈ lw_all := lw_g (lw_at lw_m3 130 rfl) rfl
theorem q681 : (Jvm.Cond.methodLink "ShapeRelator$Relator" (236 : Nat) ({ cls := "ShapeRelator$Relator", name := "turnOne", desc := "(IZ)V" } : Jvm.MethodName)) ∈ lw_all := lw_g (lw_at lw_m3 131 rfl) rfl
theorem q682 : (Jvm.Cond.privateMethod ({ cls := "ShapeRelator$Relator", name := "turnOne", desc := "(IZ)V" } : Jvm.MethodName)) ∈ lw_tbl := lw_at lw_m3 132 rfl
theorem q683 : (Jvm.Cond.instanceMethod ({ cls := "ShapeRelator$Relator", name := "turnOne", desc := "(IZ)V" } : Jvm.MethodName)) ∈ lw_all := lw_g (lw_at lw_m3 133 rfl) rfl
theorem q684 : (Jvm.Cond.code ({ cls := "ShapeRelator$Relator", name := "turnOne", desc := "(IZ)V" } : Jvm.MethodName) prog_6_method_17_code (3 : Nat) (Option.none : Option Jvm.ClassFile.FieldType)) ∈ lw_all := lw_g (lw_at lw_m3 134 rfl) rfl
theorem q685 : (Jvm.Cond.methodLink "ShapeRelator$Relator" (287 : Nat) ({ cls := "ShapeRelator$Relator", name := "noteEnds", desc := "(LShapeRelator$Outline;)V" } : Jvm.MethodName)) ∈ lw_all := lw_g (lw_at lw_m3 135 rfl) rfl
theorem q686 : (Jvm.Cond.privateMethod ({ cls := "ShapeRelator$Relator", name := "noteEnds", desc := "(LShapeRelator$Outline;)V" } : Jvm.MethodName)) ∈ lw_tbl := lw_at lw_m3 136 rfl
theorem q687 : (Jvm.Cond.instanceMethod ({ cls := "ShapeRelator$Relator", name := "noteEnds", desc := "(LShapeRelator$Outline;)V" } : Jvm.MethodName)) ∈ lw_all := lw_g (lw_at lw_m3 137 rfl) rfl
theorem q688 : (Jvm.Cond.code ({ cls := "ShapeRelator$Relator", name := "noteEnds", desc := "(LShapeRelator$Outline;)V" } : Jvm.MethodName) prog_6_method_22_code (3 : Nat) (Option.none : Option Jvm.ClassFile.FieldType)) ∈ lw_all := lw_g (lw_at lw_m3 138 rfl) rfl
theorem q690 : (Jvm.Cond.instanceMethod ({ cls := "ShapeRelator$Relator", name := "number", desc := "(II)I" } : Jvm.MethodName)) ∈ lw_all := lw_g (lw_at lw_m3 140 rfl) rfl
theorem q691 : (Jvm.Cond.selects "ShapeRelator$Relator" ({ cls := "ShapeRelator$Relator", name := "number", desc := "(II)I" } : Jvm.MethodName) ({ cls := "ShapeRelator$Relator", name := "number", desc := "(II)I" } : Jvm.MethodName)) ∈ lw_all := lw_g (lw_at lw_m3 141 rfl) rfl
theorem q692 : (Jvm.Cond.code ({ cls := "ShapeRelator$Relator", name := "number", desc := "(II)I" } : Jvm.MethodName) prog_6_method_23_code (3 : Nat) (Option.some Jvm.ClassFile.FieldType.int)) ∈ lw_all := lw_g (lw_at lw_m3 142 rfl) rfl
theorem q807 : (Jvm.Cond.instanceMethod ({ cls := "ShapeRelator$Relator", name := "shape", desc := "(I)LShapeRelator$Outline;" } : Jvm.MethodName)) ∈ lw_all := lw_g (lw_at lw_m4 17 rfl) rfl
theorem q808 : (Jvm.Cond.selects "ShapeRelator$Relator" ({ cls := "ShapeRelator$Relator", name := "shape", desc := "(I)LShapeRelator$Outline;" } : Jvm.MethodName) ({ cls := "ShapeRelator$Relator", name := "shape", desc := "(I)LShapeRelator$Outline;" } : Jvm.MethodName)) ∈ lw_all := lw_g (lw_at lw_m4 18 rfl) rfl
theorem q809 : (Jvm.Cond.code ({ cls := "ShapeRelator$Relator", name := "shape", desc := "(I)LShapeRelator$Outline;" } : Jvm.MethodName) prog_6_method_2_code (2 : Nat) (Option.some (Jvm.ClassFile.FieldType.object "ShapeRelator$Outline"))) ∈ lw_all := lw_g (lw_at lw_m4 19 rfl) rfl
theorem q833 : (Jvm.Cond.instanceMethod ({ cls := "ShapeRelator$Relator", name := "change", desc := "()V" } : Jvm.MethodName)) ∈ lw_all := lw_g (lw_at lw_m4 43 rfl) rfl
theorem q834 : (Jvm.Cond.selects "ShapeRelator$Relator" ({ cls := "ShapeRelator$Relator", name := "change", desc := "()V" } : Jvm.MethodName) ({ cls := "ShapeRelator$Relator", name := "change", desc := "()V" } : Jvm.MethodName)) ∈ lw_all := lw_g (lw_at lw_m4 44 rfl) rfl
theorem q835 : (Jvm.Cond.code ({ cls := "ShapeRelator$Relator", name := "change", desc := "()V" } : Jvm.MethodName) prog_6_method_3_code (1 : Nat) (Option.none : Option Jvm.ClassFile.FieldType)) ∈ lw_all := lw_g (lw_at lw_m4 45 rfl) rfl
theorem q891 : (Jvm.Cond.instanceMethod ({ cls := "ShapeRelator$Relator", name := "locate", desc := "(III)I" } : Jvm.MethodName)) ∈ lw_all := lw_g (lw_at lw_m4 101 rfl) rfl
theorem q892 : (Jvm.Cond.selects "ShapeRelator$Relator" ({ cls := "ShapeRelator$Relator", name := "locate", desc := "(III)I" } : Jvm.MethodName) ({ cls := "ShapeRelator$Relator", name := "locate", desc := "(III)I" } : Jvm.MethodName)) ∈ lw_all := lw_g (lw_at lw_m4 102 rfl) rfl
theorem q893 : (Jvm.Cond.code ({ cls := "ShapeRelator$Relator", name := "locate", desc := "(III)I" } : Jvm.MethodName) prog_6_method_7_code (4 : Nat) (Option.some Jvm.ClassFile.FieldType.int)) ∈ lw_all := lw_g (lw_at lw_m4 103 rfl) rfl
theorem q909 : (Jvm.Cond.instanceMethod ({ cls := "ShapeRelator$Relator", name := "has", desc := "(II)Z" } : Jvm.MethodName)) ∈ lw_all := lw_g (lw_at lw_m4 119 rfl) rfl
theorem q910 : (Jvm.Cond.selects "ShapeRelator$Relator" ({ cls := "ShapeRelator$Relator", name := "has", desc := "(II)Z" } : Jvm.MethodName) ({ cls := "ShapeRelator$Relator", name := "has", desc := "(II)Z" } : Jvm.MethodName)) ∈ lw_all := lw_g (lw_at lw_m4 120 rfl) rfl
theorem q911 : (Jvm.Cond.code ({ cls := "ShapeRelator$Relator", name := "has", desc := "(II)Z" } : Jvm.MethodName) prog_6_method_24_code (3 : Nat) (Option.some Jvm.ClassFile.FieldType.boolean)) ∈ lw_all := lw_g (lw_at lw_m4 121 rfl) rfl
theorem q912 : (Jvm.Cond.methodLink "ShapeRelator$Relator" (293 : Nat) ({ cls := "ShapeRelator$Relator", name := "number", desc := "(II)I" } : Jvm.MethodName)) ∈ lw_all := lw_g (lw_at lw_m4 122 rfl) rfl
theorem q914 : (Jvm.Cond.instanceMethod ({ cls := "ShapeRelator$Relator", name := "areEqual", desc := "()Z" } : Jvm.MethodName)) ∈ lw_all := lw_g (lw_at lw_m4 124 rfl) rfl
theorem q915 : (Jvm.Cond.selects "ShapeRelator$Relator" ({ cls := "ShapeRelator$Relator", name := "areEqual", desc := "()Z" } : Jvm.MethodName) ({ cls := "ShapeRelator$Relator", name := "areEqual", desc := "()Z" } : Jvm.MethodName)) ∈ lw_all := lw_g (lw_at lw_m4 125 rfl) rfl
theorem q916 : (Jvm.Cond.code ({ cls := "ShapeRelator$Relator", name := "areEqual", desc := "()Z" } : Jvm.MethodName) prog_6_method_31_code (1 : Nat) (Option.some Jvm.ClassFile.FieldType.boolean)) ∈ lw_all := lw_g (lw_at lw_m4 126 rfl) rfl
theorem q917 : (Jvm.Cond.methodLink "ShapeRelator$Relator" (299 : Nat) ({ cls := "ShapeRelator$Relator", name := "insideOf", desc := "(I)I" } : Jvm.MethodName)) ∈ lw_all := lw_g (lw_at lw_m4 127 rfl) rfl
theorem q918 : (Jvm.Cond.instanceMethod ({ cls := "ShapeRelator$Relator", name := "insideOf", desc := "(I)I" } : Jvm.MethodName)) ∈ lw_all := lw_g (lw_at lw_m4 128 rfl) rfl
theorem q919 : (Jvm.Cond.selects "ShapeRelator$Relator" ({ cls := "ShapeRelator$Relator", name := "insideOf", desc := "(I)I" } : Jvm.MethodName) ({ cls := "ShapeRelator$Relator", name := "insideOf", desc := "(I)I" } : Jvm.MethodName)) ∈ lw_all := lw_g (lw_at lw_m4 129 rfl) rfl
theorem q920 : (Jvm.Cond.code ({ cls := "ShapeRelator$Relator", name := "insideOf", desc := "(I)I" } : Jvm.MethodName) prog_6_method_28_code (4 : Nat) (Option.some Jvm.ClassFile.FieldType.int)) ∈ lw_all := lw_g (lw_at lw_m4 130 rfl) rfl
theorem q921 : (Jvm.Cond.methodLink "ShapeRelator$Relator" (296 : Nat) ({ cls := "ShapeRelator$Relator", name := "has", desc := "(II)Z" } : Jvm.MethodName)) ∈ lw_all := lw_g (lw_at lw_m4 131 rfl) rfl
theorem q922 : (Jvm.Cond.methodLink "ShapeRelator$Relator" (303 : Nat) ({ cls := "ShapeRelator$Relator", name := "isIn", desc := "()Z" } : Jvm.MethodName)) ∈ lw_all := lw_g (lw_at lw_m4 132 rfl) rfl
theorem q923 : (Jvm.Cond.instanceMethod ({ cls := "ShapeRelator$Relator", name := "isIn", desc := "()Z" } : Jvm.MethodName)) ∈ lw_all := lw_g (lw_at lw_m4 133 rfl) rfl
theorem q924 : (Jvm.Cond.selects "ShapeRelator$Relator" ({ cls := "ShapeRelator$Relator", name := "isIn", desc := "()Z" } : Jvm.MethodName) ({ cls := "ShapeRelator$Relator", name := "isIn", desc := "()Z" } : Jvm.MethodName)) ∈ lw_all := lw_g (lw_at lw_m4 134 rfl) rfl
theorem q925 : (Jvm.Cond.code ({ cls := "ShapeRelator$Relator", name := "isIn", desc := "()Z" } : Jvm.MethodName) prog_6_method_26_code (1 : Nat) (Option.some Jvm.ClassFile.FieldType.boolean)) ∈ lw_all := lw_g (lw_at lw_m4 135 rfl) rfl
theorem q926 : (Jvm.Cond.methodLink "ShapeRelator$Relator" (307 : Nat) ({ cls := "ShapeRelator$Relator", name := "isAround", desc := "()Z" } : Jvm.MethodName)) ∈ lw_all := lw_g (lw_at lw_m4 136 rfl) rfl
theorem q927 : (Jvm.Cond.instanceMethod ({ cls := "ShapeRelator$Relator", name := "isAround", desc := "()Z" } : Jvm.MethodName)) ∈ lw_all := lw_g (lw_at lw_m4 137 rfl) rfl
theorem q928 : (Jvm.Cond.selects "ShapeRelator$Relator" ({ cls := "ShapeRelator$Relator", name := "isAround", desc := "()Z" } : Jvm.MethodName) ({ cls := "ShapeRelator$Relator", name := "isAround", desc := "()Z" } : Jvm.MethodName)) ∈ lw_all := lw_g (lw_at lw_m4 138 rfl) rfl
theorem q929 : (Jvm.Cond.code ({ cls := "ShapeRelator$Relator", name := "isAround", desc := "()Z" } : Jvm.MethodName) prog_6_method_27_code (1 : Nat) (Option.some Jvm.ClassFile.FieldType.boolean)) ∈ lw_all := lw_g (lw_at lw_m4 139 rfl) rfl
theorem q931 : (Jvm.Cond.instanceMethod ({ cls := "ShapeRelator$Relator", name := "meets", desc := "()Z" } : Jvm.MethodName)) ∈ lw_all := lw_g (lw_at lw_m4 141 rfl) rfl
theorem q932 : (Jvm.Cond.selects "ShapeRelator$Relator" ({ cls := "ShapeRelator$Relator", name := "meets", desc := "()Z" } : Jvm.MethodName) ({ cls := "ShapeRelator$Relator", name := "meets", desc := "()Z" } : Jvm.MethodName)) ∈ lw_all := lw_g (lw_at lw_m4 142 rfl) rfl
theorem q933 : (Jvm.Cond.code ({ cls := "ShapeRelator$Relator", name := "meets", desc := "()Z" } : Jvm.MethodName) prog_6_method_25_code (1 : Nat) (Option.some Jvm.ClassFile.FieldType.boolean)) ∈ lw_all := lw_g (lw_at lw_m4 143 rfl) rfl
theorem q935 : (Jvm.Cond.instanceMethod ({ cls := "ShapeRelator$Relator", name := "crosses", desc := "()Z" } : Jvm.MethodName)) ∈ lw_all := lw_g (lw_at lw_m4 145 rfl) rfl
theorem q936 : (Jvm.Cond.selects "ShapeRelator$Relator" ({ cls := "ShapeRelator$Relator", name := "crosses", desc := "()Z" } : Jvm.MethodName) ({ cls := "ShapeRelator$Relator", name := "crosses", desc := "()Z" } : Jvm.MethodName)) ∈ lw_all := lw_g (lw_at lw_m4 146 rfl) rfl
theorem q937 : (Jvm.Cond.code ({ cls := "ShapeRelator$Relator", name := "crosses", desc := "()Z" } : Jvm.MethodName) prog_6_method_29_code (3 : Nat) (Option.some Jvm.ClassFile.FieldType.boolean)) ∈ lw_all := lw_g (lw_at lw_m4 147 rfl) rfl
theorem q941 : (Jvm.Cond.instanceMethod ({ cls := "ShapeRelator$Relator", name := "overlaps", desc := "()Z" } : Jvm.MethodName)) ∈ lw_all := lw_g (lw_at lw_m4 151 rfl) rfl
theorem q942 : (Jvm.Cond.selects "ShapeRelator$Relator" ({ cls := "ShapeRelator$Relator", name := "overlaps", desc := "()Z" } : Jvm.MethodName) ({ cls := "ShapeRelator$Relator", name := "overlaps", desc := "()Z" } : Jvm.MethodName)) ∈ lw_all := lw_g (lw_at lw_m4 152 rfl) rfl
theorem q943 : (Jvm.Cond.code ({ cls := "ShapeRelator$Relator", name := "overlaps", desc := "()Z" } : Jvm.MethodName) prog_6_method_30_code (2 : Nat) (Option.some Jvm.ClassFile.FieldType.boolean)) ∈ lw_all := lw_g (lw_at lw_m4 153 rfl) rfl
theorem q952 : (Jvm.Cond.instanceMethod ({ cls := "ShapeRelator$Relator", name := "dimension", desc := "(I)I" } : Jvm.MethodName)) ∈ lw_all := lw_g (lw_at lw_m4 162 rfl) rfl
theorem q953 : (Jvm.Cond.selects "ShapeRelator$Relator" ({ cls := "ShapeRelator$Relator", name := "dimension", desc := "(I)I" } : Jvm.MethodName) ({ cls := "ShapeRelator$Relator", name := "dimension", desc := "(I)I" } : Jvm.MethodName)) ∈ lw_all := lw_g (lw_at lw_m4 163 rfl) rfl
theorem q954 : (Jvm.Cond.code ({ cls := "ShapeRelator$Relator", name := "dimension", desc := "(I)I" } : Jvm.MethodName) prog_6_method_32_code (4 : Nat) (Option.some Jvm.ClassFile.FieldType.int)) ∈ lw_all := lw_g (lw_at lw_m4 164 rfl) rfl
theorem q955 : (Jvm.Cond.methodLink "ShapeRelator$Relator" (310 : Nat) ({ cls := "ShapeRelator$Relator", name := "compute", desc := "()V" } : Jvm.MethodName)) ∈ lw_all := lw_g (lw_at lw_m4 165 rfl) rfl
theorem in_X2 : ∀ w ∈ wsX20, w ∈ lw_all := lw_in wsX20 [329, 331, 333, 335, 337, 339, 341, 343, 345, 347, 349, 351, 353, 355] (by decide +kernel) (by decide +kernel)
