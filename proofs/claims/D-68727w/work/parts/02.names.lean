theorem q107 : (Jvm.Cond.arrayOver (Jvm.ClassFile.FieldType.object "ShapeRelator$Outline")) ∈ lw_tbl := lw_at lw_m1 37 rfl
set_option maxRecDepth 100000
theorem q144 : (Jvm.Cond.arrayClass Jvm.ClassFile.FieldType.int) ∈ lw_all := lw_g (lw_at lw_m1 74 rfl) rfl
theorem q221 : (Jvm.Cond.arrayClass Jvm.ClassFile.FieldType.boolean) ∈ lw_all := lw_g (lw_at lw_m1 151 rfl) rfl
theorem q222 : (Jvm.Cond.arrayClass Jvm.ClassFile.FieldType.long) ∈ lw_all := lw_g (lw_at lw_m1 152 rfl) rfl
theorem q768 : (Jvm.Cond.arrayClass Jvm.ClassFile.FieldType.byte) ∈ lw_all := lw_g (lw_at lw_m3 218 rfl) rfl
theorem q89 : (Jvm.Cond.initialized "java/lang/System") ∈ lw_all := lw_g (lw_at lw_m1 19 rfl) rfl
set_option maxRecDepth 100000
theorem q398 : (Jvm.Cond.static ({ cls := "java/lang/System", name := "arraycopy", desc := "(Ljava/lang/Object;ILjava/lang/Object;II)V" } : Jvm.MethodName)) ∈ lw_all := lw_g (lw_at lw_m2 88 rfl) rfl
theorem q399 : (Jvm.Cond.native ({ cls := "java/lang/System", name := "arraycopy", desc := "(Ljava/lang/Object;ILjava/lang/Object;II)V" } : Jvm.MethodName)) ∈ lw_all := lw_g (lw_at lw_m2 89 rfl) rfl
/-! java/lang/Object -/
set_option maxRecDepth 100000
def RJ9 : String := "java/lang/Object"
abbrev cJ9_init : ByteArray := object_method_1_code
def yJ9_init : MethodName := ⟨RJ9, "<init>", "()V"⟩
theorem dJ9_init_0 : decode cJ9_init 0 = .ok (.return_, 1) := by decide +kernel
theorem q98 : (Jvm.Cond.instanceMethod ({ cls := "java/lang/Object", name := "<init>", desc := "()V" } : Jvm.MethodName)) ∈ lw_all := lw_g (lw_at lw_m1 28 rfl) rfl
theorem q99 : (Jvm.Cond.code ({ cls := "java/lang/Object", name := "<init>", desc := "()V" } : Jvm.MethodName) object_method_1_code (1 : Nat) (Option.none : Option Jvm.ClassFile.FieldType)) ∈ lw_all := lw_g (lw_at lw_m1 29 rfl) rfl
/-! java/lang/Math -/
set_option maxRecDepth 100000
def RJ8 : String := "java/lang/Math"
abbrev cJ8_min : ByteArray := prog_18_method_69_code
def yJ8_min : MethodName := ⟨RJ8, "min", "(II)I"⟩
theorem dJ8_min_0 : decode cJ8_min 0 = .ok (.iload_n 0, 1) := by decide +kernel
theorem dJ8_min_1 : decode cJ8_min 1 = .ok (.iload_n 1, 1) := by decide +kernel
theorem dJ8_min_2 : decode cJ8_min 2 = .ok (.if_icmp .gt 7, 3) := by decide +kernel
theorem dJ8_min_5 : decode cJ8_min 5 = .ok (.iload_n 0, 1) := by decide +kernel
theorem dJ8_min_6 : decode cJ8_min 6 = .ok (.goto 4, 3) := by decide +kernel
theorem dJ8_min_9 : decode cJ8_min 9 = .ok (.iload_n 1, 1) := by decide +kernel
theorem dJ8_min_10 : decode cJ8_min 10 = .ok (.ireturn, 1) := by decide +kernel
abbrev cJ8_max : ByteArray := prog_18_method_65_code
def yJ8_max : MethodName := ⟨RJ8, "max", "(II)I"⟩
theorem dJ8_max_0 : decode cJ8_max 0 = .ok (.iload_n 0, 1) := by decide +kernel
theorem dJ8_max_1 : decode cJ8_max 1 = .ok (.iload_n 1, 1) := by decide +kernel
theorem dJ8_max_2 : decode cJ8_max 2 = .ok (.if_icmp .lt 7, 3) := by decide +kernel
theorem dJ8_max_5 : decode cJ8_max 5 = .ok (.iload_n 0, 1) := by decide +kernel
theorem dJ8_max_6 : decode cJ8_max 6 = .ok (.goto 4, 3) := by decide +kernel
theorem dJ8_max_9 : decode cJ8_max 9 = .ok (.iload_n 1, 1) := by decide +kernel
theorem dJ8_max_10 : decode cJ8_max 10 = .ok (.ireturn, 1) := by decide +kernel
abbrev cJ8_abs : ByteArray := prog_18_method_61_code
def yJ8_abs : MethodName := ⟨RJ8, "abs", "(J)J"⟩
theorem dJ8_abs_0 : decode cJ8_abs 0 = .ok (.lload_n 0, 1) := by decide +kernel
theorem dJ8_abs_1 : decode cJ8_abs 1 = .ok (.lconst 0, 1) := by decide +kernel
theorem dJ8_abs_2 : decode cJ8_abs 2 = .ok (.lcmp, 1) := by decide +kernel
theorem dJ8_abs_3 : decode cJ8_abs 3 = .ok (.ifCond .ge 8, 3) := by decide +kernel
theorem dJ8_abs_6 : decode cJ8_abs 6 = .ok (.lload_n 0, 1) := by decide +kernel
theorem dJ8_abs_7 : decode cJ8_abs 7 = .ok (.lneg, 1) := by decide +kernel
theorem dJ8_abs_8 : decode cJ8_abs 8 = .ok (.goto 4, 3) := by decide +kernel
theorem dJ8_abs_11 : decode cJ8_abs 11 = .ok (.lload_n 0, 1) := by decide +kernel
theorem dJ8_abs_12 : decode cJ8_abs 12 = .ok (.lreturn, 1) := by decide +kernel
abbrev cJ8_multiplyHigh : ByteArray := prog_18_method_45_code
def yJ8_multiplyHigh : MethodName := ⟨RJ8, "multiplyHigh", "(JJ)J"⟩
theorem dJ8_multiplyHigh_0 : decode cJ8_multiplyHigh 0 = .ok (.lload_n 0, 1) := by decide +kernel
theorem dJ8_multiplyHigh_1 : decode cJ8_multiplyHigh 1 = .ok (.bipush 32, 2) := by decide +kernel
theorem dJ8_multiplyHigh_3 : decode cJ8_multiplyHigh 3 = .ok (.lshr, 1) := by decide +kernel
theorem dJ8_multiplyHigh_4 : decode cJ8_multiplyHigh 4 = .ok (.lstore 4, 2) := by decide +kernel
theorem dJ8_multiplyHigh_6 : decode cJ8_multiplyHigh 6 = .ok (.lload_n 0, 1) := by decide +kernel
theorem dJ8_multiplyHigh_7 : decode cJ8_multiplyHigh 7 = .ok (.ldc2_w 138, 3) := by decide +kernel
theorem dJ8_multiplyHigh_10 : decode cJ8_multiplyHigh 10 = .ok (.land, 1) := by decide +kernel
theorem dJ8_multiplyHigh_11 : decode cJ8_multiplyHigh 11 = .ok (.lstore 6, 2) := by decide +kernel
theorem dJ8_multiplyHigh_13 : decode cJ8_multiplyHigh 13 = .ok (.lload_n 2, 1) := by decide +kernel
theorem dJ8_multiplyHigh_14 : decode cJ8_multiplyHigh 14 = .ok (.bipush 32, 2) := by decide +kernel
theorem dJ8_multiplyHigh_16 : decode cJ8_multiplyHigh 16 = .ok (.lshr, 1) := by decide +kernel
theorem dJ8_multiplyHigh_17 : decode cJ8_multiplyHigh 17 = .ok (.lstore 8, 2) := by decide +kernel
theorem dJ8_multiplyHigh_19 : decode cJ8_multiplyHigh 19 = .ok (.lload_n 2, 1) := by decide +kernel
theorem dJ8_multiplyHigh_20 : decode cJ8_multiplyHigh 20 = .ok (.ldc2_w 138, 3) := by decide +kernel
theorem dJ8_multiplyHigh_23 : decode cJ8_multiplyHigh 23 = .ok (.land, 1) := by decide +kernel
theorem dJ8_multiplyHigh_24 : decode cJ8_multiplyHigh 24 = .ok (.lstore 10, 2) := by decide +kernel
theorem dJ8_multiplyHigh_26 : decode cJ8_multiplyHigh 26 = .ok (.lload 6, 2) := by decide +kernel
theorem dJ8_multiplyHigh_28 : decode cJ8_multiplyHigh 28 = .ok (.lload 10, 2) := by decide +kernel
theorem dJ8_multiplyHigh_30 : decode cJ8_multiplyHigh 30 = .ok (.lmul, 1) := by decide +kernel
theorem dJ8_multiplyHigh_31 : decode cJ8_multiplyHigh 31 = .ok (.lstore 12, 2) := by decide +kernel
theorem dJ8_multiplyHigh_33 : decode cJ8_multiplyHigh 33 = .ok (.lload 4, 2) := by decide +kernel
theorem dJ8_multiplyHigh_35 : decode cJ8_multiplyHigh 35 = .ok (.lload 10, 2) := by decide +kernel
theorem dJ8_multiplyHigh_37 : decode cJ8_multiplyHigh 37 = .ok (.lmul, 1) := by decide +kernel
theorem dJ8_multiplyHigh_38 : decode cJ8_multiplyHigh 38 = .ok (.lload 12, 2) := by decide +kernel
theorem dJ8_multiplyHigh_40 : decode cJ8_multiplyHigh 40 = .ok (.bipush 32, 2) := by decide +kernel
theorem dJ8_multiplyHigh_42 : decode cJ8_multiplyHigh 42 = .ok (.lushr, 1) := by decide +kernel
theorem dJ8_multiplyHigh_43 : decode cJ8_multiplyHigh 43 = .ok (.ladd, 1) := by decide +kernel
theorem dJ8_multiplyHigh_44 : decode cJ8_multiplyHigh 44 = .ok (.lstore 14, 2) := by decide +kernel
theorem dJ8_multiplyHigh_46 : decode cJ8_multiplyHigh 46 = .ok (.lload 14, 2) := by decide +kernel
theorem dJ8_multiplyHigh_48 : decode cJ8_multiplyHigh 48 = .ok (.ldc2_w 138, 3) := by decide +kernel
theorem dJ8_multiplyHigh_51 : decode cJ8_multiplyHigh 51 = .ok (.land, 1) := by decide +kernel
theorem dJ8_multiplyHigh_52 : decode cJ8_multiplyHigh 52 = .ok (.lstore 16, 2) := by decide +kernel
theorem dJ8_multiplyHigh_54 : decode cJ8_multiplyHigh 54 = .ok (.lload 14, 2) := by decide +kernel
theorem dJ8_multiplyHigh_56 : decode cJ8_multiplyHigh 56 = .ok (.bipush 32, 2) := by decide +kernel
theorem dJ8_multiplyHigh_58 : decode cJ8_multiplyHigh 58 = .ok (.lshr, 1) := by decide +kernel
theorem dJ8_multiplyHigh_59 : decode cJ8_multiplyHigh 59 = .ok (.lstore 18, 2) := by decide +kernel
theorem dJ8_multiplyHigh_61 : decode cJ8_multiplyHigh 61 = .ok (.lload 16, 2) := by decide +kernel
theorem dJ8_multiplyHigh_63 : decode cJ8_multiplyHigh 63 = .ok (.lload 6, 2) := by decide +kernel
theorem dJ8_multiplyHigh_65 : decode cJ8_multiplyHigh 65 = .ok (.lload 8, 2) := by decide +kernel
theorem dJ8_multiplyHigh_67 : decode cJ8_multiplyHigh 67 = .ok (.lmul, 1) := by decide +kernel
theorem dJ8_multiplyHigh_68 : decode cJ8_multiplyHigh 68 = .ok (.ladd, 1) := by decide +kernel
theorem dJ8_multiplyHigh_69 : decode cJ8_multiplyHigh 69 = .ok (.lstore 16, 2) := by decide +kernel
theorem dJ8_multiplyHigh_71 : decode cJ8_multiplyHigh 71 = .ok (.lload 4, 2) := by decide +kernel
theorem dJ8_multiplyHigh_73 : decode cJ8_multiplyHigh 73 = .ok (.lload 8, 2) := by decide +kernel
theorem dJ8_multiplyHigh_75 : decode cJ8_multiplyHigh 75 = .ok (.lmul, 1) := by decide +kernel
theorem dJ8_multiplyHigh_76 : decode cJ8_multiplyHigh 76 = .ok (.lload 18, 2) := by decide +kernel
theorem dJ8_multiplyHigh_78 : decode cJ8_multiplyHigh 78 = .ok (.ladd, 1) := by decide +kernel
theorem dJ8_multiplyHigh_79 : decode cJ8_multiplyHigh 79 = .ok (.lload 16, 2) := by decide +kernel
theorem dJ8_multiplyHigh_81 : decode cJ8_multiplyHigh 81 = .ok (.bipush 32, 2) := by decide +kernel
theorem dJ8_multiplyHigh_83 : decode cJ8_multiplyHigh 83 = .ok (.lshr, 1) := by decide +kernel
theorem dJ8_multiplyHigh_84 : decode cJ8_multiplyHigh 84 = .ok (.ladd, 1) := by decide +kernel
theorem dJ8_multiplyHigh_85 : decode cJ8_multiplyHigh 85 = .ok (.lreturn, 1) := by decide +kernel
theorem q90 : (Jvm.Cond.initialized "java/lang/Math") ∈ lw_all := lw_g (lw_at lw_m1 20 rfl) rfl
theorem q401 : (Jvm.Cond.static ({ cls := "java/lang/Math", name := "min", desc := "(II)I" } : Jvm.MethodName)) ∈ lw_all := lw_g (lw_at lw_m2 91 rfl) rfl
theorem q402 : (Jvm.Cond.code ({ cls := "java/lang/Math", name := "min", desc := "(II)I" } : Jvm.MethodName) prog_18_method_69_code (2 : Nat) (Option.some Jvm.ClassFile.FieldType.int)) ∈ lw_all := lw_g (lw_at lw_m2 92 rfl) rfl
theorem q404 : (Jvm.Cond.static ({ cls := "java/lang/Math", name := "max", desc := "(II)I" } : Jvm.MethodName)) ∈ lw_all := lw_g (lw_at lw_m2 94 rfl) rfl
theorem q405 : (Jvm.Cond.code ({ cls := "java/lang/Math", name := "max", desc := "(II)I" } : Jvm.MethodName) prog_18_method_65_code (2 : Nat) (Option.some Jvm.ClassFile.FieldType.int)) ∈ lw_all := lw_g (lw_at lw_m2 95 rfl) rfl
theorem q535 : (Jvm.Cond.static ({ cls := "java/lang/Math", name := "abs", desc := "(J)J" } : Jvm.MethodName)) ∈ lw_all := lw_g (lw_at lw_m2 225 rfl) rfl
theorem q536 : (Jvm.Cond.code ({ cls := "java/lang/Math", name := "abs", desc := "(J)J" } : Jvm.MethodName) prog_18_method_61_code (2 : Nat) (Option.some Jvm.ClassFile.FieldType.long)) ∈ lw_all := lw_g (lw_at lw_m2 226 rfl) rfl
theorem q583 : (Jvm.Cond.static ({ cls := "java/lang/Math", name := "multiplyHigh", desc := "(JJ)J" } : Jvm.MethodName)) ∈ lw_all := lw_g (lw_at lw_m3 33 rfl) rfl
theorem q584 : (Jvm.Cond.code ({ cls := "java/lang/Math", name := "multiplyHigh", desc := "(JJ)J" } : Jvm.MethodName) prog_18_method_45_code (20 : Nat) (Option.some Jvm.ClassFile.FieldType.long)) ∈ lw_all := lw_g (lw_at lw_m3 34 rfl) rfl
theorem q585 : (Jvm.Cond.constantLong "java/lang/Math" (138 : Nat) (4294967295 : Int64)) ∈ lw_all := lw_g (lw_at lw_m3 35 rfl) rfl
/-! ShapeRelator$Bounds -/
set_option maxRecDepth 100000
def RX5 : String := "ShapeRelator$Bounds"
def TX5 : u_T := fun k => match k with
  | 0 => ("ShapeRelator$Bounds", "lowX", "[I", false)
  | 1 => ("ShapeRelator$Bounds", "lowY", "[I", false)
  | 2 => ("ShapeRelator$Bounds", "highX", "[I", false)
  | _ => ("ShapeRelator$Bounds", "highY", "[I", false)
def tyX5 : Nat → FieldType := fun k => match k with
  | 0 => .array .int
  | 1 => .array .int
  | 2 => .array .int
  | _ => .array .int
abbrev wsX50 : List Cond := u_ws RX5 TX5 4
theorem nmX5 : ∀ a, a < 4 → ∀ b, b < 4 → a ≠ b → (TX5 a).2.1 ≠ (TX5 b).2.1 := by decide +kernel
theorem tyX5_ok : ∀ k, k < 4 → parseFieldDescriptor (TX5 k).2.2.1 = some (tyX5 k) := by decide +kernel
abbrev cX5_init : ByteArray := prog_2_method_1_code
def yX5_init : MethodName := ⟨RX5, "<init>", "()V"⟩
theorem dX5_init_0 : decode cX5_init 0 = .ok (.aload_n 0, 1) := by decide +kernel
theorem dX5_init_1 : decode cX5_init 1 = .ok (.invokespecial 1, 3) := by decide +kernel
theorem dX5_init_4 : decode cX5_init 4 = .ok (.aload_n 0, 1) := by decide +kernel
theorem dX5_init_5 : decode cX5_init 5 = .ok (.bipush 16, 2) := by decide +kernel
theorem dX5_init_7 : decode cX5_init 7 = .ok (.newarray .int, 2) := by decide +kernel
theorem dX5_init_9 : decode cX5_init 9 = .ok (.putfield 7, 3) := by decide +kernel
theorem dX5_init_12 : decode cX5_init 12 = .ok (.aload_n 0, 1) := by decide +kernel
theorem dX5_init_13 : decode cX5_init 13 = .ok (.bipush 16, 2) := by decide +kernel
theorem dX5_init_15 : decode cX5_init 15 = .ok (.newarray .int, 2) := by decide +kernel
theorem dX5_init_17 : decode cX5_init 17 = .ok (.putfield 13, 3) := by decide +kernel
theorem dX5_init_20 : decode cX5_init 20 = .ok (.aload_n 0, 1) := by decide +kernel
theorem dX5_init_21 : decode cX5_init 21 = .ok (.bipush 16, 2) := by decide +kernel
theorem dX5_init_23 : decode cX5_init 23 = .ok (.newarray .int, 2) := by decide +kernel
theorem dX5_init_25 : decode cX5_init 25 = .ok (.putfield 16, 3) := by decide +kernel
theorem dX5_init_28 : decode cX5_init 28 = .ok (.aload_n 0, 1) := by decide +kernel
theorem dX5_init_29 : decode cX5_init 29 = .ok (.bipush 16, 2) := by decide +kernel
theorem dX5_init_31 : decode cX5_init 31 = .ok (.newarray .int, 2) := by decide +kernel
theorem dX5_init_33 : decode cX5_init 33 = .ok (.putfield 19, 3) := by decide +kernel
theorem dX5_init_36 : decode cX5_init 36 = .ok (.return_, 1) := by decide +kernel
abbrev cX5_longer : ByteArray := prog_2_method_2_code
def yX5_longer : MethodName := ⟨RX5, "longer", "([II)[I"⟩
theorem dX5_longer_0 : decode cX5_longer 0 = .ok (.iload_n 1, 1) := by decide +kernel
theorem dX5_longer_1 : decode cX5_longer 1 = .ok (.newarray .int, 2) := by decide +kernel
theorem dX5_longer_3 : decode cX5_longer 3 = .ok (.astore_n 2, 1) := by decide +kernel
theorem dX5_longer_4 : decode cX5_longer 4 = .ok (.aload_n 0, 1) := by decide +kernel
theorem dX5_longer_5 : decode cX5_longer 5 = .ok (.iconst 0, 1) := by decide +kernel
theorem dX5_longer_6 : decode cX5_longer 6 = .ok (.aload_n 2, 1) := by decide +kernel
theorem dX5_longer_7 : decode cX5_longer 7 = .ok (.iconst 0, 1) := by decide +kernel
theorem dX5_longer_8 : decode cX5_longer 8 = .ok (.aload_n 0, 1) := by decide +kernel
theorem dX5_longer_9 : decode cX5_longer 9 = .ok (.arraylength, 1) := by decide +kernel
theorem dX5_longer_10 : decode cX5_longer 10 = .ok (.invokestatic 22, 3) := by decide +kernel
theorem dX5_longer_13 : decode cX5_longer 13 = .ok (.aload_n 2, 1) := by decide +kernel
theorem dX5_longer_14 : decode cX5_longer 14 = .ok (.areturn, 1) := by decide +kernel
abbrev cX5_set : ByteArray := prog_2_method_4_code
def yX5_set : MethodName := ⟨RX5, "set", "(IIIII)V"⟩
theorem dX5_set_0 : decode cX5_set 0 = .ok (.aload_n 0, 1) := by decide +kernel
theorem dX5_set_1 : decode cX5_set 1 = .ok (.iload_n 1, 1) := by decide +kernel
theorem dX5_set_2 : decode cX5_set 2 = .ok (.iconst 1, 1) := by decide +kernel
theorem dX5_set_3 : decode cX5_set 3 = .ok (.iadd, 1) := by decide +kernel
theorem dX5_set_4 : decode cX5_set 4 = .ok (.invokevirtual 32, 3) := by decide +kernel
theorem dX5_set_7 : decode cX5_set 7 = .ok (.aload_n 0, 1) := by decide +kernel
theorem dX5_set_8 : decode cX5_set 8 = .ok (.getfield 7, 3) := by decide +kernel
theorem dX5_set_11 : decode cX5_set 11 = .ok (.iload_n 1, 1) := by decide +kernel
theorem dX5_set_12 : decode cX5_set 12 = .ok (.iload_n 2, 1) := by decide +kernel
theorem dX5_set_13 : decode cX5_set 13 = .ok (.iastore, 1) := by decide +kernel
theorem dX5_set_14 : decode cX5_set 14 = .ok (.aload_n 0, 1) := by decide +kernel
theorem dX5_set_15 : decode cX5_set 15 = .ok (.getfield 13, 3) := by decide +kernel
theorem dX5_set_18 : decode cX5_set 18 = .ok (.iload_n 1, 1) := by decide +kernel
theorem dX5_set_19 : decode cX5_set 19 = .ok (.iload_n 3, 1) := by decide +kernel
theorem dX5_set_20 : decode cX5_set 20 = .ok (.iastore, 1) := by decide +kernel
theorem dX5_set_21 : decode cX5_set 21 = .ok (.aload_n 0, 1) := by decide +kernel
theorem dX5_set_22 : decode cX5_set 22 = .ok (.getfield 16, 3) := by decide +kernel
theorem dX5_set_25 : decode cX5_set 25 = .ok (.iload_n 1, 1) := by decide +kernel
theorem dX5_set_26 : decode cX5_set 26 = .ok (.iload 4, 2) := by decide +kernel
theorem dX5_set_28 : decode cX5_set 28 = .ok (.iastore, 1) := by decide +kernel
theorem dX5_set_29 : decode cX5_set 29 = .ok (.aload_n 0, 1) := by decide +kernel
theorem dX5_set_30 : decode cX5_set 30 = .ok (.getfield 19, 3) := by decide +kernel
theorem dX5_set_33 : decode cX5_set 33 = .ok (.iload_n 1, 1) := by decide +kernel
theorem dX5_set_34 : decode cX5_set 34 = .ok (.iload 5, 2) := by decide +kernel
theorem dX5_set_36 : decode cX5_set 36 = .ok (.iastore, 1) := by decide +kernel
theorem dX5_set_37 : decode cX5_set 37 = .ok (.return_, 1) := by decide +kernel
abbrev cX5_ready : ByteArray := prog_2_method_3_code
def yX5_ready : MethodName := ⟨RX5, "ready", "(I)V"⟩
theorem dX5_ready_0 : decode cX5_ready 0 = .ok (.aload_n 0, 1) := by decide +kernel
theorem dX5_ready_1 : decode cX5_ready 1 = .ok (.getfield 7, 3) := by decide +kernel
theorem dX5_ready_4 : decode cX5_ready 4 = .ok (.arraylength, 1) := by decide +kernel
theorem dX5_ready_5 : decode cX5_ready 5 = .ok (.istore_n 2, 1) := by decide +kernel
theorem dX5_ready_6 : decode cX5_ready 6 = .ok (.iload_n 2, 1) := by decide +kernel
theorem dX5_ready_7 : decode cX5_ready 7 = .ok (.iload_n 1, 1) := by decide +kernel
theorem dX5_ready_8 : decode cX5_ready 8 = .ok (.if_icmp .ge 10, 3) := by decide +kernel
theorem dX5_ready_11 : decode cX5_ready 11 = .ok (.iload_n 2, 1) := by decide +kernel
theorem dX5_ready_12 : decode cX5_ready 12 = .ok (.iconst 2, 1) := by decide +kernel
theorem dX5_ready_13 : decode cX5_ready 13 = .ok (.imul, 1) := by decide +kernel
theorem dX5_ready_14 : decode cX5_ready 14 = .ok (.istore_n 2, 1) := by decide +kernel
theorem dX5_ready_15 : decode cX5_ready 15 = .ok (.goto (-9), 3) := by decide +kernel
theorem dX5_ready_18 : decode cX5_ready 18 = .ok (.iload_n 2, 1) := by decide +kernel
theorem dX5_ready_19 : decode cX5_ready 19 = .ok (.aload_n 0, 1) := by decide +kernel
theorem dX5_ready_20 : decode cX5_ready 20 = .ok (.getfield 7, 3) := by decide +kernel
theorem dX5_ready_23 : decode cX5_ready 23 = .ok (.arraylength, 1) := by decide +kernel
theorem dX5_ready_24 : decode cX5_ready 24 = .ok (.if_icmp .le 51, 3) := by decide +kernel
theorem dX5_ready_27 : decode cX5_ready 27 = .ok (.aload_n 0, 1) := by decide +kernel
theorem dX5_ready_28 : decode cX5_ready 28 = .ok (.aload_n 0, 1) := by decide +kernel
theorem dX5_ready_29 : decode cX5_ready 29 = .ok (.getfield 7, 3) := by decide +kernel
theorem dX5_ready_32 : decode cX5_ready 32 = .ok (.iload_n 2, 1) := by decide +kernel
theorem dX5_ready_33 : decode cX5_ready 33 = .ok (.invokestatic 28, 3) := by decide +kernel
theorem dX5_ready_36 : decode cX5_ready 36 = .ok (.putfield 7, 3) := by decide +kernel
theorem dX5_ready_39 : decode cX5_ready 39 = .ok (.aload_n 0, 1) := by decide +kernel
theorem dX5_ready_40 : decode cX5_ready 40 = .ok (.aload_n 0, 1) := by decide +kernel
theorem dX5_ready_41 : decode cX5_ready 41 = .ok (.getfield 13, 3) := by decide +kernel
theorem dX5_ready_44 : decode cX5_ready 44 = .ok (.iload_n 2, 1) := by decide +kernel
theorem dX5_ready_45 : decode cX5_ready 45 = .ok (.invokestatic 28, 3) := by decide +kernel
theorem dX5_ready_48 : decode cX5_ready 48 = .ok (.putfield 13, 3) := by decide +kernel
theorem dX5_ready_51 : decode cX5_ready 51 = .ok (.aload_n 0, 1) := by decide +kernel
theorem dX5_ready_52 : decode cX5_ready 52 = .ok (.aload_n 0, 1) := by decide +kernel
theorem dX5_ready_53 : decode cX5_ready 53 = .ok (.getfield 16, 3) := by decide +kernel
theorem dX5_ready_56 : decode cX5_ready 56 = .ok (.iload_n 2, 1) := by decide +kernel
theorem dX5_ready_57 : decode cX5_ready 57 = .ok (.invokestatic 28, 3) := by decide +kernel
theorem dX5_ready_60 : decode cX5_ready 60 = .ok (.putfield 16, 3) := by decide +kernel
theorem dX5_ready_63 : decode cX5_ready 63 = .ok (.aload_n 0, 1) := by decide +kernel
theorem dX5_ready_64 : decode cX5_ready 64 = .ok (.aload_n 0, 1) := by decide +kernel
theorem dX5_ready_65 : decode cX5_ready 65 = .ok (.getfield 19, 3) := by decide +kernel
theorem dX5_ready_68 : decode cX5_ready 68 = .ok (.iload_n 2, 1) := by decide +kernel
theorem dX5_ready_69 : decode cX5_ready 69 = .ok (.invokestatic 28, 3) := by decide +kernel
theorem dX5_ready_72 : decode cX5_ready 72 = .ok (.putfield 19, 3) := by decide +kernel
theorem dX5_ready_75 : decode cX5_ready 75 = .ok (.return_, 1) := by decide +kernel
abbrev cX5_middle : ByteArray := prog_2_method_11_code
def yX5_middle : MethodName := ⟨RX5, "middle", "(IZ)J"⟩
theorem dX5_middle_0 : decode cX5_middle 0 = .ok (.iload_n 2, 1) := by decide +kernel
theorem dX5_middle_1 : decode cX5_middle 1 = .ok (.ifCond .eq 21, 3) := by decide +kernel
theorem dX5_middle_4 : decode cX5_middle 4 = .ok (.aload_n 0, 1) := by decide +kernel
theorem dX5_middle_5 : decode cX5_middle 5 = .ok (.getfield 13, 3) := by decide +kernel
theorem dX5_middle_8 : decode cX5_middle 8 = .ok (.iload_n 1, 1) := by decide +kernel
theorem dX5_middle_9 : decode cX5_middle 9 = .ok (.iaload, 1) := by decide +kernel
theorem dX5_middle_10 : decode cX5_middle 10 = .ok (.i2l, 1) := by decide +kernel
theorem dX5_middle_11 : decode cX5_middle 11 = .ok (.aload_n 0, 1) := by decide +kernel
theorem dX5_middle_12 : decode cX5_middle 12 = .ok (.getfield 19, 3) := by decide +kernel
theorem dX5_middle_15 : decode cX5_middle 15 = .ok (.iload_n 1, 1) := by decide +kernel
theorem dX5_middle_16 : decode cX5_middle 16 = .ok (.iaload, 1) := by decide +kernel
theorem dX5_middle_17 : decode cX5_middle 17 = .ok (.i2l, 1) := by decide +kernel
theorem dX5_middle_18 : decode cX5_middle 18 = .ok (.ladd, 1) := by decide +kernel
theorem dX5_middle_19 : decode cX5_middle 19 = .ok (.goto 18, 3) := by decide +kernel
theorem dX5_middle_22 : decode cX5_middle 22 = .ok (.aload_n 0, 1) := by decide +kernel
theorem dX5_middle_23 : decode cX5_middle 23 = .ok (.getfield 7, 3) := by decide +kernel
theorem dX5_middle_26 : decode cX5_middle 26 = .ok (.iload_n 1, 1) := by decide +kernel
theorem dX5_middle_27 : decode cX5_middle 27 = .ok (.iaload, 1) := by decide +kernel
theorem dX5_middle_28 : decode cX5_middle 28 = .ok (.i2l, 1) := by decide +kernel
theorem dX5_middle_29 : decode cX5_middle 29 = .ok (.aload_n 0, 1) := by decide +kernel
theorem dX5_middle_30 : decode cX5_middle 30 = .ok (.getfield 16, 3) := by decide +kernel
theorem dX5_middle_33 : decode cX5_middle 33 = .ok (.iload_n 1, 1) := by decide +kernel
theorem dX5_middle_34 : decode cX5_middle 34 = .ok (.iaload, 1) := by decide +kernel
theorem dX5_middle_35 : decode cX5_middle 35 = .ok (.i2l, 1) := by decide +kernel
theorem dX5_middle_36 : decode cX5_middle 36 = .ok (.ladd, 1) := by decide +kernel
theorem dX5_middle_37 : decode cX5_middle 37 = .ok (.lreturn, 1) := by decide +kernel
abbrev cX5_join : ByteArray := prog_2_method_5_code
def yX5_join : MethodName := ⟨RX5, "join", "(ILShapeRelator$Bounds;I)V"⟩
theorem dX5_join_0 : decode cX5_join 0 = .ok (.aload_n 0, 1) := by decide +kernel
theorem dX5_join_1 : decode cX5_join 1 = .ok (.getfield 7, 3) := by decide +kernel
theorem dX5_join_4 : decode cX5_join 4 = .ok (.iload_n 1, 1) := by decide +kernel
theorem dX5_join_5 : decode cX5_join 5 = .ok (.aload_n 0, 1) := by decide +kernel
theorem dX5_join_6 : decode cX5_join 6 = .ok (.getfield 7, 3) := by decide +kernel
theorem dX5_join_9 : decode cX5_join 9 = .ok (.iload_n 1, 1) := by decide +kernel
theorem dX5_join_10 : decode cX5_join 10 = .ok (.iaload, 1) := by decide +kernel
theorem dX5_join_11 : decode cX5_join 11 = .ok (.aload_n 2, 1) := by decide +kernel
theorem dX5_join_12 : decode cX5_join 12 = .ok (.getfield 7, 3) := by decide +kernel
theorem dX5_join_15 : decode cX5_join 15 = .ok (.iload_n 3, 1) := by decide +kernel
theorem dX5_join_16 : decode cX5_join 16 = .ok (.iaload, 1) := by decide +kernel
theorem dX5_join_17 : decode cX5_join 17 = .ok (.invokestatic 36, 3) := by decide +kernel
theorem dX5_join_20 : decode cX5_join 20 = .ok (.iastore, 1) := by decide +kernel
theorem dX5_join_21 : decode cX5_join 21 = .ok (.aload_n 0, 1) := by decide +kernel
theorem dX5_join_22 : decode cX5_join 22 = .ok (.getfield 13, 3) := by decide +kernel
theorem dX5_join_25 : decode cX5_join 25 = .ok (.iload_n 1, 1) := by decide +kernel
theorem dX5_join_26 : decode cX5_join 26 = .ok (.aload_n 0, 1) := by decide +kernel
theorem dX5_join_27 : decode cX5_join 27 = .ok (.getfield 13, 3) := by decide +kernel
theorem dX5_join_30 : decode cX5_join 30 = .ok (.iload_n 1, 1) := by decide +kernel
theorem dX5_join_31 : decode cX5_join 31 = .ok (.iaload, 1) := by decide +kernel
theorem dX5_join_32 : decode cX5_join 32 = .ok (.aload_n 2, 1) := by decide +kernel
theorem dX5_join_33 : decode cX5_join 33 = .ok (.getfield 13, 3) := by decide +kernel
theorem dX5_join_36 : decode cX5_join 36 = .ok (.iload_n 3, 1) := by decide +kernel
theorem dX5_join_37 : decode cX5_join 37 = .ok (.iaload, 1) := by decide +kernel
theorem dX5_join_38 : decode cX5_join 38 = .ok (.invokestatic 36, 3) := by decide +kernel
theorem dX5_join_41 : decode cX5_join 41 = .ok (.iastore, 1) := by decide +kernel
theorem dX5_join_42 : decode cX5_join 42 = .ok (.aload_n 0, 1) := by decide +kernel
theorem dX5_join_43 : decode cX5_join 43 = .ok (.getfield 16, 3) := by decide +kernel
theorem dX5_join_46 : decode cX5_join 46 = .ok (.iload_n 1, 1) := by decide +kernel
theorem dX5_join_47 : decode cX5_join 47 = .ok (.aload_n 0, 1) := by decide +kernel
theorem dX5_join_48 : decode cX5_join 48 = .ok (.getfield 16, 3) := by decide +kernel
theorem dX5_join_51 : decode cX5_join 51 = .ok (.iload_n 1, 1) := by decide +kernel
theorem dX5_join_52 : decode cX5_join 52 = .ok (.iaload, 1) := by decide +kernel
theorem dX5_join_53 : decode cX5_join 53 = .ok (.aload_n 2, 1) := by decide +kernel
theorem dX5_join_54 : decode cX5_join 54 = .ok (.getfield 16, 3) := by decide +kernel
theorem dX5_join_57 : decode cX5_join 57 = .ok (.iload_n 3, 1) := by decide +kernel
theorem dX5_join_58 : decode cX5_join 58 = .ok (.iaload, 1) := by decide +kernel
theorem dX5_join_59 : decode cX5_join 59 = .ok (.invokestatic 42, 3) := by decide +kernel
theorem dX5_join_62 : decode cX5_join 62 = .ok (.iastore, 1) := by decide +kernel
theorem dX5_join_63 : decode cX5_join 63 = .ok (.aload_n 0, 1) := by decide +kernel
theorem dX5_join_64 : decode cX5_join 64 = .ok (.getfield 19, 3) := by decide +kernel
theorem dX5_join_67 : decode cX5_join 67 = .ok (.iload_n 1, 1) := by decide +kernel
theorem dX5_join_68 : decode cX5_join 68 = .ok (.aload_n 0, 1) := by decide +kernel
theorem dX5_join_69 : decode cX5_join 69 = .ok (.getfield 19, 3) := by decide +kernel
theorem dX5_join_72 : decode cX5_join 72 = .ok (.iload_n 1, 1) := by decide +kernel
theorem dX5_join_73 : decode cX5_join 73 = .ok (.iaload, 1) := by decide +kernel
theorem dX5_join_74 : decode cX5_join 74 = .ok (.aload_n 2, 1) := by decide +kernel
theorem dX5_join_75 : decode cX5_join 75 = .ok (.getfield 19, 3) := by decide +kernel
theorem dX5_join_78 : decode cX5_join 78 = .ok (.iload_n 3, 1) := by decide +kernel
theorem dX5_join_79 : decode cX5_join 79 = .ok (.iaload, 1) := by decide +kernel
theorem dX5_join_80 : decode cX5_join 80 = .ok (.invokestatic 42, 3) := by decide +kernel
theorem dX5_join_83 : decode cX5_join 83 = .ok (.iastore, 1) := by decide +kernel
theorem dX5_join_84 : decode cX5_join 84 = .ok (.return_, 1) := by decide +kernel
abbrev cX5_meets : ByteArray := prog_2_method_6_code
def yX5_meets : MethodName := ⟨RX5, "meets", "(IIIII)Z"⟩
theorem dX5_meets_0 : decode cX5_meets 0 = .ok (.aload_n 0, 1) := by decide +kernel
theorem dX5_meets_1 : decode cX5_meets 1 = .ok (.getfield 7, 3) := by decide +kernel
theorem dX5_meets_4 : decode cX5_meets 4 = .ok (.iload_n 1, 1) := by decide +kernel
theorem dX5_meets_5 : decode cX5_meets 5 = .ok (.iaload, 1) := by decide +kernel
theorem dX5_meets_6 : decode cX5_meets 6 = .ok (.iload 4, 2) := by decide +kernel
theorem dX5_meets_8 : decode cX5_meets 8 = .ok (.if_icmp .gt 38, 3) := by decide +kernel
theorem dX5_meets_11 : decode cX5_meets 11 = .ok (.aload_n 0, 1) := by decide +kernel
theorem dX5_meets_12 : decode cX5_meets 12 = .ok (.getfield 16, 3) := by decide +kernel
theorem dX5_meets_15 : decode cX5_meets 15 = .ok (.iload_n 1, 1) := by decide +kernel
theorem dX5_meets_16 : decode cX5_meets 16 = .ok (.iaload, 1) := by decide +kernel
theorem dX5_meets_17 : decode cX5_meets 17 = .ok (.iload_n 2, 1) := by decide +kernel
theorem dX5_meets_18 : decode cX5_meets 18 = .ok (.if_icmp .lt 28, 3) := by decide +kernel
theorem dX5_meets_21 : decode cX5_meets 21 = .ok (.aload_n 0, 1) := by decide +kernel
theorem dX5_meets_22 : decode cX5_meets 22 = .ok (.getfield 13, 3) := by decide +kernel
theorem dX5_meets_25 : decode cX5_meets 25 = .ok (.iload_n 1, 1) := by decide +kernel
theorem dX5_meets_26 : decode cX5_meets 26 = .ok (.iaload, 1) := by decide +kernel
theorem dX5_meets_27 : decode cX5_meets 27 = .ok (.iload 5, 2) := by decide +kernel
theorem dX5_meets_29 : decode cX5_meets 29 = .ok (.if_icmp .gt 17, 3) := by decide +kernel
theorem dX5_meets_32 : decode cX5_meets 32 = .ok (.aload_n 0, 1) := by decide +kernel
theorem dX5_meets_33 : decode cX5_meets 33 = .ok (.getfield 19, 3) := by decide +kernel
theorem dX5_meets_36 : decode cX5_meets 36 = .ok (.iload_n 1, 1) := by decide +kernel
theorem dX5_meets_37 : decode cX5_meets 37 = .ok (.iaload, 1) := by decide +kernel
theorem dX5_meets_38 : decode cX5_meets 38 = .ok (.iload_n 3, 1) := by decide +kernel
theorem dX5_meets_39 : decode cX5_meets 39 = .ok (.if_icmp .lt 7, 3) := by decide +kernel
theorem dX5_meets_42 : decode cX5_meets 42 = .ok (.iconst 1, 1) := by decide +kernel
theorem dX5_meets_43 : decode cX5_meets 43 = .ok (.goto 4, 3) := by decide +kernel
theorem dX5_meets_46 : decode cX5_meets 46 = .ok (.iconst 0, 1) := by decide +kernel
theorem dX5_meets_47 : decode cX5_meets 47 = .ok (.ireturn, 1) := by decide +kernel
theorem q75 : (Jvm.Cond.initialized "ShapeRelator$Bounds") ∈ lw_all := lw_g (lw_at lw_m1 5 rfl) rfl
theorem q177 : (Jvm.Cond.instantiable "ShapeRelator$Bounds" (4 : Nat)) ∈ lw_all := lw_g (lw_at lw_m1 107 rfl) rfl
theorem q179 : (Jvm.Cond.instanceMethod ({ cls := "ShapeRelator$Bounds", name := "<init>", desc := "()V" } : Jvm.MethodName)) ∈ lw_all := lw_g (lw_at lw_m1 109 rfl) rfl
theorem q180 : (Jvm.Cond.code ({ cls := "ShapeRelator$Bounds", name := "<init>", desc := "()V" } : Jvm.MethodName) prog_2_method_1_code (1 : Nat) (Option.none : Option Jvm.ClassFile.FieldType)) ∈ lw_all := lw_g (lw_at lw_m1 110 rfl) rfl
theorem q181 : (Jvm.Cond.methodLink "ShapeRelator$Bounds" (1 : Nat) ({ cls := "java/lang/Object", name := "<init>", desc := "()V" } : Jvm.MethodName)) ∈ lw_all := lw_g (lw_at lw_m1 111 rfl) rfl
theorem q182 : (Jvm.Cond.fieldLink "ShapeRelator$Bounds" (7 : Nat) "ShapeRelator$Bounds" "lowX" "[I") ∈ lw_all := lw_g (lw_at lw_m1 112 rfl) rfl
theorem q184 : (Jvm.Cond.fieldLink "ShapeRelator$Bounds" (13 : Nat) "ShapeRelator$Bounds" "lowY" "[I") ∈ lw_all := lw_g (lw_at lw_m1 114 rfl) rfl
theorem q186 : (Jvm.Cond.fieldLink "ShapeRelator$Bounds" (16 : Nat) "ShapeRelator$Bounds" "highX" "[I") ∈ lw_all := lw_g (lw_at lw_m1 116 rfl) rfl
theorem q188 : (Jvm.Cond.fieldLink "ShapeRelator$Bounds" (19 : Nat) "ShapeRelator$Bounds" "highY" "[I") ∈ lw_all := lw_g (lw_at lw_m1 118 rfl) rfl
theorem q190 : (Jvm.Cond.lays "ShapeRelator$Bounds" "ShapeRelator$Bounds" "lowX" "[I") ∈ lw_all := lw_g (lw_at lw_m1 120 rfl) rfl
theorem q191 : (Jvm.Cond.soleField "ShapeRelator$Bounds" "lowX") ∈ lw_all := lw_g (lw_at lw_m1 121 rfl) rfl
theorem q192 : (Jvm.Cond.lays "ShapeRelator$Bounds" "ShapeRelator$Bounds" "lowY" "[I") ∈ lw_all := lw_g (lw_at lw_m1 122 rfl) rfl
theorem q193 : (Jvm.Cond.soleField "ShapeRelator$Bounds" "lowY") ∈ lw_all := lw_g (lw_at lw_m1 123 rfl) rfl
theorem q194 : (Jvm.Cond.lays "ShapeRelator$Bounds" "ShapeRelator$Bounds" "highX" "[I") ∈ lw_all := lw_g (lw_at lw_m1 124 rfl) rfl
theorem q195 : (Jvm.Cond.soleField "ShapeRelator$Bounds" "highX") ∈ lw_all := lw_g (lw_at lw_m1 125 rfl) rfl
theorem q196 : (Jvm.Cond.lays "ShapeRelator$Bounds" "ShapeRelator$Bounds" "highY" "[I") ∈ lw_all := lw_g (lw_at lw_m1 126 rfl) rfl
theorem q197 : (Jvm.Cond.soleField "ShapeRelator$Bounds" "highY") ∈ lw_all := lw_g (lw_at lw_m1 127 rfl) rfl
theorem q198 : (Jvm.Cond.superclass "ShapeRelator$Bounds" "java/lang/Object") ∈ lw_all := lw_g (lw_at lw_m1 128 rfl) rfl
theorem q395 : (Jvm.Cond.static ({ cls := "ShapeRelator$Bounds", name := "longer", desc := "([II)[I" } : Jvm.MethodName)) ∈ lw_all := lw_g (lw_at lw_m2 85 rfl) rfl
theorem q396 : (Jvm.Cond.code ({ cls := "ShapeRelator$Bounds", name := "longer", desc := "([II)[I" } : Jvm.MethodName) prog_2_method_2_code (3 : Nat) (Option.some (Jvm.ClassFile.FieldType.array Jvm.ClassFile.FieldType.int))) ∈ lw_all := lw_g (lw_at lw_m2 86 rfl) rfl
theorem q397 : (Jvm.Cond.methodLink "ShapeRelator$Bounds" (22 : Nat) ({ cls := "java/lang/System", name := "arraycopy", desc := "(Ljava/lang/Object;ILjava/lang/Object;II)V" } : Jvm.MethodName)) ∈ lw_all := lw_g (lw_at lw_m2 87 rfl) rfl
theorem q407 : (Jvm.Cond.instanceMethod ({ cls := "ShapeRelator$Bounds", name := "set", desc := "(IIIII)V" } : Jvm.MethodName)) ∈ lw_all := lw_g (lw_at lw_m2 97 rfl) rfl
theorem q408 : (Jvm.Cond.selects "ShapeRelator$Bounds" ({ cls := "ShapeRelator$Bounds", name := "set", desc := "(IIIII)V" } : Jvm.MethodName) ({ cls := "ShapeRelator$Bounds", name := "set", desc := "(IIIII)V" } : Jvm.MethodName)) ∈ lw_all := lw_g (lw_at lw_m2 98 rfl) rfl
theorem q409 : (Jvm.Cond.sameMethod "ShapeRelator$Bounds" "ShapeRelator$Bounds" "set" "(IIIII)V") ∈ lw_all := lw_g (lw_at lw_m2 99 rfl) rfl
theorem q411 : (Jvm.Cond.code ({ cls := "ShapeRelator$Bounds", name := "set", desc := "(IIIII)V" } : Jvm.MethodName) prog_2_method_4_code (6 : Nat) (Option.none : Option Jvm.ClassFile.FieldType)) ∈ lw_all := lw_g (lw_at lw_m2 101 rfl) rfl
theorem q412 : (Jvm.Cond.methodLink "ShapeRelator$Bounds" (32 : Nat) ({ cls := "ShapeRelator$Bounds", name := "ready", desc := "(I)V" } : Jvm.MethodName)) ∈ lw_all := lw_g (lw_at lw_m2 102 rfl) rfl
theorem q413 : (Jvm.Cond.instanceMethod ({ cls := "ShapeRelator$Bounds", name := "ready", desc := "(I)V" } : Jvm.MethodName)) ∈ lw_all := lw_g (lw_at lw_m2 103 rfl) rfl
theorem q414 : (Jvm.Cond.selects "ShapeRelator$Bounds" ({ cls := "ShapeRelator$Bounds", name := "ready", desc := "(I)V" } : Jvm.MethodName) ({ cls := "ShapeRelator$Bounds", name := "ready", desc := "(I)V" } : Jvm.MethodName)) ∈ lw_all := lw_g (lw_at lw_m2 104 rfl) rfl
theorem q415 : (Jvm.Cond.sameMethod "ShapeRelator$Bounds" "ShapeRelator$Bounds" "ready" "(I)V") ∈ lw_all := lw_g (lw_at lw_m2 105 rfl) rfl
theorem q417 : (Jvm.Cond.code ({ cls := "ShapeRelator$Bounds", name := "ready", desc := "(I)V" } : Jvm.MethodName) prog_2_method_3_code (3 : Nat) (Option.none : Option Jvm.ClassFile.FieldType)) ∈ lw_all := lw_g (lw_at lw_m2 107 rfl) rfl
theorem q418 : (Jvm.Cond.methodLink "ShapeRelator$Bounds" (28 : Nat) ({ cls := "ShapeRelator$Bounds", name := "longer", desc := "([II)[I" } : Jvm.MethodName)) ∈ lw_all := lw_g (lw_at lw_m2 108 rfl) rfl
theorem q433 : (Jvm.Cond.instanceMethod ({ cls := "ShapeRelator$Bounds", name := "middle", desc := "(IZ)J" } : Jvm.MethodName)) ∈ lw_all := lw_g (lw_at lw_m2 123 rfl) rfl
theorem q434 : (Jvm.Cond.selects "ShapeRelator$Bounds" ({ cls := "ShapeRelator$Bounds", name := "middle", desc := "(IZ)J" } : Jvm.MethodName) ({ cls := "ShapeRelator$Bounds", name := "middle", desc := "(IZ)J" } : Jvm.MethodName)) ∈ lw_all := lw_g (lw_at lw_m2 124 rfl) rfl
theorem q435 : (Jvm.Cond.sameMethod "ShapeRelator$Bounds" "ShapeRelator$Bounds" "middle" "(IZ)J") ∈ lw_all := lw_g (lw_at lw_m2 125 rfl) rfl
theorem q437 : (Jvm.Cond.code ({ cls := "ShapeRelator$Bounds", name := "middle", desc := "(IZ)J" } : Jvm.MethodName) prog_2_method_11_code (3 : Nat) (Option.some Jvm.ClassFile.FieldType.long)) ∈ lw_all := lw_g (lw_at lw_m2 127 rfl) rfl
theorem q470 : (Jvm.Cond.declares ({ cls := "ShapeRelator$Bounds", name := "set", desc := "(IIIII)V" } : Jvm.MethodName)) ∈ lw_tbl := lw_at lw_m2 160 rfl
theorem q474 : (Jvm.Cond.declares ({ cls := "ShapeRelator$Bounds", name := "join", desc := "(ILShapeRelator$Bounds;I)V" } : Jvm.MethodName)) ∈ lw_tbl := lw_at lw_m2 164 rfl
theorem q476 : (Jvm.Cond.instanceMethod ({ cls := "ShapeRelator$Bounds", name := "join", desc := "(ILShapeRelator$Bounds;I)V" } : Jvm.MethodName)) ∈ lw_all := lw_g (lw_at lw_m2 166 rfl) rfl
theorem q477 : (Jvm.Cond.code ({ cls := "ShapeRelator$Bounds", name := "join", desc := "(ILShapeRelator$Bounds;I)V" } : Jvm.MethodName) prog_2_method_5_code (4 : Nat) (Option.none : Option Jvm.ClassFile.FieldType)) ∈ lw_all := lw_g (lw_at lw_m2 167 rfl) rfl
theorem q478 : (Jvm.Cond.methodLink "ShapeRelator$Bounds" (36 : Nat) ({ cls := "java/lang/Math", name := "min", desc := "(II)I" } : Jvm.MethodName)) ∈ lw_all := lw_g (lw_at lw_m2 168 rfl) rfl
theorem q479 : (Jvm.Cond.methodLink "ShapeRelator$Bounds" (42 : Nat) ({ cls := "java/lang/Math", name := "max", desc := "(II)I" } : Jvm.MethodName)) ∈ lw_all := lw_g (lw_at lw_m2 169 rfl) rfl
theorem q502 : (Jvm.Cond.declares ({ cls := "ShapeRelator$Bounds", name := "meets", desc := "(IIIII)Z" } : Jvm.MethodName)) ∈ lw_tbl := lw_at lw_m2 192 rfl
theorem q504 : (Jvm.Cond.instanceMethod ({ cls := "ShapeRelator$Bounds", name := "meets", desc := "(IIIII)Z" } : Jvm.MethodName)) ∈ lw_all := lw_g (lw_at lw_m2 194 rfl) rfl
theorem q505 : (Jvm.Cond.code ({ cls := "ShapeRelator$Bounds", name := "meets", desc := "(IIIII)Z" } : Jvm.MethodName) prog_2_method_6_code (6 : Nat) (Option.some Jvm.ClassFile.FieldType.boolean)) ∈ lw_all := lw_g (lw_at lw_m2 195 rfl) rfl
theorem in_X5 : ∀ w ∈ wsX50, w ∈ lw_all := lw_in wsX50 [190, 192, 194, 196] (by decide +kernel) (by decide +kernel)
/-! ShapeRelator$Part -/
set_option maxRecDepth 100000
def RX11 : String := "ShapeRelator$Part"
abbrev cX11_compare : ByteArray := prog_5_method_2_code
def yX11_compare : MethodName := ⟨RX11, "compare", "(JJJJ)I"⟩
theorem dX11_compare_0 : decode cX11_compare 0 = .ok (.lload_n 0, 1) := by decide +kernel
theorem dX11_compare_1 : decode cX11_compare 1 = .ok (.lload 6, 2) := by decide +kernel
theorem dX11_compare_3 : decode cX11_compare 3 = .ok (.invokestatic 7, 3) := by decide +kernel
theorem dX11_compare_6 : decode cX11_compare 6 = .ok (.lstore 8, 2) := by decide +kernel
theorem dX11_compare_8 : decode cX11_compare 8 = .ok (.lload 4, 2) := by decide +kernel
theorem dX11_compare_10 : decode cX11_compare 10 = .ok (.lload_n 2, 1) := by decide +kernel
theorem dX11_compare_11 : decode cX11_compare 11 = .ok (.invokestatic 7, 3) := by decide +kernel
theorem dX11_compare_14 : decode cX11_compare 14 = .ok (.lstore 10, 2) := by decide +kernel
theorem dX11_compare_16 : decode cX11_compare 16 = .ok (.lload 8, 2) := by decide +kernel
theorem dX11_compare_18 : decode cX11_compare 18 = .ok (.lload 10, 2) := by decide +kernel
theorem dX11_compare_20 : decode cX11_compare 20 = .ok (.lcmp, 1) := by decide +kernel
theorem dX11_compare_21 : decode cX11_compare 21 = .ok (.ifCond .eq 17, 3) := by decide +kernel
theorem dX11_compare_24 : decode cX11_compare 24 = .ok (.lload 8, 2) := by decide +kernel
theorem dX11_compare_26 : decode cX11_compare 26 = .ok (.lload 10, 2) := by decide +kernel
theorem dX11_compare_28 : decode cX11_compare 28 = .ok (.lcmp, 1) := by decide +kernel
theorem dX11_compare_29 : decode cX11_compare 29 = .ok (.ifCond .ge 7, 3) := by decide +kernel
theorem dX11_compare_32 : decode cX11_compare 32 = .ok (.iconst (-1), 1) := by decide +kernel
theorem dX11_compare_33 : decode cX11_compare 33 = .ok (.goto 4, 3) := by decide +kernel
theorem dX11_compare_36 : decode cX11_compare 36 = .ok (.iconst 1, 1) := by decide +kernel
theorem dX11_compare_37 : decode cX11_compare 37 = .ok (.ireturn, 1) := by decide +kernel
theorem dX11_compare_38 : decode cX11_compare 38 = .ok (.lload_n 0, 1) := by decide +kernel
theorem dX11_compare_39 : decode cX11_compare 39 = .ok (.lload 6, 2) := by decide +kernel
theorem dX11_compare_41 : decode cX11_compare 41 = .ok (.lmul, 1) := by decide +kernel
theorem dX11_compare_42 : decode cX11_compare 42 = .ok (.ldc2_w 15, 3) := by decide +kernel
theorem dX11_compare_45 : decode cX11_compare 45 = .ok (.ladd, 1) := by decide +kernel
theorem dX11_compare_46 : decode cX11_compare 46 = .ok (.lstore 12, 2) := by decide +kernel
theorem dX11_compare_48 : decode cX11_compare 48 = .ok (.lload 4, 2) := by decide +kernel
theorem dX11_compare_50 : decode cX11_compare 50 = .ok (.lload_n 2, 1) := by decide +kernel
theorem dX11_compare_51 : decode cX11_compare 51 = .ok (.lmul, 1) := by decide +kernel
theorem dX11_compare_52 : decode cX11_compare 52 = .ok (.ldc2_w 15, 3) := by decide +kernel
theorem dX11_compare_55 : decode cX11_compare 55 = .ok (.ladd, 1) := by decide +kernel
theorem dX11_compare_56 : decode cX11_compare 56 = .ok (.lstore 14, 2) := by decide +kernel
theorem dX11_compare_58 : decode cX11_compare 58 = .ok (.lload 12, 2) := by decide +kernel
theorem dX11_compare_60 : decode cX11_compare 60 = .ok (.lload 14, 2) := by decide +kernel
theorem dX11_compare_62 : decode cX11_compare 62 = .ok (.lcmp, 1) := by decide +kernel
theorem dX11_compare_63 : decode cX11_compare 63 = .ok (.ifCond .ge 7, 3) := by decide +kernel
theorem dX11_compare_66 : decode cX11_compare 66 = .ok (.iconst (-1), 1) := by decide +kernel
theorem dX11_compare_67 : decode cX11_compare 67 = .ok (.goto 16, 3) := by decide +kernel
theorem dX11_compare_70 : decode cX11_compare 70 = .ok (.lload 12, 2) := by decide +kernel
theorem dX11_compare_72 : decode cX11_compare 72 = .ok (.lload 14, 2) := by decide +kernel
theorem dX11_compare_74 : decode cX11_compare 74 = .ok (.lcmp, 1) := by decide +kernel
theorem dX11_compare_75 : decode cX11_compare 75 = .ok (.ifCond .le 7, 3) := by decide +kernel
theorem dX11_compare_78 : decode cX11_compare 78 = .ok (.iconst 1, 1) := by decide +kernel
theorem dX11_compare_79 : decode cX11_compare 79 = .ok (.goto 4, 3) := by decide +kernel
theorem dX11_compare_82 : decode cX11_compare 82 = .ok (.iconst 0, 1) := by decide +kernel
theorem dX11_compare_83 : decode cX11_compare 83 = .ok (.ireturn, 1) := by decide +kernel
theorem q91 : (Jvm.Cond.initialized "ShapeRelator$Part") ∈ lw_all := lw_g (lw_at lw_m1 21 rfl) rfl
theorem q580 : (Jvm.Cond.static ({ cls := "ShapeRelator$Part", name := "compare", desc := "(JJJJ)I" } : Jvm.MethodName)) ∈ lw_all := lw_g (lw_at lw_m3 30 rfl) rfl
theorem q581 : (Jvm.Cond.code ({ cls := "ShapeRelator$Part", name := "compare", desc := "(JJJJ)I" } : Jvm.MethodName) prog_5_method_2_code (16 : Nat) (Option.some Jvm.ClassFile.FieldType.int)) ∈ lw_all := lw_g (lw_at lw_m3 31 rfl) rfl
theorem q582 : (Jvm.Cond.methodLink "ShapeRelator$Part" (7 : Nat) ({ cls := "java/lang/Math", name := "multiplyHigh", desc := "(JJ)J" } : Jvm.MethodName)) ∈ lw_all := lw_g (lw_at lw_m3 32 rfl) rfl
theorem q586 : (Jvm.Cond.constantLong "ShapeRelator$Part" (15 : Nat) (-9223372036854775808 : Int64)) ∈ lw_all := lw_g (lw_at lw_m3 36 rfl) rfl
/-! ShapeRelator$Step -/
set_option maxRecDepth 100000
def RX9 : String := "ShapeRelator$Step"
def TX9 : u_T := fun k => match k with
  | 0 => ("ShapeRelator$Step", "x", "I", false)
  | 1 => ("ShapeRelator$Step", "y", "I", false)
  | 2 => ("ShapeRelator$Step", "byX", "J", false)
  | 3 => ("ShapeRelator$Step", "byY", "J", false)
  | 4 => ("ShapeRelator$Step", "lessX", "J", false)
  | _ => ("ShapeRelator$Step", "lessY", "J", false)
def tyX9 : Nat → FieldType := fun k => match k with
  | 0 => .int
  | 1 => .int
  | 2 => .long
  | 3 => .long
  | 4 => .long
  | _ => .long
abbrev wsX90 : List Cond := u_ws RX9 TX9 6
theorem nmX9 : ∀ a, a < 6 → ∀ b, b < 6 → a ≠ b → (TX9 a).2.1 ≠ (TX9 b).2.1 := by decide +kernel
theorem tyX9_ok : ∀ k, k < 6 → parseFieldDescriptor (TX9 k).2.2.1 = some (tyX9 k) := by decide +kernel
abbrev cX9_init : ByteArray := prog_9_method_1_code
def yX9_init : MethodName := ⟨RX9, "<init>", "()V"⟩
theorem dX9_init_0 : decode cX9_init 0 = .ok (.aload_n 0, 1) := by decide +kernel
theorem dX9_init_1 : decode cX9_init 1 = .ok (.invokespecial 1, 3) := by decide +kernel
theorem dX9_init_4 : decode cX9_init 4 = .ok (.return_, 1) := by decide +kernel
abbrev cX9_set : ByteArray := prog_9_method_2_code
def yX9_set : MethodName := ⟨RX9, "set", "(IIJJ)V"⟩
theorem dX9_set_0 : decode cX9_set 0 = .ok (.aload_n 0, 1) := by decide +kernel
theorem dX9_set_1 : decode cX9_set 1 = .ok (.iload_n 1, 1) := by decide +kernel
theorem dX9_set_2 : decode cX9_set 2 = .ok (.putfield 7, 3) := by decide +kernel
theorem dX9_set_5 : decode cX9_set 5 = .ok (.aload_n 0, 1) := by decide +kernel
theorem dX9_set_6 : decode cX9_set 6 = .ok (.iload_n 2, 1) := by decide +kernel
theorem dX9_set_7 : decode cX9_set 7 = .ok (.putfield 13, 3) := by decide +kernel
theorem dX9_set_10 : decode cX9_set 10 = .ok (.aload_n 0, 1) := by decide +kernel
theorem dX9_set_11 : decode cX9_set 11 = .ok (.lload_n 3, 1) := by decide +kernel
theorem dX9_set_12 : decode cX9_set 12 = .ok (.putfield 16, 3) := by decide +kernel
theorem dX9_set_15 : decode cX9_set 15 = .ok (.aload_n 0, 1) := by decide +kernel
theorem dX9_set_16 : decode cX9_set 16 = .ok (.lload 5, 2) := by decide +kernel
theorem dX9_set_18 : decode cX9_set 18 = .ok (.putfield 20, 3) := by decide +kernel
theorem dX9_set_21 : decode cX9_set 21 = .ok (.aload_n 0, 1) := by decide +kernel
theorem dX9_set_22 : decode cX9_set 22 = .ok (.lconst 0, 1) := by decide +kernel
theorem dX9_set_23 : decode cX9_set 23 = .ok (.putfield 23, 3) := by decide +kernel
theorem dX9_set_26 : decode cX9_set 26 = .ok (.aload_n 0, 1) := by decide +kernel
theorem dX9_set_27 : decode cX9_set 27 = .ok (.lconst 0, 1) := by decide +kernel
theorem dX9_set_28 : decode cX9_set 28 = .ok (.putfield 26, 3) := by decide +kernel
theorem dX9_set_31 : decode cX9_set 31 = .ok (.return_, 1) := by decide +kernel
abbrev cX9_isBelow : ByteArray := prog_9_method_5_code
def yX9_isBelow : MethodName := ⟨RX9, "isBelow", "(I)Z"⟩
theorem dX9_isBelow_0 : decode cX9_isBelow 0 = .ok (.iload_n 1, 1) := by decide +kernel
theorem dX9_isBelow_1 : decode cX9_isBelow 1 = .ok (.aload_n 0, 1) := by decide +kernel
theorem dX9_isBelow_2 : decode cX9_isBelow 2 = .ok (.getfield 13, 3) := by decide +kernel
theorem dX9_isBelow_5 : decode cX9_isBelow 5 = .ok (.if_icmp .eq 19, 3) := by decide +kernel
theorem dX9_isBelow_8 : decode cX9_isBelow 8 = .ok (.iload_n 1, 1) := by decide +kernel
theorem dX9_isBelow_9 : decode cX9_isBelow 9 = .ok (.aload_n 0, 1) := by decide +kernel
theorem dX9_isBelow_10 : decode cX9_isBelow 10 = .ok (.getfield 13, 3) := by decide +kernel
theorem dX9_isBelow_13 : decode cX9_isBelow 13 = .ok (.if_icmp .le 7, 3) := by decide +kernel
theorem dX9_isBelow_16 : decode cX9_isBelow 16 = .ok (.iconst 1, 1) := by decide +kernel
theorem dX9_isBelow_17 : decode cX9_isBelow 17 = .ok (.goto 47, 3) := by decide +kernel
theorem dX9_isBelow_20 : decode cX9_isBelow 20 = .ok (.iconst 0, 1) := by decide +kernel
theorem dX9_isBelow_21 : decode cX9_isBelow 21 = .ok (.goto 43, 3) := by decide +kernel
theorem dX9_isBelow_24 : decode cX9_isBelow 24 = .ok (.aload_n 0, 1) := by decide +kernel
theorem dX9_isBelow_25 : decode cX9_isBelow 25 = .ok (.getfield 20, 3) := by decide +kernel
theorem dX9_isBelow_28 : decode cX9_isBelow 28 = .ok (.lconst 0, 1) := by decide +kernel
theorem dX9_isBelow_29 : decode cX9_isBelow 29 = .ok (.lcmp, 1) := by decide +kernel
theorem dX9_isBelow_30 : decode cX9_isBelow 30 = .ok (.ifCond .eq 20, 3) := by decide +kernel
theorem dX9_isBelow_33 : decode cX9_isBelow 33 = .ok (.aload_n 0, 1) := by decide +kernel
theorem dX9_isBelow_34 : decode cX9_isBelow 34 = .ok (.getfield 20, 3) := by decide +kernel
theorem dX9_isBelow_37 : decode cX9_isBelow 37 = .ok (.lconst 0, 1) := by decide +kernel
theorem dX9_isBelow_38 : decode cX9_isBelow 38 = .ok (.lcmp, 1) := by decide +kernel
theorem dX9_isBelow_39 : decode cX9_isBelow 39 = .ok (.ifCond .ge 7, 3) := by decide +kernel
theorem dX9_isBelow_42 : decode cX9_isBelow 42 = .ok (.iconst 1, 1) := by decide +kernel
theorem dX9_isBelow_43 : decode cX9_isBelow 43 = .ok (.goto 21, 3) := by decide +kernel
theorem dX9_isBelow_46 : decode cX9_isBelow 46 = .ok (.iconst 0, 1) := by decide +kernel
theorem dX9_isBelow_47 : decode cX9_isBelow 47 = .ok (.goto 17, 3) := by decide +kernel
theorem dX9_isBelow_50 : decode cX9_isBelow 50 = .ok (.aload_n 0, 1) := by decide +kernel
theorem dX9_isBelow_51 : decode cX9_isBelow 51 = .ok (.getfield 26, 3) := by decide +kernel
theorem dX9_isBelow_54 : decode cX9_isBelow 54 = .ok (.lconst 0, 1) := by decide +kernel
theorem dX9_isBelow_55 : decode cX9_isBelow 55 = .ok (.lcmp, 1) := by decide +kernel
theorem dX9_isBelow_56 : decode cX9_isBelow 56 = .ok (.ifCond .ge 7, 3) := by decide +kernel
theorem dX9_isBelow_59 : decode cX9_isBelow 59 = .ok (.iconst 1, 1) := by decide +kernel
theorem dX9_isBelow_60 : decode cX9_isBelow 60 = .ok (.goto 4, 3) := by decide +kernel
theorem dX9_isBelow_63 : decode cX9_isBelow 63 = .ok (.iconst 0, 1) := by decide +kernel
theorem dX9_isBelow_64 : decode cX9_isBelow 64 = .ok (.ireturn, 1) := by decide +kernel
abbrev cX9_side : ByteArray := prog_9_method_6_code
def yX9_side : MethodName := ⟨RX9, "side", "(IIJJ)I"⟩
theorem dX9_side_0 : decode cX9_side 0 = .ok (.lload_n 3, 1) := by decide +kernel
theorem dX9_side_1 : decode cX9_side 1 = .ok (.aload_n 0, 1) := by decide +kernel
theorem dX9_side_2 : decode cX9_side 2 = .ok (.getfield 13, 3) := by decide +kernel
theorem dX9_side_5 : decode cX9_side 5 = .ok (.i2l, 1) := by decide +kernel
theorem dX9_side_6 : decode cX9_side 6 = .ok (.iload_n 2, 1) := by decide +kernel
theorem dX9_side_7 : decode cX9_side 7 = .ok (.i2l, 1) := by decide +kernel
theorem dX9_side_8 : decode cX9_side 8 = .ok (.lsub, 1) := by decide +kernel
theorem dX9_side_9 : decode cX9_side 9 = .ok (.lmul, 1) := by decide +kernel
theorem dX9_side_10 : decode cX9_side 10 = .ok (.lload 5, 2) := by decide +kernel
theorem dX9_side_12 : decode cX9_side 12 = .ok (.aload_n 0, 1) := by decide +kernel
theorem dX9_side_13 : decode cX9_side 13 = .ok (.getfield 7, 3) := by decide +kernel
theorem dX9_side_16 : decode cX9_side 16 = .ok (.i2l, 1) := by decide +kernel
theorem dX9_side_17 : decode cX9_side 17 = .ok (.iload_n 1, 1) := by decide +kernel
theorem dX9_side_18 : decode cX9_side 18 = .ok (.i2l, 1) := by decide +kernel
theorem dX9_side_19 : decode cX9_side 19 = .ok (.lsub, 1) := by decide +kernel
theorem dX9_side_20 : decode cX9_side 20 = .ok (.lmul, 1) := by decide +kernel
theorem dX9_side_21 : decode cX9_side 21 = .ok (.lsub, 1) := by decide +kernel
theorem dX9_side_22 : decode cX9_side 22 = .ok (.invokestatic 29, 3) := by decide +kernel
theorem dX9_side_25 : decode cX9_side 25 = .ok (.istore 7, 2) := by decide +kernel
theorem dX9_side_27 : decode cX9_side 27 = .ok (.iload 7, 2) := by decide +kernel
theorem dX9_side_29 : decode cX9_side 29 = .ok (.ifCond .ne 22, 3) := by decide +kernel
theorem dX9_side_32 : decode cX9_side 32 = .ok (.lload_n 3, 1) := by decide +kernel
theorem dX9_side_33 : decode cX9_side 33 = .ok (.aload_n 0, 1) := by decide +kernel
theorem dX9_side_34 : decode cX9_side 34 = .ok (.getfield 20, 3) := by decide +kernel
theorem dX9_side_37 : decode cX9_side 37 = .ok (.lmul, 1) := by decide +kernel
theorem dX9_side_38 : decode cX9_side 38 = .ok (.lload 5, 2) := by decide +kernel
theorem dX9_side_40 : decode cX9_side 40 = .ok (.aload_n 0, 1) := by decide +kernel
theorem dX9_side_41 : decode cX9_side 41 = .ok (.getfield 16, 3) := by decide +kernel
theorem dX9_side_44 : decode cX9_side 44 = .ok (.lmul, 1) := by decide +kernel
theorem dX9_side_45 : decode cX9_side 45 = .ok (.lsub, 1) := by decide +kernel
theorem dX9_side_46 : decode cX9_side 46 = .ok (.invokestatic 29, 3) := by decide +kernel
theorem dX9_side_49 : decode cX9_side 49 = .ok (.istore 7, 2) := by decide +kernel
theorem dX9_side_51 : decode cX9_side 51 = .ok (.iload 7, 2) := by decide +kernel
theorem dX9_side_53 : decode cX9_side 53 = .ok (.ifCond .eq 8, 3) := by decide +kernel
theorem dX9_side_56 : decode cX9_side 56 = .ok (.iload 7, 2) := by decide +kernel
theorem dX9_side_58 : decode cX9_side 58 = .ok (.goto 20, 3) := by decide +kernel
theorem dX9_side_61 : decode cX9_side 61 = .ok (.lload_n 3, 1) := by decide +kernel
theorem dX9_side_62 : decode cX9_side 62 = .ok (.aload_n 0, 1) := by decide +kernel
theorem dX9_side_63 : decode cX9_side 63 = .ok (.getfield 26, 3) := by decide +kernel
theorem dX9_side_66 : decode cX9_side 66 = .ok (.lmul, 1) := by decide +kernel
theorem dX9_side_67 : decode cX9_side 67 = .ok (.lload 5, 2) := by decide +kernel
theorem dX9_side_69 : decode cX9_side 69 = .ok (.aload_n 0, 1) := by decide +kernel
theorem dX9_side_70 : decode cX9_side 70 = .ok (.getfield 23, 3) := by decide +kernel
theorem dX9_side_73 : decode cX9_side 73 = .ok (.lmul, 1) := by decide +kernel
theorem dX9_side_74 : decode cX9_side 74 = .ok (.lsub, 1) := by decide +kernel
theorem dX9_side_75 : decode cX9_side 75 = .ok (.invokestatic 29, 3) := by decide +kernel
theorem dX9_side_78 : decode cX9_side 78 = .ok (.ireturn, 1) := by decide +kernel
abbrev cX9_sign : ByteArray := prog_9_method_4_code
def yX9_sign : MethodName := ⟨RX9, "sign", "(J)I"⟩
theorem dX9_sign_0 : decode cX9_sign 0 = .ok (.lload_n 0, 1) := by decide +kernel
theorem dX9_sign_1 : decode cX9_sign 1 = .ok (.lconst 0, 1) := by decide +kernel
theorem dX9_sign_2 : decode cX9_sign 2 = .ok (.lcmp, 1) := by decide +kernel
theorem dX9_sign_3 : decode cX9_sign 3 = .ok (.ifCond .ge 7, 3) := by decide +kernel
theorem dX9_sign_6 : decode cX9_sign 6 = .ok (.iconst (-1), 1) := by decide +kernel
theorem dX9_sign_7 : decode cX9_sign 7 = .ok (.goto 14, 3) := by decide +kernel
theorem dX9_sign_10 : decode cX9_sign 10 = .ok (.lload_n 0, 1) := by decide +kernel
theorem dX9_sign_11 : decode cX9_sign 11 = .ok (.lconst 0, 1) := by decide +kernel
theorem dX9_sign_12 : decode cX9_sign 12 = .ok (.lcmp, 1) := by decide +kernel
theorem dX9_sign_13 : decode cX9_sign 13 = .ok (.ifCond .le 7, 3) := by decide +kernel
theorem dX9_sign_16 : decode cX9_sign 16 = .ok (.iconst 1, 1) := by decide +kernel
theorem dX9_sign_17 : decode cX9_sign 17 = .ok (.goto 4, 3) := by decide +kernel
theorem dX9_sign_20 : decode cX9_sign 20 = .ok (.iconst 0, 1) := by decide +kernel
theorem dX9_sign_21 : decode cX9_sign 21 = .ok (.ireturn, 1) := by decide +kernel
abbrev cX9_lean : ByteArray := prog_9_method_3_code
def yX9_lean : MethodName := ⟨RX9, "lean", "(I)V"⟩
theorem dX9_lean_0 : decode cX9_lean 0 = .ok (.aload_n 0, 1) := by decide +kernel
theorem dX9_lean_1 : decode cX9_lean 1 = .ok (.iload_n 1, 1) := by decide +kernel
theorem dX9_lean_2 : decode cX9_lean 2 = .ok (.ineg, 1) := by decide +kernel
theorem dX9_lean_3 : decode cX9_lean 3 = .ok (.i2l, 1) := by decide +kernel
theorem dX9_lean_4 : decode cX9_lean 4 = .ok (.aload_n 0, 1) := by decide +kernel
theorem dX9_lean_5 : decode cX9_lean 5 = .ok (.getfield 20, 3) := by decide +kernel
theorem dX9_lean_8 : decode cX9_lean 8 = .ok (.lmul, 1) := by decide +kernel
theorem dX9_lean_9 : decode cX9_lean 9 = .ok (.putfield 23, 3) := by decide +kernel
theorem dX9_lean_12 : decode cX9_lean 12 = .ok (.aload_n 0, 1) := by decide +kernel
theorem dX9_lean_13 : decode cX9_lean 13 = .ok (.iload_n 1, 1) := by decide +kernel
theorem dX9_lean_14 : decode cX9_lean 14 = .ok (.i2l, 1) := by decide +kernel
theorem dX9_lean_15 : decode cX9_lean 15 = .ok (.aload_n 0, 1) := by decide +kernel
theorem dX9_lean_16 : decode cX9_lean 16 = .ok (.getfield 16, 3) := by decide +kernel
theorem dX9_lean_19 : decode cX9_lean 19 = .ok (.lmul, 1) := by decide +kernel
theorem dX9_lean_20 : decode cX9_lean 20 = .ok (.putfield 26, 3) := by decide +kernel
theorem dX9_lean_23 : decode cX9_lean 23 = .ok (.return_, 1) := by decide +kernel
theorem q79 : (Jvm.Cond.initialized "ShapeRelator$Step") ∈ lw_all := lw_g (lw_at lw_m1 9 rfl) rfl
theorem q287 : (Jvm.Cond.instantiable "ShapeRelator$Step" (6 : Nat)) ∈ lw_all := lw_g (lw_at lw_m1 217 rfl) rfl
theorem q289 : (Jvm.Cond.instanceMethod ({ cls := "ShapeRelator$Step", name := "<init>", desc := "()V" } : Jvm.MethodName)) ∈ lw_all := lw_g (lw_at lw_m1 219 rfl) rfl
theorem q290 : (Jvm.Cond.code ({ cls := "ShapeRelator$Step", name := "<init>", desc := "()V" } : Jvm.MethodName) prog_9_method_1_code (1 : Nat) (Option.none : Option Jvm.ClassFile.FieldType)) ∈ lw_all := lw_g (lw_at lw_m1 220 rfl) rfl
theorem q291 : (Jvm.Cond.methodLink "ShapeRelator$Step" (1 : Nat) ({ cls := "java/lang/Object", name := "<init>", desc := "()V" } : Jvm.MethodName)) ∈ lw_all := lw_g (lw_at lw_m1 221 rfl) rfl
theorem q292 : (Jvm.Cond.fieldLink "ShapeRelator$Step" (7 : Nat) "ShapeRelator$Step" "x" "I") ∈ lw_all := lw_g (lw_at lw_m1 222 rfl) rfl
theorem q294 : (Jvm.Cond.fieldLink "ShapeRelator$Step" (13 : Nat) "ShapeRelator$Step" "y" "I") ∈ lw_all := lw_g (lw_at lw_m1 224 rfl) rfl
theorem q296 : (Jvm.Cond.fieldLink "ShapeRelator$Step" (16 : Nat) "ShapeRelator$Step" "byX" "J") ∈ lw_all := lw_g (lw_at lw_m1 226 rfl) rfl
theorem q298 : (Jvm.Cond.fieldLink "ShapeRelator$Step" (20 : Nat) "ShapeRelator$Step" "byY" "J") ∈ lw_all := lw_g (lw_at lw_m1 228 rfl) rfl
theorem q300 : (Jvm.Cond.fieldLink "ShapeRelator$Step" (23 : Nat) "ShapeRelator$Step" "lessX" "J") ∈ lw_all := lw_g (lw_at lw_m1 230 rfl) rfl
theorem q301 : (Jvm.Cond.fieldLink "ShapeRelator$Step" (26 : Nat) "ShapeRelator$Step" "lessY" "J") ∈ lw_all := lw_g (lw_at lw_m1 231 rfl) rfl
theorem q302 : (Jvm.Cond.lays "ShapeRelator$Step" "ShapeRelator$Step" "x" "I") ∈ lw_all := lw_g (lw_at lw_m1 232 rfl) rfl
theorem q303 : (Jvm.Cond.soleField "ShapeRelator$Step" "x") ∈ lw_all := lw_g (lw_at lw_m1 233 rfl) rfl
theorem q304 : (Jvm.Cond.lays "ShapeRelator$Step" "ShapeRelator$Step" "y" "I") ∈ lw_all := lw_g (lw_at lw_m1 234 rfl) rfl
theorem q305 : (Jvm.Cond.soleField "ShapeRelator$Step" "y") ∈ lw_all := lw_g (lw_at lw_m1 235 rfl) rfl
theorem q306 : (Jvm.Cond.lays "ShapeRelator$Step" "ShapeRelator$Step" "byX" "J") ∈ lw_all := lw_g (lw_at lw_m1 236 rfl) rfl
theorem q307 : (Jvm.Cond.soleField "ShapeRelator$Step" "byX") ∈ lw_all := lw_g (lw_at lw_m1 237 rfl) rfl
theorem q308 : (Jvm.Cond.lays "ShapeRelator$Step" "ShapeRelator$Step" "byY" "J") ∈ lw_all := lw_g (lw_at lw_m1 238 rfl) rfl
theorem q309 : (Jvm.Cond.soleField "ShapeRelator$Step" "byY") ∈ lw_all := lw_g (lw_at lw_m1 239 rfl) rfl
theorem q310 : (Jvm.Cond.lays "ShapeRelator$Step" "ShapeRelator$Step" "lessX" "J") ∈ lw_all := lw_g (lw_at lw_m2 0 rfl) rfl
theorem q311 : (Jvm.Cond.soleField "ShapeRelator$Step" "lessX") ∈ lw_all := lw_g (lw_at lw_m2 1 rfl) rfl
theorem q312 : (Jvm.Cond.lays "ShapeRelator$Step" "ShapeRelator$Step" "lessY" "J") ∈ lw_all := lw_g (lw_at lw_m2 2 rfl) rfl
theorem q313 : (Jvm.Cond.soleField "ShapeRelator$Step" "lessY") ∈ lw_all := lw_g (lw_at lw_m2 3 rfl) rfl
theorem q314 : (Jvm.Cond.superclass "ShapeRelator$Step" "java/lang/Object") ∈ lw_all := lw_g (lw_at lw_m2 4 rfl) rfl
theorem q620 : (Jvm.Cond.instanceMethod ({ cls := "ShapeRelator$Step", name := "set", desc := "(IIJJ)V" } : Jvm.MethodName)) ∈ lw_all := lw_g (lw_at lw_m3 70 rfl) rfl
theorem q621 : (Jvm.Cond.selects "ShapeRelator$Step" ({ cls := "ShapeRelator$Step", name := "set", desc := "(IIJJ)V" } : Jvm.MethodName) ({ cls := "ShapeRelator$Step", name := "set", desc := "(IIJJ)V" } : Jvm.MethodName)) ∈ lw_all := lw_g (lw_at lw_m3 71 rfl) rfl
theorem q622 : (Jvm.Cond.code ({ cls := "ShapeRelator$Step", name := "set", desc := "(IIJJ)V" } : Jvm.MethodName) prog_9_method_2_code (7 : Nat) (Option.none : Option Jvm.ClassFile.FieldType)) ∈ lw_all := lw_g (lw_at lw_m3 72 rfl) rfl
theorem q628 : (Jvm.Cond.instanceMethod ({ cls := "ShapeRelator$Step", name := "isBelow", desc := "(I)Z" } : Jvm.MethodName)) ∈ lw_all := lw_g (lw_at lw_m3 78 rfl) rfl
theorem q629 : (Jvm.Cond.selects "ShapeRelator$Step" ({ cls := "ShapeRelator$Step", name := "isBelow", desc := "(I)Z" } : Jvm.MethodName) ({ cls := "ShapeRelator$Step", name := "isBelow", desc := "(I)Z" } : Jvm.MethodName)) ∈ lw_all := lw_g (lw_at lw_m3 79 rfl) rfl
theorem q630 : (Jvm.Cond.code ({ cls := "ShapeRelator$Step", name := "isBelow", desc := "(I)Z" } : Jvm.MethodName) prog_9_method_5_code (2 : Nat) (Option.some Jvm.ClassFile.FieldType.boolean)) ∈ lw_all := lw_g (lw_at lw_m3 80 rfl) rfl
theorem q632 : (Jvm.Cond.instanceMethod ({ cls := "ShapeRelator$Step", name := "side", desc := "(IIJJ)I" } : Jvm.MethodName)) ∈ lw_all := lw_g (lw_at lw_m3 82 rfl) rfl
theorem q633 : (Jvm.Cond.selects "ShapeRelator$Step" ({ cls := "ShapeRelator$Step", name := "side", desc := "(IIJJ)I" } : Jvm.MethodName) ({ cls := "ShapeRelator$Step", name := "side", desc := "(IIJJ)I" } : Jvm.MethodName)) ∈ lw_all := lw_g (lw_at lw_m3 83 rfl) rfl
theorem q634 : (Jvm.Cond.code ({ cls := "ShapeRelator$Step", name := "side", desc := "(IIJJ)I" } : Jvm.MethodName) prog_9_method_6_code (8 : Nat) (Option.some Jvm.ClassFile.FieldType.int)) ∈ lw_all := lw_g (lw_at lw_m3 84 rfl) rfl
theorem q635 : (Jvm.Cond.methodLink "ShapeRelator$Step" (29 : Nat) ({ cls := "ShapeRelator$Step", name := "sign", desc := "(J)I" } : Jvm.MethodName)) ∈ lw_all := lw_g (lw_at lw_m3 85 rfl) rfl
theorem q636 : (Jvm.Cond.static ({ cls := "ShapeRelator$Step", name := "sign", desc := "(J)I" } : Jvm.MethodName)) ∈ lw_all := lw_g (lw_at lw_m3 86 rfl) rfl
theorem q637 : (Jvm.Cond.code ({ cls := "ShapeRelator$Step", name := "sign", desc := "(J)I" } : Jvm.MethodName) prog_9_method_4_code (2 : Nat) (Option.some Jvm.ClassFile.FieldType.int)) ∈ lw_all := lw_g (lw_at lw_m3 87 rfl) rfl
theorem q658 : (Jvm.Cond.instanceMethod ({ cls := "ShapeRelator$Step", name := "lean", desc := "(I)V" } : Jvm.MethodName)) ∈ lw_all := lw_g (lw_at lw_m3 108 rfl) rfl
theorem q659 : (Jvm.Cond.selects "ShapeRelator$Step" ({ cls := "ShapeRelator$Step", name := "lean", desc := "(I)V" } : Jvm.MethodName) ({ cls := "ShapeRelator$Step", name := "lean", desc := "(I)V" } : Jvm.MethodName)) ∈ lw_all := lw_g (lw_at lw_m3 109 rfl) rfl
theorem q660 : (Jvm.Cond.code ({ cls := "ShapeRelator$Step", name := "lean", desc := "(I)V" } : Jvm.MethodName) prog_9_method_3_code (2 : Nat) (Option.none : Option Jvm.ClassFile.FieldType)) ∈ lw_all := lw_g (lw_at lw_m3 110 rfl) rfl
theorem in_X9 : ∀ w ∈ wsX90, w ∈ lw_all := lw_in wsX90 [302, 304, 306, 308, 310, 312] (by decide +kernel) (by decide +kernel)
/-! ShapeRelator$Events -/
set_option maxRecDepth 100000
def RX8 : String := "ShapeRelator$Events"
def TX8 : u_T := fun k => match k with
  | 0 => ("ShapeRelator$Events", "parts", "[J", false)
  | 1 => ("ShapeRelator$Events", "wholes", "[J", false)
  | 2 => ("ShapeRelator$Events", "whats", "[I", false)
  | 3 => ("ShapeRelator$Events", "x", "[I", false)
  | 4 => ("ShapeRelator$Events", "y", "[I", false)
  | 5 => ("ShapeRelator$Events", "order", "[I", false)
  | _ => ("ShapeRelator$Events", "size", "I", false)
def tyX8 : Nat → FieldType := fun k => match k with
  | 0 => .array .long
  | 1 => .array .long
  | 2 => .array .int
  | 3 => .array .int
  | 4 => .array .int
  | 5 => .array .int
  | _ => .int
abbrev wsX80 : List Cond := u_ws RX8 TX8 7
theorem nmX8 : ∀ a, a < 7 → ∀ b, b < 7 → a ≠ b → (TX8 a).2.1 ≠ (TX8 b).2.1 := by decide +kernel
theorem tyX8_ok : ∀ k, k < 7 → parseFieldDescriptor (TX8 k).2.2.1 = some (tyX8 k) := by decide +kernel
abbrev cX8_init : ByteArray := prog_3_method_1_code
def yX8_init : MethodName := ⟨RX8, "<init>", "()V"⟩
theorem dX8_init_0 : decode cX8_init 0 = .ok (.aload_n 0, 1) := by decide +kernel
theorem dX8_init_1 : decode cX8_init 1 = .ok (.invokespecial 1, 3) := by decide +kernel
theorem dX8_init_4 : decode cX8_init 4 = .ok (.aload_n 0, 1) := by decide +kernel
theorem dX8_init_5 : decode cX8_init 5 = .ok (.bipush 16, 2) := by decide +kernel
theorem dX8_init_7 : decode cX8_init 7 = .ok (.newarray .long, 2) := by decide +kernel
theorem dX8_init_9 : decode cX8_init 9 = .ok (.putfield 7, 3) := by decide +kernel
theorem dX8_init_12 : decode cX8_init 12 = .ok (.aload_n 0, 1) := by decide +kernel
theorem dX8_init_13 : decode cX8_init 13 = .ok (.bipush 16, 2) := by decide +kernel
theorem dX8_init_15 : decode cX8_init 15 = .ok (.newarray .long, 2) := by decide +kernel
theorem dX8_init_17 : decode cX8_init 17 = .ok (.putfield 13, 3) := by decide +kernel
theorem dX8_init_20 : decode cX8_init 20 = .ok (.aload_n 0, 1) := by decide +kernel
theorem dX8_init_21 : decode cX8_init 21 = .ok (.bipush 16, 2) := by decide +kernel
theorem dX8_init_23 : decode cX8_init 23 = .ok (.newarray .int, 2) := by decide +kernel
theorem dX8_init_25 : decode cX8_init 25 = .ok (.putfield 16, 3) := by decide +kernel
theorem dX8_init_28 : decode cX8_init 28 = .ok (.aload_n 0, 1) := by decide +kernel
theorem dX8_init_29 : decode cX8_init 29 = .ok (.bipush 16, 2) := by decide +kernel
theorem dX8_init_31 : decode cX8_init 31 = .ok (.newarray .int, 2) := by decide +kernel
theorem dX8_init_33 : decode cX8_init 33 = .ok (.putfield 20, 3) := by decide +kernel
theorem dX8_init_36 : decode cX8_init 36 = .ok (.aload_n 0, 1) := by decide +kernel
theorem dX8_init_37 : decode cX8_init 37 = .ok (.bipush 16, 2) := by decide +kernel
theorem dX8_init_39 : decode cX8_init 39 = .ok (.newarray .int, 2) := by decide +kernel
theorem dX8_init_41 : decode cX8_init 41 = .ok (.putfield 23, 3) := by decide +kernel
theorem dX8_init_44 : decode cX8_init 44 = .ok (.aload_n 0, 1) := by decide +kernel
theorem dX8_init_45 : decode cX8_init 45 = .ok (.bipush 16, 2) := by decide +kernel
theorem dX8_init_47 : decode cX8_init 47 = .ok (.newarray .int, 2) := by decide +kernel
theorem dX8_init_49 : decode cX8_init 49 = .ok (.putfield 26, 3) := by decide +kernel
theorem dX8_init_52 : decode cX8_init 52 = .ok (.return_, 1) := by decide +kernel
abbrev cX8_clear : ByteArray := prog_3_method_2_code
def yX8_clear : MethodName := ⟨RX8, "clear", "()V"⟩
theorem dX8_clear_0 : decode cX8_clear 0 = .ok (.aload_n 0, 1) := by decide +kernel
theorem dX8_clear_1 : decode cX8_clear 1 = .ok (.iconst 0, 1) := by decide +kernel
theorem dX8_clear_2 : decode cX8_clear 2 = .ok (.putfield 29, 3) := by decide +kernel
theorem dX8_clear_5 : decode cX8_clear 5 = .ok (.return_, 1) := by decide +kernel
abbrev cX8_add : ByteArray := prog_3_method_5_code
def yX8_add : MethodName := ⟨RX8, "add", "(JJIII)V"⟩
theorem dX8_add_0 : decode cX8_add 0 = .ok (.aload_n 0, 1) := by decide +kernel
theorem dX8_add_1 : decode cX8_add 1 = .ok (.getfield 29, 3) := by decide +kernel
theorem dX8_add_4 : decode cX8_add 4 = .ok (.aload_n 0, 1) := by decide +kernel
theorem dX8_add_5 : decode cX8_add 5 = .ok (.getfield 7, 3) := by decide +kernel
theorem dX8_add_8 : decode cX8_add 8 = .ok (.arraylength, 1) := by decide +kernel
theorem dX8_add_9 : decode cX8_add 9 = .ok (.if_icmp .ne 7, 3) := by decide +kernel
theorem dX8_add_12 : decode cX8_add 12 = .ok (.aload_n 0, 1) := by decide +kernel
theorem dX8_add_13 : decode cX8_add 13 = .ok (.invokevirtual 48, 3) := by decide +kernel
theorem dX8_add_16 : decode cX8_add 16 = .ok (.aload_n 0, 1) := by decide +kernel
theorem dX8_add_17 : decode cX8_add 17 = .ok (.getfield 7, 3) := by decide +kernel
theorem dX8_add_20 : decode cX8_add 20 = .ok (.aload_n 0, 1) := by decide +kernel
theorem dX8_add_21 : decode cX8_add 21 = .ok (.getfield 29, 3) := by decide +kernel
theorem dX8_add_24 : decode cX8_add 24 = .ok (.lload_n 1, 1) := by decide +kernel
theorem dX8_add_25 : decode cX8_add 25 = .ok (.lastore, 1) := by decide +kernel
theorem dX8_add_26 : decode cX8_add 26 = .ok (.aload_n 0, 1) := by decide +kernel
theorem dX8_add_27 : decode cX8_add 27 = .ok (.getfield 13, 3) := by decide +kernel
theorem dX8_add_30 : decode cX8_add 30 = .ok (.aload_n 0, 1) := by decide +kernel
theorem dX8_add_31 : decode cX8_add 31 = .ok (.getfield 29, 3) := by decide +kernel
theorem dX8_add_34 : decode cX8_add 34 = .ok (.lload_n 3, 1) := by decide +kernel
theorem dX8_add_35 : decode cX8_add 35 = .ok (.lastore, 1) := by decide +kernel
theorem dX8_add_36 : decode cX8_add 36 = .ok (.aload_n 0, 1) := by decide +kernel
theorem dX8_add_37 : decode cX8_add 37 = .ok (.getfield 16, 3) := by decide +kernel
theorem dX8_add_40 : decode cX8_add 40 = .ok (.aload_n 0, 1) := by decide +kernel
theorem dX8_add_41 : decode cX8_add 41 = .ok (.getfield 29, 3) := by decide +kernel
theorem dX8_add_44 : decode cX8_add 44 = .ok (.iload 5, 2) := by decide +kernel
theorem dX8_add_46 : decode cX8_add 46 = .ok (.iastore, 1) := by decide +kernel
theorem dX8_add_47 : decode cX8_add 47 = .ok (.aload_n 0, 1) := by decide +kernel
theorem dX8_add_48 : decode cX8_add 48 = .ok (.getfield 20, 3) := by decide +kernel
theorem dX8_add_51 : decode cX8_add 51 = .ok (.aload_n 0, 1) := by decide +kernel
theorem dX8_add_52 : decode cX8_add 52 = .ok (.getfield 29, 3) := by decide +kernel
theorem dX8_add_55 : decode cX8_add 55 = .ok (.iload 6, 2) := by decide +kernel
theorem dX8_add_57 : decode cX8_add 57 = .ok (.iastore, 1) := by decide +kernel
theorem dX8_add_58 : decode cX8_add 58 = .ok (.aload_n 0, 1) := by decide +kernel
theorem dX8_add_59 : decode cX8_add 59 = .ok (.getfield 23, 3) := by decide +kernel
theorem dX8_add_62 : decode cX8_add 62 = .ok (.aload_n 0, 1) := by decide +kernel
theorem dX8_add_63 : decode cX8_add 63 = .ok (.getfield 29, 3) := by decide +kernel
theorem dX8_add_66 : decode cX8_add 66 = .ok (.iload 7, 2) := by decide +kernel
theorem dX8_add_68 : decode cX8_add 68 = .ok (.iastore, 1) := by decide +kernel
theorem dX8_add_69 : decode cX8_add 69 = .ok (.aload_n 0, 1) := by decide +kernel
theorem dX8_add_70 : decode cX8_add 70 = .ok (.dup, 1) := by decide +kernel
theorem dX8_add_71 : decode cX8_add 71 = .ok (.getfield 29, 3) := by decide +kernel
theorem dX8_add_74 : decode cX8_add 74 = .ok (.iconst 1, 1) := by decide +kernel
theorem dX8_add_75 : decode cX8_add 75 = .ok (.iadd, 1) := by decide +kernel
theorem dX8_add_76 : decode cX8_add 76 = .ok (.putfield 29, 3) := by decide +kernel
theorem dX8_add_79 : decode cX8_add 79 = .ok (.return_, 1) := by decide +kernel
abbrev cX8_grow : ByteArray := prog_3_method_4_code
def yX8_grow : MethodName := ⟨RX8, "grow", "()V"⟩
theorem dX8_grow_0 : decode cX8_grow 0 = .ok (.iconst 2, 1) := by decide +kernel
theorem dX8_grow_1 : decode cX8_grow 1 = .ok (.aload_n 0, 1) := by decide +kernel
theorem dX8_grow_2 : decode cX8_grow 2 = .ok (.getfield 29, 3) := by decide +kernel
theorem dX8_grow_5 : decode cX8_grow 5 = .ok (.imul, 1) := by decide +kernel
theorem dX8_grow_6 : decode cX8_grow 6 = .ok (.istore_n 1, 1) := by decide +kernel
theorem dX8_grow_7 : decode cX8_grow 7 = .ok (.aload_n 0, 1) := by decide +kernel
theorem dX8_grow_8 : decode cX8_grow 8 = .ok (.aload_n 0, 1) := by decide +kernel
theorem dX8_grow_9 : decode cX8_grow 9 = .ok (.getfield 7, 3) := by decide +kernel
theorem dX8_grow_12 : decode cX8_grow 12 = .ok (.iload_n 1, 1) := by decide +kernel
theorem dX8_grow_13 : decode cX8_grow 13 = .ok (.invokestatic 39, 3) := by decide +kernel
theorem dX8_grow_16 : decode cX8_grow 16 = .ok (.putfield 7, 3) := by decide +kernel
theorem dX8_grow_19 : decode cX8_grow 19 = .ok (.aload_n 0, 1) := by decide +kernel
theorem dX8_grow_20 : decode cX8_grow 20 = .ok (.aload_n 0, 1) := by decide +kernel
theorem dX8_grow_21 : decode cX8_grow 21 = .ok (.getfield 13, 3) := by decide +kernel
theorem dX8_grow_24 : decode cX8_grow 24 = .ok (.iload_n 1, 1) := by decide +kernel
theorem dX8_grow_25 : decode cX8_grow 25 = .ok (.invokestatic 39, 3) := by decide +kernel
theorem dX8_grow_28 : decode cX8_grow 28 = .ok (.putfield 13, 3) := by decide +kernel
theorem dX8_grow_31 : decode cX8_grow 31 = .ok (.aload_n 0, 1) := by decide +kernel
theorem dX8_grow_32 : decode cX8_grow 32 = .ok (.aload_n 0, 1) := by decide +kernel
theorem dX8_grow_33 : decode cX8_grow 33 = .ok (.getfield 16, 3) := by decide +kernel
theorem dX8_grow_36 : decode cX8_grow 36 = .ok (.iload_n 1, 1) := by decide +kernel
theorem dX8_grow_37 : decode cX8_grow 37 = .ok (.invokestatic 43, 3) := by decide +kernel
theorem dX8_grow_40 : decode cX8_grow 40 = .ok (.putfield 16, 3) := by decide +kernel
theorem dX8_grow_43 : decode cX8_grow 43 = .ok (.aload_n 0, 1) := by decide +kernel
theorem dX8_grow_44 : decode cX8_grow 44 = .ok (.aload_n 0, 1) := by decide +kernel
theorem dX8_grow_45 : decode cX8_grow 45 = .ok (.getfield 20, 3) := by decide +kernel
theorem dX8_grow_48 : decode cX8_grow 48 = .ok (.iload_n 1, 1) := by decide +kernel
theorem dX8_grow_49 : decode cX8_grow 49 = .ok (.invokestatic 43, 3) := by decide +kernel
theorem dX8_grow_52 : decode cX8_grow 52 = .ok (.putfield 20, 3) := by decide +kernel
theorem dX8_grow_55 : decode cX8_grow 55 = .ok (.aload_n 0, 1) := by decide +kernel
theorem dX8_grow_56 : decode cX8_grow 56 = .ok (.aload_n 0, 1) := by decide +kernel
theorem dX8_grow_57 : decode cX8_grow 57 = .ok (.getfield 23, 3) := by decide +kernel
theorem dX8_grow_60 : decode cX8_grow 60 = .ok (.iload_n 1, 1) := by decide +kernel
theorem dX8_grow_61 : decode cX8_grow 61 = .ok (.invokestatic 43, 3) := by decide +kernel
theorem dX8_grow_64 : decode cX8_grow 64 = .ok (.putfield 23, 3) := by decide +kernel
theorem dX8_grow_67 : decode cX8_grow 67 = .ok (.aload_n 0, 1) := by decide +kernel
theorem dX8_grow_68 : decode cX8_grow 68 = .ok (.aload_n 0, 1) := by decide +kernel
theorem dX8_grow_69 : decode cX8_grow 69 = .ok (.getfield 26, 3) := by decide +kernel
theorem dX8_grow_72 : decode cX8_grow 72 = .ok (.iload_n 1, 1) := by decide +kernel
theorem dX8_grow_73 : decode cX8_grow 73 = .ok (.invokestatic 43, 3) := by decide +kernel
theorem dX8_grow_76 : decode cX8_grow 76 = .ok (.putfield 26, 3) := by decide +kernel
theorem dX8_grow_79 : decode cX8_grow 79 = .ok (.return_, 1) := by decide +kernel
abbrev cX8_longer : ByteArray := prog_3_method_3_code
def yX8_longer : MethodName := ⟨RX8, "longer", "([JI)[J"⟩
theorem dX8_longer_0 : decode cX8_longer 0 = .ok (.iload_n 1, 1) := by decide +kernel
theorem dX8_longer_1 : decode cX8_longer 1 = .ok (.newarray .long, 2) := by decide +kernel
theorem dX8_longer_3 : decode cX8_longer 3 = .ok (.astore_n 2, 1) := by decide +kernel
theorem dX8_longer_4 : decode cX8_longer 4 = .ok (.aload_n 0, 1) := by decide +kernel
theorem dX8_longer_5 : decode cX8_longer 5 = .ok (.iconst 0, 1) := by decide +kernel
theorem dX8_longer_6 : decode cX8_longer 6 = .ok (.aload_n 2, 1) := by decide +kernel
theorem dX8_longer_7 : decode cX8_longer 7 = .ok (.iconst 0, 1) := by decide +kernel
theorem dX8_longer_8 : decode cX8_longer 8 = .ok (.aload_n 0, 1) := by decide +kernel
theorem dX8_longer_9 : decode cX8_longer 9 = .ok (.arraylength, 1) := by decide +kernel
theorem dX8_longer_10 : decode cX8_longer 10 = .ok (.invokestatic 33, 3) := by decide +kernel
theorem dX8_longer_13 : decode cX8_longer 13 = .ok (.aload_n 2, 1) := by decide +kernel
theorem dX8_longer_14 : decode cX8_longer 14 = .ok (.areturn, 1) := by decide +kernel
abbrev cX8_sort : ByteArray := prog_3_method_7_code
def yX8_sort : MethodName := ⟨RX8, "sort", "()V"⟩
theorem dX8_sort_0 : decode cX8_sort 0 = .ok (.iconst 0, 1) := by decide +kernel
theorem dX8_sort_1 : decode cX8_sort 1 = .ok (.istore_n 1, 1) := by decide +kernel
theorem dX8_sort_2 : decode cX8_sort 2 = .ok (.iload_n 1, 1) := by decide +kernel
theorem dX8_sort_3 : decode cX8_sort 3 = .ok (.aload_n 0, 1) := by decide +kernel
theorem dX8_sort_4 : decode cX8_sort 4 = .ok (.getfield 29, 3) := by decide +kernel
theorem dX8_sort_7 : decode cX8_sort 7 = .ok (.if_icmp .ge 16, 3) := by decide +kernel
theorem dX8_sort_10 : decode cX8_sort 10 = .ok (.aload_n 0, 1) := by decide +kernel
theorem dX8_sort_11 : decode cX8_sort 11 = .ok (.getfield 26, 3) := by decide +kernel
theorem dX8_sort_14 : decode cX8_sort 14 = .ok (.iload_n 1, 1) := by decide +kernel
theorem dX8_sort_15 : decode cX8_sort 15 = .ok (.iload_n 1, 1) := by decide +kernel
theorem dX8_sort_16 : decode cX8_sort 16 = .ok (.iastore, 1) := by decide +kernel
theorem dX8_sort_17 : decode cX8_sort 17 = .ok (.iinc 1 1, 3) := by decide +kernel
theorem dX8_sort_20 : decode cX8_sort 20 = .ok (.goto (-18), 3) := by decide +kernel
theorem dX8_sort_23 : decode cX8_sort 23 = .ok (.aload_n 0, 1) := by decide +kernel
theorem dX8_sort_24 : decode cX8_sort 24 = .ok (.getfield 29, 3) := by decide +kernel
theorem dX8_sort_27 : decode cX8_sort 27 = .ok (.iconst 2, 1) := by decide +kernel
theorem dX8_sort_28 : decode cX8_sort 28 = .ok (.idiv, 1) := by decide +kernel
theorem dX8_sort_29 : decode cX8_sort 29 = .ok (.iconst 1, 1) := by decide +kernel
theorem dX8_sort_30 : decode cX8_sort 30 = .ok (.isub, 1) := by decide +kernel
theorem dX8_sort_31 : decode cX8_sort 31 = .ok (.istore_n 1, 1) := by decide +kernel
theorem dX8_sort_32 : decode cX8_sort 32 = .ok (.iload_n 1, 1) := by decide +kernel
theorem dX8_sort_33 : decode cX8_sort 33 = .ok (.ifCond .lt 18, 3) := by decide +kernel
theorem dX8_sort_36 : decode cX8_sort 36 = .ok (.aload_n 0, 1) := by decide +kernel
theorem dX8_sort_37 : decode cX8_sort 37 = .ok (.iload_n 1, 1) := by decide +kernel
theorem dX8_sort_38 : decode cX8_sort 38 = .ok (.aload_n 0, 1) := by decide +kernel
theorem dX8_sort_39 : decode cX8_sort 39 = .ok (.getfield 29, 3) := by decide +kernel
theorem dX8_sort_42 : decode cX8_sort 42 = .ok (.invokevirtual 57, 3) := by decide +kernel
theorem dX8_sort_45 : decode cX8_sort 45 = .ok (.iinc 1 (-1), 3) := by decide +kernel
theorem dX8_sort_48 : decode cX8_sort 48 = .ok (.goto (-16), 3) := by decide +kernel
theorem dX8_sort_51 : decode cX8_sort 51 = .ok (.aload_n 0, 1) := by decide +kernel
theorem dX8_sort_52 : decode cX8_sort 52 = .ok (.getfield 29, 3) := by decide +kernel
theorem dX8_sort_55 : decode cX8_sort 55 = .ok (.iconst 1, 1) := by decide +kernel
theorem dX8_sort_56 : decode cX8_sort 56 = .ok (.isub, 1) := by decide +kernel
theorem dX8_sort_57 : decode cX8_sort 57 = .ok (.istore_n 1, 1) := by decide +kernel
theorem dX8_sort_58 : decode cX8_sort 58 = .ok (.iload_n 1, 1) := by decide +kernel
theorem dX8_sort_59 : decode cX8_sort 59 = .ok (.ifCond .le 41, 3) := by decide +kernel
theorem dX8_sort_62 : decode cX8_sort 62 = .ok (.aload_n 0, 1) := by decide +kernel
theorem dX8_sort_63 : decode cX8_sort 63 = .ok (.getfield 26, 3) := by decide +kernel
theorem dX8_sort_66 : decode cX8_sort 66 = .ok (.iload_n 1, 1) := by decide +kernel
theorem dX8_sort_67 : decode cX8_sort 67 = .ok (.iaload, 1) := by decide +kernel
theorem dX8_sort_68 : decode cX8_sort 68 = .ok (.istore_n 2, 1) := by decide +kernel
theorem dX8_sort_69 : decode cX8_sort 69 = .ok (.aload_n 0, 1) := by decide +kernel
theorem dX8_sort_70 : decode cX8_sort 70 = .ok (.getfield 26, 3) := by decide +kernel
theorem dX8_sort_73 : decode cX8_sort 73 = .ok (.iload_n 1, 1) := by decide +kernel
theorem dX8_sort_74 : decode cX8_sort 74 = .ok (.aload_n 0, 1) := by decide +kernel
theorem dX8_sort_75 : decode cX8_sort 75 = .ok (.getfield 26, 3) := by decide +kernel
theorem dX8_sort_78 : decode cX8_sort 78 = .ok (.iconst 0, 1) := by decide +kernel
theorem dX8_sort_79 : decode cX8_sort 79 = .ok (.iaload, 1) := by decide +kernel
theorem dX8_sort_80 : decode cX8_sort 80 = .ok (.iastore, 1) := by decide +kernel
theorem dX8_sort_81 : decode cX8_sort 81 = .ok (.aload_n 0, 1) := by decide +kernel
theorem dX8_sort_82 : decode cX8_sort 82 = .ok (.getfield 26, 3) := by decide +kernel
theorem dX8_sort_85 : decode cX8_sort 85 = .ok (.iconst 0, 1) := by decide +kernel
theorem dX8_sort_86 : decode cX8_sort 86 = .ok (.iload_n 2, 1) := by decide +kernel
theorem dX8_sort_87 : decode cX8_sort 87 = .ok (.iastore, 1) := by decide +kernel
theorem dX8_sort_88 : decode cX8_sort 88 = .ok (.aload_n 0, 1) := by decide +kernel
theorem dX8_sort_89 : decode cX8_sort 89 = .ok (.iconst 0, 1) := by decide +kernel
theorem dX8_sort_90 : decode cX8_sort 90 = .ok (.iload_n 1, 1) := by decide +kernel
theorem dX8_sort_91 : decode cX8_sort 91 = .ok (.invokevirtual 57, 3) := by decide +kernel
theorem dX8_sort_94 : decode cX8_sort 94 = .ok (.iinc 1 (-1), 3) := by decide +kernel
theorem dX8_sort_97 : decode cX8_sort 97 = .ok (.goto (-39), 3) := by decide +kernel
theorem dX8_sort_100 : decode cX8_sort 100 = .ok (.return_, 1) := by decide +kernel
abbrev cX8_sink : ByteArray := prog_3_method_9_code
def yX8_sink : MethodName := ⟨RX8, "sink", "(II)V"⟩
theorem dX8_sink_0 : decode cX8_sink 0 = .ok (.iload_n 1, 1) := by decide +kernel
theorem dX8_sink_1 : decode cX8_sink 1 = .ok (.istore_n 3, 1) := by decide +kernel
theorem dX8_sink_2 : decode cX8_sink 2 = .ok (.iconst 2, 1) := by decide +kernel
theorem dX8_sink_3 : decode cX8_sink 3 = .ok (.iload_n 3, 1) := by decide +kernel
theorem dX8_sink_4 : decode cX8_sink 4 = .ok (.imul, 1) := by decide +kernel
theorem dX8_sink_5 : decode cX8_sink 5 = .ok (.iconst 1, 1) := by decide +kernel
theorem dX8_sink_6 : decode cX8_sink 6 = .ok (.iadd, 1) := by decide +kernel
theorem dX8_sink_7 : decode cX8_sink 7 = .ok (.istore 4, 2) := by decide +kernel
theorem dX8_sink_9 : decode cX8_sink 9 = .ok (.iload 4, 2) := by decide +kernel
theorem dX8_sink_11 : decode cX8_sink 11 = .ok (.iload_n 2, 1) := by decide +kernel
theorem dX8_sink_12 : decode cX8_sink 12 = .ok (.if_icmp .ge 101, 3) := by decide +kernel
theorem dX8_sink_15 : decode cX8_sink 15 = .ok (.iload 4, 2) := by decide +kernel
theorem dX8_sink_17 : decode cX8_sink 17 = .ok (.iconst 1, 1) := by decide +kernel
theorem dX8_sink_18 : decode cX8_sink 18 = .ok (.iadd, 1) := by decide +kernel
theorem dX8_sink_19 : decode cX8_sink 19 = .ok (.iload_n 2, 1) := by decide +kernel
theorem dX8_sink_20 : decode cX8_sink 20 = .ok (.if_icmp .ge 29, 3) := by decide +kernel
theorem dX8_sink_23 : decode cX8_sink 23 = .ok (.aload_n 0, 1) := by decide +kernel
theorem dX8_sink_24 : decode cX8_sink 24 = .ok (.aload_n 0, 1) := by decide +kernel
theorem dX8_sink_25 : decode cX8_sink 25 = .ok (.getfield 26, 3) := by decide +kernel
theorem dX8_sink_28 : decode cX8_sink 28 = .ok (.iload 4, 2) := by decide +kernel
theorem dX8_sink_30 : decode cX8_sink 30 = .ok (.iconst 1, 1) := by decide +kernel
theorem dX8_sink_31 : decode cX8_sink 31 = .ok (.iadd, 1) := by decide +kernel
theorem dX8_sink_32 : decode cX8_sink 32 = .ok (.iaload, 1) := by decide +kernel
theorem dX8_sink_33 : decode cX8_sink 33 = .ok (.aload_n 0, 1) := by decide +kernel
theorem dX8_sink_34 : decode cX8_sink 34 = .ok (.getfield 26, 3) := by decide +kernel
theorem dX8_sink_37 : decode cX8_sink 37 = .ok (.iload 4, 2) := by decide +kernel
theorem dX8_sink_39 : decode cX8_sink 39 = .ok (.iaload, 1) := by decide +kernel
theorem dX8_sink_40 : decode cX8_sink 40 = .ok (.invokevirtual 64, 3) := by decide +kernel
theorem dX8_sink_43 : decode cX8_sink 43 = .ok (.ifCond .eq 6, 3) := by decide +kernel
theorem dX8_sink_46 : decode cX8_sink 46 = .ok (.iinc 4 1, 3) := by decide +kernel
theorem dX8_sink_49 : decode cX8_sink 49 = .ok (.aload_n 0, 1) := by decide +kernel
theorem dX8_sink_50 : decode cX8_sink 50 = .ok (.aload_n 0, 1) := by decide +kernel
theorem dX8_sink_51 : decode cX8_sink 51 = .ok (.getfield 26, 3) := by decide +kernel
theorem dX8_sink_54 : decode cX8_sink 54 = .ok (.iload 4, 2) := by decide +kernel
theorem dX8_sink_56 : decode cX8_sink 56 = .ok (.iaload, 1) := by decide +kernel
theorem dX8_sink_57 : decode cX8_sink 57 = .ok (.aload_n 0, 1) := by decide +kernel
theorem dX8_sink_58 : decode cX8_sink 58 = .ok (.getfield 26, 3) := by decide +kernel
theorem dX8_sink_61 : decode cX8_sink 61 = .ok (.iload_n 3, 1) := by decide +kernel
theorem dX8_sink_62 : decode cX8_sink 62 = .ok (.iaload, 1) := by decide +kernel
theorem dX8_sink_63 : decode cX8_sink 63 = .ok (.invokevirtual 64, 3) := by decide +kernel
theorem dX8_sink_66 : decode cX8_sink 66 = .ok (.ifCond .ne 4, 3) := by decide +kernel
theorem dX8_sink_69 : decode cX8_sink 69 = .ok (.return_, 1) := by decide +kernel
theorem dX8_sink_70 : decode cX8_sink 70 = .ok (.aload_n 0, 1) := by decide +kernel
theorem dX8_sink_71 : decode cX8_sink 71 = .ok (.getfield 26, 3) := by decide +kernel
theorem dX8_sink_74 : decode cX8_sink 74 = .ok (.iload_n 3, 1) := by decide +kernel
theorem dX8_sink_75 : decode cX8_sink 75 = .ok (.iaload, 1) := by decide +kernel
theorem dX8_sink_76 : decode cX8_sink 76 = .ok (.istore 5, 2) := by decide +kernel
theorem dX8_sink_78 : decode cX8_sink 78 = .ok (.aload_n 0, 1) := by decide +kernel
theorem dX8_sink_79 : decode cX8_sink 79 = .ok (.getfield 26, 3) := by decide +kernel
theorem dX8_sink_82 : decode cX8_sink 82 = .ok (.iload_n 3, 1) := by decide +kernel
theorem dX8_sink_83 : decode cX8_sink 83 = .ok (.aload_n 0, 1) := by decide +kernel
theorem dX8_sink_84 : decode cX8_sink 84 = .ok (.getfield 26, 3) := by decide +kernel
theorem dX8_sink_87 : decode cX8_sink 87 = .ok (.iload 4, 2) := by decide +kernel
theorem dX8_sink_89 : decode cX8_sink 89 = .ok (.iaload, 1) := by decide +kernel
theorem dX8_sink_90 : decode cX8_sink 90 = .ok (.iastore, 1) := by decide +kernel
theorem dX8_sink_91 : decode cX8_sink 91 = .ok (.aload_n 0, 1) := by decide +kernel
theorem dX8_sink_92 : decode cX8_sink 92 = .ok (.getfield 26, 3) := by decide +kernel
theorem dX8_sink_95 : decode cX8_sink 95 = .ok (.iload 4, 2) := by decide +kernel
theorem dX8_sink_97 : decode cX8_sink 97 = .ok (.iload 5, 2) := by decide +kernel
theorem dX8_sink_99 : decode cX8_sink 99 = .ok (.iastore, 1) := by decide +kernel
theorem dX8_sink_100 : decode cX8_sink 100 = .ok (.iload 4, 2) := by decide +kernel
theorem dX8_sink_102 : decode cX8_sink 102 = .ok (.istore_n 3, 1) := by decide +kernel
theorem dX8_sink_103 : decode cX8_sink 103 = .ok (.iconst 2, 1) := by decide +kernel
theorem dX8_sink_104 : decode cX8_sink 104 = .ok (.iload_n 3, 1) := by decide +kernel
theorem dX8_sink_105 : decode cX8_sink 105 = .ok (.imul, 1) := by decide +kernel
theorem dX8_sink_106 : decode cX8_sink 106 = .ok (.iconst 1, 1) := by decide +kernel
theorem dX8_sink_107 : decode cX8_sink 107 = .ok (.iadd, 1) := by decide +kernel
theorem dX8_sink_108 : decode cX8_sink 108 = .ok (.istore 4, 2) := by decide +kernel
theorem dX8_sink_110 : decode cX8_sink 110 = .ok (.goto (-101), 3) := by decide +kernel
theorem dX8_sink_113 : decode cX8_sink 113 = .ok (.return_, 1) := by decide +kernel
abbrev cX8_isBehind : ByteArray := prog_3_method_8_code
def yX8_isBehind : MethodName := ⟨RX8, "isBehind", "(II)Z"⟩
theorem dX8_isBehind_0 : decode cX8_isBehind 0 = .ok (.aload_n 0, 1) := by decide +kernel
theorem dX8_isBehind_1 : decode cX8_isBehind 1 = .ok (.iload_n 1, 1) := by decide +kernel
theorem dX8_isBehind_2 : decode cX8_isBehind 2 = .ok (.iload_n 2, 1) := by decide +kernel
theorem dX8_isBehind_3 : decode cX8_isBehind 3 = .ok (.invokevirtual 61, 3) := by decide +kernel
theorem dX8_isBehind_6 : decode cX8_isBehind 6 = .ok (.istore_n 3, 1) := by decide +kernel
theorem dX8_isBehind_7 : decode cX8_isBehind 7 = .ok (.iload_n 3, 1) := by decide +kernel
theorem dX8_isBehind_8 : decode cX8_isBehind 8 = .ok (.ifCond .eq 15, 3) := by decide +kernel
theorem dX8_isBehind_11 : decode cX8_isBehind 11 = .ok (.iload_n 3, 1) := by decide +kernel
theorem dX8_isBehind_12 : decode cX8_isBehind 12 = .ok (.ifCond .le 7, 3) := by decide +kernel
theorem dX8_isBehind_15 : decode cX8_isBehind 15 = .ok (.iconst 1, 1) := by decide +kernel
theorem dX8_isBehind_16 : decode cX8_isBehind 16 = .ok (.goto 27, 3) := by decide +kernel
theorem dX8_isBehind_19 : decode cX8_isBehind 19 = .ok (.iconst 0, 1) := by decide +kernel
theorem dX8_isBehind_20 : decode cX8_isBehind 20 = .ok (.goto 23, 3) := by decide +kernel
theorem dX8_isBehind_23 : decode cX8_isBehind 23 = .ok (.aload_n 0, 1) := by decide +kernel
theorem dX8_isBehind_24 : decode cX8_isBehind 24 = .ok (.getfield 16, 3) := by decide +kernel
theorem dX8_isBehind_27 : decode cX8_isBehind 27 = .ok (.iload_n 1, 1) := by decide +kernel
theorem dX8_isBehind_28 : decode cX8_isBehind 28 = .ok (.iaload, 1) := by decide +kernel
theorem dX8_isBehind_29 : decode cX8_isBehind 29 = .ok (.aload_n 0, 1) := by decide +kernel
theorem dX8_isBehind_30 : decode cX8_isBehind 30 = .ok (.getfield 16, 3) := by decide +kernel
theorem dX8_isBehind_33 : decode cX8_isBehind 33 = .ok (.iload_n 2, 1) := by decide +kernel
theorem dX8_isBehind_34 : decode cX8_isBehind 34 = .ok (.iaload, 1) := by decide +kernel
theorem dX8_isBehind_35 : decode cX8_isBehind 35 = .ok (.if_icmp .ge 7, 3) := by decide +kernel
theorem dX8_isBehind_38 : decode cX8_isBehind 38 = .ok (.iconst 1, 1) := by decide +kernel
theorem dX8_isBehind_39 : decode cX8_isBehind 39 = .ok (.goto 4, 3) := by decide +kernel
theorem dX8_isBehind_42 : decode cX8_isBehind 42 = .ok (.iconst 0, 1) := by decide +kernel
theorem dX8_isBehind_43 : decode cX8_isBehind 43 = .ok (.ireturn, 1) := by decide +kernel
abbrev cX8_compare : ByteArray := prog_3_method_6_code
def yX8_compare : MethodName := ⟨RX8, "compare", "(II)I"⟩
theorem dX8_compare_0 : decode cX8_compare 0 = .ok (.aload_n 0, 1) := by decide +kernel
theorem dX8_compare_1 : decode cX8_compare 1 = .ok (.getfield 7, 3) := by decide +kernel
theorem dX8_compare_4 : decode cX8_compare 4 = .ok (.iload_n 1, 1) := by decide +kernel
theorem dX8_compare_5 : decode cX8_compare 5 = .ok (.laload, 1) := by decide +kernel
theorem dX8_compare_6 : decode cX8_compare 6 = .ok (.aload_n 0, 1) := by decide +kernel
theorem dX8_compare_7 : decode cX8_compare 7 = .ok (.getfield 13, 3) := by decide +kernel
theorem dX8_compare_10 : decode cX8_compare 10 = .ok (.iload_n 1, 1) := by decide +kernel
theorem dX8_compare_11 : decode cX8_compare 11 = .ok (.laload, 1) := by decide +kernel
theorem dX8_compare_12 : decode cX8_compare 12 = .ok (.aload_n 0, 1) := by decide +kernel
theorem dX8_compare_13 : decode cX8_compare 13 = .ok (.getfield 7, 3) := by decide +kernel
theorem dX8_compare_16 : decode cX8_compare 16 = .ok (.iload_n 2, 1) := by decide +kernel
theorem dX8_compare_17 : decode cX8_compare 17 = .ok (.laload, 1) := by decide +kernel
theorem dX8_compare_18 : decode cX8_compare 18 = .ok (.aload_n 0, 1) := by decide +kernel
theorem dX8_compare_19 : decode cX8_compare 19 = .ok (.getfield 13, 3) := by decide +kernel
theorem dX8_compare_22 : decode cX8_compare 22 = .ok (.iload_n 2, 1) := by decide +kernel
theorem dX8_compare_23 : decode cX8_compare 23 = .ok (.laload, 1) := by decide +kernel
theorem dX8_compare_24 : decode cX8_compare 24 = .ok (.invokestatic 51, 3) := by decide +kernel
theorem dX8_compare_27 : decode cX8_compare 27 = .ok (.ireturn, 1) := by decide +kernel
theorem q78 : (Jvm.Cond.initialized "ShapeRelator$Events") ∈ lw_all := lw_g (lw_at lw_m1 8 rfl) rfl
theorem q254 : (Jvm.Cond.instantiable "ShapeRelator$Events" (7 : Nat)) ∈ lw_all := lw_g (lw_at lw_m1 184 rfl) rfl
theorem q256 : (Jvm.Cond.instanceMethod ({ cls := "ShapeRelator$Events", name := "<init>", desc := "()V" } : Jvm.MethodName)) ∈ lw_all := lw_g (lw_at lw_m1 186 rfl) rfl
theorem q257 : (Jvm.Cond.code ({ cls := "ShapeRelator$Events", name := "<init>", desc := "()V" } : Jvm.MethodName) prog_3_method_1_code (1 : Nat) (Option.none : Option Jvm.ClassFile.FieldType)) ∈ lw_all := lw_g (lw_at lw_m1 187 rfl) rfl
theorem q258 : (Jvm.Cond.methodLink "ShapeRelator$Events" (1 : Nat) ({ cls := "java/lang/Object", name := "<init>", desc := "()V" } : Jvm.MethodName)) ∈ lw_all := lw_g (lw_at lw_m1 188 rfl) rfl
theorem q259 : (Jvm.Cond.fieldLink "ShapeRelator$Events" (7 : Nat) "ShapeRelator$Events" "parts" "[J") ∈ lw_all := lw_g (lw_at lw_m1 189 rfl) rfl
theorem q260 : (Jvm.Cond.fieldLink "ShapeRelator$Events" (13 : Nat) "ShapeRelator$Events" "wholes" "[J") ∈ lw_all := lw_g (lw_at lw_m1 190 rfl) rfl
theorem q261 : (Jvm.Cond.fieldLink "ShapeRelator$Events" (16 : Nat) "ShapeRelator$Events" "whats" "[I") ∈ lw_all := lw_g (lw_at lw_m1 191 rfl) rfl
theorem q263 : (Jvm.Cond.fieldLink "ShapeRelator$Events" (20 : Nat) "ShapeRelator$Events" "x" "[I") ∈ lw_all := lw_g (lw_at lw_m1 193 rfl) rfl
theorem q265 : (Jvm.Cond.fieldLink "ShapeRelator$Events" (23 : Nat) "ShapeRelator$Events" "y" "[I") ∈ lw_all := lw_g (lw_at lw_m1 195 rfl) rfl
theorem q267 : (Jvm.Cond.fieldLink "ShapeRelator$Events" (26 : Nat) "ShapeRelator$Events" "order" "[I") ∈ lw_all := lw_g (lw_at lw_m1 197 rfl) rfl
theorem q269 : (Jvm.Cond.fieldLink "ShapeRelator$Events" (29 : Nat) "ShapeRelator$Events" "size" "I") ∈ lw_all := lw_g (lw_at lw_m1 199 rfl) rfl
theorem q271 : (Jvm.Cond.lays "ShapeRelator$Events" "ShapeRelator$Events" "parts" "[J") ∈ lw_all := lw_g (lw_at lw_m1 201 rfl) rfl
theorem q272 : (Jvm.Cond.soleField "ShapeRelator$Events" "parts") ∈ lw_all := lw_g (lw_at lw_m1 202 rfl) rfl
theorem q273 : (Jvm.Cond.lays "ShapeRelator$Events" "ShapeRelator$Events" "wholes" "[J") ∈ lw_all := lw_g (lw_at lw_m1 203 rfl) rfl
theorem q274 : (Jvm.Cond.soleField "ShapeRelator$Events" "wholes") ∈ lw_all := lw_g (lw_at lw_m1 204 rfl) rfl
theorem q275 : (Jvm.Cond.lays "ShapeRelator$Events" "ShapeRelator$Events" "whats" "[I") ∈ lw_all := lw_g (lw_at lw_m1 205 rfl) rfl
theorem q276 : (Jvm.Cond.soleField "ShapeRelator$Events" "whats") ∈ lw_all := lw_g (lw_at lw_m1 206 rfl) rfl
theorem q277 : (Jvm.Cond.lays "ShapeRelator$Events" "ShapeRelator$Events" "x" "[I") ∈ lw_all := lw_g (lw_at lw_m1 207 rfl) rfl
theorem q278 : (Jvm.Cond.soleField "ShapeRelator$Events" "x") ∈ lw_all := lw_g (lw_at lw_m1 208 rfl) rfl
theorem q279 : (Jvm.Cond.lays "ShapeRelator$Events" "ShapeRelator$Events" "y" "[I") ∈ lw_all := lw_g (lw_at lw_m1 209 rfl) rfl
theorem q280 : (Jvm.Cond.soleField "ShapeRelator$Events" "y") ∈ lw_all := lw_g (lw_at lw_m1 210 rfl) rfl
theorem q281 : (Jvm.Cond.lays "ShapeRelator$Events" "ShapeRelator$Events" "order" "[I") ∈ lw_all := lw_g (lw_at lw_m1 211 rfl) rfl
theorem q282 : (Jvm.Cond.soleField "ShapeRelator$Events" "order") ∈ lw_all := lw_g (lw_at lw_m1 212 rfl) rfl
theorem q283 : (Jvm.Cond.lays "ShapeRelator$Events" "ShapeRelator$Events" "size" "I") ∈ lw_all := lw_g (lw_at lw_m1 213 rfl) rfl
theorem q284 : (Jvm.Cond.soleField "ShapeRelator$Events" "size") ∈ lw_all := lw_g (lw_at lw_m1 214 rfl) rfl
theorem q285 : (Jvm.Cond.superclass "ShapeRelator$Events" "java/lang/Object") ∈ lw_all := lw_g (lw_at lw_m1 215 rfl) rfl
theorem q489 : (Jvm.Cond.instanceMethod ({ cls := "ShapeRelator$Events", name := "clear", desc := "()V" } : Jvm.MethodName)) ∈ lw_all := lw_g (lw_at lw_m2 179 rfl) rfl
theorem q490 : (Jvm.Cond.selects "ShapeRelator$Events" ({ cls := "ShapeRelator$Events", name := "clear", desc := "()V" } : Jvm.MethodName) ({ cls := "ShapeRelator$Events", name := "clear", desc := "()V" } : Jvm.MethodName)) ∈ lw_all := lw_g (lw_at lw_m2 180 rfl) rfl
theorem q491 : (Jvm.Cond.code ({ cls := "ShapeRelator$Events", name := "clear", desc := "()V" } : Jvm.MethodName) prog_3_method_2_code (1 : Nat) (Option.none : Option Jvm.ClassFile.FieldType)) ∈ lw_all := lw_g (lw_at lw_m2 181 rfl) rfl
theorem q538 : (Jvm.Cond.instanceMethod ({ cls := "ShapeRelator$Events", name := "add", desc := "(JJIII)V" } : Jvm.MethodName)) ∈ lw_all := lw_g (lw_at lw_m2 228 rfl) rfl
theorem q539 : (Jvm.Cond.selects "ShapeRelator$Events" ({ cls := "ShapeRelator$Events", name := "add", desc := "(JJIII)V" } : Jvm.MethodName) ({ cls := "ShapeRelator$Events", name := "add", desc := "(JJIII)V" } : Jvm.MethodName)) ∈ lw_all := lw_g (lw_at lw_m2 229 rfl) rfl
theorem q540 : (Jvm.Cond.code ({ cls := "ShapeRelator$Events", name := "add", desc := "(JJIII)V" } : Jvm.MethodName) prog_3_method_5_code (8 : Nat) (Option.none : Option Jvm.ClassFile.FieldType)) ∈ lw_all := lw_g (lw_at lw_m2 230 rfl) rfl
theorem q541 : (Jvm.Cond.methodLink "ShapeRelator$Events" (48 : Nat) ({ cls := "ShapeRelator$Events", name := "grow", desc := "()V" } : Jvm.MethodName)) ∈ lw_all := lw_g (lw_at lw_m2 231 rfl) rfl
theorem q542 : (Jvm.Cond.privateMethod ({ cls := "ShapeRelator$Events", name := "grow", desc := "()V" } : Jvm.MethodName)) ∈ lw_tbl := lw_at lw_m2 232 rfl
theorem q543 : (Jvm.Cond.instanceMethod ({ cls := "ShapeRelator$Events", name := "grow", desc := "()V" } : Jvm.MethodName)) ∈ lw_all := lw_g (lw_at lw_m2 233 rfl) rfl
theorem q544 : (Jvm.Cond.code ({ cls := "ShapeRelator$Events", name := "grow", desc := "()V" } : Jvm.MethodName) prog_3_method_4_code (2 : Nat) (Option.none : Option Jvm.ClassFile.FieldType)) ∈ lw_all := lw_g (lw_at lw_m2 234 rfl) rfl
theorem q545 : (Jvm.Cond.methodLink "ShapeRelator$Events" (39 : Nat) ({ cls := "ShapeRelator$Events", name := "longer", desc := "([JI)[J" } : Jvm.MethodName)) ∈ lw_all := lw_g (lw_at lw_m2 235 rfl) rfl
theorem q546 : (Jvm.Cond.static ({ cls := "ShapeRelator$Events", name := "longer", desc := "([JI)[J" } : Jvm.MethodName)) ∈ lw_all := lw_g (lw_at lw_m2 236 rfl) rfl
theorem q547 : (Jvm.Cond.code ({ cls := "ShapeRelator$Events", name := "longer", desc := "([JI)[J" } : Jvm.MethodName) prog_3_method_3_code (3 : Nat) (Option.some (Jvm.ClassFile.FieldType.array Jvm.ClassFile.FieldType.long))) ∈ lw_all := lw_g (lw_at lw_m2 237 rfl) rfl
theorem q548 : (Jvm.Cond.methodLink "ShapeRelator$Events" (33 : Nat) ({ cls := "java/lang/System", name := "arraycopy", desc := "(Ljava/lang/Object;ILjava/lang/Object;II)V" } : Jvm.MethodName)) ∈ lw_all := lw_g (lw_at lw_m2 238 rfl) rfl
theorem q549 : (Jvm.Cond.methodLinkNest "ShapeRelator$Events" (43 : Nat) ({ cls := "ShapeRelator$Bounds", name := "longer", desc := "([II)[I" } : Jvm.MethodName) "ShapeRelator") ∈ lw_tbl := lw_at lw_m2 239 rfl
theorem q564 : (Jvm.Cond.instanceMethod ({ cls := "ShapeRelator$Events", name := "sort", desc := "()V" } : Jvm.MethodName)) ∈ lw_all := lw_g (lw_at lw_m3 14 rfl) rfl
theorem q565 : (Jvm.Cond.selects "ShapeRelator$Events" ({ cls := "ShapeRelator$Events", name := "sort", desc := "()V" } : Jvm.MethodName) ({ cls := "ShapeRelator$Events", name := "sort", desc := "()V" } : Jvm.MethodName)) ∈ lw_all := lw_g (lw_at lw_m3 15 rfl) rfl
theorem q566 : (Jvm.Cond.code ({ cls := "ShapeRelator$Events", name := "sort", desc := "()V" } : Jvm.MethodName) prog_3_method_7_code (3 : Nat) (Option.none : Option Jvm.ClassFile.FieldType)) ∈ lw_all := lw_g (lw_at lw_m3 16 rfl) rfl
theorem q567 : (Jvm.Cond.methodLink "ShapeRelator$Events" (57 : Nat) ({ cls := "ShapeRelator$Events", name := "sink", desc := "(II)V" } : Jvm.MethodName)) ∈ lw_all := lw_g (lw_at lw_m3 17 rfl) rfl
theorem q568 : (Jvm.Cond.privateMethod ({ cls := "ShapeRelator$Events", name := "sink", desc := "(II)V" } : Jvm.MethodName)) ∈ lw_tbl := lw_at lw_m3 18 rfl
theorem q569 : (Jvm.Cond.instanceMethod ({ cls := "ShapeRelator$Events", name := "sink", desc := "(II)V" } : Jvm.MethodName)) ∈ lw_all := lw_g (lw_at lw_m3 19 rfl) rfl
theorem q570 : (Jvm.Cond.code ({ cls := "ShapeRelator$Events", name := "sink", desc := "(II)V" } : Jvm.MethodName) prog_3_method_9_code (6 : Nat) (Option.none : Option Jvm.ClassFile.FieldType)) ∈ lw_all := lw_g (lw_at lw_m3 20 rfl) rfl
theorem q571 : (Jvm.Cond.methodLink "ShapeRelator$Events" (64 : Nat) ({ cls := "ShapeRelator$Events", name := "isBehind", desc := "(II)Z" } : Jvm.MethodName)) ∈ lw_all := lw_g (lw_at lw_m3 21 rfl) rfl
theorem q572 : (Jvm.Cond.privateMethod ({ cls := "ShapeRelator$Events", name := "isBehind", desc := "(II)Z" } : Jvm.MethodName)) ∈ lw_tbl := lw_at lw_m3 22 rfl
theorem q573 : (Jvm.Cond.instanceMethod ({ cls := "ShapeRelator$Events", name := "isBehind", desc := "(II)Z" } : Jvm.MethodName)) ∈ lw_all := lw_g (lw_at lw_m3 23 rfl) rfl
theorem q574 : (Jvm.Cond.code ({ cls := "ShapeRelator$Events", name := "isBehind", desc := "(II)Z" } : Jvm.MethodName) prog_3_method_8_code (4 : Nat) (Option.some Jvm.ClassFile.FieldType.boolean)) ∈ lw_all := lw_g (lw_at lw_m3 24 rfl) rfl
theorem q575 : (Jvm.Cond.methodLink "ShapeRelator$Events" (61 : Nat) ({ cls := "ShapeRelator$Events", name := "compare", desc := "(II)I" } : Jvm.MethodName)) ∈ lw_all := lw_g (lw_at lw_m3 25 rfl) rfl
theorem q576 : (Jvm.Cond.instanceMethod ({ cls := "ShapeRelator$Events", name := "compare", desc := "(II)I" } : Jvm.MethodName)) ∈ lw_all := lw_g (lw_at lw_m3 26 rfl) rfl
theorem q577 : (Jvm.Cond.selects "ShapeRelator$Events" ({ cls := "ShapeRelator$Events", name := "compare", desc := "(II)I" } : Jvm.MethodName) ({ cls := "ShapeRelator$Events", name := "compare", desc := "(II)I" } : Jvm.MethodName)) ∈ lw_all := lw_g (lw_at lw_m3 27 rfl) rfl
theorem q578 : (Jvm.Cond.code ({ cls := "ShapeRelator$Events", name := "compare", desc := "(II)I" } : Jvm.MethodName) prog_3_method_6_code (3 : Nat) (Option.some Jvm.ClassFile.FieldType.int)) ∈ lw_all := lw_g (lw_at lw_m3 28 rfl) rfl
theorem q579 : (Jvm.Cond.methodLinkNest "ShapeRelator$Events" (51 : Nat) ({ cls := "ShapeRelator$Part", name := "compare", desc := "(JJJJ)I" } : Jvm.MethodName) "ShapeRelator") ∈ lw_tbl := lw_at lw_m3 29 rfl
theorem in_X8 : ∀ w ∈ wsX80, w ∈ lw_all := lw_in wsX80 [271, 273, 275, 277, 279, 281, 283] (by decide +kernel) (by decide +kernel)
/-! ShapeRelator$Outline -/
set_option maxRecDepth 100000
def RX3 : String := "ShapeRelator$Outline"
def TX3 : u_T := fun k => match k with
  | 0 => ("ShapeRelator$Outline", "kind", "I", false)
  | 1 => ("ShapeRelator$Outline", "starts", "[I", false)
  | 2 => ("ShapeRelator$Outline", "parts", "I", false)
  | 3 => ("ShapeRelator$Outline", "x", "[I", false)
  | 4 => ("ShapeRelator$Outline", "y", "[I", false)
  | _ => ("ShapeRelator$Outline", "points", "I", false)
def tyX3 : Nat → FieldType := fun k => match k with
  | 0 => .int
  | 1 => .array .int
  | 2 => .int
  | 3 => .array .int
  | 4 => .array .int
  | _ => .int
abbrev wsX30 : List Cond := u_ws RX3 TX3 6
theorem nmX3 : ∀ a, a < 6 → ∀ b, b < 6 → a ≠ b → (TX3 a).2.1 ≠ (TX3 b).2.1 := by decide +kernel
theorem tyX3_ok : ∀ k, k < 6 → parseFieldDescriptor (TX3 k).2.2.1 = some (tyX3 k) := by decide +kernel
abbrev cX3_init : ByteArray := prog_4_method_1_code
def yX3_init : MethodName := ⟨RX3, "<init>", "()V"⟩
theorem dX3_init_0 : decode cX3_init 0 = .ok (.aload_n 0, 1) := by decide +kernel
theorem dX3_init_1 : decode cX3_init 1 = .ok (.invokespecial 1, 3) := by decide +kernel
theorem dX3_init_4 : decode cX3_init 4 = .ok (.aload_n 0, 1) := by decide +kernel
theorem dX3_init_5 : decode cX3_init 5 = .ok (.iconst 1, 1) := by decide +kernel
theorem dX3_init_6 : decode cX3_init 6 = .ok (.putfield 7, 3) := by decide +kernel
theorem dX3_init_9 : decode cX3_init 9 = .ok (.aload_n 0, 1) := by decide +kernel
theorem dX3_init_10 : decode cX3_init 10 = .ok (.bipush 16, 2) := by decide +kernel
theorem dX3_init_12 : decode cX3_init 12 = .ok (.newarray .int, 2) := by decide +kernel
theorem dX3_init_14 : decode cX3_init 14 = .ok (.putfield 13, 3) := by decide +kernel
theorem dX3_init_17 : decode cX3_init 17 = .ok (.aload_n 0, 1) := by decide +kernel
theorem dX3_init_18 : decode cX3_init 18 = .ok (.bipush 16, 2) := by decide +kernel
theorem dX3_init_20 : decode cX3_init 20 = .ok (.newarray .int, 2) := by decide +kernel
theorem dX3_init_22 : decode cX3_init 22 = .ok (.putfield 17, 3) := by decide +kernel
theorem dX3_init_25 : decode cX3_init 25 = .ok (.aload_n 0, 1) := by decide +kernel
theorem dX3_init_26 : decode cX3_init 26 = .ok (.bipush 16, 2) := by decide +kernel
theorem dX3_init_28 : decode cX3_init 28 = .ok (.newarray .int, 2) := by decide +kernel
theorem dX3_init_30 : decode cX3_init 30 = .ok (.putfield 20, 3) := by decide +kernel
theorem dX3_init_33 : decode cX3_init 33 = .ok (.return_, 1) := by decide +kernel
abbrev cX3_end : ByteArray := prog_4_method_5_code
def yX3_end : MethodName := ⟨RX3, "end", "(I)I"⟩
theorem dX3_end_0 : decode cX3_end 0 = .ok (.iload_n 1, 1) := by decide +kernel
theorem dX3_end_1 : decode cX3_end 1 = .ok (.iconst 1, 1) := by decide +kernel
theorem dX3_end_2 : decode cX3_end 2 = .ok (.iadd, 1) := by decide +kernel
theorem dX3_end_3 : decode cX3_end 3 = .ok (.aload_n 0, 1) := by decide +kernel
theorem dX3_end_4 : decode cX3_end 4 = .ok (.getfield 23, 3) := by decide +kernel
theorem dX3_end_7 : decode cX3_end 7 = .ok (.if_icmp .ge 14, 3) := by decide +kernel
theorem dX3_end_10 : decode cX3_end 10 = .ok (.aload_n 0, 1) := by decide +kernel
theorem dX3_end_11 : decode cX3_end 11 = .ok (.getfield 13, 3) := by decide +kernel
theorem dX3_end_14 : decode cX3_end 14 = .ok (.iload_n 1, 1) := by decide +kernel
theorem dX3_end_15 : decode cX3_end 15 = .ok (.iconst 1, 1) := by decide +kernel
theorem dX3_end_16 : decode cX3_end 16 = .ok (.iadd, 1) := by decide +kernel
theorem dX3_end_17 : decode cX3_end 17 = .ok (.iaload, 1) := by decide +kernel
theorem dX3_end_18 : decode cX3_end 18 = .ok (.goto 7, 3) := by decide +kernel
theorem dX3_end_21 : decode cX3_end 21 = .ok (.aload_n 0, 1) := by decide +kernel
theorem dX3_end_22 : decode cX3_end 22 = .ok (.getfield 26, 3) := by decide +kernel
theorem dX3_end_25 : decode cX3_end 25 = .ok (.ireturn, 1) := by decide +kernel
abbrev cX3_isAt : ByteArray := prog_4_method_7_code
def yX3_isAt : MethodName := ⟨RX3, "isAt", "(III)Z"⟩
theorem dX3_isAt_0 : decode cX3_isAt 0 = .ok (.aload_n 0, 1) := by decide +kernel
theorem dX3_isAt_1 : decode cX3_isAt 1 = .ok (.getfield 17, 3) := by decide +kernel
theorem dX3_isAt_4 : decode cX3_isAt 4 = .ok (.iload_n 1, 1) := by decide +kernel
theorem dX3_isAt_5 : decode cX3_isAt 5 = .ok (.iaload, 1) := by decide +kernel
theorem dX3_isAt_6 : decode cX3_isAt 6 = .ok (.iload_n 2, 1) := by decide +kernel
theorem dX3_isAt_7 : decode cX3_isAt 7 = .ok (.if_icmp .ne 17, 3) := by decide +kernel
theorem dX3_isAt_10 : decode cX3_isAt 10 = .ok (.aload_n 0, 1) := by decide +kernel
theorem dX3_isAt_11 : decode cX3_isAt 11 = .ok (.getfield 20, 3) := by decide +kernel
theorem dX3_isAt_14 : decode cX3_isAt 14 = .ok (.iload_n 1, 1) := by decide +kernel
theorem dX3_isAt_15 : decode cX3_isAt 15 = .ok (.iaload, 1) := by decide +kernel
theorem dX3_isAt_16 : decode cX3_isAt 16 = .ok (.iload_n 3, 1) := by decide +kernel
theorem dX3_isAt_17 : decode cX3_isAt 17 = .ok (.if_icmp .ne 7, 3) := by decide +kernel
theorem dX3_isAt_20 : decode cX3_isAt 20 = .ok (.iconst 1, 1) := by decide +kernel
theorem dX3_isAt_21 : decode cX3_isAt 21 = .ok (.goto 4, 3) := by decide +kernel
theorem dX3_isAt_24 : decode cX3_isAt 24 = .ok (.iconst 0, 1) := by decide +kernel
theorem dX3_isAt_25 : decode cX3_isAt 25 = .ok (.ireturn, 1) := by decide +kernel
abbrev cX3_ends : ByteArray := prog_4_method_6_code
def yX3_ends : MethodName := ⟨RX3, "ends", "(II)I"⟩
theorem dX3_ends_0 : decode cX3_ends 0 = .ok (.iconst 0, 1) := by decide +kernel
theorem dX3_ends_1 : decode cX3_ends 1 = .ok (.istore_n 3, 1) := by decide +kernel
theorem dX3_ends_2 : decode cX3_ends 2 = .ok (.iconst 0, 1) := by decide +kernel
theorem dX3_ends_3 : decode cX3_ends 3 = .ok (.istore 4, 2) := by decide +kernel
theorem dX3_ends_5 : decode cX3_ends 5 = .ok (.iload 4, 2) := by decide +kernel
theorem dX3_ends_7 : decode cX3_ends 7 = .ok (.aload_n 0, 1) := by decide +kernel
theorem dX3_ends_8 : decode cX3_ends 8 = .ok (.getfield 23, 3) := by decide +kernel
theorem dX3_ends_11 : decode cX3_ends 11 = .ok (.if_icmp .ge 74, 3) := by decide +kernel
theorem dX3_ends_14 : decode cX3_ends 14 = .ok (.aload_n 0, 1) := by decide +kernel
theorem dX3_ends_15 : decode cX3_ends 15 = .ok (.iload 4, 2) := by decide +kernel
theorem dX3_ends_17 : decode cX3_ends 17 = .ok (.invokevirtual 35, 3) := by decide +kernel
theorem dX3_ends_20 : decode cX3_ends 20 = .ok (.iconst 1, 1) := by decide +kernel
theorem dX3_ends_21 : decode cX3_ends 21 = .ok (.isub, 1) := by decide +kernel
theorem dX3_ends_22 : decode cX3_ends 22 = .ok (.istore 5, 2) := by decide +kernel
theorem dX3_ends_24 : decode cX3_ends 24 = .ok (.iload 5, 2) := by decide +kernel
theorem dX3_ends_26 : decode cX3_ends 26 = .ok (.aload_n 0, 1) := by decide +kernel
theorem dX3_ends_27 : decode cX3_ends 27 = .ok (.getfield 13, 3) := by decide +kernel
theorem dX3_ends_30 : decode cX3_ends 30 = .ok (.iload 4, 2) := by decide +kernel
theorem dX3_ends_32 : decode cX3_ends 32 = .ok (.iaload, 1) := by decide +kernel
theorem dX3_ends_33 : decode cX3_ends 33 = .ok (.if_icmp .lt 46, 3) := by decide +kernel
theorem dX3_ends_36 : decode cX3_ends 36 = .ok (.iload_n 3, 1) := by decide +kernel
theorem dX3_ends_37 : decode cX3_ends 37 = .ok (.aload_n 0, 1) := by decide +kernel
theorem dX3_ends_38 : decode cX3_ends 38 = .ok (.aload_n 0, 1) := by decide +kernel
theorem dX3_ends_39 : decode cX3_ends 39 = .ok (.getfield 13, 3) := by decide +kernel
theorem dX3_ends_42 : decode cX3_ends 42 = .ok (.iload 4, 2) := by decide +kernel
theorem dX3_ends_44 : decode cX3_ends 44 = .ok (.iaload, 1) := by decide +kernel
theorem dX3_ends_45 : decode cX3_ends 45 = .ok (.iload_n 1, 1) := by decide +kernel
theorem dX3_ends_46 : decode cX3_ends 46 = .ok (.iload_n 2, 1) := by decide +kernel
theorem dX3_ends_47 : decode cX3_ends 47 = .ok (.invokevirtual 39, 3) := by decide +kernel
theorem dX3_ends_50 : decode cX3_ends 50 = .ok (.ifCond .eq 7, 3) := by decide +kernel
theorem dX3_ends_53 : decode cX3_ends 53 = .ok (.iconst 1, 1) := by decide +kernel
theorem dX3_ends_54 : decode cX3_ends 54 = .ok (.goto 4, 3) := by decide +kernel
theorem dX3_ends_57 : decode cX3_ends 57 = .ok (.iconst 0, 1) := by decide +kernel
theorem dX3_ends_58 : decode cX3_ends 58 = .ok (.iadd, 1) := by decide +kernel
theorem dX3_ends_59 : decode cX3_ends 59 = .ok (.istore_n 3, 1) := by decide +kernel
theorem dX3_ends_60 : decode cX3_ends 60 = .ok (.iload_n 3, 1) := by decide +kernel
theorem dX3_ends_61 : decode cX3_ends 61 = .ok (.aload_n 0, 1) := by decide +kernel
theorem dX3_ends_62 : decode cX3_ends 62 = .ok (.iload 5, 2) := by decide +kernel
theorem dX3_ends_64 : decode cX3_ends 64 = .ok (.iload_n 1, 1) := by decide +kernel
theorem dX3_ends_65 : decode cX3_ends 65 = .ok (.iload_n 2, 1) := by decide +kernel
theorem dX3_ends_66 : decode cX3_ends 66 = .ok (.invokevirtual 39, 3) := by decide +kernel
theorem dX3_ends_69 : decode cX3_ends 69 = .ok (.ifCond .eq 7, 3) := by decide +kernel
theorem dX3_ends_72 : decode cX3_ends 72 = .ok (.iconst 1, 1) := by decide +kernel
theorem dX3_ends_73 : decode cX3_ends 73 = .ok (.goto 4, 3) := by decide +kernel
theorem dX3_ends_76 : decode cX3_ends 76 = .ok (.iconst 0, 1) := by decide +kernel
theorem dX3_ends_77 : decode cX3_ends 77 = .ok (.iadd, 1) := by decide +kernel
theorem dX3_ends_78 : decode cX3_ends 78 = .ok (.istore_n 3, 1) := by decide +kernel
theorem dX3_ends_79 : decode cX3_ends 79 = .ok (.iinc 4 1, 3) := by decide +kernel
theorem dX3_ends_82 : decode cX3_ends 82 = .ok (.goto (-77), 3) := by decide +kernel
theorem dX3_ends_85 : decode cX3_ends 85 = .ok (.iload_n 3, 1) := by decide +kernel
theorem dX3_ends_86 : decode cX3_ends 86 = .ok (.ireturn, 1) := by decide +kernel
abbrev cX3_begin : ByteArray := prog_4_method_2_code
def yX3_begin : MethodName := ⟨RX3, "begin", "(I)V"⟩
theorem dX3_begin_0 : decode cX3_begin 0 = .ok (.aload_n 0, 1) := by decide +kernel
theorem dX3_begin_1 : decode cX3_begin 1 = .ok (.iload_n 1, 1) := by decide +kernel
theorem dX3_begin_2 : decode cX3_begin 2 = .ok (.putfield 7, 3) := by decide +kernel
theorem dX3_begin_5 : decode cX3_begin 5 = .ok (.aload_n 0, 1) := by decide +kernel
theorem dX3_begin_6 : decode cX3_begin 6 = .ok (.iconst 0, 1) := by decide +kernel
theorem dX3_begin_7 : decode cX3_begin 7 = .ok (.putfield 23, 3) := by decide +kernel
theorem dX3_begin_10 : decode cX3_begin 10 = .ok (.aload_n 0, 1) := by decide +kernel
theorem dX3_begin_11 : decode cX3_begin 11 = .ok (.iconst 0, 1) := by decide +kernel
theorem dX3_begin_12 : decode cX3_begin 12 = .ok (.putfield 26, 3) := by decide +kernel
theorem dX3_begin_15 : decode cX3_begin 15 = .ok (.return_, 1) := by decide +kernel
abbrev cX3_part : ByteArray := prog_4_method_3_code
def yX3_part : MethodName := ⟨RX3, "part", "()V"⟩
theorem dX3_part_0 : decode cX3_part 0 = .ok (.aload_n 0, 1) := by decide +kernel
theorem dX3_part_1 : decode cX3_part 1 = .ok (.getfield 23, 3) := by decide +kernel
theorem dX3_part_4 : decode cX3_part 4 = .ok (.aload_n 0, 1) := by decide +kernel
theorem dX3_part_5 : decode cX3_part 5 = .ok (.getfield 13, 3) := by decide +kernel
theorem dX3_part_8 : decode cX3_part 8 = .ok (.arraylength, 1) := by decide +kernel
theorem dX3_part_9 : decode cX3_part 9 = .ok (.if_icmp .ne 20, 3) := by decide +kernel
theorem dX3_part_12 : decode cX3_part 12 = .ok (.aload_n 0, 1) := by decide +kernel
theorem dX3_part_13 : decode cX3_part 13 = .ok (.aload_n 0, 1) := by decide +kernel
theorem dX3_part_14 : decode cX3_part 14 = .ok (.getfield 13, 3) := by decide +kernel
theorem dX3_part_17 : decode cX3_part 17 = .ok (.iconst 2, 1) := by decide +kernel
theorem dX3_part_18 : decode cX3_part 18 = .ok (.aload_n 0, 1) := by decide +kernel
theorem dX3_part_19 : decode cX3_part 19 = .ok (.getfield 23, 3) := by decide +kernel
theorem dX3_part_22 : decode cX3_part 22 = .ok (.imul, 1) := by decide +kernel
theorem dX3_part_23 : decode cX3_part 23 = .ok (.invokestatic 29, 3) := by decide +kernel
theorem dX3_part_26 : decode cX3_part 26 = .ok (.putfield 13, 3) := by decide +kernel
theorem dX3_part_29 : decode cX3_part 29 = .ok (.aload_n 0, 1) := by decide +kernel
theorem dX3_part_30 : decode cX3_part 30 = .ok (.getfield 13, 3) := by decide +kernel
theorem dX3_part_33 : decode cX3_part 33 = .ok (.aload_n 0, 1) := by decide +kernel
theorem dX3_part_34 : decode cX3_part 34 = .ok (.getfield 23, 3) := by decide +kernel
theorem dX3_part_37 : decode cX3_part 37 = .ok (.aload_n 0, 1) := by decide +kernel
theorem dX3_part_38 : decode cX3_part 38 = .ok (.getfield 26, 3) := by decide +kernel
theorem dX3_part_41 : decode cX3_part 41 = .ok (.iastore, 1) := by decide +kernel
theorem dX3_part_42 : decode cX3_part 42 = .ok (.aload_n 0, 1) := by decide +kernel
theorem dX3_part_43 : decode cX3_part 43 = .ok (.dup, 1) := by decide +kernel
theorem dX3_part_44 : decode cX3_part 44 = .ok (.getfield 23, 3) := by decide +kernel
theorem dX3_part_47 : decode cX3_part 47 = .ok (.iconst 1, 1) := by decide +kernel
theorem dX3_part_48 : decode cX3_part 48 = .ok (.iadd, 1) := by decide +kernel
theorem dX3_part_49 : decode cX3_part 49 = .ok (.putfield 23, 3) := by decide +kernel
theorem dX3_part_52 : decode cX3_part 52 = .ok (.return_, 1) := by decide +kernel
abbrev cX3_point : ByteArray := prog_4_method_4_code
def yX3_point : MethodName := ⟨RX3, "point", "(II)V"⟩
theorem dX3_point_0 : decode cX3_point 0 = .ok (.aload_n 0, 1) := by decide +kernel
theorem dX3_point_1 : decode cX3_point 1 = .ok (.getfield 26, 3) := by decide +kernel
theorem dX3_point_4 : decode cX3_point 4 = .ok (.aload_n 0, 1) := by decide +kernel
theorem dX3_point_5 : decode cX3_point 5 = .ok (.getfield 17, 3) := by decide +kernel
theorem dX3_point_8 : decode cX3_point 8 = .ok (.arraylength, 1) := by decide +kernel
theorem dX3_point_9 : decode cX3_point 9 = .ok (.if_icmp .ne 37, 3) := by decide +kernel
theorem dX3_point_12 : decode cX3_point 12 = .ok (.aload_n 0, 1) := by decide +kernel
theorem dX3_point_13 : decode cX3_point 13 = .ok (.aload_n 0, 1) := by decide +kernel
theorem dX3_point_14 : decode cX3_point 14 = .ok (.getfield 17, 3) := by decide +kernel
theorem dX3_point_17 : decode cX3_point 17 = .ok (.iconst 2, 1) := by decide +kernel
theorem dX3_point_18 : decode cX3_point 18 = .ok (.aload_n 0, 1) := by decide +kernel
theorem dX3_point_19 : decode cX3_point 19 = .ok (.getfield 26, 3) := by decide +kernel
theorem dX3_point_22 : decode cX3_point 22 = .ok (.imul, 1) := by decide +kernel
theorem dX3_point_23 : decode cX3_point 23 = .ok (.invokestatic 29, 3) := by decide +kernel
theorem dX3_point_26 : decode cX3_point 26 = .ok (.putfield 17, 3) := by decide +kernel
theorem dX3_point_29 : decode cX3_point 29 = .ok (.aload_n 0, 1) := by decide +kernel
theorem dX3_point_30 : decode cX3_point 30 = .ok (.aload_n 0, 1) := by decide +kernel
theorem dX3_point_31 : decode cX3_point 31 = .ok (.getfield 20, 3) := by decide +kernel
theorem dX3_point_34 : decode cX3_point 34 = .ok (.iconst 2, 1) := by decide +kernel
theorem dX3_point_35 : decode cX3_point 35 = .ok (.aload_n 0, 1) := by decide +kernel
theorem dX3_point_36 : decode cX3_point 36 = .ok (.getfield 26, 3) := by decide +kernel
theorem dX3_point_39 : decode cX3_point 39 = .ok (.imul, 1) := by decide +kernel
theorem dX3_point_40 : decode cX3_point 40 = .ok (.invokestatic 29, 3) := by decide +kernel
theorem dX3_point_43 : decode cX3_point 43 = .ok (.putfield 20, 3) := by decide +kernel
theorem dX3_point_46 : decode cX3_point 46 = .ok (.aload_n 0, 1) := by decide +kernel
theorem dX3_point_47 : decode cX3_point 47 = .ok (.getfield 17, 3) := by decide +kernel
theorem dX3_point_50 : decode cX3_point 50 = .ok (.aload_n 0, 1) := by decide +kernel
theorem dX3_point_51 : decode cX3_point 51 = .ok (.getfield 26, 3) := by decide +kernel
theorem dX3_point_54 : decode cX3_point 54 = .ok (.iload_n 1, 1) := by decide +kernel
theorem dX3_point_55 : decode cX3_point 55 = .ok (.iastore, 1) := by decide +kernel
theorem dX3_point_56 : decode cX3_point 56 = .ok (.aload_n 0, 1) := by decide +kernel
theorem dX3_point_57 : decode cX3_point 57 = .ok (.getfield 20, 3) := by decide +kernel
theorem dX3_point_60 : decode cX3_point 60 = .ok (.aload_n 0, 1) := by decide +kernel
theorem dX3_point_61 : decode cX3_point 61 = .ok (.getfield 26, 3) := by decide +kernel
theorem dX3_point_64 : decode cX3_point 64 = .ok (.iload_n 2, 1) := by decide +kernel
theorem dX3_point_65 : decode cX3_point 65 = .ok (.iastore, 1) := by decide +kernel
theorem dX3_point_66 : decode cX3_point 66 = .ok (.aload_n 0, 1) := by decide +kernel
theorem dX3_point_67 : decode cX3_point 67 = .ok (.dup, 1) := by decide +kernel
theorem dX3_point_68 : decode cX3_point 68 = .ok (.getfield 26, 3) := by decide +kernel
theorem dX3_point_71 : decode cX3_point 71 = .ok (.iconst 1, 1) := by decide +kernel
theorem dX3_point_72 : decode cX3_point 72 = .ok (.iadd, 1) := by decide +kernel
theorem dX3_point_73 : decode cX3_point 73 = .ok (.putfield 26, 3) := by decide +kernel
theorem dX3_point_76 : decode cX3_point 76 = .ok (.return_, 1) := by decide +kernel
theorem q73 : (Jvm.Cond.initialized "ShapeRelator$Outline") ∈ lw_all := lw_g (lw_at lw_m1 3 rfl) rfl
theorem q108 : (Jvm.Cond.instantiable "ShapeRelator$Outline" (6 : Nat)) ∈ lw_all := lw_g (lw_at lw_m1 38 rfl) rfl
theorem q110 : (Jvm.Cond.instanceMethod ({ cls := "ShapeRelator$Outline", name := "<init>", desc := "()V" } : Jvm.MethodName)) ∈ lw_all := lw_g (lw_at lw_m1 40 rfl) rfl
theorem q111 : (Jvm.Cond.code ({ cls := "ShapeRelator$Outline", name := "<init>", desc := "()V" } : Jvm.MethodName) prog_4_method_1_code (1 : Nat) (Option.none : Option Jvm.ClassFile.FieldType)) ∈ lw_all := lw_g (lw_at lw_m1 41 rfl) rfl
theorem q112 : (Jvm.Cond.methodLink "ShapeRelator$Outline" (1 : Nat) ({ cls := "java/lang/Object", name := "<init>", desc := "()V" } : Jvm.MethodName)) ∈ lw_all := lw_g (lw_at lw_m1 42 rfl) rfl
theorem q113 : (Jvm.Cond.fieldLink "ShapeRelator$Outline" (7 : Nat) "ShapeRelator$Outline" "kind" "I") ∈ lw_all := lw_g (lw_at lw_m1 43 rfl) rfl
theorem q117 : (Jvm.Cond.fieldLink "ShapeRelator$Outline" (13 : Nat) "ShapeRelator$Outline" "starts" "[I") ∈ lw_all := lw_g (lw_at lw_m1 47 rfl) rfl
theorem q119 : (Jvm.Cond.fieldLink "ShapeRelator$Outline" (23 : Nat) "ShapeRelator$Outline" "parts" "I") ∈ lw_all := lw_g (lw_at lw_m1 49 rfl) rfl
theorem q122 : (Jvm.Cond.fieldLink "ShapeRelator$Outline" (17 : Nat) "ShapeRelator$Outline" "x" "[I") ∈ lw_all := lw_g (lw_at lw_m1 52 rfl) rfl
theorem q125 : (Jvm.Cond.fieldLink "ShapeRelator$Outline" (20 : Nat) "ShapeRelator$Outline" "y" "[I") ∈ lw_all := lw_g (lw_at lw_m1 55 rfl) rfl
theorem q128 : (Jvm.Cond.fieldLink "ShapeRelator$Outline" (26 : Nat) "ShapeRelator$Outline" "points" "I") ∈ lw_all := lw_g (lw_at lw_m1 58 rfl) rfl
theorem q131 : (Jvm.Cond.lays "ShapeRelator$Outline" "ShapeRelator$Outline" "kind" "I") ∈ lw_all := lw_g (lw_at lw_m1 61 rfl) rfl
theorem q132 : (Jvm.Cond.soleField "ShapeRelator$Outline" "kind") ∈ lw_all := lw_g (lw_at lw_m1 62 rfl) rfl
theorem q133 : (Jvm.Cond.lays "ShapeRelator$Outline" "ShapeRelator$Outline" "starts" "[I") ∈ lw_all := lw_g (lw_at lw_m1 63 rfl) rfl
theorem q134 : (Jvm.Cond.soleField "ShapeRelator$Outline" "starts") ∈ lw_all := lw_g (lw_at lw_m1 64 rfl) rfl
theorem q135 : (Jvm.Cond.lays "ShapeRelator$Outline" "ShapeRelator$Outline" "parts" "I") ∈ lw_all := lw_g (lw_at lw_m1 65 rfl) rfl
theorem q136 : (Jvm.Cond.soleField "ShapeRelator$Outline" "parts") ∈ lw_all := lw_g (lw_at lw_m1 66 rfl) rfl
theorem q137 : (Jvm.Cond.lays "ShapeRelator$Outline" "ShapeRelator$Outline" "x" "[I") ∈ lw_all := lw_g (lw_at lw_m1 67 rfl) rfl
theorem q138 : (Jvm.Cond.soleField "ShapeRelator$Outline" "x") ∈ lw_all := lw_g (lw_at lw_m1 68 rfl) rfl
theorem q139 : (Jvm.Cond.lays "ShapeRelator$Outline" "ShapeRelator$Outline" "y" "[I") ∈ lw_all := lw_g (lw_at lw_m1 69 rfl) rfl
theorem q140 : (Jvm.Cond.soleField "ShapeRelator$Outline" "y") ∈ lw_all := lw_g (lw_at lw_m1 70 rfl) rfl
theorem q141 : (Jvm.Cond.lays "ShapeRelator$Outline" "ShapeRelator$Outline" "points" "I") ∈ lw_all := lw_g (lw_at lw_m1 71 rfl) rfl
theorem q142 : (Jvm.Cond.soleField "ShapeRelator$Outline" "points") ∈ lw_all := lw_g (lw_at lw_m1 72 rfl) rfl
theorem q143 : (Jvm.Cond.superclass "ShapeRelator$Outline" "java/lang/Object") ∈ lw_all := lw_g (lw_at lw_m1 73 rfl) rfl
theorem q383 : (Jvm.Cond.instanceMethod ({ cls := "ShapeRelator$Outline", name := "end", desc := "(I)I" } : Jvm.MethodName)) ∈ lw_all := lw_g (lw_at lw_m2 73 rfl) rfl
theorem q384 : (Jvm.Cond.selects "ShapeRelator$Outline" ({ cls := "ShapeRelator$Outline", name := "end", desc := "(I)I" } : Jvm.MethodName) ({ cls := "ShapeRelator$Outline", name := "end", desc := "(I)I" } : Jvm.MethodName)) ∈ lw_all := lw_g (lw_at lw_m2 74 rfl) rfl
theorem q385 : (Jvm.Cond.code ({ cls := "ShapeRelator$Outline", name := "end", desc := "(I)I" } : Jvm.MethodName) prog_4_method_5_code (2 : Nat) (Option.some Jvm.ClassFile.FieldType.int)) ∈ lw_all := lw_g (lw_at lw_m2 75 rfl) rfl
theorem q391 : (Jvm.Cond.instanceMethod ({ cls := "ShapeRelator$Outline", name := "isAt", desc := "(III)Z" } : Jvm.MethodName)) ∈ lw_all := lw_g (lw_at lw_m2 81 rfl) rfl
theorem q392 : (Jvm.Cond.selects "ShapeRelator$Outline" ({ cls := "ShapeRelator$Outline", name := "isAt", desc := "(III)Z" } : Jvm.MethodName) ({ cls := "ShapeRelator$Outline", name := "isAt", desc := "(III)Z" } : Jvm.MethodName)) ∈ lw_all := lw_g (lw_at lw_m2 82 rfl) rfl
theorem q393 : (Jvm.Cond.code ({ cls := "ShapeRelator$Outline", name := "isAt", desc := "(III)Z" } : Jvm.MethodName) prog_4_method_7_code (4 : Nat) (Option.some Jvm.ClassFile.FieldType.boolean)) ∈ lw_all := lw_g (lw_at lw_m2 83 rfl) rfl
theorem q601 : (Jvm.Cond.instanceMethod ({ cls := "ShapeRelator$Outline", name := "ends", desc := "(II)I" } : Jvm.MethodName)) ∈ lw_all := lw_g (lw_at lw_m3 51 rfl) rfl
theorem q602 : (Jvm.Cond.selects "ShapeRelator$Outline" ({ cls := "ShapeRelator$Outline", name := "ends", desc := "(II)I" } : Jvm.MethodName) ({ cls := "ShapeRelator$Outline", name := "ends", desc := "(II)I" } : Jvm.MethodName)) ∈ lw_all := lw_g (lw_at lw_m3 52 rfl) rfl
theorem q603 : (Jvm.Cond.code ({ cls := "ShapeRelator$Outline", name := "ends", desc := "(II)I" } : Jvm.MethodName) prog_4_method_6_code (6 : Nat) (Option.some Jvm.ClassFile.FieldType.int)) ∈ lw_all := lw_g (lw_at lw_m3 53 rfl) rfl
theorem q604 : (Jvm.Cond.methodLink "ShapeRelator$Outline" (35 : Nat) ({ cls := "ShapeRelator$Outline", name := "end", desc := "(I)I" } : Jvm.MethodName)) ∈ lw_all := lw_g (lw_at lw_m3 54 rfl) rfl
theorem q605 : (Jvm.Cond.methodLink "ShapeRelator$Outline" (39 : Nat) ({ cls := "ShapeRelator$Outline", name := "isAt", desc := "(III)Z" } : Jvm.MethodName)) ∈ lw_all := lw_g (lw_at lw_m3 55 rfl) rfl
theorem q829 : (Jvm.Cond.instanceMethod ({ cls := "ShapeRelator$Outline", name := "begin", desc := "(I)V" } : Jvm.MethodName)) ∈ lw_all := lw_g (lw_at lw_m4 39 rfl) rfl
theorem q830 : (Jvm.Cond.selects "ShapeRelator$Outline" ({ cls := "ShapeRelator$Outline", name := "begin", desc := "(I)V" } : Jvm.MethodName) ({ cls := "ShapeRelator$Outline", name := "begin", desc := "(I)V" } : Jvm.MethodName)) ∈ lw_all := lw_g (lw_at lw_m4 40 rfl) rfl
theorem q831 : (Jvm.Cond.code ({ cls := "ShapeRelator$Outline", name := "begin", desc := "(I)V" } : Jvm.MethodName) prog_4_method_2_code (2 : Nat) (Option.none : Option Jvm.ClassFile.FieldType)) ∈ lw_all := lw_g (lw_at lw_m4 41 rfl) rfl
theorem q863 : (Jvm.Cond.instanceMethod ({ cls := "ShapeRelator$Outline", name := "part", desc := "()V" } : Jvm.MethodName)) ∈ lw_all := lw_g (lw_at lw_m4 73 rfl) rfl
theorem q864 : (Jvm.Cond.selects "ShapeRelator$Outline" ({ cls := "ShapeRelator$Outline", name := "part", desc := "()V" } : Jvm.MethodName) ({ cls := "ShapeRelator$Outline", name := "part", desc := "()V" } : Jvm.MethodName)) ∈ lw_all := lw_g (lw_at lw_m4 74 rfl) rfl
theorem q865 : (Jvm.Cond.code ({ cls := "ShapeRelator$Outline", name := "part", desc := "()V" } : Jvm.MethodName) prog_4_method_3_code (1 : Nat) (Option.none : Option Jvm.ClassFile.FieldType)) ∈ lw_all := lw_g (lw_at lw_m4 75 rfl) rfl
theorem q866 : (Jvm.Cond.methodLinkNest "ShapeRelator$Outline" (29 : Nat) ({ cls := "ShapeRelator$Bounds", name := "longer", desc := "([II)[I" } : Jvm.MethodName) "ShapeRelator") ∈ lw_tbl := lw_at lw_m4 76 rfl
theorem q880 : (Jvm.Cond.instanceMethod ({ cls := "ShapeRelator$Outline", name := "point", desc := "(II)V" } : Jvm.MethodName)) ∈ lw_all := lw_g (lw_at lw_m4 90 rfl) rfl
theorem q881 : (Jvm.Cond.selects "ShapeRelator$Outline" ({ cls := "ShapeRelator$Outline", name := "point", desc := "(II)V" } : Jvm.MethodName) ({ cls := "ShapeRelator$Outline", name := "point", desc := "(II)V" } : Jvm.MethodName)) ∈ lw_all := lw_g (lw_at lw_m4 91 rfl) rfl
theorem q882 : (Jvm.Cond.code ({ cls := "ShapeRelator$Outline", name := "point", desc := "(II)V" } : Jvm.MethodName) prog_4_method_4_code (3 : Nat) (Option.none : Option Jvm.ClassFile.FieldType)) ∈ lw_all := lw_g (lw_at lw_m4 92 rfl) rfl
theorem in_X3 : ∀ w ∈ wsX30, w ∈ lw_all := lw_in wsX30 [131, 133, 135, 137, 139, 141] (by decide +kernel) (by decide +kernel)
/-! ShapeRelator$Sorter -/
set_option maxRecDepth 100000
def RX7 : String := "ShapeRelator$Sorter"
def TX7 : u_T := fun k => match k with
  | 0 => ("ShapeRelator$Sorter", "heap", "[I", false)
  | 1 => ("ShapeRelator$Sorter", "keys", "[J", false)
  | _ => ("ShapeRelator$Sorter", "size", "I", false)
def tyX7 : Nat → FieldType := fun k => match k with
  | 0 => .array .int
  | 1 => .array .long
  | _ => .int
abbrev wsX70 : List Cond := u_ws RX7 TX7 3
theorem nmX7 : ∀ a, a < 3 → ∀ b, b < 3 → a ≠ b → (TX7 a).2.1 ≠ (TX7 b).2.1 := by decide +kernel
theorem tyX7_ok : ∀ k, k < 3 → parseFieldDescriptor (TX7 k).2.2.1 = some (tyX7 k) := by decide +kernel
abbrev cX7_init : ByteArray := prog_8_method_1_code
def yX7_init : MethodName := ⟨RX7, "<init>", "()V"⟩
theorem dX7_init_0 : decode cX7_init 0 = .ok (.aload_n 0, 1) := by decide +kernel
theorem dX7_init_1 : decode cX7_init 1 = .ok (.invokespecial 1, 3) := by decide +kernel
theorem dX7_init_4 : decode cX7_init 4 = .ok (.aload_n 0, 1) := by decide +kernel
theorem dX7_init_5 : decode cX7_init 5 = .ok (.bipush 16, 2) := by decide +kernel
theorem dX7_init_7 : decode cX7_init 7 = .ok (.newarray .int, 2) := by decide +kernel
theorem dX7_init_9 : decode cX7_init 9 = .ok (.putfield 7, 3) := by decide +kernel
theorem dX7_init_12 : decode cX7_init 12 = .ok (.aload_n 0, 1) := by decide +kernel
theorem dX7_init_13 : decode cX7_init 13 = .ok (.bipush 16, 2) := by decide +kernel
theorem dX7_init_15 : decode cX7_init 15 = .ok (.newarray .long, 2) := by decide +kernel
theorem dX7_init_17 : decode cX7_init 17 = .ok (.putfield 13, 3) := by decide +kernel
theorem dX7_init_20 : decode cX7_init 20 = .ok (.return_, 1) := by decide +kernel
abbrev cX7_clear : ByteArray := prog_8_method_2_code
def yX7_clear : MethodName := ⟨RX7, "clear", "()V"⟩
theorem dX7_clear_0 : decode cX7_clear 0 = .ok (.aload_n 0, 1) := by decide +kernel
theorem dX7_clear_1 : decode cX7_clear 1 = .ok (.iconst 0, 1) := by decide +kernel
theorem dX7_clear_2 : decode cX7_clear 2 = .ok (.putfield 17, 3) := by decide +kernel
theorem dX7_clear_5 : decode cX7_clear 5 = .ok (.return_, 1) := by decide +kernel
abbrev cX7_add : ByteArray := prog_8_method_5_code
def yX7_add : MethodName := ⟨RX7, "add", "(JI)V"⟩
theorem dX7_add_0 : decode cX7_add 0 = .ok (.aload_n 0, 1) := by decide +kernel
theorem dX7_add_1 : decode cX7_add 1 = .ok (.getfield 17, 3) := by decide +kernel
theorem dX7_add_4 : decode cX7_add 4 = .ok (.aload_n 0, 1) := by decide +kernel
theorem dX7_add_5 : decode cX7_add 5 = .ok (.getfield 7, 3) := by decide +kernel
theorem dX7_add_8 : decode cX7_add 8 = .ok (.arraylength, 1) := by decide +kernel
theorem dX7_add_9 : decode cX7_add 9 = .ok (.if_icmp .ne 51, 3) := by decide +kernel
theorem dX7_add_12 : decode cX7_add 12 = .ok (.iconst 2, 1) := by decide +kernel
theorem dX7_add_13 : decode cX7_add 13 = .ok (.aload_n 0, 1) := by decide +kernel
theorem dX7_add_14 : decode cX7_add 14 = .ok (.getfield 17, 3) := by decide +kernel
theorem dX7_add_17 : decode cX7_add 17 = .ok (.imul, 1) := by decide +kernel
theorem dX7_add_18 : decode cX7_add 18 = .ok (.newarray .long, 2) := by decide +kernel
theorem dX7_add_20 : decode cX7_add 20 = .ok (.astore 4, 2) := by decide +kernel
theorem dX7_add_22 : decode cX7_add 22 = .ok (.aload_n 0, 1) := by decide +kernel
theorem dX7_add_23 : decode cX7_add 23 = .ok (.getfield 13, 3) := by decide +kernel
theorem dX7_add_26 : decode cX7_add 26 = .ok (.iconst 0, 1) := by decide +kernel
theorem dX7_add_27 : decode cX7_add 27 = .ok (.aload 4, 2) := by decide +kernel
theorem dX7_add_29 : decode cX7_add 29 = .ok (.iconst 0, 1) := by decide +kernel
theorem dX7_add_30 : decode cX7_add 30 = .ok (.aload_n 0, 1) := by decide +kernel
theorem dX7_add_31 : decode cX7_add 31 = .ok (.getfield 17, 3) := by decide +kernel
theorem dX7_add_34 : decode cX7_add 34 = .ok (.invokestatic 21, 3) := by decide +kernel
theorem dX7_add_37 : decode cX7_add 37 = .ok (.aload_n 0, 1) := by decide +kernel
theorem dX7_add_38 : decode cX7_add 38 = .ok (.aload_n 0, 1) := by decide +kernel
theorem dX7_add_39 : decode cX7_add 39 = .ok (.getfield 7, 3) := by decide +kernel
theorem dX7_add_42 : decode cX7_add 42 = .ok (.iconst 2, 1) := by decide +kernel
theorem dX7_add_43 : decode cX7_add 43 = .ok (.aload_n 0, 1) := by decide +kernel
theorem dX7_add_44 : decode cX7_add 44 = .ok (.getfield 17, 3) := by decide +kernel
theorem dX7_add_47 : decode cX7_add 47 = .ok (.imul, 1) := by decide +kernel
theorem dX7_add_48 : decode cX7_add 48 = .ok (.invokestatic 27, 3) := by decide +kernel
theorem dX7_add_51 : decode cX7_add 51 = .ok (.putfield 7, 3) := by decide +kernel
theorem dX7_add_54 : decode cX7_add 54 = .ok (.aload_n 0, 1) := by decide +kernel
theorem dX7_add_55 : decode cX7_add 55 = .ok (.aload 4, 2) := by decide +kernel
theorem dX7_add_57 : decode cX7_add 57 = .ok (.putfield 13, 3) := by decide +kernel
theorem dX7_add_60 : decode cX7_add 60 = .ok (.aload_n 0, 1) := by decide +kernel
theorem dX7_add_61 : decode cX7_add 61 = .ok (.getfield 7, 3) := by decide +kernel
theorem dX7_add_64 : decode cX7_add 64 = .ok (.aload_n 0, 1) := by decide +kernel
theorem dX7_add_65 : decode cX7_add 65 = .ok (.getfield 17, 3) := by decide +kernel
theorem dX7_add_68 : decode cX7_add 68 = .ok (.iload_n 3, 1) := by decide +kernel
theorem dX7_add_69 : decode cX7_add 69 = .ok (.iastore, 1) := by decide +kernel
theorem dX7_add_70 : decode cX7_add 70 = .ok (.aload_n 0, 1) := by decide +kernel
theorem dX7_add_71 : decode cX7_add 71 = .ok (.getfield 13, 3) := by decide +kernel
theorem dX7_add_74 : decode cX7_add 74 = .ok (.aload_n 0, 1) := by decide +kernel
theorem dX7_add_75 : decode cX7_add 75 = .ok (.getfield 17, 3) := by decide +kernel
theorem dX7_add_78 : decode cX7_add 78 = .ok (.lload_n 1, 1) := by decide +kernel
theorem dX7_add_79 : decode cX7_add 79 = .ok (.lastore, 1) := by decide +kernel
theorem dX7_add_80 : decode cX7_add 80 = .ok (.aload_n 0, 1) := by decide +kernel
theorem dX7_add_81 : decode cX7_add 81 = .ok (.getfield 17, 3) := by decide +kernel
theorem dX7_add_84 : decode cX7_add 84 = .ok (.istore 4, 2) := by decide +kernel
theorem dX7_add_86 : decode cX7_add 86 = .ok (.aload_n 0, 1) := by decide +kernel
theorem dX7_add_87 : decode cX7_add 87 = .ok (.dup, 1) := by decide +kernel
theorem dX7_add_88 : decode cX7_add 88 = .ok (.getfield 17, 3) := by decide +kernel
theorem dX7_add_91 : decode cX7_add 91 = .ok (.iconst 1, 1) := by decide +kernel
theorem dX7_add_92 : decode cX7_add 92 = .ok (.iadd, 1) := by decide +kernel
theorem dX7_add_93 : decode cX7_add 93 = .ok (.putfield 17, 3) := by decide +kernel
theorem dX7_add_96 : decode cX7_add 96 = .ok (.iload 4, 2) := by decide +kernel
theorem dX7_add_98 : decode cX7_add 98 = .ok (.ifCond .le 41, 3) := by decide +kernel
theorem dX7_add_101 : decode cX7_add 101 = .ok (.aload_n 0, 1) := by decide +kernel
theorem dX7_add_102 : decode cX7_add 102 = .ok (.iload 4, 2) := by decide +kernel
theorem dX7_add_104 : decode cX7_add 104 = .ok (.iload 4, 2) := by decide +kernel
theorem dX7_add_106 : decode cX7_add 106 = .ok (.iconst 1, 1) := by decide +kernel
theorem dX7_add_107 : decode cX7_add 107 = .ok (.isub, 1) := by decide +kernel
theorem dX7_add_108 : decode cX7_add 108 = .ok (.iconst 2, 1) := by decide +kernel
theorem dX7_add_109 : decode cX7_add 109 = .ok (.idiv, 1) := by decide +kernel
theorem dX7_add_110 : decode cX7_add 110 = .ok (.invokevirtual 33, 3) := by decide +kernel
theorem dX7_add_113 : decode cX7_add 113 = .ok (.ifCond .eq 26, 3) := by decide +kernel
theorem dX7_add_116 : decode cX7_add 116 = .ok (.aload_n 0, 1) := by decide +kernel
theorem dX7_add_117 : decode cX7_add 117 = .ok (.iload 4, 2) := by decide +kernel
theorem dX7_add_119 : decode cX7_add 119 = .ok (.iload 4, 2) := by decide +kernel
theorem dX7_add_121 : decode cX7_add 121 = .ok (.iconst 1, 1) := by decide +kernel
theorem dX7_add_122 : decode cX7_add 122 = .ok (.isub, 1) := by decide +kernel
theorem dX7_add_123 : decode cX7_add 123 = .ok (.iconst 2, 1) := by decide +kernel
theorem dX7_add_124 : decode cX7_add 124 = .ok (.idiv, 1) := by decide +kernel
theorem dX7_add_125 : decode cX7_add 125 = .ok (.invokevirtual 37, 3) := by decide +kernel
theorem dX7_add_128 : decode cX7_add 128 = .ok (.iload 4, 2) := by decide +kernel
theorem dX7_add_130 : decode cX7_add 130 = .ok (.iconst 1, 1) := by decide +kernel
theorem dX7_add_131 : decode cX7_add 131 = .ok (.isub, 1) := by decide +kernel
theorem dX7_add_132 : decode cX7_add 132 = .ok (.iconst 2, 1) := by decide +kernel
theorem dX7_add_133 : decode cX7_add 133 = .ok (.idiv, 1) := by decide +kernel
theorem dX7_add_134 : decode cX7_add 134 = .ok (.istore 4, 2) := by decide +kernel
theorem dX7_add_136 : decode cX7_add 136 = .ok (.goto (-40), 3) := by decide +kernel
theorem dX7_add_139 : decode cX7_add 139 = .ok (.return_, 1) := by decide +kernel
abbrev cX7_before : ByteArray := prog_8_method_3_code
def yX7_before : MethodName := ⟨RX7, "before", "(II)Z"⟩
theorem dX7_before_0 : decode cX7_before 0 = .ok (.aload_n 0, 1) := by decide +kernel
theorem dX7_before_1 : decode cX7_before 1 = .ok (.getfield 13, 3) := by decide +kernel
theorem dX7_before_4 : decode cX7_before 4 = .ok (.iload_n 1, 1) := by decide +kernel
theorem dX7_before_5 : decode cX7_before 5 = .ok (.laload, 1) := by decide +kernel
theorem dX7_before_6 : decode cX7_before 6 = .ok (.aload_n 0, 1) := by decide +kernel
theorem dX7_before_7 : decode cX7_before 7 = .ok (.getfield 13, 3) := by decide +kernel
theorem dX7_before_10 : decode cX7_before 10 = .ok (.iload_n 2, 1) := by decide +kernel
theorem dX7_before_11 : decode cX7_before 11 = .ok (.laload, 1) := by decide +kernel
theorem dX7_before_12 : decode cX7_before 12 = .ok (.lcmp, 1) := by decide +kernel
theorem dX7_before_13 : decode cX7_before 13 = .ok (.ifCond .eq 27, 3) := by decide +kernel
theorem dX7_before_16 : decode cX7_before 16 = .ok (.aload_n 0, 1) := by decide +kernel
theorem dX7_before_17 : decode cX7_before 17 = .ok (.getfield 13, 3) := by decide +kernel
theorem dX7_before_20 : decode cX7_before 20 = .ok (.iload_n 1, 1) := by decide +kernel
theorem dX7_before_21 : decode cX7_before 21 = .ok (.laload, 1) := by decide +kernel
theorem dX7_before_22 : decode cX7_before 22 = .ok (.aload_n 0, 1) := by decide +kernel
theorem dX7_before_23 : decode cX7_before 23 = .ok (.getfield 13, 3) := by decide +kernel
theorem dX7_before_26 : decode cX7_before 26 = .ok (.iload_n 2, 1) := by decide +kernel
theorem dX7_before_27 : decode cX7_before 27 = .ok (.laload, 1) := by decide +kernel
theorem dX7_before_28 : decode cX7_before 28 = .ok (.lcmp, 1) := by decide +kernel
theorem dX7_before_29 : decode cX7_before 29 = .ok (.ifCond .ge 7, 3) := by decide +kernel
theorem dX7_before_32 : decode cX7_before 32 = .ok (.iconst 1, 1) := by decide +kernel
theorem dX7_before_33 : decode cX7_before 33 = .ok (.goto 27, 3) := by decide +kernel
theorem dX7_before_36 : decode cX7_before 36 = .ok (.iconst 0, 1) := by decide +kernel
theorem dX7_before_37 : decode cX7_before 37 = .ok (.goto 23, 3) := by decide +kernel
theorem dX7_before_40 : decode cX7_before 40 = .ok (.aload_n 0, 1) := by decide +kernel
theorem dX7_before_41 : decode cX7_before 41 = .ok (.getfield 7, 3) := by decide +kernel
theorem dX7_before_44 : decode cX7_before 44 = .ok (.iload_n 1, 1) := by decide +kernel
theorem dX7_before_45 : decode cX7_before 45 = .ok (.iaload, 1) := by decide +kernel
theorem dX7_before_46 : decode cX7_before 46 = .ok (.aload_n 0, 1) := by decide +kernel
theorem dX7_before_47 : decode cX7_before 47 = .ok (.getfield 7, 3) := by decide +kernel
theorem dX7_before_50 : decode cX7_before 50 = .ok (.iload_n 2, 1) := by decide +kernel
theorem dX7_before_51 : decode cX7_before 51 = .ok (.iaload, 1) := by decide +kernel
theorem dX7_before_52 : decode cX7_before 52 = .ok (.if_icmp .ge 7, 3) := by decide +kernel
theorem dX7_before_55 : decode cX7_before 55 = .ok (.iconst 1, 1) := by decide +kernel
theorem dX7_before_56 : decode cX7_before 56 = .ok (.goto 4, 3) := by decide +kernel
theorem dX7_before_59 : decode cX7_before 59 = .ok (.iconst 0, 1) := by decide +kernel
theorem dX7_before_60 : decode cX7_before 60 = .ok (.ireturn, 1) := by decide +kernel
abbrev cX7_swap : ByteArray := prog_8_method_4_code
def yX7_swap : MethodName := ⟨RX7, "swap", "(II)V"⟩
theorem dX7_swap_0 : decode cX7_swap 0 = .ok (.aload_n 0, 1) := by decide +kernel
theorem dX7_swap_1 : decode cX7_swap 1 = .ok (.getfield 7, 3) := by decide +kernel
theorem dX7_swap_4 : decode cX7_swap 4 = .ok (.iload_n 1, 1) := by decide +kernel
theorem dX7_swap_5 : decode cX7_swap 5 = .ok (.iaload, 1) := by decide +kernel
theorem dX7_swap_6 : decode cX7_swap 6 = .ok (.istore_n 3, 1) := by decide +kernel
theorem dX7_swap_7 : decode cX7_swap 7 = .ok (.aload_n 0, 1) := by decide +kernel
theorem dX7_swap_8 : decode cX7_swap 8 = .ok (.getfield 13, 3) := by decide +kernel
theorem dX7_swap_11 : decode cX7_swap 11 = .ok (.iload_n 1, 1) := by decide +kernel
theorem dX7_swap_12 : decode cX7_swap 12 = .ok (.laload, 1) := by decide +kernel
theorem dX7_swap_13 : decode cX7_swap 13 = .ok (.lstore 4, 2) := by decide +kernel
theorem dX7_swap_15 : decode cX7_swap 15 = .ok (.aload_n 0, 1) := by decide +kernel
theorem dX7_swap_16 : decode cX7_swap 16 = .ok (.getfield 7, 3) := by decide +kernel
theorem dX7_swap_19 : decode cX7_swap 19 = .ok (.iload_n 1, 1) := by decide +kernel
theorem dX7_swap_20 : decode cX7_swap 20 = .ok (.aload_n 0, 1) := by decide +kernel
theorem dX7_swap_21 : decode cX7_swap 21 = .ok (.getfield 7, 3) := by decide +kernel
theorem dX7_swap_24 : decode cX7_swap 24 = .ok (.iload_n 2, 1) := by decide +kernel
theorem dX7_swap_25 : decode cX7_swap 25 = .ok (.iaload, 1) := by decide +kernel
theorem dX7_swap_26 : decode cX7_swap 26 = .ok (.iastore, 1) := by decide +kernel
theorem dX7_swap_27 : decode cX7_swap 27 = .ok (.aload_n 0, 1) := by decide +kernel
theorem dX7_swap_28 : decode cX7_swap 28 = .ok (.getfield 13, 3) := by decide +kernel
theorem dX7_swap_31 : decode cX7_swap 31 = .ok (.iload_n 1, 1) := by decide +kernel
theorem dX7_swap_32 : decode cX7_swap 32 = .ok (.aload_n 0, 1) := by decide +kernel
theorem dX7_swap_33 : decode cX7_swap 33 = .ok (.getfield 13, 3) := by decide +kernel
theorem dX7_swap_36 : decode cX7_swap 36 = .ok (.iload_n 2, 1) := by decide +kernel
theorem dX7_swap_37 : decode cX7_swap 37 = .ok (.laload, 1) := by decide +kernel
theorem dX7_swap_38 : decode cX7_swap 38 = .ok (.lastore, 1) := by decide +kernel
theorem dX7_swap_39 : decode cX7_swap 39 = .ok (.aload_n 0, 1) := by decide +kernel
theorem dX7_swap_40 : decode cX7_swap 40 = .ok (.getfield 7, 3) := by decide +kernel
theorem dX7_swap_43 : decode cX7_swap 43 = .ok (.iload_n 2, 1) := by decide +kernel
theorem dX7_swap_44 : decode cX7_swap 44 = .ok (.iload_n 3, 1) := by decide +kernel
theorem dX7_swap_45 : decode cX7_swap 45 = .ok (.iastore, 1) := by decide +kernel
theorem dX7_swap_46 : decode cX7_swap 46 = .ok (.aload_n 0, 1) := by decide +kernel
theorem dX7_swap_47 : decode cX7_swap 47 = .ok (.getfield 13, 3) := by decide +kernel
theorem dX7_swap_50 : decode cX7_swap 50 = .ok (.iload_n 2, 1) := by decide +kernel
theorem dX7_swap_51 : decode cX7_swap 51 = .ok (.lload 4, 2) := by decide +kernel
theorem dX7_swap_53 : decode cX7_swap 53 = .ok (.lastore, 1) := by decide +kernel
theorem dX7_swap_54 : decode cX7_swap 54 = .ok (.return_, 1) := by decide +kernel
abbrev cX7_take : ByteArray := prog_8_method_8_code
def yX7_take : MethodName := ⟨RX7, "take", "()I"⟩
theorem dX7_take_0 : decode cX7_take 0 = .ok (.aload_n 0, 1) := by decide +kernel
theorem dX7_take_1 : decode cX7_take 1 = .ok (.getfield 7, 3) := by decide +kernel
theorem dX7_take_4 : decode cX7_take 4 = .ok (.iconst 0, 1) := by decide +kernel
theorem dX7_take_5 : decode cX7_take 5 = .ok (.iaload, 1) := by decide +kernel
theorem dX7_take_6 : decode cX7_take 6 = .ok (.istore_n 1, 1) := by decide +kernel
theorem dX7_take_7 : decode cX7_take 7 = .ok (.aload_n 0, 1) := by decide +kernel
theorem dX7_take_8 : decode cX7_take 8 = .ok (.dup, 1) := by decide +kernel
theorem dX7_take_9 : decode cX7_take 9 = .ok (.getfield 17, 3) := by decide +kernel
theorem dX7_take_12 : decode cX7_take 12 = .ok (.iconst 1, 1) := by decide +kernel
theorem dX7_take_13 : decode cX7_take 13 = .ok (.isub, 1) := by decide +kernel
theorem dX7_take_14 : decode cX7_take 14 = .ok (.putfield 17, 3) := by decide +kernel
theorem dX7_take_17 : decode cX7_take 17 = .ok (.aload_n 0, 1) := by decide +kernel
theorem dX7_take_18 : decode cX7_take 18 = .ok (.getfield 7, 3) := by decide +kernel
theorem dX7_take_21 : decode cX7_take 21 = .ok (.iconst 0, 1) := by decide +kernel
theorem dX7_take_22 : decode cX7_take 22 = .ok (.aload_n 0, 1) := by decide +kernel
theorem dX7_take_23 : decode cX7_take 23 = .ok (.getfield 7, 3) := by decide +kernel
theorem dX7_take_26 : decode cX7_take 26 = .ok (.aload_n 0, 1) := by decide +kernel
theorem dX7_take_27 : decode cX7_take 27 = .ok (.getfield 17, 3) := by decide +kernel
theorem dX7_take_30 : decode cX7_take 30 = .ok (.iaload, 1) := by decide +kernel
theorem dX7_take_31 : decode cX7_take 31 = .ok (.iastore, 1) := by decide +kernel
theorem dX7_take_32 : decode cX7_take 32 = .ok (.aload_n 0, 1) := by decide +kernel
theorem dX7_take_33 : decode cX7_take 33 = .ok (.getfield 13, 3) := by decide +kernel
theorem dX7_take_36 : decode cX7_take 36 = .ok (.iconst 0, 1) := by decide +kernel
theorem dX7_take_37 : decode cX7_take 37 = .ok (.aload_n 0, 1) := by decide +kernel
theorem dX7_take_38 : decode cX7_take 38 = .ok (.getfield 13, 3) := by decide +kernel
theorem dX7_take_41 : decode cX7_take 41 = .ok (.aload_n 0, 1) := by decide +kernel
theorem dX7_take_42 : decode cX7_take 42 = .ok (.getfield 17, 3) := by decide +kernel
theorem dX7_take_45 : decode cX7_take 45 = .ok (.laload, 1) := by decide +kernel
theorem dX7_take_46 : decode cX7_take 46 = .ok (.lastore, 1) := by decide +kernel
theorem dX7_take_47 : decode cX7_take 47 = .ok (.iconst 0, 1) := by decide +kernel
theorem dX7_take_48 : decode cX7_take 48 = .ok (.istore_n 2, 1) := by decide +kernel
theorem dX7_take_49 : decode cX7_take 49 = .ok (.aload_n 0, 1) := by decide +kernel
theorem dX7_take_50 : decode cX7_take 50 = .ok (.iconst 0, 1) := by decide +kernel
theorem dX7_take_51 : decode cX7_take 51 = .ok (.invokevirtual 41, 3) := by decide +kernel
theorem dX7_take_54 : decode cX7_take 54 = .ok (.istore_n 3, 1) := by decide +kernel
theorem dX7_take_55 : decode cX7_take 55 = .ok (.iload_n 3, 1) := by decide +kernel
theorem dX7_take_56 : decode cX7_take 56 = .ok (.iload_n 2, 1) := by decide +kernel
theorem dX7_take_57 : decode cX7_take 57 = .ok (.if_icmp .eq 20, 3) := by decide +kernel
theorem dX7_take_60 : decode cX7_take 60 = .ok (.aload_n 0, 1) := by decide +kernel
theorem dX7_take_61 : decode cX7_take 61 = .ok (.iload_n 2, 1) := by decide +kernel
theorem dX7_take_62 : decode cX7_take 62 = .ok (.iload_n 3, 1) := by decide +kernel
theorem dX7_take_63 : decode cX7_take 63 = .ok (.invokevirtual 37, 3) := by decide +kernel
theorem dX7_take_66 : decode cX7_take 66 = .ok (.iload_n 3, 1) := by decide +kernel
theorem dX7_take_67 : decode cX7_take 67 = .ok (.istore_n 2, 1) := by decide +kernel
theorem dX7_take_68 : decode cX7_take 68 = .ok (.aload_n 0, 1) := by decide +kernel
theorem dX7_take_69 : decode cX7_take 69 = .ok (.iload_n 2, 1) := by decide +kernel
theorem dX7_take_70 : decode cX7_take 70 = .ok (.invokevirtual 41, 3) := by decide +kernel
theorem dX7_take_73 : decode cX7_take 73 = .ok (.istore_n 3, 1) := by decide +kernel
theorem dX7_take_74 : decode cX7_take 74 = .ok (.goto (-19), 3) := by decide +kernel
theorem dX7_take_77 : decode cX7_take 77 = .ok (.iload_n 1, 1) := by decide +kernel
theorem dX7_take_78 : decode cX7_take 78 = .ok (.ireturn, 1) := by decide +kernel
abbrev cX7_least : ByteArray := prog_8_method_9_code
def yX7_least : MethodName := ⟨RX7, "least", "(I)I"⟩
theorem dX7_least_0 : decode cX7_least 0 = .ok (.iload_n 1, 1) := by decide +kernel
theorem dX7_least_1 : decode cX7_least 1 = .ok (.istore_n 2, 1) := by decide +kernel
theorem dX7_least_2 : decode cX7_least 2 = .ok (.iconst 2, 1) := by decide +kernel
theorem dX7_least_3 : decode cX7_least 3 = .ok (.iload_n 1, 1) := by decide +kernel
theorem dX7_least_4 : decode cX7_least 4 = .ok (.imul, 1) := by decide +kernel
theorem dX7_least_5 : decode cX7_least 5 = .ok (.iconst 1, 1) := by decide +kernel
theorem dX7_least_6 : decode cX7_least 6 = .ok (.iadd, 1) := by decide +kernel
theorem dX7_least_7 : decode cX7_least 7 = .ok (.istore_n 3, 1) := by decide +kernel
theorem dX7_least_8 : decode cX7_least 8 = .ok (.iload_n 3, 1) := by decide +kernel
theorem dX7_least_9 : decode cX7_least 9 = .ok (.iconst 2, 1) := by decide +kernel
theorem dX7_least_10 : decode cX7_least 10 = .ok (.iload_n 1, 1) := by decide +kernel
theorem dX7_least_11 : decode cX7_least 11 = .ok (.imul, 1) := by decide +kernel
theorem dX7_least_12 : decode cX7_least 12 = .ok (.iconst 2, 1) := by decide +kernel
theorem dX7_least_13 : decode cX7_least 13 = .ok (.iadd, 1) := by decide +kernel
theorem dX7_least_14 : decode cX7_least 14 = .ok (.if_icmp .gt 32, 3) := by decide +kernel
theorem dX7_least_17 : decode cX7_least 17 = .ok (.iload_n 3, 1) := by decide +kernel
theorem dX7_least_18 : decode cX7_least 18 = .ok (.aload_n 0, 1) := by decide +kernel
theorem dX7_least_19 : decode cX7_least 19 = .ok (.getfield 17, 3) := by decide +kernel
theorem dX7_least_22 : decode cX7_least 22 = .ok (.if_icmp .ge 24, 3) := by decide +kernel
theorem dX7_least_25 : decode cX7_least 25 = .ok (.aload_n 0, 1) := by decide +kernel
theorem dX7_least_26 : decode cX7_least 26 = .ok (.iload_n 3, 1) := by decide +kernel
theorem dX7_least_27 : decode cX7_least 27 = .ok (.iload_n 2, 1) := by decide +kernel
theorem dX7_least_28 : decode cX7_least 28 = .ok (.invokevirtual 33, 3) := by decide +kernel
theorem dX7_least_31 : decode cX7_least 31 = .ok (.ifCond .eq 7, 3) := by decide +kernel
theorem dX7_least_34 : decode cX7_least 34 = .ok (.iload_n 3, 1) := by decide +kernel
theorem dX7_least_35 : decode cX7_least 35 = .ok (.goto 4, 3) := by decide +kernel
theorem dX7_least_38 : decode cX7_least 38 = .ok (.iload_n 2, 1) := by decide +kernel
theorem dX7_least_39 : decode cX7_least 39 = .ok (.istore_n 2, 1) := by decide +kernel
theorem dX7_least_40 : decode cX7_least 40 = .ok (.iinc 3 1, 3) := by decide +kernel
theorem dX7_least_43 : decode cX7_least 43 = .ok (.goto (-35), 3) := by decide +kernel
theorem dX7_least_46 : decode cX7_least 46 = .ok (.iload_n 2, 1) := by decide +kernel
theorem dX7_least_47 : decode cX7_least 47 = .ok (.ireturn, 1) := by decide +kernel
theorem q77 : (Jvm.Cond.initialized "ShapeRelator$Sorter") ∈ lw_all := lw_g (lw_at lw_m1 7 rfl) rfl
theorem q206 : (Jvm.Cond.instantiable "ShapeRelator$Sorter" (3 : Nat)) ∈ lw_all := lw_g (lw_at lw_m1 136 rfl) rfl
theorem q208 : (Jvm.Cond.instanceMethod ({ cls := "ShapeRelator$Sorter", name := "<init>", desc := "()V" } : Jvm.MethodName)) ∈ lw_all := lw_g (lw_at lw_m1 138 rfl) rfl
theorem q209 : (Jvm.Cond.code ({ cls := "ShapeRelator$Sorter", name := "<init>", desc := "()V" } : Jvm.MethodName) prog_8_method_1_code (1 : Nat) (Option.none : Option Jvm.ClassFile.FieldType)) ∈ lw_all := lw_g (lw_at lw_m1 139 rfl) rfl
theorem q210 : (Jvm.Cond.methodLink "ShapeRelator$Sorter" (1 : Nat) ({ cls := "java/lang/Object", name := "<init>", desc := "()V" } : Jvm.MethodName)) ∈ lw_all := lw_g (lw_at lw_m1 140 rfl) rfl
theorem q211 : (Jvm.Cond.fieldLink "ShapeRelator$Sorter" (7 : Nat) "ShapeRelator$Sorter" "heap" "[I") ∈ lw_all := lw_g (lw_at lw_m1 141 rfl) rfl
theorem q212 : (Jvm.Cond.fieldLink "ShapeRelator$Sorter" (13 : Nat) "ShapeRelator$Sorter" "keys" "[J") ∈ lw_all := lw_g (lw_at lw_m1 142 rfl) rfl
theorem q213 : (Jvm.Cond.fieldLink "ShapeRelator$Sorter" (17 : Nat) "ShapeRelator$Sorter" "size" "I") ∈ lw_all := lw_g (lw_at lw_m1 143 rfl) rfl
theorem q214 : (Jvm.Cond.lays "ShapeRelator$Sorter" "ShapeRelator$Sorter" "heap" "[I") ∈ lw_all := lw_g (lw_at lw_m1 144 rfl) rfl
theorem q215 : (Jvm.Cond.soleField "ShapeRelator$Sorter" "heap") ∈ lw_all := lw_g (lw_at lw_m1 145 rfl) rfl
theorem q216 : (Jvm.Cond.lays "ShapeRelator$Sorter" "ShapeRelator$Sorter" "keys" "[J") ∈ lw_all := lw_g (lw_at lw_m1 146 rfl) rfl
theorem q217 : (Jvm.Cond.soleField "ShapeRelator$Sorter" "keys") ∈ lw_all := lw_g (lw_at lw_m1 147 rfl) rfl
theorem q218 : (Jvm.Cond.lays "ShapeRelator$Sorter" "ShapeRelator$Sorter" "size" "I") ∈ lw_all := lw_g (lw_at lw_m1 148 rfl) rfl
theorem q219 : (Jvm.Cond.soleField "ShapeRelator$Sorter" "size") ∈ lw_all := lw_g (lw_at lw_m1 149 rfl) rfl
theorem q220 : (Jvm.Cond.superclass "ShapeRelator$Sorter" "java/lang/Object") ∈ lw_all := lw_g (lw_at lw_m1 150 rfl) rfl
theorem q429 : (Jvm.Cond.instanceMethod ({ cls := "ShapeRelator$Sorter", name := "clear", desc := "()V" } : Jvm.MethodName)) ∈ lw_all := lw_g (lw_at lw_m2 119 rfl) rfl
theorem q430 : (Jvm.Cond.selects "ShapeRelator$Sorter" ({ cls := "ShapeRelator$Sorter", name := "clear", desc := "()V" } : Jvm.MethodName) ({ cls := "ShapeRelator$Sorter", name := "clear", desc := "()V" } : Jvm.MethodName)) ∈ lw_all := lw_g (lw_at lw_m2 120 rfl) rfl
theorem q431 : (Jvm.Cond.code ({ cls := "ShapeRelator$Sorter", name := "clear", desc := "()V" } : Jvm.MethodName) prog_8_method_2_code (1 : Nat) (Option.none : Option Jvm.ClassFile.FieldType)) ∈ lw_all := lw_g (lw_at lw_m2 121 rfl) rfl
theorem q439 : (Jvm.Cond.instanceMethod ({ cls := "ShapeRelator$Sorter", name := "add", desc := "(JI)V" } : Jvm.MethodName)) ∈ lw_all := lw_g (lw_at lw_m2 129 rfl) rfl
theorem q440 : (Jvm.Cond.selects "ShapeRelator$Sorter" ({ cls := "ShapeRelator$Sorter", name := "add", desc := "(JI)V" } : Jvm.MethodName) ({ cls := "ShapeRelator$Sorter", name := "add", desc := "(JI)V" } : Jvm.MethodName)) ∈ lw_all := lw_g (lw_at lw_m2 130 rfl) rfl
theorem q441 : (Jvm.Cond.code ({ cls := "ShapeRelator$Sorter", name := "add", desc := "(JI)V" } : Jvm.MethodName) prog_8_method_5_code (5 : Nat) (Option.none : Option Jvm.ClassFile.FieldType)) ∈ lw_all := lw_g (lw_at lw_m2 131 rfl) rfl
theorem q442 : (Jvm.Cond.methodLink "ShapeRelator$Sorter" (21 : Nat) ({ cls := "java/lang/System", name := "arraycopy", desc := "(Ljava/lang/Object;ILjava/lang/Object;II)V" } : Jvm.MethodName)) ∈ lw_all := lw_g (lw_at lw_m2 132 rfl) rfl
theorem q443 : (Jvm.Cond.methodLinkNest "ShapeRelator$Sorter" (27 : Nat) ({ cls := "ShapeRelator$Bounds", name := "longer", desc := "([II)[I" } : Jvm.MethodName) "ShapeRelator") ∈ lw_tbl := lw_at lw_m2 133 rfl
theorem q444 : (Jvm.Cond.methodLink "ShapeRelator$Sorter" (33 : Nat) ({ cls := "ShapeRelator$Sorter", name := "before", desc := "(II)Z" } : Jvm.MethodName)) ∈ lw_all := lw_g (lw_at lw_m2 134 rfl) rfl
theorem q445 : (Jvm.Cond.privateMethod ({ cls := "ShapeRelator$Sorter", name := "before", desc := "(II)Z" } : Jvm.MethodName)) ∈ lw_tbl := lw_at lw_m2 135 rfl
theorem q446 : (Jvm.Cond.instanceMethod ({ cls := "ShapeRelator$Sorter", name := "before", desc := "(II)Z" } : Jvm.MethodName)) ∈ lw_all := lw_g (lw_at lw_m2 136 rfl) rfl
theorem q447 : (Jvm.Cond.code ({ cls := "ShapeRelator$Sorter", name := "before", desc := "(II)Z" } : Jvm.MethodName) prog_8_method_3_code (3 : Nat) (Option.some Jvm.ClassFile.FieldType.boolean)) ∈ lw_all := lw_g (lw_at lw_m2 137 rfl) rfl
theorem q448 : (Jvm.Cond.methodLink "ShapeRelator$Sorter" (37 : Nat) ({ cls := "ShapeRelator$Sorter", name := "swap", desc := "(II)V" } : Jvm.MethodName)) ∈ lw_all := lw_g (lw_at lw_m2 138 rfl) rfl
theorem q449 : (Jvm.Cond.privateMethod ({ cls := "ShapeRelator$Sorter", name := "swap", desc := "(II)V" } : Jvm.MethodName)) ∈ lw_tbl := lw_at lw_m2 139 rfl
theorem q450 : (Jvm.Cond.instanceMethod ({ cls := "ShapeRelator$Sorter", name := "swap", desc := "(II)V" } : Jvm.MethodName)) ∈ lw_all := lw_g (lw_at lw_m2 140 rfl) rfl
theorem q451 : (Jvm.Cond.code ({ cls := "ShapeRelator$Sorter", name := "swap", desc := "(II)V" } : Jvm.MethodName) prog_8_method_4_code (6 : Nat) (Option.none : Option Jvm.ClassFile.FieldType)) ∈ lw_all := lw_g (lw_at lw_m2 141 rfl) rfl
theorem q453 : (Jvm.Cond.instanceMethod ({ cls := "ShapeRelator$Sorter", name := "take", desc := "()I" } : Jvm.MethodName)) ∈ lw_all := lw_g (lw_at lw_m2 143 rfl) rfl
theorem q454 : (Jvm.Cond.selects "ShapeRelator$Sorter" ({ cls := "ShapeRelator$Sorter", name := "take", desc := "()I" } : Jvm.MethodName) ({ cls := "ShapeRelator$Sorter", name := "take", desc := "()I" } : Jvm.MethodName)) ∈ lw_all := lw_g (lw_at lw_m2 144 rfl) rfl
theorem q455 : (Jvm.Cond.code ({ cls := "ShapeRelator$Sorter", name := "take", desc := "()I" } : Jvm.MethodName) prog_8_method_8_code (4 : Nat) (Option.some Jvm.ClassFile.FieldType.int)) ∈ lw_all := lw_g (lw_at lw_m2 145 rfl) rfl
theorem q456 : (Jvm.Cond.methodLink "ShapeRelator$Sorter" (41 : Nat) ({ cls := "ShapeRelator$Sorter", name := "least", desc := "(I)I" } : Jvm.MethodName)) ∈ lw_all := lw_g (lw_at lw_m2 146 rfl) rfl
theorem q457 : (Jvm.Cond.privateMethod ({ cls := "ShapeRelator$Sorter", name := "least", desc := "(I)I" } : Jvm.MethodName)) ∈ lw_tbl := lw_at lw_m2 147 rfl
theorem q458 : (Jvm.Cond.instanceMethod ({ cls := "ShapeRelator$Sorter", name := "least", desc := "(I)I" } : Jvm.MethodName)) ∈ lw_all := lw_g (lw_at lw_m2 148 rfl) rfl
theorem q459 : (Jvm.Cond.code ({ cls := "ShapeRelator$Sorter", name := "least", desc := "(I)I" } : Jvm.MethodName) prog_8_method_9_code (4 : Nat) (Option.some Jvm.ClassFile.FieldType.int)) ∈ lw_all := lw_g (lw_at lw_m2 149 rfl) rfl
theorem in_X7 : ∀ w ∈ wsX70, w ∈ lw_all := lw_in wsX70 [214, 216, 218] (by decide +kernel) (by decide +kernel)
