/-! more rows of longs; Math.multiplyHigh, Part.compare (printed by wip gen/c40.py) -/
theorem lZ_shr24 {x : Int} (hx : inL x) {D : Int64} (hD : (D.toBitVec.smod 64).toNat = 24) : lZ x >>> D = lZ (x / 16777216) := by
  apply Int64.toInt_inj.mp
  have h1 : (lZ x >>> D).toInt = x >>> 24 := by
    show ((lZ x).toBitVec.sshiftRight (D.toBitVec.smod 64).toNat).toInt = _
    rw [hD, BitVec.toInt_sshiftRight]
    show (lZ x).toInt >>> 24 = _
    rw [lZ_toInt hx]
  have h2 := hx.1
  have h3 := hx.2
  rw [h1, Int.shiftRight_eq_div_pow, lZ_toInt ⟨by omega, by omega⟩]
  rfl
theorem lZ_shr32 {x : Int} (hx : inL x) {D : Int64} (hD : (D.toBitVec.smod 64).toNat = 32) : lZ x >>> D = lZ (x / 4294967296) := by
  apply Int64.toInt_inj.mp
  have h1 : (lZ x >>> D).toInt = x >>> 32 := by
    show ((lZ x).toBitVec.sshiftRight (D.toBitVec.smod 64).toNat).toInt = _
    rw [hD, BitVec.toInt_sshiftRight]
    show (lZ x).toInt >>> 32 = _
    rw [lZ_toInt hx]
  have h2 := hx.1
  have h3 := hx.2
  rw [h1, Int.shiftRight_eq_div_pow, lZ_toInt ⟨by omega, by omega⟩]
  rfl
theorem lZ_shr48 {x : Int} (hx : inL x) {D : Int64} (hD : (D.toBitVec.smod 64).toNat = 48) : lZ x >>> D = lZ (x / 281474976710656) := by
  apply Int64.toInt_inj.mp
  have h1 : (lZ x >>> D).toInt = x >>> 48 := by
    show ((lZ x).toBitVec.sshiftRight (D.toBitVec.smod 64).toNat).toInt = _
    rw [hD, BitVec.toInt_sshiftRight]
    show (lZ x).toInt >>> 48 = _
    rw [lZ_toInt hx]
  have h2 := hx.1
  have h3 := hx.2
  rw [h1, Int.shiftRight_eq_div_pow, lZ_toInt ⟨by omega, by omega⟩]
  rfl
theorem lZ_and16777216 (x : Int) : lZ x &&& lZ 16777215 = lZ (x % 16777216) := by
  apply Int64.toBitVec_inj.mp
  apply BitVec.eq_of_toNat_eq
  rw [Int64.toBitVec_and, BitVec.toNat_and]
  show ((BitVec.ofInt 64 x).toNat &&& (BitVec.ofInt 64 16777215).toNat) = (BitVec.ofInt 64 (x % 16777216)).toNat
  rw [show (BitVec.ofInt 64 16777215).toNat = 2 ^ 24 - 1 from by decide, Nat.and_two_pow_sub_one_eq_mod, BitVec.toNat_ofInt, BitVec.toNat_ofInt]
  omega
theorem lZ_and4294967296 (x : Int) : lZ x &&& lZ 4294967295 = lZ (x % 4294967296) := by
  apply Int64.toBitVec_inj.mp
  apply BitVec.eq_of_toNat_eq
  rw [Int64.toBitVec_and, BitVec.toNat_and]
  show ((BitVec.ofInt 64 x).toNat &&& (BitVec.ofInt 64 4294967295).toNat) = (BitVec.ofInt 64 (x % 4294967296)).toNat
  rw [show (BitVec.ofInt 64 4294967295).toNat = 2 ^ 32 - 1 from by decide, Nat.and_two_pow_sub_one_eq_mod, BitVec.toNat_ofInt, BitVec.toNat_ofInt]
  omega
theorem lZ_ushr32 {x : Int} (h0 : 0 ≤ x) (h1 : x < 18446744073709551616) : ((lZ x).toUInt64 >>> ((nI 32).toInt64.toUInt64 &&& Int64.toUInt64 63)).toInt64 = lZ (x / 4294967296) := by
  apply Int64.toBitVec_inj.mp
  apply BitVec.eq_of_toNat_eq
  show ((lZ x).toUInt64 >>> ((nI 32).toInt64.toUInt64 &&& Int64.toUInt64 63)).toNat = (BitVec.ofInt 64 (x / 4294967296)).toNat
  rw [UInt64.toNat_shiftRight, show ((nI 32).toInt64.toUInt64 &&& Int64.toUInt64 63).toNat % 64 = 32 from by decide, Nat.shiftRight_eq_div_pow]
  show (BitVec.ofInt 64 x).toNat / 2 ^ 32 = _
  rw [BitVec.toNat_ofInt, BitVec.toNat_ofInt]
  omega
theorem lZ_div {x y : Int} (hx : 0 ≤ x ∧ x < 9223372036854775808) (hy : 0 < y ∧ y < 9223372036854775808) : lZ x / lZ y = lZ (x / y) := by
  have hL : inL x := ⟨by omega, by omega⟩
  have hM : inL y := ⟨by omega, by omega⟩
  have b1 : 0 ≤ x / y := Int.ediv_nonneg hx.1 (by omega)
  have b2 : x / y ≤ x := Int.ediv_le_self y hx.1
  apply Int64.toInt_inj.mp
  rw [Int64.toInt_div, lZ_toInt hL, lZ_toInt hM, lZ_toInt ⟨by omega, by omega⟩, Int.tdiv_eq_ediv_of_nonneg hx.1]
  apply Int.bmod_eq_of_le <;> omega
theorem lZ_rem {x y : Int} (hx : 0 ≤ x ∧ x < 9223372036854775808) (hy : 0 < y ∧ y < 9223372036854775808) : lZ x % lZ y = lZ (x % y) := by
  have hL : inL x := ⟨by omega, by omega⟩
  have hM : inL y := ⟨by omega, by omega⟩
  have b1 := Int.emod_nonneg x (show y ≠ 0 by omega)
  have b2 := Int.emod_lt_of_pos x hy.1
  apply Int64.toInt_inj.mp
  rw [Int64.toInt_mod, lZ_toInt hL, lZ_toInt hM, lZ_toInt ⟨by omega, by omega⟩, Int.tmod_eq_emod_of_nonneg hx.1]
theorem lZ_ne0 {y : Int} (hy : 0 < y ∧ y < 9223372036854775808) : ¬ lZ y = 0 := by
  intro h
  have := (lZ_eq (a := y) (b := 0) ⟨by omega, by omega⟩ inL_0).mp h
  omega
section ZR2
variable {p : Program} {l : Launch} {e : Env} {R : Room} {s : State} {m : MethodId} {args : Array Value} {below : List Frame} {meth : Method} {c : Code} {H : Heap} {locs : List Loc} {cells slots : Nat} {Q : State → Prop}
variable {cc : ByteArray} {pc : Nat} {ls : Array Slot} {rest : List Value}
theorem zz_lshr24 (hx : p.tables.exec = Jvm.exec) (hb : c.code = cc) {x : Int} (h : inL x) (hdg : decode cc pc = .ok (.lshr, 1)) (k : W p l e R s m args below meth c H locs cells slots Q (F0 m (pc + 1) ls (.long (lZ (x / 16777216)) :: rest))) : W p l e R s m args below meth c H locs cells slots Q (F0 m pc ls (.int (nI 24) :: .long (lZ x) :: rest)) := lv_lshr hx hb hdg (lZ_shr24 h (by decide)) k
theorem zz_lshr32 (hx : p.tables.exec = Jvm.exec) (hb : c.code = cc) {x : Int} (h : inL x) (hdg : decode cc pc = .ok (.lshr, 1)) (k : W p l e R s m args below meth c H locs cells slots Q (F0 m (pc + 1) ls (.long (lZ (x / 4294967296)) :: rest))) : W p l e R s m args below meth c H locs cells slots Q (F0 m pc ls (.int (nI 32) :: .long (lZ x) :: rest)) := lv_lshr hx hb hdg (lZ_shr32 h (by decide)) k
theorem zz_lshr48 (hx : p.tables.exec = Jvm.exec) (hb : c.code = cc) {x : Int} (h : inL x) (hdg : decode cc pc = .ok (.lshr, 1)) (k : W p l e R s m args below meth c H locs cells slots Q (F0 m (pc + 1) ls (.long (lZ (x / 281474976710656)) :: rest))) : W p l e R s m args below meth c H locs cells slots Q (F0 m pc ls (.int (nI 48) :: .long (lZ x) :: rest)) := lv_lshr hx hb hdg (lZ_shr48 h (by decide)) k
theorem zz_lushr32 (hx : p.tables.exec = Jvm.exec) (hb : c.code = cc) {x : Int} (h : 0 ≤ x ∧ x < 18446744073709551616) (hdg : decode cc pc = .ok (.lushr, 1)) (k : W p l e R s m args below meth c H locs cells slots Q (F0 m (pc + 1) ls (.long (lZ (x / 4294967296)) :: rest))) : W p l e R s m args below meth c H locs cells slots Q (F0 m pc ls (.int (nI 32) :: .long (lZ x) :: rest)) := lv_lushr hx hb hdg (lZ_ushr32 h.1 h.2) k
theorem zz_land16777216 (hx : p.tables.exec = Jvm.exec) (hb : c.code = cc) {x : Int} (hdg : decode cc pc = .ok (.land, 1)) (k : W p l e R s m args below meth c H locs cells slots Q (F0 m (pc + 1) ls (.long (lZ (x % 16777216)) :: rest))) : W p l e R s m args below meth c H locs cells slots Q (F0 m pc ls (.long (lZ 16777215) :: .long (lZ x) :: rest)) := lv_land hx hb hdg (by rw [lZ_and16777216]; exact k)
theorem zz_land4294967296 (hx : p.tables.exec = Jvm.exec) (hb : c.code = cc) {x : Int} (hdg : decode cc pc = .ok (.land, 1)) (k : W p l e R s m args below meth c H locs cells slots Q (F0 m (pc + 1) ls (.long (lZ (x % 4294967296)) :: rest))) : W p l e R s m args below meth c H locs cells slots Q (F0 m pc ls (.long (lZ 4294967295) :: .long (lZ x) :: rest)) := lv_land hx hb hdg (by rw [lZ_and4294967296]; exact k)
theorem zz_ldiv (hx : p.tables.exec = Jvm.exec) (hb : c.code = cc) {x y : Int} (h0 : 0 ≤ x ∧ x < 9223372036854775808) (h1 : 0 < y ∧ y < 9223372036854775808) (hdg : decode cc pc = .ok (.ldiv, 1)) (k : W p l e R s m args below meth c H locs cells slots Q (F0 m (pc + 1) ls (.long (lZ (x / y)) :: rest))) : W p l e R s m args below meth c H locs cells slots Q (F0 m pc ls (.long (lZ y) :: .long (lZ x) :: rest)) := lv_ldiv hx hb hdg (lZ_ne0 h1) (by rw [lZ_div h0 h1]; exact k)
theorem zz_lrem (hx : p.tables.exec = Jvm.exec) (hb : c.code = cc) {x y : Int} (h0 : 0 ≤ x ∧ x < 9223372036854775808) (h1 : 0 < y ∧ y < 9223372036854775808) (hdg : decode cc pc = .ok (.lrem, 1)) (k : W p l e R s m args below meth c H locs cells slots Q (F0 m (pc + 1) ls (.long (lZ (x % y)) :: rest))) : W p l e R s m args below meth c H locs cells slots Q (F0 m pc ls (.long (lZ y) :: .long (lZ x) :: rest)) := lv_lrem hx hb hdg (lZ_ne0 h1) (by rw [lZ_div h0 h1, lZ_mul, lZ_sub, show x - x / y * y = x % y from by rw [Int.emod_def, Int.mul_comm]]; exact k)
end ZR2
theorem lZ_wrap (z : Int) : lZ (z + (-9223372036854775808)) = lZ (z % 18446744073709551616 - 9223372036854775808) := by
  apply Int64.toBitVec_inj.mp
  apply BitVec.eq_of_toNat_eq
  show (BitVec.ofInt 64 (z + (-9223372036854775808))).toNat = (BitVec.ofInt 64 (z % 18446744073709551616 - 9223372036854775808)).toNat
  rw [BitVec.toNat_ofInt, BitVec.toNat_ofInt]
  omega
theorem mulHigh {x y : Int} : x / 4294967296 * (y / 4294967296) + (x / 4294967296 * (y % 4294967296) + x % 4294967296 * (y % 4294967296) / 4294967296) / 4294967296 + ((x / 4294967296 * (y % 4294967296) + x % 4294967296 * (y % 4294967296) / 4294967296) % 4294967296 + x % 4294967296 * (y / 4294967296)) / 4294967296 = x * y / 18446744073709551616 := by
  have hx : x = x / 4294967296 * 4294967296 + x % 4294967296 := by omega
  have hy : y = y / 4294967296 * 4294967296 + y % 4294967296 := by omega
  generalize x / 4294967296 = x1 at *
  generalize x % 4294967296 = x2 at *
  generalize y / 4294967296 = y1 at *
  generalize y % 4294967296 = y2 at *
  subst hx hy
  have e : (x1 * 4294967296 + x2) * (y1 * 4294967296 + y2) = x1 * y1 * 18446744073709551616 + (x1 * y2 + x2 * y1) * 4294967296 + x2 * y2 := by grind
  rw [e]
  generalize x1 * y1 = a
  generalize x1 * y2 = b
  generalize x2 * y1 = c
  generalize x2 * y2 = d
  omega
theorem mul_lt {a b A B : Int} (ha : 0 ≤ a ∧ a ≤ A) (hb : 0 ≤ b ∧ b ≤ B) : 0 ≤ a * b ∧ a * b ≤ A * B :=
  ⟨Int.mul_nonneg ha.1 hb.1, Int.mul_le_mul ha.2 hb.2 hb.1 (Int.le_trans ha.1 ha.2)⟩
set_option maxHeartbeats 4000000 in
set_option maxRecDepth 100000 in
theorem metJ8_multiplyHigh (lG : Launch) (D : va_G) (dA : Nat → ClassId) (x : Int) (y : Int) (hx0 : 0 ≤ x ∧ x < 9223372036854775808) (hy0 : 0 ≤ y ∧ y < 9223372036854775808) : Ro lG yJ8_multiplyHigh (ws_ yJ8_multiplyHigh cJ8_multiplyHigh 20 (some .long)) 0 0 D dA [.long (lZ x), .long (lZ y)] [] (some (.long (lZ (x * y / 18446744073709551616)))) := by
  refine Ro.of (by decide +kernel) (Nat.le_of_ble_eq_true rfl) ?_
  intro pG eG sG mG bG tG cG ls hx hb hr hml hown hts hlocks hP hK hl
  have hown : sG.vm.findClass RJ8 = some mG.cls := hown
  have hl : lv_has ls 20 [(0, .long (lZ x)), (2, .long (lZ y))] := hl
  have b11 := mul_lt (a := x / 4294967296) (b := y / 4294967296) (A := 2147483647) (B := 2147483647) ⟨by omega, by omega⟩ ⟨by omega, by omega⟩
  have b12 := mul_lt (a := x / 4294967296) (b := y % 4294967296) (A := 2147483647) (B := 4294967295) ⟨by omega, by omega⟩ ⟨by omega, by omega⟩
  have b21 := mul_lt (a := x % 4294967296) (b := y / 4294967296) (A := 4294967295) (B := 2147483647) ⟨by omega, by omega⟩ ⟨by omega, by omega⟩
  have b22 := mul_lt (a := x % 4294967296) (b := y % 4294967296) (A := 4294967295) (B := 4294967295) ⟨by omega, by omega⟩ ⟨by omega, by omega⟩
  refine lv_lload_n hx hb dJ8_multiplyHigh_0 rfl (lv_at hl 0 rfl) ?_
  refine lv_bipush (v := nI 32) hx hb dJ8_multiplyHigh_1 (by decide) ?_
  refine zz_lshr32 hx hb ⟨by omega, by omega⟩ dJ8_multiplyHigh_3 ?_
  refine lv_lstore (lv' := [(4, .long (lZ (x / 4294967296))), (0, .long (lZ x)), (2, .long (lZ y))]) hx hb dJ8_multiplyHigh_4 hl (by decide) rfl (fun ls hl => ?_)
  refine lv_lload_n hx hb dJ8_multiplyHigh_6 rfl (lv_at hl 1 rfl) ?_
  refine lv_ldc2 (v := lZ 4294967295) hx hb hown (hts _ q585) dJ8_multiplyHigh_7 ?_
  refine zz_land4294967296 hx hb dJ8_multiplyHigh_10 ?_
  refine lv_lstore (lv' := [(6, .long (lZ (x % 4294967296))), (4, .long (lZ (x / 4294967296))), (0, .long (lZ x)), (2, .long (lZ y))]) hx hb dJ8_multiplyHigh_11 hl (by decide) rfl (fun ls hl => ?_)
  refine lv_lload_n hx hb dJ8_multiplyHigh_13 rfl (lv_at hl 3 rfl) ?_
  refine lv_bipush (v := nI 32) hx hb dJ8_multiplyHigh_14 (by decide) ?_
  refine zz_lshr32 hx hb ⟨by omega, by omega⟩ dJ8_multiplyHigh_16 ?_
  refine lv_lstore (lv' := [(8, .long (lZ (y / 4294967296))), (6, .long (lZ (x % 4294967296))), (4, .long (lZ (x / 4294967296))), (0, .long (lZ x)), (2, .long (lZ y))]) hx hb dJ8_multiplyHigh_17 hl (by decide) rfl (fun ls hl => ?_)
  refine lv_lload_n hx hb dJ8_multiplyHigh_19 rfl (lv_at hl 4 rfl) ?_
  refine lv_ldc2 (v := lZ 4294967295) hx hb hown (hts _ q585) dJ8_multiplyHigh_20 ?_
  refine zz_land4294967296 hx hb dJ8_multiplyHigh_23 ?_
  refine lv_lstore (lv' := [(10, .long (lZ (y % 4294967296))), (8, .long (lZ (y / 4294967296))), (6, .long (lZ (x % 4294967296))), (4, .long (lZ (x / 4294967296))), (0, .long (lZ x)), (2, .long (lZ y))]) hx hb dJ8_multiplyHigh_24 hl (by decide) rfl (fun ls hl => ?_)
  refine lv_lload hx hb dJ8_multiplyHigh_26 (lv_at hl 2 rfl) ?_
  refine lv_lload hx hb dJ8_multiplyHigh_28 (lv_at hl 0 rfl) ?_
  refine zz_lmul hx hb dJ8_multiplyHigh_30 ?_
  refine lv_lstore (lv' := [(12, .long (lZ ((x % 4294967296) * (y % 4294967296)))), (10, .long (lZ (y % 4294967296))), (8, .long (lZ (y / 4294967296))), (6, .long (lZ (x % 4294967296))), (4, .long (lZ (x / 4294967296))), (0, .long (lZ x)), (2, .long (lZ y))]) hx hb dJ8_multiplyHigh_31 hl (by decide) rfl (fun ls hl => ?_)
  refine lv_lload hx hb dJ8_multiplyHigh_33 (lv_at hl 4 rfl) ?_
  refine lv_lload hx hb dJ8_multiplyHigh_35 (lv_at hl 1 rfl) ?_
  refine zz_lmul hx hb dJ8_multiplyHigh_37 ?_
  refine lv_lload hx hb dJ8_multiplyHigh_38 (lv_at hl 0 rfl) ?_
  refine lv_bipush (v := nI 32) hx hb dJ8_multiplyHigh_40 (by decide) ?_
  refine zz_lushr32 hx hb ⟨by omega, by omega⟩ dJ8_multiplyHigh_42 ?_
  refine zz_ladd hx hb dJ8_multiplyHigh_43 ?_
  refine lv_lstore (lv' := [(14, .long (lZ (((x / 4294967296) * (y % 4294967296)) + (((x % 4294967296) * (y % 4294967296)) / 4294967296)))), (12, .long (lZ ((x % 4294967296) * (y % 4294967296)))), (10, .long (lZ (y % 4294967296))), (8, .long (lZ (y / 4294967296))), (6, .long (lZ (x % 4294967296))), (4, .long (lZ (x / 4294967296))), (0, .long (lZ x)), (2, .long (lZ y))]) hx hb dJ8_multiplyHigh_44 hl (by decide) rfl (fun ls hl => ?_)
  refine lv_lload hx hb dJ8_multiplyHigh_46 (lv_at hl 0 rfl) ?_
  refine lv_ldc2 (v := lZ 4294967295) hx hb hown (hts _ q585) dJ8_multiplyHigh_48 ?_
  refine zz_land4294967296 hx hb dJ8_multiplyHigh_51 ?_
  refine lv_lstore (lv' := [(16, .long (lZ ((((x / 4294967296) * (y % 4294967296)) + (((x % 4294967296) * (y % 4294967296)) / 4294967296)) % 4294967296))), (14, .long (lZ (((x / 4294967296) * (y % 4294967296)) + (((x % 4294967296) * (y % 4294967296)) / 4294967296)))), (12, .long (lZ ((x % 4294967296) * (y % 4294967296)))), (10, .long (lZ (y % 4294967296))), (8, .long (lZ (y / 4294967296))), (6, .long (lZ (x % 4294967296))), (4, .long (lZ (x / 4294967296))), (0, .long (lZ x)), (2, .long (lZ y))]) hx hb dJ8_multiplyHigh_52 hl (by decide) rfl (fun ls hl => ?_)
  refine lv_lload hx hb dJ8_multiplyHigh_54 (lv_at hl 1 rfl) ?_
  refine lv_bipush (v := nI 32) hx hb dJ8_multiplyHigh_56 (by decide) ?_
  refine zz_lshr32 hx hb ⟨by omega, by omega⟩ dJ8_multiplyHigh_58 ?_
  refine lv_lstore (lv' := [(18, .long (lZ ((((x / 4294967296) * (y % 4294967296)) + (((x % 4294967296) * (y % 4294967296)) / 4294967296)) / 4294967296))), (16, .long (lZ ((((x / 4294967296) * (y % 4294967296)) + (((x % 4294967296) * (y % 4294967296)) / 4294967296)) % 4294967296))), (14, .long (lZ (((x / 4294967296) * (y % 4294967296)) + (((x % 4294967296) * (y % 4294967296)) / 4294967296)))), (12, .long (lZ ((x % 4294967296) * (y % 4294967296)))), (10, .long (lZ (y % 4294967296))), (8, .long (lZ (y / 4294967296))), (6, .long (lZ (x % 4294967296))), (4, .long (lZ (x / 4294967296))), (0, .long (lZ x)), (2, .long (lZ y))]) hx hb dJ8_multiplyHigh_59 hl (by decide) rfl (fun ls hl => ?_)
  refine lv_lload hx hb dJ8_multiplyHigh_61 (lv_at hl 1 rfl) ?_
  refine lv_lload hx hb dJ8_multiplyHigh_63 (lv_at hl 6 rfl) ?_
  refine lv_lload hx hb dJ8_multiplyHigh_65 (lv_at hl 5 rfl) ?_
  refine zz_lmul hx hb dJ8_multiplyHigh_67 ?_
  refine zz_ladd hx hb dJ8_multiplyHigh_68 ?_
  refine lv_lstore (lv' := [(16, .long (lZ (((((x / 4294967296) * (y % 4294967296)) + (((x % 4294967296) * (y % 4294967296)) / 4294967296)) % 4294967296) + ((x % 4294967296) * (y / 4294967296))))), (18, .long (lZ ((((x / 4294967296) * (y % 4294967296)) + (((x % 4294967296) * (y % 4294967296)) / 4294967296)) / 4294967296))), (14, .long (lZ (((x / 4294967296) * (y % 4294967296)) + (((x % 4294967296) * (y % 4294967296)) / 4294967296)))), (12, .long (lZ ((x % 4294967296) * (y % 4294967296)))), (10, .long (lZ (y % 4294967296))), (8, .long (lZ (y / 4294967296))), (6, .long (lZ (x % 4294967296))), (4, .long (lZ (x / 4294967296))), (0, .long (lZ x)), (2, .long (lZ y))]) hx hb dJ8_multiplyHigh_69 hl (by decide) rfl (fun ls hl => ?_)
  refine lv_lload hx hb dJ8_multiplyHigh_71 (lv_at hl 7 rfl) ?_
  refine lv_lload hx hb dJ8_multiplyHigh_73 (lv_at hl 5 rfl) ?_
  refine zz_lmul hx hb dJ8_multiplyHigh_75 ?_
  refine lv_lload hx hb dJ8_multiplyHigh_76 (lv_at hl 1 rfl) ?_
  refine zz_ladd hx hb dJ8_multiplyHigh_78 ?_
  refine lv_lload hx hb dJ8_multiplyHigh_79 (lv_at hl 0 rfl) ?_
  refine lv_bipush (v := nI 32) hx hb dJ8_multiplyHigh_81 (by decide) ?_
  refine zz_lshr32 hx hb ⟨by omega, by omega⟩ dJ8_multiplyHigh_83 ?_
  refine zz_ladd hx hb dJ8_multiplyHigh_84 ?_
  exact zr_roL (congrArg lZ mulHigh) hx hb hr hlocks dJ8_multiplyHigh_85
/-- the sign of a difference of two fractions n / d - m / e -/
def cmpF (n d m e : Int) : Int := if n * e < m * d then -1 else if m * d < n * e then 1 else 0
set_option maxHeartbeats 4000000 in
set_option maxRecDepth 100000 in
theorem metX11_compare (lG : Launch) (D : va_G) (dA : Nat → ClassId) (n : Int) (d : Int) (m : Int) (e : Int) (hn : 0 ≤ n ∧ n < 4611686018427387904) (hd : 0 ≤ d ∧ d < 4611686018427387904) (hm : 0 ≤ m ∧ m < 4611686018427387904) (he : 0 ≤ e ∧ e < 4611686018427387904) : Ro lG yX11_compare (ws_ yX11_compare cX11_compare 16 (some .int)) 1 39 D dA [.long (lZ n), .long (lZ d), .long (lZ m), .long (lZ e)] [] (some (.int (iZ (cmpF n d m e)))) := by
  refine Ro.of (by decide) (Nat.le_of_ble_eq_true rfl) ?_
  intro pG eG sG mG bG tG cG ls hx hb hr hml hown hts hlocks hP hK hl
  have hown : sG.vm.findClass RX11 = some mG.cls := hown
  have hl : lv_has ls 16 [(0, .long (lZ n)), (2, .long (lZ d)), (4, .long (lZ m)), (6, .long (lZ e))] := hl
  have b1 := mul_lt (a := n) (b := e) (A := 4611686018427387904) (B := 4611686018427387904) ⟨by omega, by omega⟩ ⟨by omega, by omega⟩
  have b2 := mul_lt (a := m) (b := d) (A := 4611686018427387904) (B := 4611686018427387904) ⟨by omega, by omega⟩ ⟨by omega, by omega⟩
  unfold cmpF
  refine lv_lload_n hx hb dX11_compare_0 rfl (lv_at hl 0 rfl) ?_
  refine lv_lload hx hb dX11_compare_1 (lv_at hl 3 rfl) ?_
  refine zc_roS (v := .long (lZ (n * e / 18446744073709551616))) (rest := []) ⟨hx, hb, hml, hown, hts⟩ (metJ8_multiplyHigh lG D dA n e (⟨by omega, by omega⟩) (⟨by omega, by omega⟩)) (va_cwS 2 hts (lw_S q582 q583 q90 q584) rfl rfl rfl (by decide +kernel) ⟨Nat.le_of_ble_eq_true rfl, Nat.le_of_ble_eq_true rfl⟩) (hP.sub [] rfl) hK rfl hl.1 rfl (Nat.le_of_ble_eq_true rfl) dX11_compare_3 ⟨Nat.zero_le _, Nat.zero_le _⟩ ?_
  refine lv_lstore (lv' := [(8, .long (lZ (n * e / 18446744073709551616))), (0, .long (lZ n)), (2, .long (lZ d)), (4, .long (lZ m)), (6, .long (lZ e))]) hx hb dX11_compare_6 hl (by decide) rfl (fun ls hl => ?_)
  refine lv_lload hx hb dX11_compare_8 (lv_at hl 3 rfl) ?_
  refine lv_lload_n hx hb dX11_compare_10 rfl (lv_at hl 2 rfl) ?_
  refine zc_roS (v := .long (lZ (m * d / 18446744073709551616))) (rest := []) ⟨hx, hb, hml, hown, hts⟩ (metJ8_multiplyHigh lG D dA m d (⟨by omega, by omega⟩) (⟨by omega, by omega⟩)) (va_cwS 2 hts (lw_S q582 q583 q90 q584) rfl rfl rfl (by decide +kernel) ⟨Nat.le_of_ble_eq_true rfl, Nat.le_of_ble_eq_true rfl⟩) (hP.sub [] rfl) hK rfl hl.1 rfl (Nat.le_of_ble_eq_true rfl) dX11_compare_11 ⟨Nat.zero_le _, Nat.zero_le _⟩ ?_
  refine lv_lstore (lv' := [(10, .long (lZ (m * d / 18446744073709551616))), (8, .long (lZ (n * e / 18446744073709551616))), (0, .long (lZ n)), (2, .long (lZ d)), (4, .long (lZ m)), (6, .long (lZ e))]) hx hb dX11_compare_14 hl (by decide) rfl (fun ls hl => ?_)
  refine lv_lload hx hb dX11_compare_16 (lv_at hl 1 rfl) ?_
  refine lv_lload hx hb dX11_compare_18 (lv_at hl 0 rfl) ?_
  refine zz_lc_eq (tgt := 38) hx hb ⟨by omega, by omega⟩ ⟨by omega, by omega⟩ dX11_compare_20 dX11_compare_21 (by decide) (fun c_1 => ?_) (fun c_1 => ?_)
  · skip
    refine lv_lload_n hx hb dX11_compare_38 rfl (lv_at hl 2 rfl) ?_
    refine lv_lload hx hb dX11_compare_39 (lv_at hl 5 rfl) ?_
    refine zz_lmul hx hb dX11_compare_41 ?_
    refine lv_ldc2 (v := (-9223372036854775808 : Int64)) hx hb hown (hts _ q586) dX11_compare_42 ?_
    refine zt_l (lZ (-9223372036854775808)) (by decide) ?_
    refine zz_ladd hx hb dX11_compare_45 ?_
    refine zt_eq (.long (lZ (n * e % 18446744073709551616 - 9223372036854775808))) (congrArg Value.long (lZ_wrap _)) ?_
    refine lv_lstore (lv' := [(12, .long (lZ (n * e % 18446744073709551616 - 9223372036854775808))), (10, .long (lZ (m * d / 18446744073709551616))), (8, .long (lZ (n * e / 18446744073709551616))), (0, .long (lZ n)), (2, .long (lZ d)), (4, .long (lZ m)), (6, .long (lZ e))]) hx hb dX11_compare_46 hl (by decide) rfl (fun ls hl => ?_)
    refine lv_lload hx hb dX11_compare_48 (lv_at hl 5 rfl) ?_
    refine lv_lload_n hx hb dX11_compare_50 rfl (lv_at hl 4 rfl) ?_
    refine zz_lmul hx hb dX11_compare_51 ?_
    refine lv_ldc2 (v := (-9223372036854775808 : Int64)) hx hb hown (hts _ q586) dX11_compare_52 ?_
    refine zt_l (lZ (-9223372036854775808)) (by decide) ?_
    refine zz_ladd hx hb dX11_compare_55 ?_
    refine zt_eq (.long (lZ (m * d % 18446744073709551616 - 9223372036854775808))) (congrArg Value.long (lZ_wrap _)) ?_
    refine lv_lstore (lv' := [(14, .long (lZ (m * d % 18446744073709551616 - 9223372036854775808))), (12, .long (lZ (n * e % 18446744073709551616 - 9223372036854775808))), (10, .long (lZ (m * d / 18446744073709551616))), (8, .long (lZ (n * e / 18446744073709551616))), (0, .long (lZ n)), (2, .long (lZ d)), (4, .long (lZ m)), (6, .long (lZ e))]) hx hb dX11_compare_56 hl (by decide) rfl (fun ls hl => ?_)
    refine lv_lload hx hb dX11_compare_58 (lv_at hl 1 rfl) ?_
    refine lv_lload hx hb dX11_compare_60 (lv_at hl 0 rfl) ?_
    refine zz_lc_ge (tgt := 70) hx hb ⟨by omega, by omega⟩ ⟨by omega, by omega⟩ dX11_compare_62 dX11_compare_63 (by decide) (fun c_2 => ?_) (fun c_2 => ?_)
    · skip
      refine lv_lload hx hb dX11_compare_70 (lv_at hl 1 rfl) ?_
      refine lv_lload hx hb dX11_compare_72 (lv_at hl 0 rfl) ?_
      refine zz_lc_le (tgt := 82) hx hb ⟨by omega, by omega⟩ ⟨by omega, by omega⟩ dX11_compare_74 dX11_compare_75 (by decide) (fun c_3 => ?_) (fun c_3 => ?_)
      · skip
        refine lv_iconst (v := nI 0) hx hb dX11_compare_82 (by decide) ?_
        exact zr_roI (by first | rw [if_pos (by omega)] | (rw [if_neg (by omega), if_pos (by omega)]; rfl) | (rw [if_neg (by omega), if_neg (by omega)]; rfl)) hx hb hr hlocks dX11_compare_83
      · skip
        refine lv_iconst (v := nI 1) hx hb dX11_compare_78 (by decide) ?_
        refine lv_goto (tgt := 83) hx hb dX11_compare_79 (by decide) ?_
        exact zr_roI (by first | rw [if_pos (by omega)] | (rw [if_neg (by omega), if_pos (by omega)]; rfl) | (rw [if_neg (by omega), if_neg (by omega)]; rfl)) hx hb hr hlocks dX11_compare_83
    · skip
      refine lv_iconst (v := iZ (-1)) hx hb dX11_compare_66 (by decide) ?_
      refine lv_goto (tgt := 83) hx hb dX11_compare_67 (by decide) ?_
      exact zr_roI (by first | rw [if_pos (by omega)] | (rw [if_neg (by omega), if_pos (by omega)]; rfl) | (rw [if_neg (by omega), if_neg (by omega)]; rfl)) hx hb hr hlocks dX11_compare_83
  · skip
    refine lv_lload hx hb dX11_compare_24 (lv_at hl 1 rfl) ?_
    refine lv_lload hx hb dX11_compare_26 (lv_at hl 0 rfl) ?_
    refine zz_lc_ge (tgt := 36) hx hb ⟨by omega, by omega⟩ ⟨by omega, by omega⟩ dX11_compare_28 dX11_compare_29 (by decide) (fun c_4 => ?_) (fun c_4 => ?_)
    · skip
      refine lv_iconst (v := nI 1) hx hb dX11_compare_36 (by decide) ?_
      exact zr_roI (by first | rw [if_pos (by omega)] | (rw [if_neg (by omega), if_pos (by omega)]; rfl) | (rw [if_neg (by omega), if_neg (by omega)]; rfl)) hx hb hr hlocks dX11_compare_37
    · skip
      refine lv_iconst (v := iZ (-1)) hx hb dX11_compare_32 (by decide) ?_
      refine lv_goto (tgt := 37) hx hb dX11_compare_33 (by decide) ?_
      exact zr_roI (by first | rw [if_pos (by omega)] | (rw [if_neg (by omega), if_pos (by omega)]; rfl) | (rw [if_neg (by omega), if_neg (by omega)]; rfl)) hx hb hr hlocks dX11_compare_37
