/-! Math, Step: contracts (printed by wip gen/c30.py) -/
def cB (z : Int) : Prop := -500000000 ≤ z ∧ z ≤ 500000000
def dB (z : Int) : Prop := -1000000000 ≤ z ∧ z ≤ 1000000000
theorem cB.i {z : Int} (h : cB z) : inI z := ⟨by have := h.1; omega, by have := h.2; omega⟩
theorem cB.d {z : Int} (h : cB z) : dB z := ⟨by have := h.1; omega, by have := h.2; omega⟩
theorem dB.l {z : Int} (h : dB z) : inL z := ⟨by have := h.1; omega, by have := h.2; omega⟩
theorem cB.sub {a b : Int} (h : cB a) (g : cB b) : dB (a - b) := ⟨by have := h.1; have := g.2; omega, by have := h.2; have := g.1; omega⟩
theorem dB.neg {a : Int} (h : dB a) : dB (-a) := ⟨by have := h.2; omega, by have := h.1; omega⟩
theorem dB_0 : dB 0 := ⟨by decide, by decide⟩
theorem dB.mul {a b : Int} (ha : dB a) (hb : dB b) : -1000000000000000000 ≤ a * b ∧ a * b ≤ 1000000000000000000 := mul_bd ha hb (by decide) (by decide)
theorem dB.cross {a b c d : Int} (ha : dB a) (hb : dB b) (hc : dB c) (hd : dB d) : -2000000000000000000 ≤ a * b - c * d ∧ a * b - c * d ≤ 2000000000000000000 := by
  have h := ha.mul hb; have g := hc.mul hd
  exact ⟨by omega, by omega⟩
theorem inL_cross {a b c d : Int} (ha : dB a) (hb : dB b) (hc : dB c) (hd : dB d) : inL (a * b - c * d) := by
  have h := ha.cross hb hc hd
  exact ⟨by omega, by omega⟩
theorem inL_mul {a b : Int} (ha : dB a) (hb : dB b) : inL (a * b) := by
  have h := ha.mul hb
  exact ⟨by omega, by omega⟩
theorem sign_I (z : Int) : inI (Int.sign z) := by
  rcases Int.lt_trichotomy z 0 with h | h | h
  · rw [Int.sign_eq_neg_one_of_neg h]; exact ⟨by decide, by decide⟩
  · rw [h]; exact ⟨by decide, by decide⟩
  · rw [Int.sign_eq_one_of_pos h]; exact ⟨by decide, by decide⟩
/-- whether a height is above where a step leads -/
def stBelow (h y dv lv : Int) : Bool := if h ≠ y then decide (y < h) else if dv ≠ 0 then decide (dv < 0) else decide (lv < 0)
/-- on which side of a line from (px, py) in direction (dx, dy) a step leads -/
def stSide (x y du dv lu lv px py dx dy : Int) : Int :=
  if Int.sign (dx * (y - py) - dy * (x - px)) ≠ 0 then Int.sign (dx * (y - py) - dy * (x - px))
  else if Int.sign (dx * dv - dy * du) ≠ 0 then Int.sign (dx * dv - dy * du) else Int.sign (dx * lv - dy * lu)
set_option maxHeartbeats 4000000 in
set_option maxRecDepth 100000 in
theorem metJ8_abs (lG : Launch) (D : va_G) (dA : Nat → ClassId) (z : Int) (hz : inL z) (hz2 : z ≠ -9223372036854775808) : Ro lG yJ8_abs (ws_ yJ8_abs cJ8_abs 2 (some .long)) 0 0 D dA [.long (lZ z)] [] (some (.long (lZ ((z.natAbs : Int))))) := by
  refine Ro.of (by decide +kernel) (Nat.le_of_ble_eq_true rfl) ?_
  intro pG eG sG mG bG tG cG ls hx hb hr hml hown hts hlocks hP hK hl
  have hown : sG.vm.findClass RJ8 = some mG.cls := hown
  have hl : lv_has ls 2 [(0, .long (lZ z))] := hl
  refine lv_lload_n hx hb dJ8_abs_0 rfl (lv_at hl 0 rfl) ?_
  refine zz_lconst hx hb 0 dJ8_abs_1 rfl ?_
  refine zz_lc_ge (tgt := 11) hx hb hz ⟨by decide, by decide⟩ dJ8_abs_2 dJ8_abs_3 (by decide) (fun c_1 => ?_) (fun c_1 => ?_)
  · skip
    refine lv_lload_n hx hb dJ8_abs_11 rfl (lv_at hl 0 rfl) ?_
    exact zr_roL (by first | rfl | (congr 1; omega) | (simp_all; done) | grind) hx hb hr hlocks dJ8_abs_12
  · skip
    refine lv_lload_n hx hb dJ8_abs_6 rfl (lv_at hl 0 rfl) ?_
    refine zz_lneg hx hb dJ8_abs_7 ?_
    refine lv_goto (tgt := 12) hx hb dJ8_abs_8 (by decide) ?_
    exact zr_roL (by first | rfl | (congr 1; omega) | (simp_all; done) | grind) hx hb hr hlocks dJ8_abs_12
set_option maxHeartbeats 4000000 in
set_option maxRecDepth 100000 in
theorem metJ8_max (lG : Launch) (D : va_G) (dA : Nat → ClassId) (a : Int) (b : Int) (ha : inI a) (hb0 : inI b) : Ro lG yJ8_max (ws_ yJ8_max cJ8_max 2 (some .int)) 0 0 D dA [.int (iZ a), .int (iZ b)] [] (some (.int (iZ (max a b)))) := by
  refine Ro.of (by decide +kernel) (Nat.le_of_ble_eq_true rfl) ?_
  intro pG eG sG mG bG tG cG ls hx hb hr hml hown hts hlocks hP hK hl
  have hown : sG.vm.findClass RJ8 = some mG.cls := hown
  have hl : lv_has ls 2 [(0, .int (iZ a)), (1, .int (iZ b))] := hl
  refine lv_iload_n hx hb dJ8_max_0 rfl (lv_at hl 0 rfl) ?_
  refine lv_iload_n hx hb dJ8_max_1 rfl (lv_at hl 1 rfl) ?_
  refine zz_icmp_lt (tgt := 9) hx hb ha hb0 dJ8_max_2 (by decide) (fun c_1 => ?_) (fun c_1 => ?_)
  · skip
    refine lv_iload_n hx hb dJ8_max_9 rfl (lv_at hl 1 rfl) ?_
    exact zr_roI (by first | rfl | (congr 1; omega) | (simp_all; done) | grind) hx hb hr hlocks dJ8_max_10
  · skip
    refine lv_iload_n hx hb dJ8_max_5 rfl (lv_at hl 0 rfl) ?_
    refine lv_goto (tgt := 10) hx hb dJ8_max_6 (by decide) ?_
    exact zr_roI (by first | rfl | (congr 1; omega) | (simp_all; done) | grind) hx hb hr hlocks dJ8_max_10
set_option maxHeartbeats 4000000 in
set_option maxRecDepth 100000 in
theorem metJ8_min (lG : Launch) (D : va_G) (dA : Nat → ClassId) (a : Int) (b : Int) (ha : inI a) (hb0 : inI b) : Ro lG yJ8_min (ws_ yJ8_min cJ8_min 2 (some .int)) 0 0 D dA [.int (iZ a), .int (iZ b)] [] (some (.int (iZ (min a b)))) := by
  refine Ro.of (by decide +kernel) (Nat.le_of_ble_eq_true rfl) ?_
  intro pG eG sG mG bG tG cG ls hx hb hr hml hown hts hlocks hP hK hl
  have hown : sG.vm.findClass RJ8 = some mG.cls := hown
  have hl : lv_has ls 2 [(0, .int (iZ a)), (1, .int (iZ b))] := hl
  refine lv_iload_n hx hb dJ8_min_0 rfl (lv_at hl 0 rfl) ?_
  refine lv_iload_n hx hb dJ8_min_1 rfl (lv_at hl 1 rfl) ?_
  refine zz_icmp_gt (tgt := 9) hx hb ha hb0 dJ8_min_2 (by decide) (fun c_1 => ?_) (fun c_1 => ?_)
  · skip
    refine lv_iload_n hx hb dJ8_min_9 rfl (lv_at hl 1 rfl) ?_
    exact zr_roI (by first | rfl | (congr 1; omega) | (simp_all; done) | grind) hx hb hr hlocks dJ8_min_10
  · skip
    refine lv_iload_n hx hb dJ8_min_5 rfl (lv_at hl 0 rfl) ?_
    refine lv_goto (tgt := 10) hx hb dJ8_min_6 (by decide) ?_
    exact zr_roI (by first | rfl | (congr 1; omega) | (simp_all; done) | grind) hx hb hr hlocks dJ8_min_10
set_option maxHeartbeats 4000000 in
set_option maxRecDepth 100000 in
theorem metJ8_max_n (lG : Launch) (D : va_G) (dA : Nat → ClassId) (a : Nat) (b : Nat) (ha : a < 2 ^ 31) (hb0 : b < 2 ^ 31) : Ro lG yJ8_max (ws_ yJ8_max cJ8_max 2 (some .int)) 0 0 D dA [.int (nI a), .int (nI b)] [] (some (.int (nI (max a b)))) := by
  refine Ro.of (by decide +kernel) (Nat.le_of_ble_eq_true rfl) ?_
  intro pG eG sG mG bG tG cG ls hx hb hr hml hown hts hlocks hP hK hl
  have hown : sG.vm.findClass RJ8 = some mG.cls := hown
  have hl : lv_has ls 2 [(0, .int (nI a)), (1, .int (nI b))] := hl
  refine lv_iload_n hx hb dJ8_max_0 rfl (lv_at hl 0 rfl) ?_
  refine lv_iload_n hx hb dJ8_max_1 rfl (lv_at hl 1 rfl) ?_
  refine zn_icmp_lt (tgt := 9) hx hb (by omega) (by omega) dJ8_max_2 (by decide) (fun c_1 => ?_) (fun c_1 => ?_)
  · skip
    refine lv_iload_n hx hb dJ8_max_9 rfl (lv_at hl 1 rfl) ?_
    exact zr_roI (by first | rfl | (congr 1; omega) | (simp_all; done) | grind) hx hb hr hlocks dJ8_max_10
  · skip
    refine lv_iload_n hx hb dJ8_max_5 rfl (lv_at hl 0 rfl) ?_
    refine lv_goto (tgt := 10) hx hb dJ8_max_6 (by decide) ?_
    exact zr_roI (by first | rfl | (congr 1; omega) | (simp_all; done) | grind) hx hb hr hlocks dJ8_max_10
set_option maxHeartbeats 4000000 in
set_option maxRecDepth 100000 in
theorem metJ8_min_n (lG : Launch) (D : va_G) (dA : Nat → ClassId) (a : Nat) (b : Nat) (ha : a < 2 ^ 31) (hb0 : b < 2 ^ 31) : Ro lG yJ8_min (ws_ yJ8_min cJ8_min 2 (some .int)) 0 0 D dA [.int (nI a), .int (nI b)] [] (some (.int (nI (min a b)))) := by
  refine Ro.of (by decide +kernel) (Nat.le_of_ble_eq_true rfl) ?_
  intro pG eG sG mG bG tG cG ls hx hb hr hml hown hts hlocks hP hK hl
  have hown : sG.vm.findClass RJ8 = some mG.cls := hown
  have hl : lv_has ls 2 [(0, .int (nI a)), (1, .int (nI b))] := hl
  refine lv_iload_n hx hb dJ8_min_0 rfl (lv_at hl 0 rfl) ?_
  refine lv_iload_n hx hb dJ8_min_1 rfl (lv_at hl 1 rfl) ?_
  refine zn_icmp_gt (tgt := 9) hx hb (by omega) (by omega) dJ8_min_2 (by decide) (fun c_1 => ?_) (fun c_1 => ?_)
  · skip
    refine lv_iload_n hx hb dJ8_min_9 rfl (lv_at hl 1 rfl) ?_
    exact zr_roI (by first | rfl | (congr 1; omega) | (simp_all; done) | grind) hx hb hr hlocks dJ8_min_10
  · skip
    refine lv_iload_n hx hb dJ8_min_5 rfl (lv_at hl 0 rfl) ?_
    refine lv_goto (tgt := 10) hx hb dJ8_min_6 (by decide) ?_
    exact zr_roI (by first | rfl | (congr 1; omega) | (simp_all; done) | grind) hx hb hr hlocks dJ8_min_10
set_option maxHeartbeats 4000000 in
set_option maxRecDepth 100000 in
theorem metX9_init (lG : Launch) (D : va_G) (dA : Nat → ClassId) (h0 : Nat) (sx : Int) (sy : Int) (du : Int) (dv : Int) (lu : Int) (lv : Int)  : Wr lG yX9_init (ws_ yX9_init cX9_init 1 none) 1 12 D dA [.ref h0] [(h0, .inr (8, [.int (iZ sx), .int (iZ sy), .long (lZ du), .long (lZ dv), .long (lZ lu), .long (lZ lv)]))] 0 0 (fun (_u : Unit) => True) (fun (_u : Unit) => none) (fun (_u : Unit) => [(h0, .inr (8, [.int (iZ sx), .int (iZ sy), .long (lZ du), .long (lZ dv), .long (lZ lu), .long (lZ lv)]))]) := by
  refine Wr.of (by decide) (Nat.le_of_ble_eq_true rfl) ?_
  intro pG eG sG mG bG tG cG ls A hx hb hr hml hown hts hlocks hnm hP hK hD hS hA hl
  have hK1 := hK.1
  have hown : sG.vm.findClass RX9 = some mG.cls := hown
  have hl : lv_has ls 1 [(0, .ref h0)] := hl
  refine lv_aload_n hx hb dX9_init_0 rfl (lv_at hl 0 rfl) ?_
  refine W.objInit hx hb hown (hts _ q291) (hts _ q98) (hts _ q99) rfl (by rw [hml]; exact hl.1) rfl dX9_init_1 (Nat.le_of_ble_eq_true rfl) (Nat.le_of_ble_eq_true rfl) ?_
  refine W.eq (g2 := F0 mG 4 ls []) rfl ?_
  exact zr_wrV (u := ()) rfl trivial (hP.sub [0] rfl) (hD.sub [0] (by decide) rfl) hS hx hb hr hlocks dX9_init_4
set_option maxHeartbeats 4000000 in
set_option maxRecDepth 100000 in
theorem metX9_set (lG : Launch) (D : va_G) (dA : Nat → ClassId) (h0 : Nat) (sx : Int) (sy : Int) (du : Int) (dv : Int) (lu : Int) (lv : Int) (px : Int) (py : Int) (ax : Int) (ay : Int)  : Wr lG yX9_set (ws_ yX9_set cX9_set 7 none) 0 0 D dA [.ref h0, .int (iZ px), .int (iZ py), .long (lZ ax), .long (lZ ay)] [(h0, .inr (8, [.int (iZ sx), .int (iZ sy), .long (lZ du), .long (lZ dv), .long (lZ lu), .long (lZ lv)]))] 0 0 (fun (_u : Unit) => True) (fun (_u : Unit) => none) (fun (_u : Unit) => [(h0, .inr (8, [.int (iZ px), .int (iZ py), .long (lZ ax), .long (lZ ay), .long (lZ 0), .long (lZ 0)]))]) := by
  refine Wr.of (by decide) (Nat.le_of_ble_eq_true rfl) ?_
  intro pG eG sG mG bG tG cG ls A hx hb hr hml hown hts hlocks hnm hP hK hD hS hA hl
  have hK1 := hK.1
  have hown : sG.vm.findClass RX9 = some mG.cls := hown
  have hl : lv_has ls 7 [(0, .ref h0), (1, .int (iZ px)), (2, .int (iZ py)), (3, .long (lZ ax)), (5, .long (lZ ay))] := hl
  refine lv_aload_n hx hb dX9_set_0 rfl (lv_at hl 0 rfl) ?_
  refine lv_iload_n hx hb dX9_set_1 rfl (lv_at hl 1 rfl) ?_
  refine va_put (D := D) (ci := 8) (v := .int (iZ px)) (ty := .int) (C := RX9) (T := TX9) (N := 6) hx hb hts in_X9 tyX9 tyX9_ok nmX9 hown hK.1 hP hD hS 0 rfl rfl 0 (Nat.le_of_ble_eq_true rfl) (hts _ q292) (fun _ h9 => h9) rfl (by decide +kernel) rfl rfl (Nat.le_of_ble_eq_true rfl) dX9_set_2 (fun H locs hP hD hS => ?_)
  have hP : va_P D zCl [(h0, .inr (8, [.int (iZ px), .int (iZ sy), .long (lZ du), .long (lZ dv), .long (lZ lu), .long (lZ lv)]))] H := hP
  have hD : va_D A [(h0, .inr (8, [.int (iZ px), .int (iZ sy), .long (lZ du), .long (lZ dv), .long (lZ lu), .long (lZ lv)]))] := hD
  refine lv_aload_n hx hb dX9_set_5 rfl (lv_at hl 0 rfl) ?_
  refine lv_iload_n hx hb dX9_set_6 rfl (lv_at hl 2 rfl) ?_
  refine va_put (D := D) (ci := 8) (v := .int (iZ py)) (ty := .int) (C := RX9) (T := TX9) (N := 6) hx hb hts in_X9 tyX9 tyX9_ok nmX9 hown hK.1 hP hD hS 0 rfl rfl 1 (Nat.le_of_ble_eq_true rfl) (hts _ q294) (fun _ h9 => h9) rfl (by decide +kernel) rfl rfl (Nat.le_of_ble_eq_true rfl) dX9_set_7 (fun H locs hP hD hS => ?_)
  have hP : va_P D zCl [(h0, .inr (8, [.int (iZ px), .int (iZ py), .long (lZ du), .long (lZ dv), .long (lZ lu), .long (lZ lv)]))] H := hP
  have hD : va_D A [(h0, .inr (8, [.int (iZ px), .int (iZ py), .long (lZ du), .long (lZ dv), .long (lZ lu), .long (lZ lv)]))] := hD
  refine lv_aload_n hx hb dX9_set_10 rfl (lv_at hl 0 rfl) ?_
  refine lv_lload_n hx hb dX9_set_11 rfl (lv_at hl 3 rfl) ?_
  refine va_put (D := D) (ci := 8) (v := .long (lZ ax)) (ty := .long) (C := RX9) (T := TX9) (N := 6) hx hb hts in_X9 tyX9 tyX9_ok nmX9 hown hK.1 hP hD hS 0 rfl rfl 2 (Nat.le_of_ble_eq_true rfl) (hts _ q296) (fun _ h9 => h9) rfl (by decide +kernel) rfl rfl (Nat.le_of_ble_eq_true rfl) dX9_set_12 (fun H locs hP hD hS => ?_)
  have hP : va_P D zCl [(h0, .inr (8, [.int (iZ px), .int (iZ py), .long (lZ ax), .long (lZ dv), .long (lZ lu), .long (lZ lv)]))] H := hP
  have hD : va_D A [(h0, .inr (8, [.int (iZ px), .int (iZ py), .long (lZ ax), .long (lZ dv), .long (lZ lu), .long (lZ lv)]))] := hD
  refine lv_aload_n hx hb dX9_set_15 rfl (lv_at hl 0 rfl) ?_
  refine lv_lload hx hb dX9_set_16 (lv_at hl 4 rfl) ?_
  refine va_put (D := D) (ci := 8) (v := .long (lZ ay)) (ty := .long) (C := RX9) (T := TX9) (N := 6) hx hb hts in_X9 tyX9 tyX9_ok nmX9 hown hK.1 hP hD hS 0 rfl rfl 3 (Nat.le_of_ble_eq_true rfl) (hts _ q298) (fun _ h9 => h9) rfl (by decide +kernel) rfl rfl (Nat.le_of_ble_eq_true rfl) dX9_set_18 (fun H locs hP hD hS => ?_)
  have hP : va_P D zCl [(h0, .inr (8, [.int (iZ px), .int (iZ py), .long (lZ ax), .long (lZ ay), .long (lZ lu), .long (lZ lv)]))] H := hP
  have hD : va_D A [(h0, .inr (8, [.int (iZ px), .int (iZ py), .long (lZ ax), .long (lZ ay), .long (lZ lu), .long (lZ lv)]))] := hD
  refine lv_aload_n hx hb dX9_set_21 rfl (lv_at hl 0 rfl) ?_
  refine zz_lconst hx hb 0 dX9_set_22 rfl ?_
  refine va_put (D := D) (ci := 8) (v := .long (lZ 0)) (ty := .long) (C := RX9) (T := TX9) (N := 6) hx hb hts in_X9 tyX9 tyX9_ok nmX9 hown hK.1 hP hD hS 0 rfl rfl 4 (Nat.le_of_ble_eq_true rfl) (hts _ q300) (fun _ h9 => h9) rfl (by decide +kernel) rfl rfl (Nat.le_of_ble_eq_true rfl) dX9_set_23 (fun H locs hP hD hS => ?_)
  have hP : va_P D zCl [(h0, .inr (8, [.int (iZ px), .int (iZ py), .long (lZ ax), .long (lZ ay), .long (lZ 0), .long (lZ lv)]))] H := hP
  have hD : va_D A [(h0, .inr (8, [.int (iZ px), .int (iZ py), .long (lZ ax), .long (lZ ay), .long (lZ 0), .long (lZ lv)]))] := hD
  refine lv_aload_n hx hb dX9_set_26 rfl (lv_at hl 0 rfl) ?_
  refine zz_lconst hx hb 0 dX9_set_27 rfl ?_
  refine va_put (D := D) (ci := 8) (v := .long (lZ 0)) (ty := .long) (C := RX9) (T := TX9) (N := 6) hx hb hts in_X9 tyX9 tyX9_ok nmX9 hown hK.1 hP hD hS 0 rfl rfl 5 (Nat.le_of_ble_eq_true rfl) (hts _ q301) (fun _ h9 => h9) rfl (by decide +kernel) rfl rfl (Nat.le_of_ble_eq_true rfl) dX9_set_28 (fun H locs hP hD hS => ?_)
  have hP : va_P D zCl [(h0, .inr (8, [.int (iZ px), .int (iZ py), .long (lZ ax), .long (lZ ay), .long (lZ 0), .long (lZ 0)]))] H := hP
  have hD : va_D A [(h0, .inr (8, [.int (iZ px), .int (iZ py), .long (lZ ax), .long (lZ ay), .long (lZ 0), .long (lZ 0)]))] := hD
  exact zr_wrV (u := ()) rfl trivial (hP.sub [0] rfl) (hD.sub [0] (by decide) rfl) hS hx hb hr hlocks dX9_set_31
set_option maxHeartbeats 4000000 in
set_option maxRecDepth 100000 in
theorem metX9_lean (lG : Launch) (D : va_G) (dA : Nat → ClassId) (h0 : Nat) (sx : Int) (sy : Int) (du : Int) (dv : Int) (lu : Int) (lv : Int) (sd : Int) (hs : sd = 1 ∨ sd = -1) : Wr lG yX9_lean (ws_ yX9_lean cX9_lean 2 none) 0 0 D dA [.ref h0, .int (iZ sd)] [(h0, .inr (8, [.int (iZ sx), .int (iZ sy), .long (lZ du), .long (lZ dv), .long (lZ lu), .long (lZ lv)]))] 0 0 (fun (_u : Unit) => True) (fun (_u : Unit) => none) (fun (_u : Unit) => [(h0, .inr (8, [.int (iZ sx), .int (iZ sy), .long (lZ du), .long (lZ dv), .long (lZ ((-sd) * dv)), .long (lZ (sd * du))]))]) := by
  refine Wr.of (by decide) (Nat.le_of_ble_eq_true rfl) ?_
  intro pG eG sG mG bG tG cG ls A hx hb hr hml hown hts hlocks hnm hP hK hD hS hA hl
  have hK1 := hK.1
  have hown : sG.vm.findClass RX9 = some mG.cls := hown
  have hl : lv_has ls 2 [(0, .ref h0), (1, .int (iZ sd))] := hl
  refine lv_aload_n hx hb dX9_lean_0 rfl (lv_at hl 0 rfl) ?_
  refine lv_iload_n hx hb dX9_lean_1 rfl (lv_at hl 1 rfl) ?_
  refine zz_ineg hx hb dX9_lean_2 ?_
  refine zz_i2l hx hb ⟨by omega, by omega⟩ dX9_lean_3 ?_
  refine lv_aload_n hx hb dX9_lean_4 rfl (lv_at hl 0 rfl) ?_
  refine va_get (D := D) (ci := 8) (v := .long (lZ dv)) (C := RX9) (T := TX9) (N := 6) hx hb hts in_X9 hown hK.1 hP 0 rfl rfl 3 (Nat.le_of_ble_eq_true rfl) (hts _ q298) (fun _ h9 => h9) rfl dX9_lean_5 ?_
  refine zz_lmul hx hb dX9_lean_8 ?_
  refine va_put (D := D) (ci := 8) (v := .long (lZ ((-sd) * dv))) (ty := .long) (C := RX9) (T := TX9) (N := 6) hx hb hts in_X9 tyX9 tyX9_ok nmX9 hown hK.1 hP hD hS 0 rfl rfl 4 (Nat.le_of_ble_eq_true rfl) (hts _ q300) (fun _ h9 => h9) rfl (by decide +kernel) rfl rfl (Nat.le_of_ble_eq_true rfl) dX9_lean_9 (fun H locs hP hD hS => ?_)
  have hP : va_P D zCl [(h0, .inr (8, [.int (iZ sx), .int (iZ sy), .long (lZ du), .long (lZ dv), .long (lZ ((-sd) * dv)), .long (lZ lv)]))] H := hP
  have hD : va_D A [(h0, .inr (8, [.int (iZ sx), .int (iZ sy), .long (lZ du), .long (lZ dv), .long (lZ ((-sd) * dv)), .long (lZ lv)]))] := hD
  refine lv_aload_n hx hb dX9_lean_12 rfl (lv_at hl 0 rfl) ?_
  refine lv_iload_n hx hb dX9_lean_13 rfl (lv_at hl 1 rfl) ?_
  refine zz_i2l hx hb ⟨by omega, by omega⟩ dX9_lean_14 ?_
  refine lv_aload_n hx hb dX9_lean_15 rfl (lv_at hl 0 rfl) ?_
  refine va_get (D := D) (ci := 8) (v := .long (lZ du)) (C := RX9) (T := TX9) (N := 6) hx hb hts in_X9 hown hK.1 hP 0 rfl rfl 2 (Nat.le_of_ble_eq_true rfl) (hts _ q296) (fun _ h9 => h9) rfl dX9_lean_16 ?_
  refine zz_lmul hx hb dX9_lean_19 ?_
  refine va_put (D := D) (ci := 8) (v := .long (lZ (sd * du))) (ty := .long) (C := RX9) (T := TX9) (N := 6) hx hb hts in_X9 tyX9 tyX9_ok nmX9 hown hK.1 hP hD hS 0 rfl rfl 5 (Nat.le_of_ble_eq_true rfl) (hts _ q301) (fun _ h9 => h9) rfl (by decide +kernel) rfl rfl (Nat.le_of_ble_eq_true rfl) dX9_lean_20 (fun H locs hP hD hS => ?_)
  have hP : va_P D zCl [(h0, .inr (8, [.int (iZ sx), .int (iZ sy), .long (lZ du), .long (lZ dv), .long (lZ ((-sd) * dv)), .long (lZ (sd * du))]))] H := hP
  have hD : va_D A [(h0, .inr (8, [.int (iZ sx), .int (iZ sy), .long (lZ du), .long (lZ dv), .long (lZ ((-sd) * dv)), .long (lZ (sd * du))]))] := hD
  exact zr_wrV (u := ()) rfl trivial (hP.sub [0] rfl) (hD.sub [0] (by decide) rfl) hS hx hb hr hlocks dX9_lean_23
set_option maxHeartbeats 4000000 in
set_option maxRecDepth 100000 in
theorem metX9_sign (lG : Launch) (D : va_G) (dA : Nat → ClassId) (z : Int) (hz : inL z) : Ro lG yX9_sign (ws_ yX9_sign cX9_sign 2 (some .int)) 0 0 D dA [.long (lZ z)] [] (some (.int (iZ (Int.sign z)))) := by
  refine Ro.of (by decide) (Nat.le_of_ble_eq_true rfl) ?_
  intro pG eG sG mG bG tG cG ls hx hb hr hml hown hts hlocks hP hK hl
  have hown : sG.vm.findClass RX9 = some mG.cls := hown
  have hl : lv_has ls 2 [(0, .long (lZ z))] := hl
  refine lv_lload_n hx hb dX9_sign_0 rfl (lv_at hl 0 rfl) ?_
  refine zz_lconst hx hb 0 dX9_sign_1 rfl ?_
  refine zz_lc_ge (tgt := 10) hx hb hz ⟨by decide, by decide⟩ dX9_sign_2 dX9_sign_3 (by decide) (fun c_1 => ?_) (fun c_1 => ?_)
  · skip
    refine lv_lload_n hx hb dX9_sign_10 rfl (lv_at hl 0 rfl) ?_
    refine zz_lconst hx hb 0 dX9_sign_11 rfl ?_
    refine zz_lc_le (tgt := 20) hx hb hz ⟨by decide, by decide⟩ dX9_sign_12 dX9_sign_13 (by decide) (fun c_2 => ?_) (fun c_2 => ?_)
    · skip
      refine lv_iconst (v := nI 0) hx hb dX9_sign_20 (by decide) ?_
      exact zr_roI (by first | (rw [Int.sign_eq_neg_one_of_neg (by omega)]) | (rw [Int.sign_eq_one_of_pos (by omega)]; rfl) | (rw [show z = 0 by omega]; rfl)) hx hb hr hlocks dX9_sign_21
    · skip
      refine lv_iconst (v := nI 1) hx hb dX9_sign_16 (by decide) ?_
      refine lv_goto (tgt := 21) hx hb dX9_sign_17 (by decide) ?_
      exact zr_roI (by first | (rw [Int.sign_eq_neg_one_of_neg (by omega)]) | (rw [Int.sign_eq_one_of_pos (by omega)]; rfl) | (rw [show z = 0 by omega]; rfl)) hx hb hr hlocks dX9_sign_21
  · skip
    refine lv_iconst (v := iZ (-1)) hx hb dX9_sign_6 (by decide) ?_
    refine lv_goto (tgt := 21) hx hb dX9_sign_7 (by decide) ?_
    exact zr_roI (by first | (rw [Int.sign_eq_neg_one_of_neg (by omega)]) | (rw [Int.sign_eq_one_of_pos (by omega)]; rfl) | (rw [show z = 0 by omega]; rfl)) hx hb hr hlocks dX9_sign_21
set_option maxHeartbeats 4000000 in
set_option maxRecDepth 100000 in
theorem metX9_isBelow (lG : Launch) (D : va_G) (dA : Nat → ClassId) (h0 : Nat) (sx : Int) (sy : Int) (du : Int) (dv : Int) (lu : Int) (lv : Int) (h : Int) (hh : inI h) (hsy : inI sy) (hdv : inL dv) (hlv : inL lv) : Ro lG yX9_isBelow (ws_ yX9_isBelow cX9_isBelow 2 (some .boolean)) 0 0 D dA [.ref h0, .int (iZ h)] [(h0, .inr (8, [.int (iZ sx), .int (iZ sy), .long (lZ du), .long (lZ dv), .long (lZ lu), .long (lZ lv)]))] (some (.int (bI (stBelow h sy dv lv)))) := by
  refine Ro.of (by decide) (Nat.le_of_ble_eq_true rfl) ?_
  intro pG eG sG mG bG tG cG ls hx hb hr hml hown hts hlocks hP hK hl
  have hown : sG.vm.findClass RX9 = some mG.cls := hown
  have hl : lv_has ls 2 [(0, .ref h0), (1, .int (iZ h))] := hl
  refine lv_iload_n hx hb dX9_isBelow_0 rfl (lv_at hl 1 rfl) ?_
  refine lv_aload_n hx hb dX9_isBelow_1 rfl (lv_at hl 0 rfl) ?_
  refine va_get (D := D) (ci := 8) (v := .int (iZ sy)) (C := RX9) (T := TX9) (N := 6) hx hb hts in_X9 hown hK.1 hP 0 rfl rfl 1 (Nat.le_of_ble_eq_true rfl) (hts _ q294) (fun _ h9 => h9) rfl dX9_isBelow_2 ?_
  refine zz_icmp_eq (tgt := 24) hx hb hh hsy dX9_isBelow_5 (by decide) (fun c_1 => ?_) (fun c_1 => ?_)
  · skip
    refine lv_aload_n hx hb dX9_isBelow_24 rfl (lv_at hl 0 rfl) ?_
    refine va_get (D := D) (ci := 8) (v := .long (lZ dv)) (C := RX9) (T := TX9) (N := 6) hx hb hts in_X9 hown hK.1 hP 0 rfl rfl 3 (Nat.le_of_ble_eq_true rfl) (hts _ q298) (fun _ h9 => h9) rfl dX9_isBelow_25 ?_
    refine zz_lconst hx hb 0 dX9_isBelow_28 rfl ?_
    refine zz_lc_eq (tgt := 50) hx hb hdv ⟨by decide, by decide⟩ dX9_isBelow_29 dX9_isBelow_30 (by decide) (fun c_2 => ?_) (fun c_2 => ?_)
    · skip
      refine lv_aload_n hx hb dX9_isBelow_50 rfl (lv_at hl 0 rfl) ?_
      refine va_get (D := D) (ci := 8) (v := .long (lZ lv)) (C := RX9) (T := TX9) (N := 6) hx hb hts in_X9 hown hK.1 hP 0 rfl rfl 5 (Nat.le_of_ble_eq_true rfl) (hts _ q301) (fun _ h9 => h9) rfl dX9_isBelow_51 ?_
      refine zz_lconst hx hb 0 dX9_isBelow_54 rfl ?_
      refine zz_lc_ge (tgt := 63) hx hb hlv ⟨by decide, by decide⟩ dX9_isBelow_55 dX9_isBelow_56 (by decide) (fun c_3 => ?_) (fun c_3 => ?_)
      · skip
        refine lv_iconst (v := nI 0) hx hb dX9_isBelow_63 (by decide) ?_
        exact zr_roB (by unfold stBelow; first | (simp_all; done) | (simp_all [bI, nI]; done) | grind) hx hb hr hlocks dX9_isBelow_64
      · skip
        refine lv_iconst (v := nI 1) hx hb dX9_isBelow_59 (by decide) ?_
        refine lv_goto (tgt := 64) hx hb dX9_isBelow_60 (by decide) ?_
        exact zr_roB (by unfold stBelow; first | (simp_all; done) | (simp_all [bI, nI]; done) | grind) hx hb hr hlocks dX9_isBelow_64
    · skip
      refine lv_aload_n hx hb dX9_isBelow_33 rfl (lv_at hl 0 rfl) ?_
      refine va_get (D := D) (ci := 8) (v := .long (lZ dv)) (C := RX9) (T := TX9) (N := 6) hx hb hts in_X9 hown hK.1 hP 0 rfl rfl 3 (Nat.le_of_ble_eq_true rfl) (hts _ q298) (fun _ h9 => h9) rfl dX9_isBelow_34 ?_
      refine zz_lconst hx hb 0 dX9_isBelow_37 rfl ?_
      refine zz_lc_ge (tgt := 46) hx hb hdv ⟨by decide, by decide⟩ dX9_isBelow_38 dX9_isBelow_39 (by decide) (fun c_4 => ?_) (fun c_4 => ?_)
      · skip
        refine lv_iconst (v := nI 0) hx hb dX9_isBelow_46 (by decide) ?_
        refine lv_goto (tgt := 64) hx hb dX9_isBelow_47 (by decide) ?_
        exact zr_roB (by unfold stBelow; first | (simp_all; done) | (simp_all [bI, nI]; done) | grind) hx hb hr hlocks dX9_isBelow_64
      · skip
        refine lv_iconst (v := nI 1) hx hb dX9_isBelow_42 (by decide) ?_
        refine lv_goto (tgt := 64) hx hb dX9_isBelow_43 (by decide) ?_
        exact zr_roB (by unfold stBelow; first | (simp_all; done) | (simp_all [bI, nI]; done) | grind) hx hb hr hlocks dX9_isBelow_64
  · skip
    refine lv_iload_n hx hb dX9_isBelow_8 rfl (lv_at hl 1 rfl) ?_
    refine lv_aload_n hx hb dX9_isBelow_9 rfl (lv_at hl 0 rfl) ?_
    refine va_get (D := D) (ci := 8) (v := .int (iZ sy)) (C := RX9) (T := TX9) (N := 6) hx hb hts in_X9 hown hK.1 hP 0 rfl rfl 1 (Nat.le_of_ble_eq_true rfl) (hts _ q294) (fun _ h9 => h9) rfl dX9_isBelow_10 ?_
    refine zz_icmp_le (tgt := 20) hx hb hh hsy dX9_isBelow_13 (by decide) (fun c_5 => ?_) (fun c_5 => ?_)
    · skip
      refine lv_iconst (v := nI 0) hx hb dX9_isBelow_20 (by decide) ?_
      refine lv_goto (tgt := 64) hx hb dX9_isBelow_21 (by decide) ?_
      exact zr_roB (by unfold stBelow; first | (simp_all; done) | (simp_all [bI, nI]; done) | grind) hx hb hr hlocks dX9_isBelow_64
    · skip
      refine lv_iconst (v := nI 1) hx hb dX9_isBelow_16 (by decide) ?_
      refine lv_goto (tgt := 64) hx hb dX9_isBelow_17 (by decide) ?_
      exact zr_roB (by unfold stBelow; first | (simp_all; done) | (simp_all [bI, nI]; done) | grind) hx hb hr hlocks dX9_isBelow_64
set_option maxHeartbeats 4000000 in
set_option maxRecDepth 100000 in
theorem metX9_side (lG : Launch) (D : va_G) (dA : Nat → ClassId) (h0 : Nat) (sx : Int) (sy : Int) (du : Int) (dv : Int) (lu : Int) (lv : Int) (px : Int) (py : Int) (dx : Int) (dy : Int) (hx0 : cB sx) (hy0 : cB sy) (hpx : cB px) (hpy : cB py) (hdx : dB dx) (hdy : dB dy) (hdu : dB du) (hdv : dB dv) (hlu : dB lu) (hlv : dB lv) : Ro lG yX9_side (ws_ yX9_side cX9_side 8 (some .int)) 1 21 D dA [.ref h0, .int (iZ px), .int (iZ py), .long (lZ dx), .long (lZ dy)] [(h0, .inr (8, [.int (iZ sx), .int (iZ sy), .long (lZ du), .long (lZ dv), .long (lZ lu), .long (lZ lv)]))] (some (.int (iZ (stSide sx sy du dv lu lv px py dx dy)))) := by
  refine Ro.of (by decide) (Nat.le_of_ble_eq_true rfl) ?_
  intro pG eG sG mG bG tG cG ls hx hb hr hml hown hts hlocks hP hK hl
  have hown : sG.vm.findClass RX9 = some mG.cls := hown
  have hl : lv_has ls 8 [(0, .ref h0), (1, .int (iZ px)), (2, .int (iZ py)), (3, .long (lZ dx)), (5, .long (lZ dy))] := hl
  refine lv_lload_n hx hb dX9_side_0 rfl (lv_at hl 3 rfl) ?_
  refine lv_aload_n hx hb dX9_side_1 rfl (lv_at hl 0 rfl) ?_
  refine va_get (D := D) (ci := 8) (v := .int (iZ sy)) (C := RX9) (T := TX9) (N := 6) hx hb hts in_X9 hown hK.1 hP 0 rfl rfl 1 (Nat.le_of_ble_eq_true rfl) (hts _ q294) (fun _ h9 => h9) rfl dX9_side_2 ?_
  refine zz_i2l hx hb hy0.i dX9_side_5 ?_
  refine lv_iload_n hx hb dX9_side_6 rfl (lv_at hl 2 rfl) ?_
  refine zz_i2l hx hb hpy.i dX9_side_7 ?_
  refine zz_lsub hx hb dX9_side_8 ?_
  refine zz_lmul hx hb dX9_side_9 ?_
  refine lv_lload hx hb dX9_side_10 (lv_at hl 4 rfl) ?_
  refine lv_aload_n hx hb dX9_side_12 rfl (lv_at hl 0 rfl) ?_
  refine va_get (D := D) (ci := 8) (v := .int (iZ sx)) (C := RX9) (T := TX9) (N := 6) hx hb hts in_X9 hown hK.1 hP 0 rfl rfl 0 (Nat.le_of_ble_eq_true rfl) (hts _ q292) (fun _ h9 => h9) rfl dX9_side_13 ?_
  refine zz_i2l hx hb hx0.i dX9_side_16 ?_
  refine lv_iload_n hx hb dX9_side_17 rfl (lv_at hl 1 rfl) ?_
  refine zz_i2l hx hb hpx.i dX9_side_18 ?_
  refine zz_lsub hx hb dX9_side_19 ?_
  refine zz_lmul hx hb dX9_side_20 ?_
  refine zz_lsub hx hb dX9_side_21 ?_
  refine zc_roS (v := .int (iZ (Int.sign ((dx * (sy - py)) - (dy * (sx - px)))))) (rest := []) ⟨hx, hb, hml, hown, hts⟩ (metX9_sign lG D dA ((dx * (sy - py)) - (dy * (sx - px))) (inL_cross hdx (hy0.sub hpy) hdy (hx0.sub hpx))) (va_cwS 1 hts (lw_S q635 q636 q79 q637) rfl rfl rfl (by decide +kernel) ⟨Nat.le_of_ble_eq_true rfl, Nat.le_of_ble_eq_true rfl⟩) (hP.sub [] rfl) hK rfl hl.1 rfl (Nat.le_of_ble_eq_true rfl) dX9_side_22 ⟨Nat.zero_le _, Nat.zero_le _⟩ ?_
  refine lv_istore (lv' := [(7, .int (iZ (Int.sign ((dx * (sy - py)) - (dy * (sx - px)))))), (0, .ref h0), (1, .int (iZ px)), (2, .int (iZ py)), (3, .long (lZ dx)), (5, .long (lZ dy))]) hx hb dX9_side_25 hl (by decide) rfl (fun ls hl => ?_)
  refine lv_iload hx hb dX9_side_27 (lv_at hl 0 rfl) ?_
  refine zz_if_ne (tgt := 51) hx hb (sign_I _) dX9_side_29 (by decide) (fun c_1 => ?_) (fun c_1 => ?_)
  · skip
    refine lv_iload hx hb dX9_side_51 (lv_at hl 0 rfl) ?_
    refine zz_if_eq (tgt := 61) hx hb (sign_I _) dX9_side_53 (by decide) (fun c_2 => ?_) (fun c_2 => ?_)
    · skip
      refine lv_lload_n hx hb dX9_side_61 rfl (lv_at hl 4 rfl) ?_
      refine lv_aload_n hx hb dX9_side_62 rfl (lv_at hl 1 rfl) ?_
      refine va_get (D := D) (ci := 8) (v := .long (lZ lv)) (C := RX9) (T := TX9) (N := 6) hx hb hts in_X9 hown hK.1 hP 0 rfl rfl 5 (Nat.le_of_ble_eq_true rfl) (hts _ q301) (fun _ h9 => h9) rfl dX9_side_63 ?_
      refine zz_lmul hx hb dX9_side_66 ?_
      refine lv_lload hx hb dX9_side_67 (lv_at hl 5 rfl) ?_
      refine lv_aload_n hx hb dX9_side_69 rfl (lv_at hl 1 rfl) ?_
      refine va_get (D := D) (ci := 8) (v := .long (lZ lu)) (C := RX9) (T := TX9) (N := 6) hx hb hts in_X9 hown hK.1 hP 0 rfl rfl 4 (Nat.le_of_ble_eq_true rfl) (hts _ q300) (fun _ h9 => h9) rfl dX9_side_70 ?_
      refine zz_lmul hx hb dX9_side_73 ?_
      refine zz_lsub hx hb dX9_side_74 ?_
      refine zc_roS (v := .int (iZ (Int.sign ((dx * lv) - (dy * lu))))) (rest := []) ⟨hx, hb, hml, hown, hts⟩ (metX9_sign lG D dA ((dx * lv) - (dy * lu)) (inL_cross hdx hlv hdy hlu)) (va_cwS 1 hts (lw_S q635 q636 q79 q637) rfl rfl rfl (by decide +kernel) ⟨Nat.le_of_ble_eq_true rfl, Nat.le_of_ble_eq_true rfl⟩) (hP.sub [] rfl) hK rfl hl.1 rfl (Nat.le_of_ble_eq_true rfl) dX9_side_75 ⟨Nat.zero_le _, Nat.zero_le _⟩ ?_
      exact zr_roI (by unfold stSide; first | (simp_all; done) | grind) hx hb hr hlocks dX9_side_78
    · skip
      refine lv_iload hx hb dX9_side_56 (lv_at hl 0 rfl) ?_
      refine lv_goto (tgt := 78) hx hb dX9_side_58 (by decide) ?_
      exact zr_roI (by unfold stSide; first | (simp_all; done) | grind) hx hb hr hlocks dX9_side_78
  · skip
    refine lv_lload_n hx hb dX9_side_32 rfl (lv_at hl 4 rfl) ?_
    refine lv_aload_n hx hb dX9_side_33 rfl (lv_at hl 1 rfl) ?_
    refine va_get (D := D) (ci := 8) (v := .long (lZ dv)) (C := RX9) (T := TX9) (N := 6) hx hb hts in_X9 hown hK.1 hP 0 rfl rfl 3 (Nat.le_of_ble_eq_true rfl) (hts _ q298) (fun _ h9 => h9) rfl dX9_side_34 ?_
    refine zz_lmul hx hb dX9_side_37 ?_
    refine lv_lload hx hb dX9_side_38 (lv_at hl 5 rfl) ?_
    refine lv_aload_n hx hb dX9_side_40 rfl (lv_at hl 1 rfl) ?_
    refine va_get (D := D) (ci := 8) (v := .long (lZ du)) (C := RX9) (T := TX9) (N := 6) hx hb hts in_X9 hown hK.1 hP 0 rfl rfl 2 (Nat.le_of_ble_eq_true rfl) (hts _ q296) (fun _ h9 => h9) rfl dX9_side_41 ?_
    refine zz_lmul hx hb dX9_side_44 ?_
    refine zz_lsub hx hb dX9_side_45 ?_
    refine zc_roS (v := .int (iZ (Int.sign ((dx * dv) - (dy * du))))) (rest := []) ⟨hx, hb, hml, hown, hts⟩ (metX9_sign lG D dA ((dx * dv) - (dy * du)) (inL_cross hdx hdv hdy hdu)) (va_cwS 1 hts (lw_S q635 q636 q79 q637) rfl rfl rfl (by decide +kernel) ⟨Nat.le_of_ble_eq_true rfl, Nat.le_of_ble_eq_true rfl⟩) (hP.sub [] rfl) hK rfl hl.1 rfl (Nat.le_of_ble_eq_true rfl) dX9_side_46 ⟨Nat.zero_le _, Nat.zero_le _⟩ ?_
    refine lv_istore (lv' := [(7, .int (iZ (Int.sign ((dx * dv) - (dy * du))))), (0, .ref h0), (1, .int (iZ px)), (2, .int (iZ py)), (3, .long (lZ dx)), (5, .long (lZ dy))]) hx hb dX9_side_49 hl (by decide) rfl (fun ls hl => ?_)
    refine lv_iload hx hb dX9_side_51 (lv_at hl 0 rfl) ?_
    refine zz_if_eq (tgt := 61) hx hb (sign_I _) dX9_side_53 (by decide) (fun c_3 => ?_) (fun c_3 => ?_)
    · skip
      refine lv_lload_n hx hb dX9_side_61 rfl (lv_at hl 4 rfl) ?_
      refine lv_aload_n hx hb dX9_side_62 rfl (lv_at hl 1 rfl) ?_
      refine va_get (D := D) (ci := 8) (v := .long (lZ lv)) (C := RX9) (T := TX9) (N := 6) hx hb hts in_X9 hown hK.1 hP 0 rfl rfl 5 (Nat.le_of_ble_eq_true rfl) (hts _ q301) (fun _ h9 => h9) rfl dX9_side_63 ?_
      refine zz_lmul hx hb dX9_side_66 ?_
      refine lv_lload hx hb dX9_side_67 (lv_at hl 5 rfl) ?_
      refine lv_aload_n hx hb dX9_side_69 rfl (lv_at hl 1 rfl) ?_
      refine va_get (D := D) (ci := 8) (v := .long (lZ lu)) (C := RX9) (T := TX9) (N := 6) hx hb hts in_X9 hown hK.1 hP 0 rfl rfl 4 (Nat.le_of_ble_eq_true rfl) (hts _ q300) (fun _ h9 => h9) rfl dX9_side_70 ?_
      refine zz_lmul hx hb dX9_side_73 ?_
      refine zz_lsub hx hb dX9_side_74 ?_
      refine zc_roS (v := .int (iZ (Int.sign ((dx * lv) - (dy * lu))))) (rest := []) ⟨hx, hb, hml, hown, hts⟩ (metX9_sign lG D dA ((dx * lv) - (dy * lu)) (inL_cross hdx hlv hdy hlu)) (va_cwS 1 hts (lw_S q635 q636 q79 q637) rfl rfl rfl (by decide +kernel) ⟨Nat.le_of_ble_eq_true rfl, Nat.le_of_ble_eq_true rfl⟩) (hP.sub [] rfl) hK rfl hl.1 rfl (Nat.le_of_ble_eq_true rfl) dX9_side_75 ⟨Nat.zero_le _, Nat.zero_le _⟩ ?_
      exact zr_roI (by unfold stSide; first | (simp_all; done) | grind) hx hb hr hlocks dX9_side_78
    · skip
      refine lv_iload hx hb dX9_side_56 (lv_at hl 0 rfl) ?_
      refine lv_goto (tgt := 78) hx hb dX9_side_58 (by decide) ?_
      exact zr_roI (by unfold stSide; first | (simp_all; done) | grind) hx hb hr hlocks dX9_side_78
