/-! Bounds: contracts (printed by wip gen/c31.py) -/
/-- the rows of Bounds: whether a box meets another one -/
def bxMeets (a b c d x y tx ty : Int) : Bool := decide (a ≤ tx) && decide (x ≤ c) && decide (b ≤ ty) && decide (y ≤ d)
set_option maxHeartbeats 4000000 in
set_option maxRecDepth 100000 in
theorem metX5_longer_z (lG : Launch) (D : va_G) (dA : Nat → ClassId) (h0 : Nat) (n0 : Nat) (f : Nat → Int) (n : Nat) (hn : n0 ≤ n) (hn2 : n ≤ 65536) : Wr lG yX5_longer (ws_ yX5_longer cX5_longer 3 (some (.array .int))) 1 40 D dA [.ref h0, .int (nI n)] [(h0, .inl (dA 0, n0, .inl fun j => iZ (f j)))] 1 n (fun (u : Nat) => let qn := u; True) (fun (u : Nat) => let qn := u; some (.ref qn)) (fun (u : Nat) => let qn := u; [(h0, .inl (dA 0, n0, .inl fun j => iZ (f j))), (qn, .inl (dA 0, n, .inl fun j => iZ ((zcpy f (fun _ => 0) n0) j)))]) := by
  refine Wr.of (by decide) (Nat.le_of_ble_eq_true rfl) ?_
  intro pG eG sG mG bG tG cG ls A hx hb hr hml hown hts hlocks hnm hP hK hD hS hA hl
  have hK1 := hK.1
  have hown : sG.vm.findClass RX5 = some mG.cls := hown
  have hl : lv_has ls 3 [(0, .ref h0), (1, .int (nI n))] := hl
  refine lv_iload_n hx hb dX5_longer_0 rfl (lv_at hl 1 rfl) ?_
  refine zy_newa (atype := .int) (k := 0) (ty := .int) (N' := n) (a0 := (n, .inl fun j => iZ ((fun _ => (0 : Int)) j))) hx hb (hts _ q144) rfl (fun C h => by cases h) rfl hK hP hD hS hA (fun cA => rfl) (by omega) (show n * 4 ≤ 536870912 by omega) (show 0 + 1 ≤ 1 by omega) (show 0 + n ≤ n by omega) dX5_longer_1 (fun q_1 H hP hD hS => ?_)
  have hP : va_P D zCl [(h0, .inl (dA 0, n0, .inl fun j => iZ (f j))), (q_1, .inl (dA 0, n, .inl fun j => iZ ((fun _ => (0 : Int)) j)))] H := hP
  have hD : va_D A [(h0, .inl (dA 0, n0, .inl fun j => iZ (f j))), (q_1, .inl (dA 0, n, .inl fun j => iZ ((fun _ => (0 : Int)) j)))] := hD
  refine lv_astore_n (lv' := [(2, .ref q_1), (0, .ref h0), (1, .int (nI n))]) hx hb dX5_longer_3 rfl hl (by decide) rfl (fun ls hl => ?_)
  refine lv_aload_n hx hb dX5_longer_4 rfl (lv_at hl 1 rfl) ?_
  refine lv_iconst (v := nI 0) hx hb dX5_longer_5 (by decide) ?_
  refine lv_aload_n hx hb dX5_longer_6 rfl (lv_at hl 0 rfl) ?_
  refine lv_iconst (v := nI 0) hx hb dX5_longer_7 (by decide) ?_
  refine lv_aload_n hx hb dX5_longer_8 rfl (lv_at hl 1 rfl) ?_
  refine va_alen (v := nI n0) hx hb hK.1 hP 0 0 rfl rfl rfl dX5_longer_9 ?_
  refine zz_copyi (k := n0) hx hb (by rw [hml]; exact hl.1.symm) hown (hts _ q397) (hts _ q399) (hts _ q398) (hts _ q89) hK hP hD hS 0 1 rfl rfl (by omega) (by omega) (by omega) (Nat.le_of_ble_eq_true rfl) (Nat.le_of_ble_eq_true rfl) dX5_longer_10 (fun H locs hP hD hS => ?_)
  have hP : va_P D zCl [(h0, .inl (dA 0, n0, .inl fun j => iZ (f j))), (q_1, .inl (dA 0, n, .inl fun j => iZ ((zcpy f (fun _ => (0 : Int)) n0) j)))] H := hP
  have hD : va_D A [(h0, .inl (dA 0, n0, .inl fun j => iZ (f j))), (q_1, .inl (dA 0, n, .inl fun j => iZ ((zcpy f (fun _ => (0 : Int)) n0) j)))] := hD
  refine lv_aload_n hx hb dX5_longer_13 rfl (lv_at hl 0 rfl) ?_
  refine W.widen (k := 1) (n := n) (by omega) (by omega) ?_
  exact zr_wrA (u := (q_1)) rfl trivial (hP.sub [0, 1] rfl) (hD.sub [0, 1] (by decide) rfl) hS (Or.inr ⟨_, rfl⟩) hx hb hr hlocks dX5_longer_14
set_option maxHeartbeats 4000000 in
set_option maxRecDepth 100000 in
theorem metX5_longer_n (lG : Launch) (D : va_G) (dA : Nat → ClassId) (h0 : Nat) (n0 : Nat) (f : Nat → Nat) (n : Nat) (hn : n0 ≤ n) (hn2 : n ≤ 65536) : Wr lG yX5_longer (ws_ yX5_longer cX5_longer 3 (some (.array .int))) 1 40 D dA [.ref h0, .int (nI n)] [(h0, .inl (dA 0, n0, .inl fun j => nI (f j)))] 1 n (fun (u : Nat) => let qn := u; True) (fun (u : Nat) => let qn := u; some (.ref qn)) (fun (u : Nat) => let qn := u; [(h0, .inl (dA 0, n0, .inl fun j => nI (f j))), (qn, .inl (dA 0, n, .inl fun j => nI ((zcpy f (fun _ => 0) n0) j)))]) := by
  refine Wr.of (by decide) (Nat.le_of_ble_eq_true rfl) ?_
  intro pG eG sG mG bG tG cG ls A hx hb hr hml hown hts hlocks hnm hP hK hD hS hA hl
  have hK1 := hK.1
  have hown : sG.vm.findClass RX5 = some mG.cls := hown
  have hl : lv_has ls 3 [(0, .ref h0), (1, .int (nI n))] := hl
  refine lv_iload_n hx hb dX5_longer_0 rfl (lv_at hl 1 rfl) ?_
  refine zy_newa (atype := .int) (k := 0) (ty := .int) (N' := n) (a0 := (n, .inl fun j => nI ((fun _ => (0 : Nat)) j))) hx hb (hts _ q144) rfl (fun C h => by cases h) rfl hK hP hD hS hA (fun cA => rfl) (by omega) (show n * 4 ≤ 536870912 by omega) (show 0 + 1 ≤ 1 by omega) (show 0 + n ≤ n by omega) dX5_longer_1 (fun q_1 H hP hD hS => ?_)
  have hP : va_P D zCl [(h0, .inl (dA 0, n0, .inl fun j => nI (f j))), (q_1, .inl (dA 0, n, .inl fun j => nI ((fun _ => (0 : Nat)) j)))] H := hP
  have hD : va_D A [(h0, .inl (dA 0, n0, .inl fun j => nI (f j))), (q_1, .inl (dA 0, n, .inl fun j => nI ((fun _ => (0 : Nat)) j)))] := hD
  refine lv_astore_n (lv' := [(2, .ref q_1), (0, .ref h0), (1, .int (nI n))]) hx hb dX5_longer_3 rfl hl (by decide) rfl (fun ls hl => ?_)
  refine lv_aload_n hx hb dX5_longer_4 rfl (lv_at hl 1 rfl) ?_
  refine lv_iconst (v := nI 0) hx hb dX5_longer_5 (by decide) ?_
  refine lv_aload_n hx hb dX5_longer_6 rfl (lv_at hl 0 rfl) ?_
  refine lv_iconst (v := nI 0) hx hb dX5_longer_7 (by decide) ?_
  refine lv_aload_n hx hb dX5_longer_8 rfl (lv_at hl 1 rfl) ?_
  refine va_alen (v := nI n0) hx hb hK.1 hP 0 0 rfl rfl rfl dX5_longer_9 ?_
  refine zn_copyi (k := n0) hx hb (by rw [hml]; exact hl.1.symm) hown (hts _ q397) (hts _ q399) (hts _ q398) (hts _ q89) hK hP hD hS 0 1 rfl rfl (by omega) (by omega) (by omega) (Nat.le_of_ble_eq_true rfl) (Nat.le_of_ble_eq_true rfl) dX5_longer_10 (fun H locs hP hD hS => ?_)
  have hP : va_P D zCl [(h0, .inl (dA 0, n0, .inl fun j => nI (f j))), (q_1, .inl (dA 0, n, .inl fun j => nI ((zcpy f (fun _ => (0 : Nat)) n0) j)))] H := hP
  have hD : va_D A [(h0, .inl (dA 0, n0, .inl fun j => nI (f j))), (q_1, .inl (dA 0, n, .inl fun j => nI ((zcpy f (fun _ => (0 : Nat)) n0) j)))] := hD
  refine lv_aload_n hx hb dX5_longer_13 rfl (lv_at hl 0 rfl) ?_
  refine W.widen (k := 1) (n := n) (by omega) (by omega) ?_
  exact zr_wrA (u := (q_1)) rfl trivial (hP.sub [0, 1] rfl) (hD.sub [0, 1] (by decide) rfl) hS (Or.inr ⟨_, rfl⟩) hx hb hr hlocks dX5_longer_14
set_option maxHeartbeats 4000000 in
set_option maxRecDepth 100000 in
theorem metX5_init (lG : Launch) (D : va_G) (dA : Nat → ClassId) (h0 : Nat)  : Wr lG yX5_init (ws_ yX5_init cX5_init 1 none) 1 12 D dA [.ref h0] [(h0, .inr (4, [.null, .null, .null, .null]))] 4 64 (fun (u : Nat × Nat × Nat × Nat) => let b1 := u.1; let b2 := u.2.1; let b3 := u.2.2.1; let b4 := u.2.2.2; True) (fun (u : Nat × Nat × Nat × Nat) => let b1 := u.1; let b2 := u.2.1; let b3 := u.2.2.1; let b4 := u.2.2.2; none) (fun (u : Nat × Nat × Nat × Nat) => let b1 := u.1; let b2 := u.2.1; let b3 := u.2.2.1; let b4 := u.2.2.2; [(h0, .inr (4, [.ref b1, .ref b2, .ref b3, .ref b4])), (b1, .inl (dA 0, 16, .inl fun j => iZ ((fun _ => 0) j))), (b2, .inl (dA 0, 16, .inl fun j => iZ ((fun _ => 0) j))), (b3, .inl (dA 0, 16, .inl fun j => iZ ((fun _ => 0) j))), (b4, .inl (dA 0, 16, .inl fun j => iZ ((fun _ => 0) j)))]) := by
  refine Wr.of (by decide) (Nat.le_of_ble_eq_true rfl) ?_
  intro pG eG sG mG bG tG cG ls A hx hb hr hml hown hts hlocks hnm hP hK hD hS hA hl
  have hK1 := hK.1
  have hown : sG.vm.findClass RX5 = some mG.cls := hown
  have hl : lv_has ls 1 [(0, .ref h0)] := hl
  refine lv_aload_n hx hb dX5_init_0 rfl (lv_at hl 0 rfl) ?_
  refine W.objInit hx hb hown (hts _ q181) (hts _ q98) (hts _ q99) rfl (by rw [hml]; exact hl.1) rfl dX5_init_1 (Nat.le_of_ble_eq_true rfl) (Nat.le_of_ble_eq_true rfl) ?_
  refine W.eq (g2 := F0 mG 4 ls []) rfl ?_
  refine lv_aload_n hx hb dX5_init_4 rfl (lv_at hl 0 rfl) ?_
  refine lv_bipush (v := nI 16) hx hb dX5_init_5 (by decide) ?_
  refine zy_newa (atype := .int) (k := 0) (ty := .int) (N' := 16) (a0 := (16, .inl fun j => iZ ((fun _ => (0 : Int)) j))) hx hb (hts _ q144) rfl (fun C h => by cases h) rfl hK hP hD hS hA (fun cA => rfl) (by decide) (show 16 * 4 ≤ 536870912 by omega) (show 0 + 1 ≤ 4 by omega) (show 0 + 16 ≤ 64 by omega) dX5_init_7 (fun q_1 H hP hD hS => ?_)
  have hP : va_P D zCl [(h0, .inr (4, [.null, .null, .null, .null])), (q_1, .inl (dA 0, 16, .inl fun j => iZ ((fun _ => (0 : Int)) j)))] H := hP
  have hD : va_D A [(h0, .inr (4, [.null, .null, .null, .null])), (q_1, .inl (dA 0, 16, .inl fun j => iZ ((fun _ => (0 : Int)) j)))] := hD
  refine va_put (D := D) (ci := 4) (v := .ref q_1) (ty := .array .int) (C := RX5) (T := TX5) (N := 4) hx hb hts in_X5 tyX5 tyX5_ok nmX5 hown hK.1 hP hD hS 0 rfl rfl 0 (Nat.le_of_ble_eq_true rfl) (hts _ q182) (fun _ h9 => h9) rfl (by decide +kernel) rfl rfl (Nat.le_of_ble_eq_true rfl) dX5_init_9 (fun H locs hP hD hS => ?_)
  have hP : va_P D zCl [(h0, .inr (4, [.ref q_1, .null, .null, .null])), (q_1, .inl (dA 0, 16, .inl fun j => iZ ((fun _ => (0 : Int)) j)))] H := hP
  have hD : va_D A [(h0, .inr (4, [.ref q_1, .null, .null, .null])), (q_1, .inl (dA 0, 16, .inl fun j => iZ ((fun _ => (0 : Int)) j)))] := hD
  refine lv_aload_n hx hb dX5_init_12 rfl (lv_at hl 0 rfl) ?_
  refine lv_bipush (v := nI 16) hx hb dX5_init_13 (by decide) ?_
  refine zy_newa (atype := .int) (k := 0) (ty := .int) (N' := 16) (a0 := (16, .inl fun j => iZ ((fun _ => (0 : Int)) j))) hx hb (hts _ q144) rfl (fun C h => by cases h) rfl hK hP hD hS hA (fun cA => rfl) (by decide) (show 16 * 4 ≤ 536870912 by omega) (show 1 + 1 ≤ 4 by omega) (show 16 + 16 ≤ 64 by omega) dX5_init_15 (fun q_2 H hP hD hS => ?_)
  have hP : va_P D zCl [(h0, .inr (4, [.ref q_1, .null, .null, .null])), (q_1, .inl (dA 0, 16, .inl fun j => iZ ((fun _ => (0 : Int)) j))), (q_2, .inl (dA 0, 16, .inl fun j => iZ ((fun _ => (0 : Int)) j)))] H := hP
  have hD : va_D A [(h0, .inr (4, [.ref q_1, .null, .null, .null])), (q_1, .inl (dA 0, 16, .inl fun j => iZ ((fun _ => (0 : Int)) j))), (q_2, .inl (dA 0, 16, .inl fun j => iZ ((fun _ => (0 : Int)) j)))] := hD
  refine va_put (D := D) (ci := 4) (v := .ref q_2) (ty := .array .int) (C := RX5) (T := TX5) (N := 4) hx hb hts in_X5 tyX5 tyX5_ok nmX5 hown hK.1 hP hD hS 0 rfl rfl 1 (Nat.le_of_ble_eq_true rfl) (hts _ q184) (fun _ h9 => h9) rfl (by decide +kernel) rfl rfl (Nat.le_of_ble_eq_true rfl) dX5_init_17 (fun H locs hP hD hS => ?_)
  have hP : va_P D zCl [(h0, .inr (4, [.ref q_1, .ref q_2, .null, .null])), (q_1, .inl (dA 0, 16, .inl fun j => iZ ((fun _ => (0 : Int)) j))), (q_2, .inl (dA 0, 16, .inl fun j => iZ ((fun _ => (0 : Int)) j)))] H := hP
  have hD : va_D A [(h0, .inr (4, [.ref q_1, .ref q_2, .null, .null])), (q_1, .inl (dA 0, 16, .inl fun j => iZ ((fun _ => (0 : Int)) j))), (q_2, .inl (dA 0, 16, .inl fun j => iZ ((fun _ => (0 : Int)) j)))] := hD
  refine lv_aload_n hx hb dX5_init_20 rfl (lv_at hl 0 rfl) ?_
  refine lv_bipush (v := nI 16) hx hb dX5_init_21 (by decide) ?_
  refine zy_newa (atype := .int) (k := 0) (ty := .int) (N' := 16) (a0 := (16, .inl fun j => iZ ((fun _ => (0 : Int)) j))) hx hb (hts _ q144) rfl (fun C h => by cases h) rfl hK hP hD hS hA (fun cA => rfl) (by decide) (show 16 * 4 ≤ 536870912 by omega) (show 2 + 1 ≤ 4 by omega) (show 32 + 16 ≤ 64 by omega) dX5_init_23 (fun q_3 H hP hD hS => ?_)
  have hP : va_P D zCl [(h0, .inr (4, [.ref q_1, .ref q_2, .null, .null])), (q_1, .inl (dA 0, 16, .inl fun j => iZ ((fun _ => (0 : Int)) j))), (q_2, .inl (dA 0, 16, .inl fun j => iZ ((fun _ => (0 : Int)) j))), (q_3, .inl (dA 0, 16, .inl fun j => iZ ((fun _ => (0 : Int)) j)))] H := hP
  have hD : va_D A [(h0, .inr (4, [.ref q_1, .ref q_2, .null, .null])), (q_1, .inl (dA 0, 16, .inl fun j => iZ ((fun _ => (0 : Int)) j))), (q_2, .inl (dA 0, 16, .inl fun j => iZ ((fun _ => (0 : Int)) j))), (q_3, .inl (dA 0, 16, .inl fun j => iZ ((fun _ => (0 : Int)) j)))] := hD
  refine va_put (D := D) (ci := 4) (v := .ref q_3) (ty := .array .int) (C := RX5) (T := TX5) (N := 4) hx hb hts in_X5 tyX5 tyX5_ok nmX5 hown hK.1 hP hD hS 0 rfl rfl 2 (Nat.le_of_ble_eq_true rfl) (hts _ q186) (fun _ h9 => h9) rfl (by decide +kernel) rfl rfl (Nat.le_of_ble_eq_true rfl) dX5_init_25 (fun H locs hP hD hS => ?_)
  have hP : va_P D zCl [(h0, .inr (4, [.ref q_1, .ref q_2, .ref q_3, .null])), (q_1, .inl (dA 0, 16, .inl fun j => iZ ((fun _ => (0 : Int)) j))), (q_2, .inl (dA 0, 16, .inl fun j => iZ ((fun _ => (0 : Int)) j))), (q_3, .inl (dA 0, 16, .inl fun j => iZ ((fun _ => (0 : Int)) j)))] H := hP
  have hD : va_D A [(h0, .inr (4, [.ref q_1, .ref q_2, .ref q_3, .null])), (q_1, .inl (dA 0, 16, .inl fun j => iZ ((fun _ => (0 : Int)) j))), (q_2, .inl (dA 0, 16, .inl fun j => iZ ((fun _ => (0 : Int)) j))), (q_3, .inl (dA 0, 16, .inl fun j => iZ ((fun _ => (0 : Int)) j)))] := hD
  refine lv_aload_n hx hb dX5_init_28 rfl (lv_at hl 0 rfl) ?_
  refine lv_bipush (v := nI 16) hx hb dX5_init_29 (by decide) ?_
  refine zy_newa (atype := .int) (k := 0) (ty := .int) (N' := 16) (a0 := (16, .inl fun j => iZ ((fun _ => (0 : Int)) j))) hx hb (hts _ q144) rfl (fun C h => by cases h) rfl hK hP hD hS hA (fun cA => rfl) (by decide) (show 16 * 4 ≤ 536870912 by omega) (show 3 + 1 ≤ 4 by omega) (show 48 + 16 ≤ 64 by omega) dX5_init_31 (fun q_4 H hP hD hS => ?_)
  have hP : va_P D zCl [(h0, .inr (4, [.ref q_1, .ref q_2, .ref q_3, .null])), (q_1, .inl (dA 0, 16, .inl fun j => iZ ((fun _ => (0 : Int)) j))), (q_2, .inl (dA 0, 16, .inl fun j => iZ ((fun _ => (0 : Int)) j))), (q_3, .inl (dA 0, 16, .inl fun j => iZ ((fun _ => (0 : Int)) j))), (q_4, .inl (dA 0, 16, .inl fun j => iZ ((fun _ => (0 : Int)) j)))] H := hP
  have hD : va_D A [(h0, .inr (4, [.ref q_1, .ref q_2, .ref q_3, .null])), (q_1, .inl (dA 0, 16, .inl fun j => iZ ((fun _ => (0 : Int)) j))), (q_2, .inl (dA 0, 16, .inl fun j => iZ ((fun _ => (0 : Int)) j))), (q_3, .inl (dA 0, 16, .inl fun j => iZ ((fun _ => (0 : Int)) j))), (q_4, .inl (dA 0, 16, .inl fun j => iZ ((fun _ => (0 : Int)) j)))] := hD
  refine va_put (D := D) (ci := 4) (v := .ref q_4) (ty := .array .int) (C := RX5) (T := TX5) (N := 4) hx hb hts in_X5 tyX5 tyX5_ok nmX5 hown hK.1 hP hD hS 0 rfl rfl 3 (Nat.le_of_ble_eq_true rfl) (hts _ q188) (fun _ h9 => h9) rfl (by decide +kernel) rfl rfl (Nat.le_of_ble_eq_true rfl) dX5_init_33 (fun H locs hP hD hS => ?_)
  have hP : va_P D zCl [(h0, .inr (4, [.ref q_1, .ref q_2, .ref q_3, .ref q_4])), (q_1, .inl (dA 0, 16, .inl fun j => iZ ((fun _ => (0 : Int)) j))), (q_2, .inl (dA 0, 16, .inl fun j => iZ ((fun _ => (0 : Int)) j))), (q_3, .inl (dA 0, 16, .inl fun j => iZ ((fun _ => (0 : Int)) j))), (q_4, .inl (dA 0, 16, .inl fun j => iZ ((fun _ => (0 : Int)) j)))] H := hP
  have hD : va_D A [(h0, .inr (4, [.ref q_1, .ref q_2, .ref q_3, .ref q_4])), (q_1, .inl (dA 0, 16, .inl fun j => iZ ((fun _ => (0 : Int)) j))), (q_2, .inl (dA 0, 16, .inl fun j => iZ ((fun _ => (0 : Int)) j))), (q_3, .inl (dA 0, 16, .inl fun j => iZ ((fun _ => (0 : Int)) j))), (q_4, .inl (dA 0, 16, .inl fun j => iZ ((fun _ => (0 : Int)) j)))] := hD
  exact zr_wrV (u := (q_1, q_2, q_3, q_4)) rfl trivial (hP.sub [0, 1, 2, 3, 4] rfl) (hD.sub [0, 1, 2, 3, 4] (by decide) rfl) hS hx hb hr hlocks dX5_init_36
set_option maxHeartbeats 4000000 in
set_option maxRecDepth 100000 in
theorem metX5_ready_keep (lG : Launch) (D : va_G) (dA : Nat → ClassId) (h0 : Nat) (a1 : Nat) (a2 : Nat) (a3 : Nat) (a4 : Nat) (nc : Nat) (LX : Nat → Int) (LY : Nat → Int) (HX : Nat → Int) (HY : Nat → Int) (n : Nat) (hnc : nc ≤ 65536) (hn : n ≤ nc) : Wr lG yX5_ready (ws_ yX5_ready cX5_ready 3 none) 0 0 D dA [.ref h0, .int (nI n)] [(h0, .inr (4, [.ref a1, .ref a2, .ref a3, .ref a4])), (a1, .inl (dA 0, nc, .inl fun j => iZ (LX j))), (a2, .inl (dA 0, nc, .inl fun j => iZ (LY j))), (a3, .inl (dA 0, nc, .inl fun j => iZ (HX j))), (a4, .inl (dA 0, nc, .inl fun j => iZ (HY j)))] 0 0 (fun (_u : Unit) => True) (fun (_u : Unit) => none) (fun (_u : Unit) => [(h0, .inr (4, [.ref a1, .ref a2, .ref a3, .ref a4])), (a1, .inl (dA 0, nc, .inl fun j => iZ (LX j))), (a2, .inl (dA 0, nc, .inl fun j => iZ (LY j))), (a3, .inl (dA 0, nc, .inl fun j => iZ (HX j))), (a4, .inl (dA 0, nc, .inl fun j => iZ (HY j)))]) := by
  refine Wr.of (by decide) (Nat.le_of_ble_eq_true rfl) ?_
  intro pG eG sG mG bG tG cG ls A hx hb hr hml hown hts hlocks hnm hP hK hD hS hA hl
  have hK1 := hK.1
  have hown : sG.vm.findClass RX5 = some mG.cls := hown
  have hl : lv_has ls 3 [(0, .ref h0), (1, .int (nI n))] := hl
  refine lv_aload_n hx hb dX5_ready_0 rfl (lv_at hl 0 rfl) ?_
  refine va_get (D := D) (ci := 4) (v := .ref a1) (C := RX5) (T := TX5) (N := 4) hx hb hts in_X5 hown hK.1 hP 0 rfl rfl 0 (Nat.le_of_ble_eq_true rfl) (hts _ q182) (fun _ h9 => h9) rfl dX5_ready_1 ?_
  refine va_alen (v := nI nc) hx hb hK.1 hP 1 0 rfl rfl rfl dX5_ready_4 ?_
  refine lv_istore_n (lv' := [(2, .int (nI nc)), (0, .ref h0), (1, .int (nI n))]) hx hb dX5_ready_5 rfl hl (by decide) rfl (fun ls hl => ?_)
  refine lv_iload_n hx hb dX5_ready_6 rfl (lv_at hl 0 rfl) ?_
  refine lv_iload_n hx hb dX5_ready_7 rfl (lv_at hl 2 rfl) ?_
  refine zn_icmp_ge (tgt := 18) hx hb (by omega) (by omega) dX5_ready_8 (by decide) (fun c_1 => ?_) (fun c_1 => ?_)
  · skip
    refine lv_iload_n hx hb dX5_ready_18 rfl (lv_at hl 0 rfl) ?_
    refine lv_aload_n hx hb dX5_ready_19 rfl (lv_at hl 1 rfl) ?_
    refine va_get (D := D) (ci := 4) (v := .ref a1) (C := RX5) (T := TX5) (N := 4) hx hb hts in_X5 hown hK.1 hP 0 rfl rfl 0 (Nat.le_of_ble_eq_true rfl) (hts _ q182) (fun _ h9 => h9) rfl dX5_ready_20 ?_
    refine va_alen (v := nI nc) hx hb hK.1 hP 1 0 rfl rfl rfl dX5_ready_23 ?_
    refine zn_icmp_le (tgt := 75) hx hb (by omega) (by omega) dX5_ready_24 (by decide) (fun c_2 => ?_) (fun c_2 => ?_)
    · skip
      exact zr_wrV (u := ()) rfl trivial (hP.sub [0, 1, 2, 3, 4] rfl) (hD.sub [0, 1, 2, 3, 4] (by decide) rfl) hS hx hb hr hlocks dX5_ready_75
    · skip
      exfalso; omega
  · skip
    exfalso; omega
set_option maxHeartbeats 4000000 in
set_option maxRecDepth 100000 in
theorem metX5_ready_grow (lG : Launch) (D : va_G) (dA : Nat → ClassId) (h0 : Nat) (a1 : Nat) (a2 : Nat) (a3 : Nat) (a4 : Nat) (nc : Nat) (LX : Nat → Int) (LY : Nat → Int) (HX : Nat → Int) (HY : Nat → Int) (n : Nat) (hnc0 : 1 ≤ nc) (hn : nc < n) (hn2 : n ≤ 4096) : Wr lG yX5_ready (ws_ yX5_ready cX5_ready 3 none) 2 62 D dA [.ref h0, .int (nI n)] [(h0, .inr (4, [.ref a1, .ref a2, .ref a3, .ref a4])), (a1, .inl (dA 0, nc, .inl fun j => iZ (LX j))), (a2, .inl (dA 0, nc, .inl fun j => iZ (LY j))), (a3, .inl (dA 0, nc, .inl fun j => iZ (HX j))), (a4, .inl (dA 0, nc, .inl fun j => iZ (HY j)))] 4 (8 * n) (fun (u : Nat × Nat × Nat × Nat × Nat × (Nat → Int) × (Nat → Int) × (Nat → Int) × (Nat → Int)) => let nc2 := u.1; let b1 := u.2.1; let b2 := u.2.2.1; let b3 := u.2.2.2.1; let b4 := u.2.2.2.2.1; let LX2 := u.2.2.2.2.2.1; let LY2 := u.2.2.2.2.2.2.1; let HX2 := u.2.2.2.2.2.2.2.1; let HY2 := u.2.2.2.2.2.2.2.2; n ≤ nc2 ∧ nc2 < 2 * n ∧ 2 * nc ≤ nc2 ∧ (∀ k, k < nc → LX2 k = LX k ∧ LY2 k = LY k ∧ HX2 k = HX k ∧ HY2 k = HY k)) (fun (u : Nat × Nat × Nat × Nat × Nat × (Nat → Int) × (Nat → Int) × (Nat → Int) × (Nat → Int)) => let nc2 := u.1; let b1 := u.2.1; let b2 := u.2.2.1; let b3 := u.2.2.2.1; let b4 := u.2.2.2.2.1; let LX2 := u.2.2.2.2.2.1; let LY2 := u.2.2.2.2.2.2.1; let HX2 := u.2.2.2.2.2.2.2.1; let HY2 := u.2.2.2.2.2.2.2.2; none) (fun (u : Nat × Nat × Nat × Nat × Nat × (Nat → Int) × (Nat → Int) × (Nat → Int) × (Nat → Int)) => let nc2 := u.1; let b1 := u.2.1; let b2 := u.2.2.1; let b3 := u.2.2.2.1; let b4 := u.2.2.2.2.1; let LX2 := u.2.2.2.2.2.1; let LY2 := u.2.2.2.2.2.2.1; let HX2 := u.2.2.2.2.2.2.2.1; let HY2 := u.2.2.2.2.2.2.2.2; [(h0, .inr (4, [.ref b1, .ref b2, .ref b3, .ref b4])), (b1, .inl (dA 0, nc2, .inl fun j => iZ (LX2 j))), (b2, .inl (dA 0, nc2, .inl fun j => iZ (LY2 j))), (b3, .inl (dA 0, nc2, .inl fun j => iZ (HX2 j))), (b4, .inl (dA 0, nc2, .inl fun j => iZ (HY2 j)))]) := by
  refine Wr.of (by decide) (Nat.le_of_ble_eq_true rfl) ?_
  intro pG eG sG mG bG tG cG ls A hx hb hr hml hown hts hlocks hnm hP hK hD hS hA hl
  have hK1 := hK.1
  have hown : sG.vm.findClass RX5 = some mG.cls := hown
  have hl : lv_has ls 3 [(0, .ref h0), (1, .int (nI n))] := hl
  refine lv_aload_n hx hb dX5_ready_0 rfl (lv_at hl 0 rfl) ?_
  refine va_get (D := D) (ci := 4) (v := .ref a1) (C := RX5) (T := TX5) (N := 4) hx hb hts in_X5 hown hK.1 hP 0 rfl rfl 0 (Nat.le_of_ble_eq_true rfl) (hts _ q182) (fun _ h9 => h9) rfl dX5_ready_1 ?_
  refine va_alen (v := nI nc) hx hb hK.1 hP 1 0 rfl rfl rfl dX5_ready_4 ?_
  refine lv_istore_n (lv' := [(2, .int (nI nc)), (0, .ref h0), (1, .int (nI n))]) hx hb dX5_ready_5 rfl hl (by decide) rfl (fun ls hl => ?_)
  have loop6 : ∀ (n6 : Nat) (len : Nat), (nc ≤ len) → (len < 2 * n) → (len = nc ∨ 2 * nc ≤ len) → n - len < n6 → ∀ (H : Heap) (locs : List Loc), va_P D zCl [(h0, .inr (4, [.ref a1, .ref a2, .ref a3, .ref a4])), (a1, .inl (dA 0, nc, .inl fun j => iZ (LX j))), (a2, .inl (dA 0, nc, .inl fun j => iZ (LY j))), (a3, .inl (dA 0, nc, .inl fun j => iZ (HX j))), (a4, .inl (dA 0, nc, .inl fun j => iZ (HY j)))] H → va_D A [(h0, .inr (4, [.ref a1, .ref a2, .ref a3, .ref a4])), (a1, .inl (dA 0, nc, .inl fun j => iZ (LX j))), (a2, .inl (dA 0, nc, .inl fun j => iZ (LY j))), (a3, .inl (dA 0, nc, .inl fun j => iZ (HX j))), (a4, .inl (dA 0, nc, .inl fun j => iZ (HY j)))] → va_S A sG.heap H locs → ∀ (ls : Array Slot), lv_has ls 3 [(2, .int (nI len)), (0, .ref h0), (1, .int (nI n))] → W pG lG eG (zRoom 2 4 (8 * n) 62) sG mG [.ref h0, .int (nI n)].toArray bG tG cG H locs 0 0 (MQ bG (wrQ D (fun (u : Nat × Nat × Nat × Nat × Nat × (Nat → Int) × (Nat → Int) × (Nat → Int) × (Nat → Int)) => let nc2 := u.1; let b1 := u.2.1; let b2 := u.2.2.1; let b3 := u.2.2.2.1; let b4 := u.2.2.2.2.1; let LX2 := u.2.2.2.2.2.1; let LY2 := u.2.2.2.2.2.2.1; let HX2 := u.2.2.2.2.2.2.2.1; let HY2 := u.2.2.2.2.2.2.2.2; n ≤ nc2 ∧ nc2 < 2 * n ∧ 2 * nc ≤ nc2 ∧ (∀ k, k < nc → LX2 k = LX k ∧ LY2 k = LY k ∧ HX2 k = HX k ∧ HY2 k = HY k)) (fun (u : Nat × Nat × Nat × Nat × Nat × (Nat → Int) × (Nat → Int) × (Nat → Int) × (Nat → Int)) => let nc2 := u.1; let b1 := u.2.1; let b2 := u.2.2.1; let b3 := u.2.2.2.1; let b4 := u.2.2.2.2.1; let LX2 := u.2.2.2.2.2.1; let LY2 := u.2.2.2.2.2.2.1; let HX2 := u.2.2.2.2.2.2.2.1; let HY2 := u.2.2.2.2.2.2.2.2; none) (fun (u : Nat × Nat × Nat × Nat × Nat × (Nat → Int) × (Nat → Int) × (Nat → Int) × (Nat → Int)) => let nc2 := u.1; let b1 := u.2.1; let b2 := u.2.2.1; let b3 := u.2.2.2.1; let b4 := u.2.2.2.2.1; let LX2 := u.2.2.2.2.2.1; let LY2 := u.2.2.2.2.2.2.1; let HX2 := u.2.2.2.2.2.2.2.1; let HY2 := u.2.2.2.2.2.2.2.2; [(h0, .inr (4, [.ref b1, .ref b2, .ref b3, .ref b4])), (b1, .inl (dA 0, nc2, .inl fun j => iZ (LX2 j))), (b2, .inl (dA 0, nc2, .inl fun j => iZ (LY2 j))), (b3, .inl (dA 0, nc2, .inl fun j => iZ (HX2 j))), (b4, .inl (dA 0, nc2, .inl fun j => iZ (HY2 j)))]) A) [.ref h0, .int (nI n)].toArray sG 4 (8 * n) A) (F0 mG 6 ls []) := by
    intro n6
    induction n6 with
    | zero => intro len h1 h2 h3 hm; exact absurd hm (Nat.not_lt_zero _)
    | succ n6 ih6 =>
      intro len h1 h2 h3 hm6 H locs hP hD hS ls hl
      refine lv_iload_n hx hb dX5_ready_6 rfl (lv_at hl 0 rfl) ?_
      refine lv_iload_n hx hb dX5_ready_7 rfl (lv_at hl 2 rfl) ?_
      refine zn_icmp_ge (tgt := 18) hx hb (by omega) (by omega) dX5_ready_8 (by decide) (fun c_1 => ?_) (fun c_1 => ?_)
      · skip
        refine lv_iload_n hx hb dX5_ready_18 rfl (lv_at hl 0 rfl) ?_
        refine lv_aload_n hx hb dX5_ready_19 rfl (lv_at hl 1 rfl) ?_
        refine va_get (D := D) (ci := 4) (v := .ref a1) (C := RX5) (T := TX5) (N := 4) hx hb hts in_X5 hown hK.1 hP 0 rfl rfl 0 (Nat.le_of_ble_eq_true rfl) (hts _ q182) (fun _ h9 => h9) rfl dX5_ready_20 ?_
        refine va_alen (v := nI nc) hx hb hK.1 hP 1 0 rfl rfl rfl dX5_ready_23 ?_
        refine zn_icmp_le (tgt := 75) hx hb (by omega) (by omega) dX5_ready_24 (by decide) (fun c_2 => ?_) (fun c_2 => ?_)
        · skip
          exfalso; omega
        · skip
          refine lv_aload_n hx hb dX5_ready_27 rfl (lv_at hl 1 rfl) ?_
          refine lv_aload_n hx hb dX5_ready_28 rfl (lv_at hl 1 rfl) ?_
          refine va_get (D := D) (ci := 4) (v := .ref a1) (C := RX5) (T := TX5) (N := 4) hx hb hts in_X5 hown hK.1 hP 0 rfl rfl 0 (Nat.le_of_ble_eq_true rfl) (hts _ q182) (fun _ h9 => h9) rfl dX5_ready_29 ?_
          refine lv_iload_n hx hb dX5_ready_32 rfl (lv_at hl 0 rfl) ?_
          refine zc_wrS (rest := [.ref h0]) (wr := [(h0, .inr (4, [.ref a1, .ref a2, .ref a3, .ref a4])), (a2, .inl (dA 0, nc, .inl fun j => iZ (LY j))), (a3, .inl (dA 0, nc, .inl fun j => iZ (HX j))), (a4, .inl (dA 0, nc, .inl fun j => iZ (HY j)))]) ⟨hx, hb, hml, hown, hts⟩ (metX5_longer_z lG D dA a1 nc LX len (by first | assumption | omega) (by first | assumption | omega)) (va_cwS 2 hts (lw_S q418 q395 q75 q396) rfl rfl rfl (by decide +kernel) ⟨Nat.le_of_ble_eq_true rfl, Nat.le_of_ble_eq_true rfl⟩) hP hK hD hS hA [1] [0, 2, 3, 4] rfl rfl (by decide) (by decide) (by decide) rfl hl.1 rfl (Nat.le_of_ble_eq_true rfl) dX5_ready_33 ⟨show 0 + 1 ≤ 4 by omega, show 0 + len ≤ (8 * n) by omega⟩ (fun u H locs hp_4 hP hD hS => ?_)
          obtain ⟨qn_3, rfl⟩ : ∃ z, z = u := ⟨_, rfl⟩
          have hP : va_P D zCl [(h0, .inr (4, [.ref a1, .ref a2, .ref a3, .ref a4])), (a2, .inl (dA 0, nc, .inl fun j => iZ (LY j))), (a3, .inl (dA 0, nc, .inl fun j => iZ (HX j))), (a4, .inl (dA 0, nc, .inl fun j => iZ (HY j))), (a1, .inl (dA 0, nc, .inl fun j => iZ (LX j))), (qn_3, .inl (dA 0, len, .inl fun j => iZ ((zcpy LX (fun _ => 0) nc) j)))] H := hP
          have hD : va_D A [(h0, .inr (4, [.ref a1, .ref a2, .ref a3, .ref a4])), (a2, .inl (dA 0, nc, .inl fun j => iZ (LY j))), (a3, .inl (dA 0, nc, .inl fun j => iZ (HX j))), (a4, .inl (dA 0, nc, .inl fun j => iZ (HY j))), (a1, .inl (dA 0, nc, .inl fun j => iZ (LX j))), (qn_3, .inl (dA 0, len, .inl fun j => iZ ((zcpy LX (fun _ => 0) nc) j)))] := hD
          show W _ _ _ _ _ _ _ _ _ _ _ _ 1 (0 + len) _ (F0 mG 36 ls [.ref qn_3, .ref h0])
          refine va_put (D := D) (ci := 4) (v := .ref qn_3) (ty := .array .int) (C := RX5) (T := TX5) (N := 4) hx hb hts in_X5 tyX5 tyX5_ok nmX5 hown hK.1 hP hD hS 0 rfl rfl 0 (Nat.le_of_ble_eq_true rfl) (hts _ q182) (fun _ h9 => h9) rfl (by decide +kernel) rfl rfl (Nat.le_of_ble_eq_true rfl) dX5_ready_36 (fun H locs hP hD hS => ?_)
          have hP : va_P D zCl [(h0, .inr (4, [.ref qn_3, .ref a2, .ref a3, .ref a4])), (a2, .inl (dA 0, nc, .inl fun j => iZ (LY j))), (a3, .inl (dA 0, nc, .inl fun j => iZ (HX j))), (a4, .inl (dA 0, nc, .inl fun j => iZ (HY j))), (a1, .inl (dA 0, nc, .inl fun j => iZ (LX j))), (qn_3, .inl (dA 0, len, .inl fun j => iZ ((zcpy LX (fun _ => 0) nc) j)))] H := hP
          have hD : va_D A [(h0, .inr (4, [.ref qn_3, .ref a2, .ref a3, .ref a4])), (a2, .inl (dA 0, nc, .inl fun j => iZ (LY j))), (a3, .inl (dA 0, nc, .inl fun j => iZ (HX j))), (a4, .inl (dA 0, nc, .inl fun j => iZ (HY j))), (a1, .inl (dA 0, nc, .inl fun j => iZ (LX j))), (qn_3, .inl (dA 0, len, .inl fun j => iZ ((zcpy LX (fun _ => 0) nc) j)))] := hD
          refine lv_aload_n hx hb dX5_ready_39 rfl (lv_at hl 1 rfl) ?_
          refine lv_aload_n hx hb dX5_ready_40 rfl (lv_at hl 1 rfl) ?_
          refine va_get (D := D) (ci := 4) (v := .ref a2) (C := RX5) (T := TX5) (N := 4) hx hb hts in_X5 hown hK.1 hP 0 rfl rfl 1 (Nat.le_of_ble_eq_true rfl) (hts _ q184) (fun _ h9 => h9) rfl dX5_ready_41 ?_
          refine lv_iload_n hx hb dX5_ready_44 rfl (lv_at hl 0 rfl) ?_
          refine zc_wrS (rest := [.ref h0]) (wr := [(h0, .inr (4, [.ref qn_3, .ref a2, .ref a3, .ref a4])), (a3, .inl (dA 0, nc, .inl fun j => iZ (HX j))), (a4, .inl (dA 0, nc, .inl fun j => iZ (HY j))), (a1, .inl (dA 0, nc, .inl fun j => iZ (LX j))), (qn_3, .inl (dA 0, len, .inl fun j => iZ ((zcpy LX (fun _ => 0) nc) j)))]) ⟨hx, hb, hml, hown, hts⟩ (metX5_longer_z lG D dA a2 nc LY len (by first | assumption | omega) (by first | assumption | omega)) (va_cwS 2 hts (lw_S q418 q395 q75 q396) rfl rfl rfl (by decide +kernel) ⟨Nat.le_of_ble_eq_true rfl, Nat.le_of_ble_eq_true rfl⟩) hP hK hD hS hA [1] [0, 2, 3, 4, 5] rfl rfl (by decide) (by decide) (by decide) rfl hl.1 rfl (Nat.le_of_ble_eq_true rfl) dX5_ready_45 ⟨show 1 + 1 ≤ 4 by omega, show (0 + len) + len ≤ (8 * n) by omega⟩ (fun u H locs hp_6 hP hD hS => ?_)
          obtain ⟨qn_5, rfl⟩ : ∃ z, z = u := ⟨_, rfl⟩
          have hP : va_P D zCl [(h0, .inr (4, [.ref qn_3, .ref a2, .ref a3, .ref a4])), (a3, .inl (dA 0, nc, .inl fun j => iZ (HX j))), (a4, .inl (dA 0, nc, .inl fun j => iZ (HY j))), (a1, .inl (dA 0, nc, .inl fun j => iZ (LX j))), (qn_3, .inl (dA 0, len, .inl fun j => iZ ((zcpy LX (fun _ => 0) nc) j))), (a2, .inl (dA 0, nc, .inl fun j => iZ (LY j))), (qn_5, .inl (dA 0, len, .inl fun j => iZ ((zcpy LY (fun _ => 0) nc) j)))] H := hP
          have hD : va_D A [(h0, .inr (4, [.ref qn_3, .ref a2, .ref a3, .ref a4])), (a3, .inl (dA 0, nc, .inl fun j => iZ (HX j))), (a4, .inl (dA 0, nc, .inl fun j => iZ (HY j))), (a1, .inl (dA 0, nc, .inl fun j => iZ (LX j))), (qn_3, .inl (dA 0, len, .inl fun j => iZ ((zcpy LX (fun _ => 0) nc) j))), (a2, .inl (dA 0, nc, .inl fun j => iZ (LY j))), (qn_5, .inl (dA 0, len, .inl fun j => iZ ((zcpy LY (fun _ => 0) nc) j)))] := hD
          show W _ _ _ _ _ _ _ _ _ _ _ _ 2 ((0 + len) + len) _ (F0 mG 48 ls [.ref qn_5, .ref h0])
          refine va_put (D := D) (ci := 4) (v := .ref qn_5) (ty := .array .int) (C := RX5) (T := TX5) (N := 4) hx hb hts in_X5 tyX5 tyX5_ok nmX5 hown hK.1 hP hD hS 0 rfl rfl 1 (Nat.le_of_ble_eq_true rfl) (hts _ q184) (fun _ h9 => h9) rfl (by decide +kernel) rfl rfl (Nat.le_of_ble_eq_true rfl) dX5_ready_48 (fun H locs hP hD hS => ?_)
          have hP : va_P D zCl [(h0, .inr (4, [.ref qn_3, .ref qn_5, .ref a3, .ref a4])), (a3, .inl (dA 0, nc, .inl fun j => iZ (HX j))), (a4, .inl (dA 0, nc, .inl fun j => iZ (HY j))), (a1, .inl (dA 0, nc, .inl fun j => iZ (LX j))), (qn_3, .inl (dA 0, len, .inl fun j => iZ ((zcpy LX (fun _ => 0) nc) j))), (a2, .inl (dA 0, nc, .inl fun j => iZ (LY j))), (qn_5, .inl (dA 0, len, .inl fun j => iZ ((zcpy LY (fun _ => 0) nc) j)))] H := hP
          have hD : va_D A [(h0, .inr (4, [.ref qn_3, .ref qn_5, .ref a3, .ref a4])), (a3, .inl (dA 0, nc, .inl fun j => iZ (HX j))), (a4, .inl (dA 0, nc, .inl fun j => iZ (HY j))), (a1, .inl (dA 0, nc, .inl fun j => iZ (LX j))), (qn_3, .inl (dA 0, len, .inl fun j => iZ ((zcpy LX (fun _ => 0) nc) j))), (a2, .inl (dA 0, nc, .inl fun j => iZ (LY j))), (qn_5, .inl (dA 0, len, .inl fun j => iZ ((zcpy LY (fun _ => 0) nc) j)))] := hD
          refine lv_aload_n hx hb dX5_ready_51 rfl (lv_at hl 1 rfl) ?_
          refine lv_aload_n hx hb dX5_ready_52 rfl (lv_at hl 1 rfl) ?_
          refine va_get (D := D) (ci := 4) (v := .ref a3) (C := RX5) (T := TX5) (N := 4) hx hb hts in_X5 hown hK.1 hP 0 rfl rfl 2 (Nat.le_of_ble_eq_true rfl) (hts _ q186) (fun _ h9 => h9) rfl dX5_ready_53 ?_
          refine lv_iload_n hx hb dX5_ready_56 rfl (lv_at hl 0 rfl) ?_
          refine zc_wrS (rest := [.ref h0]) (wr := [(h0, .inr (4, [.ref qn_3, .ref qn_5, .ref a3, .ref a4])), (a4, .inl (dA 0, nc, .inl fun j => iZ (HY j))), (a1, .inl (dA 0, nc, .inl fun j => iZ (LX j))), (qn_3, .inl (dA 0, len, .inl fun j => iZ ((zcpy LX (fun _ => 0) nc) j))), (a2, .inl (dA 0, nc, .inl fun j => iZ (LY j))), (qn_5, .inl (dA 0, len, .inl fun j => iZ ((zcpy LY (fun _ => 0) nc) j)))]) ⟨hx, hb, hml, hown, hts⟩ (metX5_longer_z lG D dA a3 nc HX len (by first | assumption | omega) (by first | assumption | omega)) (va_cwS 2 hts (lw_S q418 q395 q75 q396) rfl rfl rfl (by decide +kernel) ⟨Nat.le_of_ble_eq_true rfl, Nat.le_of_ble_eq_true rfl⟩) hP hK hD hS hA [1] [0, 2, 3, 4, 5, 6] rfl rfl (by decide) (by decide) (by decide) rfl hl.1 rfl (Nat.le_of_ble_eq_true rfl) dX5_ready_57 ⟨show 2 + 1 ≤ 4 by omega, show ((0 + len) + len) + len ≤ (8 * n) by omega⟩ (fun u H locs hp_8 hP hD hS => ?_)
          obtain ⟨qn_7, rfl⟩ : ∃ z, z = u := ⟨_, rfl⟩
          have hP : va_P D zCl [(h0, .inr (4, [.ref qn_3, .ref qn_5, .ref a3, .ref a4])), (a4, .inl (dA 0, nc, .inl fun j => iZ (HY j))), (a1, .inl (dA 0, nc, .inl fun j => iZ (LX j))), (qn_3, .inl (dA 0, len, .inl fun j => iZ ((zcpy LX (fun _ => 0) nc) j))), (a2, .inl (dA 0, nc, .inl fun j => iZ (LY j))), (qn_5, .inl (dA 0, len, .inl fun j => iZ ((zcpy LY (fun _ => 0) nc) j))), (a3, .inl (dA 0, nc, .inl fun j => iZ (HX j))), (qn_7, .inl (dA 0, len, .inl fun j => iZ ((zcpy HX (fun _ => 0) nc) j)))] H := hP
          have hD : va_D A [(h0, .inr (4, [.ref qn_3, .ref qn_5, .ref a3, .ref a4])), (a4, .inl (dA 0, nc, .inl fun j => iZ (HY j))), (a1, .inl (dA 0, nc, .inl fun j => iZ (LX j))), (qn_3, .inl (dA 0, len, .inl fun j => iZ ((zcpy LX (fun _ => 0) nc) j))), (a2, .inl (dA 0, nc, .inl fun j => iZ (LY j))), (qn_5, .inl (dA 0, len, .inl fun j => iZ ((zcpy LY (fun _ => 0) nc) j))), (a3, .inl (dA 0, nc, .inl fun j => iZ (HX j))), (qn_7, .inl (dA 0, len, .inl fun j => iZ ((zcpy HX (fun _ => 0) nc) j)))] := hD
          show W _ _ _ _ _ _ _ _ _ _ _ _ 3 (((0 + len) + len) + len) _ (F0 mG 60 ls [.ref qn_7, .ref h0])
          refine va_put (D := D) (ci := 4) (v := .ref qn_7) (ty := .array .int) (C := RX5) (T := TX5) (N := 4) hx hb hts in_X5 tyX5 tyX5_ok nmX5 hown hK.1 hP hD hS 0 rfl rfl 2 (Nat.le_of_ble_eq_true rfl) (hts _ q186) (fun _ h9 => h9) rfl (by decide +kernel) rfl rfl (Nat.le_of_ble_eq_true rfl) dX5_ready_60 (fun H locs hP hD hS => ?_)
          have hP : va_P D zCl [(h0, .inr (4, [.ref qn_3, .ref qn_5, .ref qn_7, .ref a4])), (a4, .inl (dA 0, nc, .inl fun j => iZ (HY j))), (a1, .inl (dA 0, nc, .inl fun j => iZ (LX j))), (qn_3, .inl (dA 0, len, .inl fun j => iZ ((zcpy LX (fun _ => 0) nc) j))), (a2, .inl (dA 0, nc, .inl fun j => iZ (LY j))), (qn_5, .inl (dA 0, len, .inl fun j => iZ ((zcpy LY (fun _ => 0) nc) j))), (a3, .inl (dA 0, nc, .inl fun j => iZ (HX j))), (qn_7, .inl (dA 0, len, .inl fun j => iZ ((zcpy HX (fun _ => 0) nc) j)))] H := hP
          have hD : va_D A [(h0, .inr (4, [.ref qn_3, .ref qn_5, .ref qn_7, .ref a4])), (a4, .inl (dA 0, nc, .inl fun j => iZ (HY j))), (a1, .inl (dA 0, nc, .inl fun j => iZ (LX j))), (qn_3, .inl (dA 0, len, .inl fun j => iZ ((zcpy LX (fun _ => 0) nc) j))), (a2, .inl (dA 0, nc, .inl fun j => iZ (LY j))), (qn_5, .inl (dA 0, len, .inl fun j => iZ ((zcpy LY (fun _ => 0) nc) j))), (a3, .inl (dA 0, nc, .inl fun j => iZ (HX j))), (qn_7, .inl (dA 0, len, .inl fun j => iZ ((zcpy HX (fun _ => 0) nc) j)))] := hD
          refine lv_aload_n hx hb dX5_ready_63 rfl (lv_at hl 1 rfl) ?_
          refine lv_aload_n hx hb dX5_ready_64 rfl (lv_at hl 1 rfl) ?_
          refine va_get (D := D) (ci := 4) (v := .ref a4) (C := RX5) (T := TX5) (N := 4) hx hb hts in_X5 hown hK.1 hP 0 rfl rfl 3 (Nat.le_of_ble_eq_true rfl) (hts _ q188) (fun _ h9 => h9) rfl dX5_ready_65 ?_
          refine lv_iload_n hx hb dX5_ready_68 rfl (lv_at hl 0 rfl) ?_
          refine zc_wrS (rest := [.ref h0]) (wr := [(h0, .inr (4, [.ref qn_3, .ref qn_5, .ref qn_7, .ref a4])), (a1, .inl (dA 0, nc, .inl fun j => iZ (LX j))), (qn_3, .inl (dA 0, len, .inl fun j => iZ ((zcpy LX (fun _ => 0) nc) j))), (a2, .inl (dA 0, nc, .inl fun j => iZ (LY j))), (qn_5, .inl (dA 0, len, .inl fun j => iZ ((zcpy LY (fun _ => 0) nc) j))), (a3, .inl (dA 0, nc, .inl fun j => iZ (HX j))), (qn_7, .inl (dA 0, len, .inl fun j => iZ ((zcpy HX (fun _ => 0) nc) j)))]) ⟨hx, hb, hml, hown, hts⟩ (metX5_longer_z lG D dA a4 nc HY len (by first | assumption | omega) (by first | assumption | omega)) (va_cwS 2 hts (lw_S q418 q395 q75 q396) rfl rfl rfl (by decide +kernel) ⟨Nat.le_of_ble_eq_true rfl, Nat.le_of_ble_eq_true rfl⟩) hP hK hD hS hA [1] [0, 2, 3, 4, 5, 6, 7] rfl rfl (by decide) (by decide) (by decide) rfl hl.1 rfl (Nat.le_of_ble_eq_true rfl) dX5_ready_69 ⟨show 3 + 1 ≤ 4 by omega, show (((0 + len) + len) + len) + len ≤ (8 * n) by omega⟩ (fun u H locs hp_10 hP hD hS => ?_)
          obtain ⟨qn_9, rfl⟩ : ∃ z, z = u := ⟨_, rfl⟩
          have hP : va_P D zCl [(h0, .inr (4, [.ref qn_3, .ref qn_5, .ref qn_7, .ref a4])), (a1, .inl (dA 0, nc, .inl fun j => iZ (LX j))), (qn_3, .inl (dA 0, len, .inl fun j => iZ ((zcpy LX (fun _ => 0) nc) j))), (a2, .inl (dA 0, nc, .inl fun j => iZ (LY j))), (qn_5, .inl (dA 0, len, .inl fun j => iZ ((zcpy LY (fun _ => 0) nc) j))), (a3, .inl (dA 0, nc, .inl fun j => iZ (HX j))), (qn_7, .inl (dA 0, len, .inl fun j => iZ ((zcpy HX (fun _ => 0) nc) j))), (a4, .inl (dA 0, nc, .inl fun j => iZ (HY j))), (qn_9, .inl (dA 0, len, .inl fun j => iZ ((zcpy HY (fun _ => 0) nc) j)))] H := hP
          have hD : va_D A [(h0, .inr (4, [.ref qn_3, .ref qn_5, .ref qn_7, .ref a4])), (a1, .inl (dA 0, nc, .inl fun j => iZ (LX j))), (qn_3, .inl (dA 0, len, .inl fun j => iZ ((zcpy LX (fun _ => 0) nc) j))), (a2, .inl (dA 0, nc, .inl fun j => iZ (LY j))), (qn_5, .inl (dA 0, len, .inl fun j => iZ ((zcpy LY (fun _ => 0) nc) j))), (a3, .inl (dA 0, nc, .inl fun j => iZ (HX j))), (qn_7, .inl (dA 0, len, .inl fun j => iZ ((zcpy HX (fun _ => 0) nc) j))), (a4, .inl (dA 0, nc, .inl fun j => iZ (HY j))), (qn_9, .inl (dA 0, len, .inl fun j => iZ ((zcpy HY (fun _ => 0) nc) j)))] := hD
          show W _ _ _ _ _ _ _ _ _ _ _ _ 4 ((((0 + len) + len) + len) + len) _ (F0 mG 72 ls [.ref qn_9, .ref h0])
          refine va_put (D := D) (ci := 4) (v := .ref qn_9) (ty := .array .int) (C := RX5) (T := TX5) (N := 4) hx hb hts in_X5 tyX5 tyX5_ok nmX5 hown hK.1 hP hD hS 0 rfl rfl 3 (Nat.le_of_ble_eq_true rfl) (hts _ q188) (fun _ h9 => h9) rfl (by decide +kernel) rfl rfl (Nat.le_of_ble_eq_true rfl) dX5_ready_72 (fun H locs hP hD hS => ?_)
          have hP : va_P D zCl [(h0, .inr (4, [.ref qn_3, .ref qn_5, .ref qn_7, .ref qn_9])), (a1, .inl (dA 0, nc, .inl fun j => iZ (LX j))), (qn_3, .inl (dA 0, len, .inl fun j => iZ ((zcpy LX (fun _ => 0) nc) j))), (a2, .inl (dA 0, nc, .inl fun j => iZ (LY j))), (qn_5, .inl (dA 0, len, .inl fun j => iZ ((zcpy LY (fun _ => 0) nc) j))), (a3, .inl (dA 0, nc, .inl fun j => iZ (HX j))), (qn_7, .inl (dA 0, len, .inl fun j => iZ ((zcpy HX (fun _ => 0) nc) j))), (a4, .inl (dA 0, nc, .inl fun j => iZ (HY j))), (qn_9, .inl (dA 0, len, .inl fun j => iZ ((zcpy HY (fun _ => 0) nc) j)))] H := hP
          have hD : va_D A [(h0, .inr (4, [.ref qn_3, .ref qn_5, .ref qn_7, .ref qn_9])), (a1, .inl (dA 0, nc, .inl fun j => iZ (LX j))), (qn_3, .inl (dA 0, len, .inl fun j => iZ ((zcpy LX (fun _ => 0) nc) j))), (a2, .inl (dA 0, nc, .inl fun j => iZ (LY j))), (qn_5, .inl (dA 0, len, .inl fun j => iZ ((zcpy LY (fun _ => 0) nc) j))), (a3, .inl (dA 0, nc, .inl fun j => iZ (HX j))), (qn_7, .inl (dA 0, len, .inl fun j => iZ ((zcpy HX (fun _ => 0) nc) j))), (a4, .inl (dA 0, nc, .inl fun j => iZ (HY j))), (qn_9, .inl (dA 0, len, .inl fun j => iZ ((zcpy HY (fun _ => 0) nc) j)))] := hD
          refine W.widen (k := 4) (n := 8 * n) (by omega) (by omega) ?_
          exact zr_wrV (u := (len, qn_3, qn_5, qn_7, qn_9, zcpy LX (fun _ => 0) nc, zcpy LY (fun _ => 0) nc, zcpy HX (fun _ => 0) nc, zcpy HY (fun _ => 0) nc)) rfl (show n ≤ len ∧ len < 2 * n ∧ 2 * nc ≤ len ∧ (∀ k, k < nc → (zcpy LX (fun _ => 0) nc) k = LX k ∧ (zcpy LY (fun _ => 0) nc) k = LY k ∧ (zcpy HX (fun _ => 0) nc) k = HX k ∧ (zcpy HY (fun _ => 0) nc) k = HY k) from ⟨by omega, by omega, by omega, fun k hk => ⟨zcpy_lt hk, zcpy_lt hk, zcpy_lt hk, zcpy_lt hk⟩⟩) (hP.sub [0, 2, 4, 6, 8] rfl) (hD.sub [0, 2, 4, 6, 8] (by decide) rfl) hS hx hb hr hlocks dX5_ready_75
      · skip
        refine lv_iload_n hx hb dX5_ready_11 rfl (lv_at hl 0 rfl) ?_
        refine lv_iconst (v := nI 2) hx hb dX5_ready_12 (by decide) ?_
        refine zn_imul hx hb dX5_ready_13 ?_
        refine lv_istore_n (lv' := [(2, .int (nI (len * 2))), (0, .ref h0), (1, .int (nI n))]) hx hb dX5_ready_14 rfl hl (by decide) rfl (fun ls hl => ?_)
        refine lv_goto (tgt := 6) hx hb dX5_ready_15 (by decide) ?_
        exact ih6 (len * 2) (by first | assumption | omega) (by first | assumption | omega) (by first | assumption | omega) (by omega) _ _ (hP.sub [0, 1, 2, 3, 4] rfl) (hD.sub [0, 1, 2, 3, 4] (by decide) rfl) hS _ (lv_sub hl [0, 1, 2] rfl)
  exact loop6 (n - nc + 1) nc (by first | assumption | omega) (by first | assumption | omega) (by first | assumption | omega) (Nat.lt_succ_self _) _ _ (hP.sub [0, 1, 2, 3, 4] rfl) (hD.sub [0, 1, 2, 3, 4] (by decide) rfl) hS _ (lv_sub hl [0, 1, 2] rfl)
set_option maxHeartbeats 4000000 in
set_option maxRecDepth 100000 in
theorem metX5_set_keep (lG : Launch) (D : va_G) (dA : Nat → ClassId) (h0 : Nat) (a1 : Nat) (a2 : Nat) (a3 : Nat) (a4 : Nat) (nc : Nat) (LX : Nat → Int) (LY : Nat → Int) (HX : Nat → Int) (HY : Nat → Int) (at_ : Nat) (x : Int) (y : Int) (tx : Int) (ty : Int) (hnc : nc ≤ 65536) (hat : at_ < nc) : Wr lG yX5_set (ws_ yX5_set cX5_set 6 none) 1 22 D dA [.ref h0, .int (nI at_), .int (iZ x), .int (iZ y), .int (iZ tx), .int (iZ ty)] [(h0, .inr (4, [.ref a1, .ref a2, .ref a3, .ref a4])), (a1, .inl (dA 0, nc, .inl fun j => iZ (LX j))), (a2, .inl (dA 0, nc, .inl fun j => iZ (LY j))), (a3, .inl (dA 0, nc, .inl fun j => iZ (HX j))), (a4, .inl (dA 0, nc, .inl fun j => iZ (HY j)))] 0 0 (fun (_u : Unit) => True) (fun (_u : Unit) => none) (fun (_u : Unit) => [(h0, .inr (4, [.ref a1, .ref a2, .ref a3, .ref a4])), (a1, .inl (dA 0, nc, .inl fun j => iZ ((updZ LX at_ x) j))), (a2, .inl (dA 0, nc, .inl fun j => iZ ((updZ LY at_ y) j))), (a3, .inl (dA 0, nc, .inl fun j => iZ ((updZ HX at_ tx) j))), (a4, .inl (dA 0, nc, .inl fun j => iZ ((updZ HY at_ ty) j)))]) := by
  refine Wr.of (by decide) (Nat.le_of_ble_eq_true rfl) ?_
  intro pG eG sG mG bG tG cG ls A hx hb hr hml hown hts hlocks hnm hP hK hD hS hA hl
  have hK1 := hK.1
  have hown : sG.vm.findClass RX5 = some mG.cls := hown
  have hl : lv_has ls 6 [(0, .ref h0), (1, .int (nI at_)), (2, .int (iZ x)), (3, .int (iZ y)), (4, .int (iZ tx)), (5, .int (iZ ty))] := hl
  refine lv_aload_n hx hb dX5_set_0 rfl (lv_at hl 0 rfl) ?_
  refine lv_iload_n hx hb dX5_set_1 rfl (lv_at hl 1 rfl) ?_
  refine lv_iconst (v := nI 1) hx hb dX5_set_2 (by decide) ?_
  refine zn_iadd hx hb dX5_set_3 ?_
  refine zc_wrV (rest := []) (wr := []) ⟨hx, hb, hml, hown, hts⟩ (metX5_ready_keep lG D dA h0 a1 a2 a3 a4 nc LX LY HX HY (at_ + 1) (by first | assumption | omega) (by first | assumption | omega)) (cwV 1 hts (lw_V q412 q413 q414 q75 q417) rfl rfl rfl (by decide +kernel) ⟨Nat.le_of_ble_eq_true rfl, Nat.le_of_ble_eq_true rfl⟩) (va_recv hK.1 hP (ci := 4) (q0 := 0) rfl rfl) hP hK hD hS hA [0, 1, 2, 3, 4] [] rfl rfl (by decide) (by decide) (by decide) rfl hl.1 rfl (Nat.le_of_ble_eq_true rfl) dX5_set_4 ⟨Nat.zero_le _, Nat.zero_le _⟩ (fun u H locs hp_1 hP hD hS => ?_)
  have hP : va_P D zCl [(h0, .inr (4, [.ref a1, .ref a2, .ref a3, .ref a4])), (a1, .inl (dA 0, nc, .inl fun j => iZ (LX j))), (a2, .inl (dA 0, nc, .inl fun j => iZ (LY j))), (a3, .inl (dA 0, nc, .inl fun j => iZ (HX j))), (a4, .inl (dA 0, nc, .inl fun j => iZ (HY j)))] H := hP
  have hD : va_D A [(h0, .inr (4, [.ref a1, .ref a2, .ref a3, .ref a4])), (a1, .inl (dA 0, nc, .inl fun j => iZ (LX j))), (a2, .inl (dA 0, nc, .inl fun j => iZ (LY j))), (a3, .inl (dA 0, nc, .inl fun j => iZ (HX j))), (a4, .inl (dA 0, nc, .inl fun j => iZ (HY j)))] := hD
  show W _ _ _ _ _ _ _ _ _ _ _ _ 0 0 _ (F0 mG 7 ls [])
  refine lv_aload_n hx hb dX5_set_7 rfl (lv_at hl 0 rfl) ?_
  refine va_get (D := D) (ci := 4) (v := .ref a1) (C := RX5) (T := TX5) (N := 4) hx hb hts in_X5 hown hK.1 hP 0 rfl rfl 0 (Nat.le_of_ble_eq_true rfl) (hts _ q182) (fun _ h9 => h9) rfl dX5_set_8 ?_
  refine lv_iload_n hx hb dX5_set_11 rfl (lv_at hl 1 rfl) ?_
  refine lv_iload_n hx hb dX5_set_12 rfl (lv_at hl 2 rfl) ?_
  refine zz_iastore (f := LX) (i := at_) (x := x) hx hb hK.1 hP hD hS 1 0 rfl rfl (by omega) (by omega) dX5_set_13 (fun H locs hP hD hS => ?_)
  have hP : va_P D zCl [(h0, .inr (4, [.ref a1, .ref a2, .ref a3, .ref a4])), (a1, .inl (dA 0, nc, .inl fun j => iZ ((updZ LX at_ x) j))), (a2, .inl (dA 0, nc, .inl fun j => iZ (LY j))), (a3, .inl (dA 0, nc, .inl fun j => iZ (HX j))), (a4, .inl (dA 0, nc, .inl fun j => iZ (HY j)))] H := hP
  have hD : va_D A [(h0, .inr (4, [.ref a1, .ref a2, .ref a3, .ref a4])), (a1, .inl (dA 0, nc, .inl fun j => iZ ((updZ LX at_ x) j))), (a2, .inl (dA 0, nc, .inl fun j => iZ (LY j))), (a3, .inl (dA 0, nc, .inl fun j => iZ (HX j))), (a4, .inl (dA 0, nc, .inl fun j => iZ (HY j)))] := hD
  refine lv_aload_n hx hb dX5_set_14 rfl (lv_at hl 0 rfl) ?_
  refine va_get (D := D) (ci := 4) (v := .ref a2) (C := RX5) (T := TX5) (N := 4) hx hb hts in_X5 hown hK.1 hP 0 rfl rfl 1 (Nat.le_of_ble_eq_true rfl) (hts _ q184) (fun _ h9 => h9) rfl dX5_set_15 ?_
  refine lv_iload_n hx hb dX5_set_18 rfl (lv_at hl 1 rfl) ?_
  refine lv_iload_n hx hb dX5_set_19 rfl (lv_at hl 3 rfl) ?_
  refine zz_iastore (f := LY) (i := at_) (x := y) hx hb hK.1 hP hD hS 2 0 rfl rfl (by omega) (by omega) dX5_set_20 (fun H locs hP hD hS => ?_)
  have hP : va_P D zCl [(h0, .inr (4, [.ref a1, .ref a2, .ref a3, .ref a4])), (a1, .inl (dA 0, nc, .inl fun j => iZ ((updZ LX at_ x) j))), (a2, .inl (dA 0, nc, .inl fun j => iZ ((updZ LY at_ y) j))), (a3, .inl (dA 0, nc, .inl fun j => iZ (HX j))), (a4, .inl (dA 0, nc, .inl fun j => iZ (HY j)))] H := hP
  have hD : va_D A [(h0, .inr (4, [.ref a1, .ref a2, .ref a3, .ref a4])), (a1, .inl (dA 0, nc, .inl fun j => iZ ((updZ LX at_ x) j))), (a2, .inl (dA 0, nc, .inl fun j => iZ ((updZ LY at_ y) j))), (a3, .inl (dA 0, nc, .inl fun j => iZ (HX j))), (a4, .inl (dA 0, nc, .inl fun j => iZ (HY j)))] := hD
  refine lv_aload_n hx hb dX5_set_21 rfl (lv_at hl 0 rfl) ?_
  refine va_get (D := D) (ci := 4) (v := .ref a3) (C := RX5) (T := TX5) (N := 4) hx hb hts in_X5 hown hK.1 hP 0 rfl rfl 2 (Nat.le_of_ble_eq_true rfl) (hts _ q186) (fun _ h9 => h9) rfl dX5_set_22 ?_
  refine lv_iload_n hx hb dX5_set_25 rfl (lv_at hl 1 rfl) ?_
  refine lv_iload hx hb dX5_set_26 (lv_at hl 4 rfl) ?_
  refine zz_iastore (f := HX) (i := at_) (x := tx) hx hb hK.1 hP hD hS 3 0 rfl rfl (by omega) (by omega) dX5_set_28 (fun H locs hP hD hS => ?_)
  have hP : va_P D zCl [(h0, .inr (4, [.ref a1, .ref a2, .ref a3, .ref a4])), (a1, .inl (dA 0, nc, .inl fun j => iZ ((updZ LX at_ x) j))), (a2, .inl (dA 0, nc, .inl fun j => iZ ((updZ LY at_ y) j))), (a3, .inl (dA 0, nc, .inl fun j => iZ ((updZ HX at_ tx) j))), (a4, .inl (dA 0, nc, .inl fun j => iZ (HY j)))] H := hP
  have hD : va_D A [(h0, .inr (4, [.ref a1, .ref a2, .ref a3, .ref a4])), (a1, .inl (dA 0, nc, .inl fun j => iZ ((updZ LX at_ x) j))), (a2, .inl (dA 0, nc, .inl fun j => iZ ((updZ LY at_ y) j))), (a3, .inl (dA 0, nc, .inl fun j => iZ ((updZ HX at_ tx) j))), (a4, .inl (dA 0, nc, .inl fun j => iZ (HY j)))] := hD
  refine lv_aload_n hx hb dX5_set_29 rfl (lv_at hl 0 rfl) ?_
  refine va_get (D := D) (ci := 4) (v := .ref a4) (C := RX5) (T := TX5) (N := 4) hx hb hts in_X5 hown hK.1 hP 0 rfl rfl 3 (Nat.le_of_ble_eq_true rfl) (hts _ q188) (fun _ h9 => h9) rfl dX5_set_30 ?_
  refine lv_iload_n hx hb dX5_set_33 rfl (lv_at hl 1 rfl) ?_
  refine lv_iload hx hb dX5_set_34 (lv_at hl 5 rfl) ?_
  refine zz_iastore (f := HY) (i := at_) (x := ty) hx hb hK.1 hP hD hS 4 0 rfl rfl (by omega) (by omega) dX5_set_36 (fun H locs hP hD hS => ?_)
  have hP : va_P D zCl [(h0, .inr (4, [.ref a1, .ref a2, .ref a3, .ref a4])), (a1, .inl (dA 0, nc, .inl fun j => iZ ((updZ LX at_ x) j))), (a2, .inl (dA 0, nc, .inl fun j => iZ ((updZ LY at_ y) j))), (a3, .inl (dA 0, nc, .inl fun j => iZ ((updZ HX at_ tx) j))), (a4, .inl (dA 0, nc, .inl fun j => iZ ((updZ HY at_ ty) j)))] H := hP
  have hD : va_D A [(h0, .inr (4, [.ref a1, .ref a2, .ref a3, .ref a4])), (a1, .inl (dA 0, nc, .inl fun j => iZ ((updZ LX at_ x) j))), (a2, .inl (dA 0, nc, .inl fun j => iZ ((updZ LY at_ y) j))), (a3, .inl (dA 0, nc, .inl fun j => iZ ((updZ HX at_ tx) j))), (a4, .inl (dA 0, nc, .inl fun j => iZ ((updZ HY at_ ty) j)))] := hD
  exact zr_wrV (u := ()) rfl trivial (hP.sub [0, 1, 2, 3, 4] rfl) (hD.sub [0, 1, 2, 3, 4] (by decide) rfl) hS hx hb hr hlocks dX5_set_37
set_option maxHeartbeats 4000000 in
set_option maxRecDepth 100000 in
theorem metX5_set_grow (lG : Launch) (D : va_G) (dA : Nat → ClassId) (h0 : Nat) (a1 : Nat) (a2 : Nat) (a3 : Nat) (a4 : Nat) (nc : Nat) (LX : Nat → Int) (LY : Nat → Int) (HX : Nat → Int) (HY : Nat → Int) (at_ : Nat) (x : Int) (y : Int) (tx : Int) (ty : Int) (hnc0 : 1 ≤ nc) (hat : nc ≤ at_) (hat2 : at_ < 4096) : Wr lG yX5_set (ws_ yX5_set cX5_set 6 none) 3 84 D dA [.ref h0, .int (nI at_), .int (iZ x), .int (iZ y), .int (iZ tx), .int (iZ ty)] [(h0, .inr (4, [.ref a1, .ref a2, .ref a3, .ref a4])), (a1, .inl (dA 0, nc, .inl fun j => iZ (LX j))), (a2, .inl (dA 0, nc, .inl fun j => iZ (LY j))), (a3, .inl (dA 0, nc, .inl fun j => iZ (HX j))), (a4, .inl (dA 0, nc, .inl fun j => iZ (HY j)))] 4 (8 * at_ + 8) (fun (u : Nat × Nat × Nat × Nat × Nat × (Nat → Int) × (Nat → Int) × (Nat → Int) × (Nat → Int)) => let nc2 := u.1; let b1 := u.2.1; let b2 := u.2.2.1; let b3 := u.2.2.2.1; let b4 := u.2.2.2.2.1; let LX2 := u.2.2.2.2.2.1; let LY2 := u.2.2.2.2.2.2.1; let HX2 := u.2.2.2.2.2.2.2.1; let HY2 := u.2.2.2.2.2.2.2.2; at_ < nc2 ∧ nc2 < 2 * at_ + 2 ∧ 2 * nc ≤ nc2 ∧ (∀ k, k < nc → LX2 k = LX k ∧ LY2 k = LY k ∧ HX2 k = HX k ∧ HY2 k = HY k) ∧ LX2 at_ = x ∧ LY2 at_ = y ∧ HX2 at_ = tx ∧ HY2 at_ = ty) (fun (u : Nat × Nat × Nat × Nat × Nat × (Nat → Int) × (Nat → Int) × (Nat → Int) × (Nat → Int)) => let nc2 := u.1; let b1 := u.2.1; let b2 := u.2.2.1; let b3 := u.2.2.2.1; let b4 := u.2.2.2.2.1; let LX2 := u.2.2.2.2.2.1; let LY2 := u.2.2.2.2.2.2.1; let HX2 := u.2.2.2.2.2.2.2.1; let HY2 := u.2.2.2.2.2.2.2.2; none) (fun (u : Nat × Nat × Nat × Nat × Nat × (Nat → Int) × (Nat → Int) × (Nat → Int) × (Nat → Int)) => let nc2 := u.1; let b1 := u.2.1; let b2 := u.2.2.1; let b3 := u.2.2.2.1; let b4 := u.2.2.2.2.1; let LX2 := u.2.2.2.2.2.1; let LY2 := u.2.2.2.2.2.2.1; let HX2 := u.2.2.2.2.2.2.2.1; let HY2 := u.2.2.2.2.2.2.2.2; [(h0, .inr (4, [.ref b1, .ref b2, .ref b3, .ref b4])), (b1, .inl (dA 0, nc2, .inl fun j => iZ (LX2 j))), (b2, .inl (dA 0, nc2, .inl fun j => iZ (LY2 j))), (b3, .inl (dA 0, nc2, .inl fun j => iZ (HX2 j))), (b4, .inl (dA 0, nc2, .inl fun j => iZ (HY2 j)))]) := by
  refine Wr.of (by decide) (Nat.le_of_ble_eq_true rfl) ?_
  intro pG eG sG mG bG tG cG ls A hx hb hr hml hown hts hlocks hnm hP hK hD hS hA hl
  have hK1 := hK.1
  have hown : sG.vm.findClass RX5 = some mG.cls := hown
  have hl : lv_has ls 6 [(0, .ref h0), (1, .int (nI at_)), (2, .int (iZ x)), (3, .int (iZ y)), (4, .int (iZ tx)), (5, .int (iZ ty))] := hl
  refine lv_aload_n hx hb dX5_set_0 rfl (lv_at hl 0 rfl) ?_
  refine lv_iload_n hx hb dX5_set_1 rfl (lv_at hl 1 rfl) ?_
  refine lv_iconst (v := nI 1) hx hb dX5_set_2 (by decide) ?_
  refine zn_iadd hx hb dX5_set_3 ?_
  refine zc_wrV (rest := []) (wr := []) ⟨hx, hb, hml, hown, hts⟩ (metX5_ready_grow lG D dA h0 a1 a2 a3 a4 nc LX LY HX HY (at_ + 1) (by first | assumption | omega) (by first | assumption | omega) (by first | assumption | omega)) (cwV 1 hts (lw_V q412 q413 q414 q75 q417) rfl rfl rfl (by decide +kernel) ⟨Nat.le_of_ble_eq_true rfl, Nat.le_of_ble_eq_true rfl⟩) (va_recv hK.1 hP (ci := 4) (q0 := 0) rfl rfl) hP hK hD hS hA [0, 1, 2, 3, 4] [] rfl rfl (by decide) (by decide) (by decide) rfl hl.1 rfl (Nat.le_of_ble_eq_true rfl) dX5_set_4 ⟨show 0 + 4 ≤ 4 by omega, show 0 + (8 * (at_ + 1)) ≤ (8 * at_ + 8) by omega⟩ (fun u H locs hg hP hD hS => ?_)
  obtain ⟨nc2_1, b1_2, b2_3, b3_4, b4_5, LX2_6, LY2_7, HX2_8, HY2_9⟩ := u
  have hP : va_P D zCl [(h0, .inr (4, [.ref b1_2, .ref b2_3, .ref b3_4, .ref b4_5])), (b1_2, .inl (dA 0, nc2_1, .inl fun j => iZ (LX2_6 j))), (b2_3, .inl (dA 0, nc2_1, .inl fun j => iZ (LY2_7 j))), (b3_4, .inl (dA 0, nc2_1, .inl fun j => iZ (HX2_8 j))), (b4_5, .inl (dA 0, nc2_1, .inl fun j => iZ (HY2_9 j)))] H := hP
  have hD : va_D A [(h0, .inr (4, [.ref b1_2, .ref b2_3, .ref b3_4, .ref b4_5])), (b1_2, .inl (dA 0, nc2_1, .inl fun j => iZ (LX2_6 j))), (b2_3, .inl (dA 0, nc2_1, .inl fun j => iZ (LY2_7 j))), (b3_4, .inl (dA 0, nc2_1, .inl fun j => iZ (HX2_8 j))), (b4_5, .inl (dA 0, nc2_1, .inl fun j => iZ (HY2_9 j)))] := hD
  have hg : (at_ + 1) ≤ nc2_1 ∧ nc2_1 < 2 * (at_ + 1) ∧ 2 * nc ≤ nc2_1 ∧ (∀ k, k < nc → LX2_6 k = LX k ∧ LY2_7 k = LY k ∧ HX2_8 k = HX k ∧ HY2_9 k = HY k) := hg
  show W _ _ _ _ _ _ _ _ _ _ _ _ 4 (0 + (8 * (at_ + 1))) _ (F0 mG 7 ls [])
  obtain ⟨hg1, hg2, hg3, hg4⟩ := hg
  refine lv_aload_n hx hb dX5_set_7 rfl (lv_at hl 0 rfl) ?_
  refine va_get (D := D) (ci := 4) (v := .ref b1_2) (C := RX5) (T := TX5) (N := 4) hx hb hts in_X5 hown hK.1 hP 0 rfl rfl 0 (Nat.le_of_ble_eq_true rfl) (hts _ q182) (fun _ h9 => h9) rfl dX5_set_8 ?_
  refine lv_iload_n hx hb dX5_set_11 rfl (lv_at hl 1 rfl) ?_
  refine lv_iload_n hx hb dX5_set_12 rfl (lv_at hl 2 rfl) ?_
  refine zz_iastore (f := LX2_6) (i := at_) (x := x) hx hb hK.1 hP hD hS 1 0 rfl rfl (by omega) (by omega) dX5_set_13 (fun H locs hP hD hS => ?_)
  have hP : va_P D zCl [(h0, .inr (4, [.ref b1_2, .ref b2_3, .ref b3_4, .ref b4_5])), (b1_2, .inl (dA 0, nc2_1, .inl fun j => iZ ((updZ LX2_6 at_ x) j))), (b2_3, .inl (dA 0, nc2_1, .inl fun j => iZ (LY2_7 j))), (b3_4, .inl (dA 0, nc2_1, .inl fun j => iZ (HX2_8 j))), (b4_5, .inl (dA 0, nc2_1, .inl fun j => iZ (HY2_9 j)))] H := hP
  have hD : va_D A [(h0, .inr (4, [.ref b1_2, .ref b2_3, .ref b3_4, .ref b4_5])), (b1_2, .inl (dA 0, nc2_1, .inl fun j => iZ ((updZ LX2_6 at_ x) j))), (b2_3, .inl (dA 0, nc2_1, .inl fun j => iZ (LY2_7 j))), (b3_4, .inl (dA 0, nc2_1, .inl fun j => iZ (HX2_8 j))), (b4_5, .inl (dA 0, nc2_1, .inl fun j => iZ (HY2_9 j)))] := hD
  refine lv_aload_n hx hb dX5_set_14 rfl (lv_at hl 0 rfl) ?_
  refine va_get (D := D) (ci := 4) (v := .ref b2_3) (C := RX5) (T := TX5) (N := 4) hx hb hts in_X5 hown hK.1 hP 0 rfl rfl 1 (Nat.le_of_ble_eq_true rfl) (hts _ q184) (fun _ h9 => h9) rfl dX5_set_15 ?_
  refine lv_iload_n hx hb dX5_set_18 rfl (lv_at hl 1 rfl) ?_
  refine lv_iload_n hx hb dX5_set_19 rfl (lv_at hl 3 rfl) ?_
  refine zz_iastore (f := LY2_7) (i := at_) (x := y) hx hb hK.1 hP hD hS 2 0 rfl rfl (by omega) (by omega) dX5_set_20 (fun H locs hP hD hS => ?_)
  have hP : va_P D zCl [(h0, .inr (4, [.ref b1_2, .ref b2_3, .ref b3_4, .ref b4_5])), (b1_2, .inl (dA 0, nc2_1, .inl fun j => iZ ((updZ LX2_6 at_ x) j))), (b2_3, .inl (dA 0, nc2_1, .inl fun j => iZ ((updZ LY2_7 at_ y) j))), (b3_4, .inl (dA 0, nc2_1, .inl fun j => iZ (HX2_8 j))), (b4_5, .inl (dA 0, nc2_1, .inl fun j => iZ (HY2_9 j)))] H := hP
  have hD : va_D A [(h0, .inr (4, [.ref b1_2, .ref b2_3, .ref b3_4, .ref b4_5])), (b1_2, .inl (dA 0, nc2_1, .inl fun j => iZ ((updZ LX2_6 at_ x) j))), (b2_3, .inl (dA 0, nc2_1, .inl fun j => iZ ((updZ LY2_7 at_ y) j))), (b3_4, .inl (dA 0, nc2_1, .inl fun j => iZ (HX2_8 j))), (b4_5, .inl (dA 0, nc2_1, .inl fun j => iZ (HY2_9 j)))] := hD
  refine lv_aload_n hx hb dX5_set_21 rfl (lv_at hl 0 rfl) ?_
  refine va_get (D := D) (ci := 4) (v := .ref b3_4) (C := RX5) (T := TX5) (N := 4) hx hb hts in_X5 hown hK.1 hP 0 rfl rfl 2 (Nat.le_of_ble_eq_true rfl) (hts _ q186) (fun _ h9 => h9) rfl dX5_set_22 ?_
  refine lv_iload_n hx hb dX5_set_25 rfl (lv_at hl 1 rfl) ?_
  refine lv_iload hx hb dX5_set_26 (lv_at hl 4 rfl) ?_
  refine zz_iastore (f := HX2_8) (i := at_) (x := tx) hx hb hK.1 hP hD hS 3 0 rfl rfl (by omega) (by omega) dX5_set_28 (fun H locs hP hD hS => ?_)
  have hP : va_P D zCl [(h0, .inr (4, [.ref b1_2, .ref b2_3, .ref b3_4, .ref b4_5])), (b1_2, .inl (dA 0, nc2_1, .inl fun j => iZ ((updZ LX2_6 at_ x) j))), (b2_3, .inl (dA 0, nc2_1, .inl fun j => iZ ((updZ LY2_7 at_ y) j))), (b3_4, .inl (dA 0, nc2_1, .inl fun j => iZ ((updZ HX2_8 at_ tx) j))), (b4_5, .inl (dA 0, nc2_1, .inl fun j => iZ (HY2_9 j)))] H := hP
  have hD : va_D A [(h0, .inr (4, [.ref b1_2, .ref b2_3, .ref b3_4, .ref b4_5])), (b1_2, .inl (dA 0, nc2_1, .inl fun j => iZ ((updZ LX2_6 at_ x) j))), (b2_3, .inl (dA 0, nc2_1, .inl fun j => iZ ((updZ LY2_7 at_ y) j))), (b3_4, .inl (dA 0, nc2_1, .inl fun j => iZ ((updZ HX2_8 at_ tx) j))), (b4_5, .inl (dA 0, nc2_1, .inl fun j => iZ (HY2_9 j)))] := hD
  refine lv_aload_n hx hb dX5_set_29 rfl (lv_at hl 0 rfl) ?_
  refine va_get (D := D) (ci := 4) (v := .ref b4_5) (C := RX5) (T := TX5) (N := 4) hx hb hts in_X5 hown hK.1 hP 0 rfl rfl 3 (Nat.le_of_ble_eq_true rfl) (hts _ q188) (fun _ h9 => h9) rfl dX5_set_30 ?_
  refine lv_iload_n hx hb dX5_set_33 rfl (lv_at hl 1 rfl) ?_
  refine lv_iload hx hb dX5_set_34 (lv_at hl 5 rfl) ?_
  refine zz_iastore (f := HY2_9) (i := at_) (x := ty) hx hb hK.1 hP hD hS 4 0 rfl rfl (by omega) (by omega) dX5_set_36 (fun H locs hP hD hS => ?_)
  have hP : va_P D zCl [(h0, .inr (4, [.ref b1_2, .ref b2_3, .ref b3_4, .ref b4_5])), (b1_2, .inl (dA 0, nc2_1, .inl fun j => iZ ((updZ LX2_6 at_ x) j))), (b2_3, .inl (dA 0, nc2_1, .inl fun j => iZ ((updZ LY2_7 at_ y) j))), (b3_4, .inl (dA 0, nc2_1, .inl fun j => iZ ((updZ HX2_8 at_ tx) j))), (b4_5, .inl (dA 0, nc2_1, .inl fun j => iZ ((updZ HY2_9 at_ ty) j)))] H := hP
  have hD : va_D A [(h0, .inr (4, [.ref b1_2, .ref b2_3, .ref b3_4, .ref b4_5])), (b1_2, .inl (dA 0, nc2_1, .inl fun j => iZ ((updZ LX2_6 at_ x) j))), (b2_3, .inl (dA 0, nc2_1, .inl fun j => iZ ((updZ LY2_7 at_ y) j))), (b3_4, .inl (dA 0, nc2_1, .inl fun j => iZ ((updZ HX2_8 at_ tx) j))), (b4_5, .inl (dA 0, nc2_1, .inl fun j => iZ ((updZ HY2_9 at_ ty) j)))] := hD
  refine W.widen (k := 4) (n := 8 * at_ + 8) (by omega) (by omega) ?_
  exact zr_wrV (u := (nc2_1, b1_2, b2_3, b3_4, b4_5, updZ LX2_6 at_ x, updZ LY2_7 at_ y, updZ HX2_8 at_ tx, updZ HY2_9 at_ ty)) rfl (show at_ < nc2_1 ∧ nc2_1 < 2 * at_ + 2 ∧ 2 * nc ≤ nc2_1 ∧ (∀ k, k < nc → (updZ LX2_6 at_ x) k = LX k ∧ (updZ LY2_7 at_ y) k = LY k ∧ (updZ HX2_8 at_ tx) k = HX k ∧ (updZ HY2_9 at_ ty) k = HY k) ∧ (updZ LX2_6 at_ x) at_ = x ∧ (updZ LY2_7 at_ y) at_ = y ∧ (updZ HX2_8 at_ tx) at_ = tx ∧ (updZ HY2_9 at_ ty) at_ = ty from ⟨by omega, by omega, by omega, fun k hk => ⟨by rw [updZ_n (by omega)]; exact (hg4 k hk).1, by rw [updZ_n (by omega)]; exact (hg4 k hk).2.1, by rw [updZ_n (by omega)]; exact (hg4 k hk).2.2.1, by rw [updZ_n (by omega)]; exact (hg4 k hk).2.2.2⟩, updZ_s, updZ_s, updZ_s, updZ_s⟩) (hP.sub [0, 1, 2, 3, 4] rfl) (hD.sub [0, 1, 2, 3, 4] (by decide) rfl) hS hx hb hr hlocks dX5_set_37
set_option maxHeartbeats 4000000 in
set_option maxRecDepth 100000 in
theorem metX5_middle (lG : Launch) (D : va_G) (dA : Nat → ClassId) (h0 : Nat) (a1 : Nat) (a2 : Nat) (a3 : Nat) (a4 : Nat) (nc : Nat) (LX : Nat → Int) (LY : Nat → Int) (HX : Nat → Int) (HY : Nat → Int) (at_ : Nat) (ay : Bool) (hnc : nc ≤ 65536) (hat : at_ < nc) (h1 : cB (LX at_)) (h2 : cB (LY at_)) (h3 : cB (HX at_)) (h4 : cB (HY at_)) : Ro lG yX5_middle (ws_ yX5_middle cX5_middle 3 (some .long)) 0 0 D dA [.ref h0, .int (nI at_), .int (bI ay)] [(h0, .inr (4, [.ref a1, .ref a2, .ref a3, .ref a4])), (a1, .inl (dA 0, nc, .inl fun j => iZ (LX j))), (a2, .inl (dA 0, nc, .inl fun j => iZ (LY j))), (a3, .inl (dA 0, nc, .inl fun j => iZ (HX j))), (a4, .inl (dA 0, nc, .inl fun j => iZ (HY j)))] (some (.long (lZ (if ay then LY at_ + HY at_ else LX at_ + HX at_)))) := by
  refine Ro.of (by decide) (Nat.le_of_ble_eq_true rfl) ?_
  intro pG eG sG mG bG tG cG ls hx hb hr hml hown hts hlocks hP hK hl
  have hown : sG.vm.findClass RX5 = some mG.cls := hown
  have hl : lv_has ls 3 [(0, .ref h0), (1, .int (nI at_)), (2, .int (bI ay))] := hl
  refine lv_iload_n hx hb dX5_middle_0 rfl (lv_at hl 2 rfl) ?_
  refine zb_if_eq (tgt := 22) hx hb dX5_middle_1 (by decide) (fun c_1 => ?_) (fun c_1 => ?_)
  · skip
    refine lv_aload_n hx hb dX5_middle_22 rfl (lv_at hl 0 rfl) ?_
    refine va_get (D := D) (ci := 4) (v := .ref a1) (C := RX5) (T := TX5) (N := 4) hx hb hts in_X5 hown hK.1 hP 0 rfl rfl 0 (Nat.le_of_ble_eq_true rfl) (hts _ q182) (fun _ h9 => h9) rfl dX5_middle_23 ?_
    refine lv_iload_n hx hb dX5_middle_26 rfl (lv_at hl 1 rfl) ?_
    refine zz_iaload (f := LX) (i := at_) hx hb hK.1 hP 1 0 rfl rfl (by omega) (by omega) dX5_middle_27 ?_
    refine zz_i2l hx hb h1.i dX5_middle_28 ?_
    refine lv_aload_n hx hb dX5_middle_29 rfl (lv_at hl 0 rfl) ?_
    refine va_get (D := D) (ci := 4) (v := .ref a3) (C := RX5) (T := TX5) (N := 4) hx hb hts in_X5 hown hK.1 hP 0 rfl rfl 2 (Nat.le_of_ble_eq_true rfl) (hts _ q186) (fun _ h9 => h9) rfl dX5_middle_30 ?_
    refine lv_iload_n hx hb dX5_middle_33 rfl (lv_at hl 1 rfl) ?_
    refine zz_iaload (f := HX) (i := at_) hx hb hK.1 hP 3 0 rfl rfl (by omega) (by omega) dX5_middle_34 ?_
    refine zz_i2l hx hb h3.i dX5_middle_35 ?_
    refine zz_ladd hx hb dX5_middle_36 ?_
    exact zr_roL (by simp_all) hx hb hr hlocks dX5_middle_37
  · skip
    refine lv_aload_n hx hb dX5_middle_4 rfl (lv_at hl 0 rfl) ?_
    refine va_get (D := D) (ci := 4) (v := .ref a2) (C := RX5) (T := TX5) (N := 4) hx hb hts in_X5 hown hK.1 hP 0 rfl rfl 1 (Nat.le_of_ble_eq_true rfl) (hts _ q184) (fun _ h9 => h9) rfl dX5_middle_5 ?_
    refine lv_iload_n hx hb dX5_middle_8 rfl (lv_at hl 1 rfl) ?_
    refine zz_iaload (f := LY) (i := at_) hx hb hK.1 hP 2 0 rfl rfl (by omega) (by omega) dX5_middle_9 ?_
    refine zz_i2l hx hb h2.i dX5_middle_10 ?_
    refine lv_aload_n hx hb dX5_middle_11 rfl (lv_at hl 0 rfl) ?_
    refine va_get (D := D) (ci := 4) (v := .ref a4) (C := RX5) (T := TX5) (N := 4) hx hb hts in_X5 hown hK.1 hP 0 rfl rfl 3 (Nat.le_of_ble_eq_true rfl) (hts _ q188) (fun _ h9 => h9) rfl dX5_middle_12 ?_
    refine lv_iload_n hx hb dX5_middle_15 rfl (lv_at hl 1 rfl) ?_
    refine zz_iaload (f := HY) (i := at_) hx hb hK.1 hP 4 0 rfl rfl (by omega) (by omega) dX5_middle_16 ?_
    refine zz_i2l hx hb h4.i dX5_middle_17 ?_
    refine zz_ladd hx hb dX5_middle_18 ?_
    refine lv_goto (tgt := 37) hx hb dX5_middle_19 (by decide) ?_
    exact zr_roL (by simp_all) hx hb hr hlocks dX5_middle_37
