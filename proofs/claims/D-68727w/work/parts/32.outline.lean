/-! Outline: contracts (printed by wip gen/c32.py) -/
theorem zz_pred {n : Nat} (h : 1 ≤ n) : iZ ((n : Int) - ((1 : Nat) : Int)) = nI (n - 1) := by
  rw [nI_iZ]; congr 1; omega
/-- where a part ends -/
def olEnd (ST : Nat → Nat) (np nq p : Nat) : Nat := if p + 1 < np then ST (p + 1) else nq
def ptAt (X Y : Nat → Int) (k : Nat) (px py : Int) : Bool := decide (X k = px) && decide (Y k = py)
/-- how often a place is the first or last point of one of the first parts -/
def olEnds (X Y : Nat → Int) (ST : Nat → Nat) (np nq : Nat) (px py : Int) : Nat → Nat
  | 0 => 0
  | p + 1 => olEnds X Y ST np nq px py p + (if ST p < olEnd ST np nq p then (ptAt X Y (ST p) px py).toNat + (ptAt X Y (olEnd ST np nq p - 1) px py).toNat else 0)
theorem olEnd_le {ST : Nat → Nat} {np nq p : Nat} (h : ∀ p, p < np → ST p ≤ nq) : olEnd ST np nq p ≤ nq := by
  unfold olEnd; split
  · exact h _ (by assumption)
  · exact Nat.le_refl _
theorem olEnds_le {X Y : Nat → Int} {ST : Nat → Nat} {np nq : Nat} {px py : Int} : ∀ p, olEnds X Y ST np nq px py p ≤ 2 * p := by
  intro p
  induction p with
  | zero => exact Nat.le_refl _
  | succ p ih =>
    rw [olEnds]
    split
    · have h1 := Bool.toNat_le (ptAt X Y (ST p) px py)
      have h2 := Bool.toNat_le (ptAt X Y (olEnd ST np nq p - 1) px py)
      omega
    · omega
set_option maxHeartbeats 4000000 in
set_option maxRecDepth 100000 in
theorem metX3_init (lG : Launch) (D : va_G) (dA : Nat → ClassId) (h0 : Nat)  : Wr lG yX3_init (ws_ yX3_init cX3_init 1 none) 1 12 D dA [.ref h0] [(h0, .inr (2, [.int (nI 0), .null, .int (nI 0), .null, .null, .int (nI 0)]))] 3 48 (fun (u : Nat × Nat × Nat) => let b1 := u.1; let b2 := u.2.1; let b3 := u.2.2; True) (fun (u : Nat × Nat × Nat) => let b1 := u.1; let b2 := u.2.1; let b3 := u.2.2; none) (fun (u : Nat × Nat × Nat) => let b1 := u.1; let b2 := u.2.1; let b3 := u.2.2; [(h0, .inr (2, [.int (nI 1), .ref b1, .int (nI 0), .ref b2, .ref b3, .int (nI 0)])), (b1, .inl (dA 0, 16, .inl fun j => nI ((fun _ => 0) j))), (b2, .inl (dA 0, 16, .inl fun j => iZ ((fun _ => 0) j))), (b3, .inl (dA 0, 16, .inl fun j => iZ ((fun _ => 0) j)))]) := by
  refine Wr.of (by decide) (Nat.le_of_ble_eq_true rfl) ?_
  intro pG eG sG mG bG tG cG ls A hx hb hr hml hown hts hlocks hnm hP hK hD hS hA hl
  have hK1 := hK.1
  have hown : sG.vm.findClass RX3 = some mG.cls := hown
  have hl : lv_has ls 1 [(0, .ref h0)] := hl
  refine lv_aload_n hx hb dX3_init_0 rfl (lv_at hl 0 rfl) ?_
  refine W.objInit hx hb hown (hts _ q112) (hts _ q98) (hts _ q99) rfl (by rw [hml]; exact hl.1) rfl dX3_init_1 (Nat.le_of_ble_eq_true rfl) (Nat.le_of_ble_eq_true rfl) ?_
  refine W.eq (g2 := F0 mG 4 ls []) rfl ?_
  refine lv_aload_n hx hb dX3_init_4 rfl (lv_at hl 0 rfl) ?_
  refine lv_iconst (v := nI 1) hx hb dX3_init_5 (by decide) ?_
  refine va_put (D := D) (ci := 2) (v := .int (nI 1)) (ty := .int) (C := RX3) (T := TX3) (N := 6) hx hb hts in_X3 tyX3 tyX3_ok nmX3 hown hK.1 hP hD hS 0 rfl rfl 0 (Nat.le_of_ble_eq_true rfl) (hts _ q113) (fun _ h9 => h9) rfl (by decide +kernel) rfl rfl (Nat.le_of_ble_eq_true rfl) dX3_init_6 (fun H locs hP hD hS => ?_)
  have hP : va_P D zCl [(h0, .inr (2, [.int (nI 1), .null, .int (nI 0), .null, .null, .int (nI 0)]))] H := hP
  have hD : va_D A [(h0, .inr (2, [.int (nI 1), .null, .int (nI 0), .null, .null, .int (nI 0)]))] := hD
  refine lv_aload_n hx hb dX3_init_9 rfl (lv_at hl 0 rfl) ?_
  refine lv_bipush (v := nI 16) hx hb dX3_init_10 (by decide) ?_
  refine zy_newa (atype := .int) (k := 0) (ty := .int) (N' := 16) (a0 := (16, .inl fun j => nI ((fun _ => (0 : Nat)) j))) hx hb (hts _ q144) rfl (fun C h => by cases h) rfl hK hP hD hS hA (fun cA => rfl) (by decide) (show 16 * 4 ≤ 536870912 by omega) (show 0 + 1 ≤ 3 by omega) (show 0 + 16 ≤ 48 by omega) dX3_init_12 (fun q_1 H hP hD hS => ?_)
  have hP : va_P D zCl [(h0, .inr (2, [.int (nI 1), .null, .int (nI 0), .null, .null, .int (nI 0)])), (q_1, .inl (dA 0, 16, .inl fun j => nI ((fun _ => (0 : Nat)) j)))] H := hP
  have hD : va_D A [(h0, .inr (2, [.int (nI 1), .null, .int (nI 0), .null, .null, .int (nI 0)])), (q_1, .inl (dA 0, 16, .inl fun j => nI ((fun _ => (0 : Nat)) j)))] := hD
  refine va_put (D := D) (ci := 2) (v := .ref q_1) (ty := .array .int) (C := RX3) (T := TX3) (N := 6) hx hb hts in_X3 tyX3 tyX3_ok nmX3 hown hK.1 hP hD hS 0 rfl rfl 1 (Nat.le_of_ble_eq_true rfl) (hts _ q117) (fun _ h9 => h9) rfl (by decide +kernel) rfl rfl (Nat.le_of_ble_eq_true rfl) dX3_init_14 (fun H locs hP hD hS => ?_)
  have hP : va_P D zCl [(h0, .inr (2, [.int (nI 1), .ref q_1, .int (nI 0), .null, .null, .int (nI 0)])), (q_1, .inl (dA 0, 16, .inl fun j => nI ((fun _ => (0 : Nat)) j)))] H := hP
  have hD : va_D A [(h0, .inr (2, [.int (nI 1), .ref q_1, .int (nI 0), .null, .null, .int (nI 0)])), (q_1, .inl (dA 0, 16, .inl fun j => nI ((fun _ => (0 : Nat)) j)))] := hD
  refine lv_aload_n hx hb dX3_init_17 rfl (lv_at hl 0 rfl) ?_
  refine lv_bipush (v := nI 16) hx hb dX3_init_18 (by decide) ?_
  refine zy_newa (atype := .int) (k := 0) (ty := .int) (N' := 16) (a0 := (16, .inl fun j => iZ ((fun _ => (0 : Int)) j))) hx hb (hts _ q144) rfl (fun C h => by cases h) rfl hK hP hD hS hA (fun cA => rfl) (by decide) (show 16 * 4 ≤ 536870912 by omega) (show 1 + 1 ≤ 3 by omega) (show 16 + 16 ≤ 48 by omega) dX3_init_20 (fun q_2 H hP hD hS => ?_)
  have hP : va_P D zCl [(h0, .inr (2, [.int (nI 1), .ref q_1, .int (nI 0), .null, .null, .int (nI 0)])), (q_1, .inl (dA 0, 16, .inl fun j => nI ((fun _ => (0 : Nat)) j))), (q_2, .inl (dA 0, 16, .inl fun j => iZ ((fun _ => (0 : Int)) j)))] H := hP
  have hD : va_D A [(h0, .inr (2, [.int (nI 1), .ref q_1, .int (nI 0), .null, .null, .int (nI 0)])), (q_1, .inl (dA 0, 16, .inl fun j => nI ((fun _ => (0 : Nat)) j))), (q_2, .inl (dA 0, 16, .inl fun j => iZ ((fun _ => (0 : Int)) j)))] := hD
  refine va_put (D := D) (ci := 2) (v := .ref q_2) (ty := .array .int) (C := RX3) (T := TX3) (N := 6) hx hb hts in_X3 tyX3 tyX3_ok nmX3 hown hK.1 hP hD hS 0 rfl rfl 3 (Nat.le_of_ble_eq_true rfl) (hts _ q122) (fun _ h9 => h9) rfl (by decide +kernel) rfl rfl (Nat.le_of_ble_eq_true rfl) dX3_init_22 (fun H locs hP hD hS => ?_)
  have hP : va_P D zCl [(h0, .inr (2, [.int (nI 1), .ref q_1, .int (nI 0), .ref q_2, .null, .int (nI 0)])), (q_1, .inl (dA 0, 16, .inl fun j => nI ((fun _ => (0 : Nat)) j))), (q_2, .inl (dA 0, 16, .inl fun j => iZ ((fun _ => (0 : Int)) j)))] H := hP
  have hD : va_D A [(h0, .inr (2, [.int (nI 1), .ref q_1, .int (nI 0), .ref q_2, .null, .int (nI 0)])), (q_1, .inl (dA 0, 16, .inl fun j => nI ((fun _ => (0 : Nat)) j))), (q_2, .inl (dA 0, 16, .inl fun j => iZ ((fun _ => (0 : Int)) j)))] := hD
  refine lv_aload_n hx hb dX3_init_25 rfl (lv_at hl 0 rfl) ?_
  refine lv_bipush (v := nI 16) hx hb dX3_init_26 (by decide) ?_
  refine zy_newa (atype := .int) (k := 0) (ty := .int) (N' := 16) (a0 := (16, .inl fun j => iZ ((fun _ => (0 : Int)) j))) hx hb (hts _ q144) rfl (fun C h => by cases h) rfl hK hP hD hS hA (fun cA => rfl) (by decide) (show 16 * 4 ≤ 536870912 by omega) (show 2 + 1 ≤ 3 by omega) (show 32 + 16 ≤ 48 by omega) dX3_init_28 (fun q_3 H hP hD hS => ?_)
  have hP : va_P D zCl [(h0, .inr (2, [.int (nI 1), .ref q_1, .int (nI 0), .ref q_2, .null, .int (nI 0)])), (q_1, .inl (dA 0, 16, .inl fun j => nI ((fun _ => (0 : Nat)) j))), (q_2, .inl (dA 0, 16, .inl fun j => iZ ((fun _ => (0 : Int)) j))), (q_3, .inl (dA 0, 16, .inl fun j => iZ ((fun _ => (0 : Int)) j)))] H := hP
  have hD : va_D A [(h0, .inr (2, [.int (nI 1), .ref q_1, .int (nI 0), .ref q_2, .null, .int (nI 0)])), (q_1, .inl (dA 0, 16, .inl fun j => nI ((fun _ => (0 : Nat)) j))), (q_2, .inl (dA 0, 16, .inl fun j => iZ ((fun _ => (0 : Int)) j))), (q_3, .inl (dA 0, 16, .inl fun j => iZ ((fun _ => (0 : Int)) j)))] := hD
  refine va_put (D := D) (ci := 2) (v := .ref q_3) (ty := .array .int) (C := RX3) (T := TX3) (N := 6) hx hb hts in_X3 tyX3 tyX3_ok nmX3 hown hK.1 hP hD hS 0 rfl rfl 4 (Nat.le_of_ble_eq_true rfl) (hts _ q125) (fun _ h9 => h9) rfl (by decide +kernel) rfl rfl (Nat.le_of_ble_eq_true rfl) dX3_init_30 (fun H locs hP hD hS => ?_)
  have hP : va_P D zCl [(h0, .inr (2, [.int (nI 1), .ref q_1, .int (nI 0), .ref q_2, .ref q_3, .int (nI 0)])), (q_1, .inl (dA 0, 16, .inl fun j => nI ((fun _ => (0 : Nat)) j))), (q_2, .inl (dA 0, 16, .inl fun j => iZ ((fun _ => (0 : Int)) j))), (q_3, .inl (dA 0, 16, .inl fun j => iZ ((fun _ => (0 : Int)) j)))] H := hP
  have hD : va_D A [(h0, .inr (2, [.int (nI 1), .ref q_1, .int (nI 0), .ref q_2, .ref q_3, .int (nI 0)])), (q_1, .inl (dA 0, 16, .inl fun j => nI ((fun _ => (0 : Nat)) j))), (q_2, .inl (dA 0, 16, .inl fun j => iZ ((fun _ => (0 : Int)) j))), (q_3, .inl (dA 0, 16, .inl fun j => iZ ((fun _ => (0 : Int)) j)))] := hD
  exact zr_wrV (u := (q_1, q_2, q_3)) rfl trivial (hP.sub [0, 1, 2, 3] rfl) (hD.sub [0, 1, 2, 3] (by decide) rfl) hS hx hb hr hlocks dX3_init_33
set_option maxHeartbeats 4000000 in
set_option maxRecDepth 100000 in
theorem metX3_begin (lG : Launch) (D : va_G) (dA : Nat → ClassId) (h0 : Nat) (kd : Nat) (c1 : Nat) (np : Nat) (c2 : Nat) (c3 : Nat) (nq : Nat) (ns : Nat) (nx : Nat) (ST : Nat → Nat) (X : Nat → Int) (Y : Nat → Int) (k : Nat)  : Wr lG yX3_begin (ws_ yX3_begin cX3_begin 2 none) 0 0 D dA [.ref h0, .int (nI k)] [(h0, .inr (2, [.int (nI kd), .ref c1, .int (nI np), .ref c2, .ref c3, .int (nI nq)])), (c1, .inl (dA 0, ns, .inl fun j => nI (ST j))), (c2, .inl (dA 0, nx, .inl fun j => iZ (X j))), (c3, .inl (dA 0, nx, .inl fun j => iZ (Y j)))] 0 0 (fun (_u : Unit) => True) (fun (_u : Unit) => none) (fun (_u : Unit) => [(h0, .inr (2, [.int (nI k), .ref c1, .int (nI 0), .ref c2, .ref c3, .int (nI 0)])), (c1, .inl (dA 0, ns, .inl fun j => nI (ST j))), (c2, .inl (dA 0, nx, .inl fun j => iZ (X j))), (c3, .inl (dA 0, nx, .inl fun j => iZ (Y j)))]) := by
  refine Wr.of (by decide) (Nat.le_of_ble_eq_true rfl) ?_
  intro pG eG sG mG bG tG cG ls A hx hb hr hml hown hts hlocks hnm hP hK hD hS hA hl
  have hK1 := hK.1
  have hown : sG.vm.findClass RX3 = some mG.cls := hown
  have hl : lv_has ls 2 [(0, .ref h0), (1, .int (nI k))] := hl
  refine lv_aload_n hx hb dX3_begin_0 rfl (lv_at hl 0 rfl) ?_
  refine lv_iload_n hx hb dX3_begin_1 rfl (lv_at hl 1 rfl) ?_
  refine va_put (D := D) (ci := 2) (v := .int (nI k)) (ty := .int) (C := RX3) (T := TX3) (N := 6) hx hb hts in_X3 tyX3 tyX3_ok nmX3 hown hK.1 hP hD hS 0 rfl rfl 0 (Nat.le_of_ble_eq_true rfl) (hts _ q113) (fun _ h9 => h9) rfl (by decide +kernel) rfl rfl (Nat.le_of_ble_eq_true rfl) dX3_begin_2 (fun H locs hP hD hS => ?_)
  have hP : va_P D zCl [(h0, .inr (2, [.int (nI k), .ref c1, .int (nI np), .ref c2, .ref c3, .int (nI nq)])), (c1, .inl (dA 0, ns, .inl fun j => nI (ST j))), (c2, .inl (dA 0, nx, .inl fun j => iZ (X j))), (c3, .inl (dA 0, nx, .inl fun j => iZ (Y j)))] H := hP
  have hD : va_D A [(h0, .inr (2, [.int (nI k), .ref c1, .int (nI np), .ref c2, .ref c3, .int (nI nq)])), (c1, .inl (dA 0, ns, .inl fun j => nI (ST j))), (c2, .inl (dA 0, nx, .inl fun j => iZ (X j))), (c3, .inl (dA 0, nx, .inl fun j => iZ (Y j)))] := hD
  refine lv_aload_n hx hb dX3_begin_5 rfl (lv_at hl 0 rfl) ?_
  refine lv_iconst (v := nI 0) hx hb dX3_begin_6 (by decide) ?_
  refine va_put (D := D) (ci := 2) (v := .int (nI 0)) (ty := .int) (C := RX3) (T := TX3) (N := 6) hx hb hts in_X3 tyX3 tyX3_ok nmX3 hown hK.1 hP hD hS 0 rfl rfl 2 (Nat.le_of_ble_eq_true rfl) (hts _ q119) (fun _ h9 => h9) rfl (by decide +kernel) rfl rfl (Nat.le_of_ble_eq_true rfl) dX3_begin_7 (fun H locs hP hD hS => ?_)
  have hP : va_P D zCl [(h0, .inr (2, [.int (nI k), .ref c1, .int (nI 0), .ref c2, .ref c3, .int (nI nq)])), (c1, .inl (dA 0, ns, .inl fun j => nI (ST j))), (c2, .inl (dA 0, nx, .inl fun j => iZ (X j))), (c3, .inl (dA 0, nx, .inl fun j => iZ (Y j)))] H := hP
  have hD : va_D A [(h0, .inr (2, [.int (nI k), .ref c1, .int (nI 0), .ref c2, .ref c3, .int (nI nq)])), (c1, .inl (dA 0, ns, .inl fun j => nI (ST j))), (c2, .inl (dA 0, nx, .inl fun j => iZ (X j))), (c3, .inl (dA 0, nx, .inl fun j => iZ (Y j)))] := hD
  refine lv_aload_n hx hb dX3_begin_10 rfl (lv_at hl 0 rfl) ?_
  refine lv_iconst (v := nI 0) hx hb dX3_begin_11 (by decide) ?_
  refine va_put (D := D) (ci := 2) (v := .int (nI 0)) (ty := .int) (C := RX3) (T := TX3) (N := 6) hx hb hts in_X3 tyX3 tyX3_ok nmX3 hown hK.1 hP hD hS 0 rfl rfl 5 (Nat.le_of_ble_eq_true rfl) (hts _ q128) (fun _ h9 => h9) rfl (by decide +kernel) rfl rfl (Nat.le_of_ble_eq_true rfl) dX3_begin_12 (fun H locs hP hD hS => ?_)
  have hP : va_P D zCl [(h0, .inr (2, [.int (nI k), .ref c1, .int (nI 0), .ref c2, .ref c3, .int (nI 0)])), (c1, .inl (dA 0, ns, .inl fun j => nI (ST j))), (c2, .inl (dA 0, nx, .inl fun j => iZ (X j))), (c3, .inl (dA 0, nx, .inl fun j => iZ (Y j)))] H := hP
  have hD : va_D A [(h0, .inr (2, [.int (nI k), .ref c1, .int (nI 0), .ref c2, .ref c3, .int (nI 0)])), (c1, .inl (dA 0, ns, .inl fun j => nI (ST j))), (c2, .inl (dA 0, nx, .inl fun j => iZ (X j))), (c3, .inl (dA 0, nx, .inl fun j => iZ (Y j)))] := hD
  exact zr_wrV (u := ()) rfl trivial (hP.sub [0, 1, 2, 3] rfl) (hD.sub [0, 1, 2, 3] (by decide) rfl) hS hx hb hr hlocks dX3_begin_15
set_option maxHeartbeats 4000000 in
set_option maxRecDepth 100000 in
theorem metX3_part (lG : Launch) (D : va_G) (dA : Nat → ClassId) (h0 : Nat) (kd : Nat) (c1 : Nat) (np : Nat) (c2 : Nat) (c3 : Nat) (nq : Nat) (ns : Nat) (nx : Nat) (ST : Nat → Nat) (X : Nat → Int) (Y : Nat → Int) (hns : 1 ≤ ns) (hns2 : ns ≤ 4096) (hnp : np ≤ ns) : Wr lG yX3_part (ws_ yX3_part cX3_part 1 none) 2 62 D dA [.ref h0] [(h0, .inr (2, [.int (nI kd), .ref c1, .int (nI np), .ref c2, .ref c3, .int (nI nq)])), (c1, .inl (dA 0, ns, .inl fun j => nI (ST j))), (c2, .inl (dA 0, nx, .inl fun j => iZ (X j))), (c3, .inl (dA 0, nx, .inl fun j => iZ (Y j)))] 1 (2 * np) (fun (u : Nat × Nat × (Nat → Nat)) => let b := u.1; let ns2 := u.2.1; let ST2 := u.2.2; np < ns2 ∧ ns2 ≤ max ns (2 * np) ∧ ns ≤ ns2 ∧ (∀ k, k < np → ST2 k = ST k) ∧ ST2 np = nq) (fun (u : Nat × Nat × (Nat → Nat)) => let b := u.1; let ns2 := u.2.1; let ST2 := u.2.2; none) (fun (u : Nat × Nat × (Nat → Nat)) => let b := u.1; let ns2 := u.2.1; let ST2 := u.2.2; [(h0, .inr (2, [.int (nI kd), .ref b, .int (nI (np + 1)), .ref c2, .ref c3, .int (nI nq)])), (b, .inl (dA 0, ns2, .inl fun j => nI (ST2 j))), (c2, .inl (dA 0, nx, .inl fun j => iZ (X j))), (c3, .inl (dA 0, nx, .inl fun j => iZ (Y j)))]) := by
  refine Wr.of (by decide) (Nat.le_of_ble_eq_true rfl) ?_
  intro pG eG sG mG bG tG cG ls A hx hb hr hml hown hts hlocks hnm hP hK hD hS hA hl
  have hK1 := hK.1
  have hown : sG.vm.findClass RX3 = some mG.cls := hown
  have hl : lv_has ls 1 [(0, .ref h0)] := hl
  refine lv_aload_n hx hb dX3_part_0 rfl (lv_at hl 0 rfl) ?_
  refine va_get (D := D) (ci := 2) (v := .int (nI np)) (C := RX3) (T := TX3) (N := 6) hx hb hts in_X3 hown hK.1 hP 0 rfl rfl 2 (Nat.le_of_ble_eq_true rfl) (hts _ q119) (fun _ h9 => h9) rfl dX3_part_1 ?_
  refine lv_aload_n hx hb dX3_part_4 rfl (lv_at hl 0 rfl) ?_
  refine va_get (D := D) (ci := 2) (v := .ref c1) (C := RX3) (T := TX3) (N := 6) hx hb hts in_X3 hown hK.1 hP 0 rfl rfl 1 (Nat.le_of_ble_eq_true rfl) (hts _ q117) (fun _ h9 => h9) rfl dX3_part_5 ?_
  refine va_alen (v := nI ns) hx hb hK.1 hP 1 0 rfl rfl rfl dX3_part_8 ?_
  refine zn_icmp_ne (tgt := 29) hx hb (by omega) (by omega) dX3_part_9 (by decide) (fun c_1 => ?_) (fun c_1 => ?_)
  · skip
    refine lv_aload_n hx hb dX3_part_29 rfl (lv_at hl 0 rfl) ?_
    refine va_get (D := D) (ci := 2) (v := .ref c1) (C := RX3) (T := TX3) (N := 6) hx hb hts in_X3 hown hK.1 hP 0 rfl rfl 1 (Nat.le_of_ble_eq_true rfl) (hts _ q117) (fun _ h9 => h9) rfl dX3_part_30 ?_
    refine lv_aload_n hx hb dX3_part_33 rfl (lv_at hl 0 rfl) ?_
    refine va_get (D := D) (ci := 2) (v := .int (nI np)) (C := RX3) (T := TX3) (N := 6) hx hb hts in_X3 hown hK.1 hP 0 rfl rfl 2 (Nat.le_of_ble_eq_true rfl) (hts _ q119) (fun _ h9 => h9) rfl dX3_part_34 ?_
    refine lv_aload_n hx hb dX3_part_37 rfl (lv_at hl 0 rfl) ?_
    refine va_get (D := D) (ci := 2) (v := .int (nI nq)) (C := RX3) (T := TX3) (N := 6) hx hb hts in_X3 hown hK.1 hP 0 rfl rfl 5 (Nat.le_of_ble_eq_true rfl) (hts _ q128) (fun _ h9 => h9) rfl dX3_part_38 ?_
    refine zn_iastore (f := ST) (i := np) (x := nq) hx hb hK.1 hP hD hS 1 0 rfl rfl (by omega) (by omega) dX3_part_41 (fun H locs hP hD hS => ?_)
    have hP : va_P D zCl [(h0, .inr (2, [.int (nI kd), .ref c1, .int (nI np), .ref c2, .ref c3, .int (nI nq)])), (c1, .inl (dA 0, ns, .inl fun j => nI ((updZ ST np nq) j))), (c2, .inl (dA 0, nx, .inl fun j => iZ (X j))), (c3, .inl (dA 0, nx, .inl fun j => iZ (Y j)))] H := hP
    have hD : va_D A [(h0, .inr (2, [.int (nI kd), .ref c1, .int (nI np), .ref c2, .ref c3, .int (nI nq)])), (c1, .inl (dA 0, ns, .inl fun j => nI ((updZ ST np nq) j))), (c2, .inl (dA 0, nx, .inl fun j => iZ (X j))), (c3, .inl (dA 0, nx, .inl fun j => iZ (Y j)))] := hD
    refine lv_aload_n hx hb dX3_part_42 rfl (lv_at hl 0 rfl) ?_
    refine lv_dup hx hb dX3_part_43 rfl ?_
    refine va_get (D := D) (ci := 2) (v := .int (nI np)) (C := RX3) (T := TX3) (N := 6) hx hb hts in_X3 hown hK.1 hP 0 rfl rfl 2 (Nat.le_of_ble_eq_true rfl) (hts _ q119) (fun _ h9 => h9) rfl dX3_part_44 ?_
    refine lv_iconst (v := nI 1) hx hb dX3_part_47 (by decide) ?_
    refine zn_iadd hx hb dX3_part_48 ?_
    refine va_put (D := D) (ci := 2) (v := .int (nI (np + 1))) (ty := .int) (C := RX3) (T := TX3) (N := 6) hx hb hts in_X3 tyX3 tyX3_ok nmX3 hown hK.1 hP hD hS 0 rfl rfl 2 (Nat.le_of_ble_eq_true rfl) (hts _ q119) (fun _ h9 => h9) rfl (by decide +kernel) rfl rfl (Nat.le_of_ble_eq_true rfl) dX3_part_49 (fun H locs hP hD hS => ?_)
    have hP : va_P D zCl [(h0, .inr (2, [.int (nI kd), .ref c1, .int (nI (np + 1)), .ref c2, .ref c3, .int (nI nq)])), (c1, .inl (dA 0, ns, .inl fun j => nI ((updZ ST np nq) j))), (c2, .inl (dA 0, nx, .inl fun j => iZ (X j))), (c3, .inl (dA 0, nx, .inl fun j => iZ (Y j)))] H := hP
    have hD : va_D A [(h0, .inr (2, [.int (nI kd), .ref c1, .int (nI (np + 1)), .ref c2, .ref c3, .int (nI nq)])), (c1, .inl (dA 0, ns, .inl fun j => nI ((updZ ST np nq) j))), (c2, .inl (dA 0, nx, .inl fun j => iZ (X j))), (c3, .inl (dA 0, nx, .inl fun j => iZ (Y j)))] := hD
    refine W.widen (k := 1) (n := 2 * np) (by omega) (by omega) ?_
    exact zr_wrV (u := (c1, ns, updZ ST np nq)) rfl (show np < ns ∧ ns ≤ max ns (2 * np) ∧ ns ≤ ns ∧ (∀ k, k < np → (updZ ST np nq) k = ST k) ∧ (updZ ST np nq) np = nq from ⟨by omega, by omega, by omega, fun k hk => by first | (rw [updZ_n (by omega)]; done) | (rw [updZ_n (by omega), zcpy_lt (by omega)]), updZ_s⟩) (hP.sub [0, 1, 2, 3] rfl) (hD.sub [0, 1, 2, 3] (by decide) rfl) hS hx hb hr hlocks dX3_part_52
  · skip
    refine lv_aload_n hx hb dX3_part_12 rfl (lv_at hl 0 rfl) ?_
    refine lv_aload_n hx hb dX3_part_13 rfl (lv_at hl 0 rfl) ?_
    refine va_get (D := D) (ci := 2) (v := .ref c1) (C := RX3) (T := TX3) (N := 6) hx hb hts in_X3 hown hK.1 hP 0 rfl rfl 1 (Nat.le_of_ble_eq_true rfl) (hts _ q117) (fun _ h9 => h9) rfl dX3_part_14 ?_
    refine lv_iconst (v := nI 2) hx hb dX3_part_17 (by decide) ?_
    refine lv_aload_n hx hb dX3_part_18 rfl (lv_at hl 0 rfl) ?_
    refine va_get (D := D) (ci := 2) (v := .int (nI np)) (C := RX3) (T := TX3) (N := 6) hx hb hts in_X3 hown hK.1 hP 0 rfl rfl 2 (Nat.le_of_ble_eq_true rfl) (hts _ q119) (fun _ h9 => h9) rfl dX3_part_19 ?_
    refine zn_imul hx hb dX3_part_22 ?_
    refine zc_wrSN (rest := [.ref h0]) (wr := [(h0, .inr (2, [.int (nI kd), .ref c1, .int (nI np), .ref c2, .ref c3, .int (nI nq)])), (c2, .inl (dA 0, nx, .inl fun j => iZ (X j))), (c3, .inl (dA 0, nx, .inl fun j => iZ (Y j)))]) ⟨hx, hb, hml, hown, hts⟩ (metX5_longer_n lG D dA c1 ns ST (2 * np) (by first | assumption | omega) (by first | assumption | omega)) ⟨(va_cnB 2 hts (lw_meth q396) rfl rfl rfl (hK.2.1 _ zq866) (hts _ q75) (by decide +kernel) ⟨Nat.le_of_ble_eq_true rfl, Nat.le_of_ble_eq_true rfl⟩), hts _ q395, trivial⟩ hP hK hD hS hA [1] [0, 2, 3] rfl rfl (by decide) (by decide) (by decide) rfl hl.1 rfl (Nat.le_of_ble_eq_true rfl) dX3_part_23 ⟨show 0 + 1 ≤ 1 by omega, show 0 + ((2 * np)) ≤ (2 * np) by omega⟩ (fun u H locs hp_3 hP hD hS => ?_)
    obtain ⟨qn_2, rfl⟩ : ∃ z, z = u := ⟨_, rfl⟩
    have hP : va_P D zCl [(h0, .inr (2, [.int (nI kd), .ref c1, .int (nI np), .ref c2, .ref c3, .int (nI nq)])), (c2, .inl (dA 0, nx, .inl fun j => iZ (X j))), (c3, .inl (dA 0, nx, .inl fun j => iZ (Y j))), (c1, .inl (dA 0, ns, .inl fun j => nI (ST j))), (qn_2, .inl (dA 0, (2 * np), .inl fun j => nI ((zcpy ST (fun _ => 0) ns) j)))] H := hP
    have hD : va_D A [(h0, .inr (2, [.int (nI kd), .ref c1, .int (nI np), .ref c2, .ref c3, .int (nI nq)])), (c2, .inl (dA 0, nx, .inl fun j => iZ (X j))), (c3, .inl (dA 0, nx, .inl fun j => iZ (Y j))), (c1, .inl (dA 0, ns, .inl fun j => nI (ST j))), (qn_2, .inl (dA 0, (2 * np), .inl fun j => nI ((zcpy ST (fun _ => 0) ns) j)))] := hD
    show W _ _ _ _ _ _ _ _ _ _ _ _ 1 (0 + ((2 * np))) _ (F0 mG 26 ls [.ref qn_2, .ref h0])
    refine va_put (D := D) (ci := 2) (v := .ref qn_2) (ty := .array .int) (C := RX3) (T := TX3) (N := 6) hx hb hts in_X3 tyX3 tyX3_ok nmX3 hown hK.1 hP hD hS 0 rfl rfl 1 (Nat.le_of_ble_eq_true rfl) (hts _ q117) (fun _ h9 => h9) rfl (by decide +kernel) rfl rfl (Nat.le_of_ble_eq_true rfl) dX3_part_26 (fun H locs hP hD hS => ?_)
    have hP : va_P D zCl [(h0, .inr (2, [.int (nI kd), .ref qn_2, .int (nI np), .ref c2, .ref c3, .int (nI nq)])), (c2, .inl (dA 0, nx, .inl fun j => iZ (X j))), (c3, .inl (dA 0, nx, .inl fun j => iZ (Y j))), (c1, .inl (dA 0, ns, .inl fun j => nI (ST j))), (qn_2, .inl (dA 0, (2 * np), .inl fun j => nI ((zcpy ST (fun _ => 0) ns) j)))] H := hP
    have hD : va_D A [(h0, .inr (2, [.int (nI kd), .ref qn_2, .int (nI np), .ref c2, .ref c3, .int (nI nq)])), (c2, .inl (dA 0, nx, .inl fun j => iZ (X j))), (c3, .inl (dA 0, nx, .inl fun j => iZ (Y j))), (c1, .inl (dA 0, ns, .inl fun j => nI (ST j))), (qn_2, .inl (dA 0, (2 * np), .inl fun j => nI ((zcpy ST (fun _ => 0) ns) j)))] := hD
    refine lv_aload_n hx hb dX3_part_29 rfl (lv_at hl 0 rfl) ?_
    refine va_get (D := D) (ci := 2) (v := .ref qn_2) (C := RX3) (T := TX3) (N := 6) hx hb hts in_X3 hown hK.1 hP 0 rfl rfl 1 (Nat.le_of_ble_eq_true rfl) (hts _ q117) (fun _ h9 => h9) rfl dX3_part_30 ?_
    refine lv_aload_n hx hb dX3_part_33 rfl (lv_at hl 0 rfl) ?_
    refine va_get (D := D) (ci := 2) (v := .int (nI np)) (C := RX3) (T := TX3) (N := 6) hx hb hts in_X3 hown hK.1 hP 0 rfl rfl 2 (Nat.le_of_ble_eq_true rfl) (hts _ q119) (fun _ h9 => h9) rfl dX3_part_34 ?_
    refine lv_aload_n hx hb dX3_part_37 rfl (lv_at hl 0 rfl) ?_
    refine va_get (D := D) (ci := 2) (v := .int (nI nq)) (C := RX3) (T := TX3) (N := 6) hx hb hts in_X3 hown hK.1 hP 0 rfl rfl 5 (Nat.le_of_ble_eq_true rfl) (hts _ q128) (fun _ h9 => h9) rfl dX3_part_38 ?_
    refine zn_iastore (f := zcpy ST (fun _ => 0) ns) (i := np) (x := nq) hx hb hK.1 hP hD hS 4 0 rfl rfl (by omega) (by omega) dX3_part_41 (fun H locs hP hD hS => ?_)
    have hP : va_P D zCl [(h0, .inr (2, [.int (nI kd), .ref qn_2, .int (nI np), .ref c2, .ref c3, .int (nI nq)])), (c2, .inl (dA 0, nx, .inl fun j => iZ (X j))), (c3, .inl (dA 0, nx, .inl fun j => iZ (Y j))), (c1, .inl (dA 0, ns, .inl fun j => nI (ST j))), (qn_2, .inl (dA 0, (2 * np), .inl fun j => nI ((updZ (zcpy ST (fun _ => 0) ns) np nq) j)))] H := hP
    have hD : va_D A [(h0, .inr (2, [.int (nI kd), .ref qn_2, .int (nI np), .ref c2, .ref c3, .int (nI nq)])), (c2, .inl (dA 0, nx, .inl fun j => iZ (X j))), (c3, .inl (dA 0, nx, .inl fun j => iZ (Y j))), (c1, .inl (dA 0, ns, .inl fun j => nI (ST j))), (qn_2, .inl (dA 0, (2 * np), .inl fun j => nI ((updZ (zcpy ST (fun _ => 0) ns) np nq) j)))] := hD
    refine lv_aload_n hx hb dX3_part_42 rfl (lv_at hl 0 rfl) ?_
    refine lv_dup hx hb dX3_part_43 rfl ?_
    refine va_get (D := D) (ci := 2) (v := .int (nI np)) (C := RX3) (T := TX3) (N := 6) hx hb hts in_X3 hown hK.1 hP 0 rfl rfl 2 (Nat.le_of_ble_eq_true rfl) (hts _ q119) (fun _ h9 => h9) rfl dX3_part_44 ?_
    refine lv_iconst (v := nI 1) hx hb dX3_part_47 (by decide) ?_
    refine zn_iadd hx hb dX3_part_48 ?_
    refine va_put (D := D) (ci := 2) (v := .int (nI (np + 1))) (ty := .int) (C := RX3) (T := TX3) (N := 6) hx hb hts in_X3 tyX3 tyX3_ok nmX3 hown hK.1 hP hD hS 0 rfl rfl 2 (Nat.le_of_ble_eq_true rfl) (hts _ q119) (fun _ h9 => h9) rfl (by decide +kernel) rfl rfl (Nat.le_of_ble_eq_true rfl) dX3_part_49 (fun H locs hP hD hS => ?_)
    have hP : va_P D zCl [(h0, .inr (2, [.int (nI kd), .ref qn_2, .int (nI (np + 1)), .ref c2, .ref c3, .int (nI nq)])), (c2, .inl (dA 0, nx, .inl fun j => iZ (X j))), (c3, .inl (dA 0, nx, .inl fun j => iZ (Y j))), (c1, .inl (dA 0, ns, .inl fun j => nI (ST j))), (qn_2, .inl (dA 0, (2 * np), .inl fun j => nI ((updZ (zcpy ST (fun _ => 0) ns) np nq) j)))] H := hP
    have hD : va_D A [(h0, .inr (2, [.int (nI kd), .ref qn_2, .int (nI (np + 1)), .ref c2, .ref c3, .int (nI nq)])), (c2, .inl (dA 0, nx, .inl fun j => iZ (X j))), (c3, .inl (dA 0, nx, .inl fun j => iZ (Y j))), (c1, .inl (dA 0, ns, .inl fun j => nI (ST j))), (qn_2, .inl (dA 0, (2 * np), .inl fun j => nI ((updZ (zcpy ST (fun _ => 0) ns) np nq) j)))] := hD
    refine W.widen (k := 1) (n := 2 * np) (by omega) (by omega) ?_
    exact zr_wrV (u := (qn_2, (2 * np), updZ (zcpy ST (fun _ => 0) ns) np nq)) rfl (show np < ((2 * np)) ∧ ((2 * np)) ≤ max ns (2 * np) ∧ ns ≤ ((2 * np)) ∧ (∀ k, k < np → (updZ (zcpy ST (fun _ => 0) ns) np nq) k = ST k) ∧ (updZ (zcpy ST (fun _ => 0) ns) np nq) np = nq from ⟨by omega, by omega, by omega, fun k hk => by first | (rw [updZ_n (by omega)]; done) | (rw [updZ_n (by omega), zcpy_lt (by omega)]), updZ_s⟩) (hP.sub [0, 4, 1, 2] rfl) (hD.sub [0, 4, 1, 2] (by decide) rfl) hS hx hb hr hlocks dX3_part_52
set_option maxHeartbeats 4000000 in
set_option maxRecDepth 100000 in
theorem metX3_point (lG : Launch) (D : va_G) (dA : Nat → ClassId) (h0 : Nat) (kd : Nat) (c1 : Nat) (np : Nat) (c2 : Nat) (c3 : Nat) (nq : Nat) (ns : Nat) (nx : Nat) (ST : Nat → Nat) (X : Nat → Int) (Y : Nat → Int) (px : Int) (py : Int) (hnx : 1 ≤ nx) (hnx2 : nx ≤ 4096) (hnq : nq ≤ nx) : Wr lG yX3_point (ws_ yX3_point cX3_point 3 none) 2 62 D dA [.ref h0, .int (iZ px), .int (iZ py)] [(h0, .inr (2, [.int (nI kd), .ref c1, .int (nI np), .ref c2, .ref c3, .int (nI nq)])), (c1, .inl (dA 0, ns, .inl fun j => nI (ST j))), (c2, .inl (dA 0, nx, .inl fun j => iZ (X j))), (c3, .inl (dA 0, nx, .inl fun j => iZ (Y j)))] 2 (4 * nq) (fun (u : Nat × Nat × Nat × (Nat → Int) × (Nat → Int)) => let b1 := u.1; let b2 := u.2.1; let nx2 := u.2.2.1; let X2 := u.2.2.2.1; let Y2 := u.2.2.2.2; nq < nx2 ∧ nx2 ≤ max nx (2 * nq) ∧ nx ≤ nx2 ∧ (∀ k, k < nq → X2 k = X k ∧ Y2 k = Y k) ∧ X2 nq = px ∧ Y2 nq = py) (fun (u : Nat × Nat × Nat × (Nat → Int) × (Nat → Int)) => let b1 := u.1; let b2 := u.2.1; let nx2 := u.2.2.1; let X2 := u.2.2.2.1; let Y2 := u.2.2.2.2; none) (fun (u : Nat × Nat × Nat × (Nat → Int) × (Nat → Int)) => let b1 := u.1; let b2 := u.2.1; let nx2 := u.2.2.1; let X2 := u.2.2.2.1; let Y2 := u.2.2.2.2; [(h0, .inr (2, [.int (nI kd), .ref c1, .int (nI np), .ref b1, .ref b2, .int (nI (nq + 1))])), (c1, .inl (dA 0, ns, .inl fun j => nI (ST j))), (b1, .inl (dA 0, nx2, .inl fun j => iZ (X2 j))), (b2, .inl (dA 0, nx2, .inl fun j => iZ (Y2 j)))]) := by
  refine Wr.of (by decide) (Nat.le_of_ble_eq_true rfl) ?_
  intro pG eG sG mG bG tG cG ls A hx hb hr hml hown hts hlocks hnm hP hK hD hS hA hl
  have hK1 := hK.1
  have hown : sG.vm.findClass RX3 = some mG.cls := hown
  have hl : lv_has ls 3 [(0, .ref h0), (1, .int (iZ px)), (2, .int (iZ py))] := hl
  refine lv_aload_n hx hb dX3_point_0 rfl (lv_at hl 0 rfl) ?_
  refine va_get (D := D) (ci := 2) (v := .int (nI nq)) (C := RX3) (T := TX3) (N := 6) hx hb hts in_X3 hown hK.1 hP 0 rfl rfl 5 (Nat.le_of_ble_eq_true rfl) (hts _ q128) (fun _ h9 => h9) rfl dX3_point_1 ?_
  refine lv_aload_n hx hb dX3_point_4 rfl (lv_at hl 0 rfl) ?_
  refine va_get (D := D) (ci := 2) (v := .ref c2) (C := RX3) (T := TX3) (N := 6) hx hb hts in_X3 hown hK.1 hP 0 rfl rfl 3 (Nat.le_of_ble_eq_true rfl) (hts _ q122) (fun _ h9 => h9) rfl dX3_point_5 ?_
  refine va_alen (v := nI nx) hx hb hK.1 hP 2 0 rfl rfl rfl dX3_point_8 ?_
  refine zn_icmp_ne (tgt := 46) hx hb (by omega) (by omega) dX3_point_9 (by decide) (fun c_1 => ?_) (fun c_1 => ?_)
  · skip
    refine lv_aload_n hx hb dX3_point_46 rfl (lv_at hl 0 rfl) ?_
    refine va_get (D := D) (ci := 2) (v := .ref c2) (C := RX3) (T := TX3) (N := 6) hx hb hts in_X3 hown hK.1 hP 0 rfl rfl 3 (Nat.le_of_ble_eq_true rfl) (hts _ q122) (fun _ h9 => h9) rfl dX3_point_47 ?_
    refine lv_aload_n hx hb dX3_point_50 rfl (lv_at hl 0 rfl) ?_
    refine va_get (D := D) (ci := 2) (v := .int (nI nq)) (C := RX3) (T := TX3) (N := 6) hx hb hts in_X3 hown hK.1 hP 0 rfl rfl 5 (Nat.le_of_ble_eq_true rfl) (hts _ q128) (fun _ h9 => h9) rfl dX3_point_51 ?_
    refine lv_iload_n hx hb dX3_point_54 rfl (lv_at hl 1 rfl) ?_
    refine zz_iastore (f := X) (i := nq) (x := px) hx hb hK.1 hP hD hS 2 0 rfl rfl (by omega) (by omega) dX3_point_55 (fun H locs hP hD hS => ?_)
    have hP : va_P D zCl [(h0, .inr (2, [.int (nI kd), .ref c1, .int (nI np), .ref c2, .ref c3, .int (nI nq)])), (c1, .inl (dA 0, ns, .inl fun j => nI (ST j))), (c2, .inl (dA 0, nx, .inl fun j => iZ ((updZ X nq px) j))), (c3, .inl (dA 0, nx, .inl fun j => iZ (Y j)))] H := hP
    have hD : va_D A [(h0, .inr (2, [.int (nI kd), .ref c1, .int (nI np), .ref c2, .ref c3, .int (nI nq)])), (c1, .inl (dA 0, ns, .inl fun j => nI (ST j))), (c2, .inl (dA 0, nx, .inl fun j => iZ ((updZ X nq px) j))), (c3, .inl (dA 0, nx, .inl fun j => iZ (Y j)))] := hD
    refine lv_aload_n hx hb dX3_point_56 rfl (lv_at hl 0 rfl) ?_
    refine va_get (D := D) (ci := 2) (v := .ref c3) (C := RX3) (T := TX3) (N := 6) hx hb hts in_X3 hown hK.1 hP 0 rfl rfl 4 (Nat.le_of_ble_eq_true rfl) (hts _ q125) (fun _ h9 => h9) rfl dX3_point_57 ?_
    refine lv_aload_n hx hb dX3_point_60 rfl (lv_at hl 0 rfl) ?_
    refine va_get (D := D) (ci := 2) (v := .int (nI nq)) (C := RX3) (T := TX3) (N := 6) hx hb hts in_X3 hown hK.1 hP 0 rfl rfl 5 (Nat.le_of_ble_eq_true rfl) (hts _ q128) (fun _ h9 => h9) rfl dX3_point_61 ?_
    refine lv_iload_n hx hb dX3_point_64 rfl (lv_at hl 2 rfl) ?_
    refine zz_iastore (f := Y) (i := nq) (x := py) hx hb hK.1 hP hD hS 3 0 rfl rfl (by omega) (by omega) dX3_point_65 (fun H locs hP hD hS => ?_)
    have hP : va_P D zCl [(h0, .inr (2, [.int (nI kd), .ref c1, .int (nI np), .ref c2, .ref c3, .int (nI nq)])), (c1, .inl (dA 0, ns, .inl fun j => nI (ST j))), (c2, .inl (dA 0, nx, .inl fun j => iZ ((updZ X nq px) j))), (c3, .inl (dA 0, nx, .inl fun j => iZ ((updZ Y nq py) j)))] H := hP
    have hD : va_D A [(h0, .inr (2, [.int (nI kd), .ref c1, .int (nI np), .ref c2, .ref c3, .int (nI nq)])), (c1, .inl (dA 0, ns, .inl fun j => nI (ST j))), (c2, .inl (dA 0, nx, .inl fun j => iZ ((updZ X nq px) j))), (c3, .inl (dA 0, nx, .inl fun j => iZ ((updZ Y nq py) j)))] := hD
    refine lv_aload_n hx hb dX3_point_66 rfl (lv_at hl 0 rfl) ?_
    refine lv_dup hx hb dX3_point_67 rfl ?_
    refine va_get (D := D) (ci := 2) (v := .int (nI nq)) (C := RX3) (T := TX3) (N := 6) hx hb hts in_X3 hown hK.1 hP 0 rfl rfl 5 (Nat.le_of_ble_eq_true rfl) (hts _ q128) (fun _ h9 => h9) rfl dX3_point_68 ?_
    refine lv_iconst (v := nI 1) hx hb dX3_point_71 (by decide) ?_
    refine zn_iadd hx hb dX3_point_72 ?_
    refine va_put (D := D) (ci := 2) (v := .int (nI (nq + 1))) (ty := .int) (C := RX3) (T := TX3) (N := 6) hx hb hts in_X3 tyX3 tyX3_ok nmX3 hown hK.1 hP hD hS 0 rfl rfl 5 (Nat.le_of_ble_eq_true rfl) (hts _ q128) (fun _ h9 => h9) rfl (by decide +kernel) rfl rfl (Nat.le_of_ble_eq_true rfl) dX3_point_73 (fun H locs hP hD hS => ?_)
    have hP : va_P D zCl [(h0, .inr (2, [.int (nI kd), .ref c1, .int (nI np), .ref c2, .ref c3, .int (nI (nq + 1))])), (c1, .inl (dA 0, ns, .inl fun j => nI (ST j))), (c2, .inl (dA 0, nx, .inl fun j => iZ ((updZ X nq px) j))), (c3, .inl (dA 0, nx, .inl fun j => iZ ((updZ Y nq py) j)))] H := hP
    have hD : va_D A [(h0, .inr (2, [.int (nI kd), .ref c1, .int (nI np), .ref c2, .ref c3, .int (nI (nq + 1))])), (c1, .inl (dA 0, ns, .inl fun j => nI (ST j))), (c2, .inl (dA 0, nx, .inl fun j => iZ ((updZ X nq px) j))), (c3, .inl (dA 0, nx, .inl fun j => iZ ((updZ Y nq py) j)))] := hD
    refine W.widen (k := 2) (n := 4 * nq) (by omega) (by omega) ?_
    exact zr_wrV (u := (c2, c3, nx, updZ X nq px, updZ Y nq py)) rfl (show nq < nx ∧ nx ≤ max nx (2 * nq) ∧ nx ≤ nx ∧ (∀ k, k < nq → (updZ X nq px) k = X k ∧ (updZ Y nq py) k = Y k) ∧ (updZ X nq px) nq = px ∧ (updZ Y nq py) nq = py from ⟨by omega, by omega, by omega, fun k hk => by first | (rw [updZ_n (by omega), updZ_n (by omega)]; exact ⟨rfl, rfl⟩) | (rw [updZ_n (by omega), updZ_n (by omega), zcpy_lt (by omega), zcpy_lt (by omega)]; exact ⟨rfl, rfl⟩), updZ_s, updZ_s⟩) (hP.sub [0, 1, 2, 3] rfl) (hD.sub [0, 1, 2, 3] (by decide) rfl) hS hx hb hr hlocks dX3_point_76
  · skip
    refine lv_aload_n hx hb dX3_point_12 rfl (lv_at hl 0 rfl) ?_
    refine lv_aload_n hx hb dX3_point_13 rfl (lv_at hl 0 rfl) ?_
    refine va_get (D := D) (ci := 2) (v := .ref c2) (C := RX3) (T := TX3) (N := 6) hx hb hts in_X3 hown hK.1 hP 0 rfl rfl 3 (Nat.le_of_ble_eq_true rfl) (hts _ q122) (fun _ h9 => h9) rfl dX3_point_14 ?_
    refine lv_iconst (v := nI 2) hx hb dX3_point_17 (by decide) ?_
    refine lv_aload_n hx hb dX3_point_18 rfl (lv_at hl 0 rfl) ?_
    refine va_get (D := D) (ci := 2) (v := .int (nI nq)) (C := RX3) (T := TX3) (N := 6) hx hb hts in_X3 hown hK.1 hP 0 rfl rfl 5 (Nat.le_of_ble_eq_true rfl) (hts _ q128) (fun _ h9 => h9) rfl dX3_point_19 ?_
    refine zn_imul hx hb dX3_point_22 ?_
    refine zc_wrSN (rest := [.ref h0]) (wr := [(h0, .inr (2, [.int (nI kd), .ref c1, .int (nI np), .ref c2, .ref c3, .int (nI nq)])), (c1, .inl (dA 0, ns, .inl fun j => nI (ST j))), (c3, .inl (dA 0, nx, .inl fun j => iZ (Y j)))]) ⟨hx, hb, hml, hown, hts⟩ (metX5_longer_z lG D dA c2 nx X (2 * nq) (by first | assumption | omega) (by first | assumption | omega)) ⟨(va_cnB 2 hts (lw_meth q396) rfl rfl rfl (hK.2.1 _ zq866) (hts _ q75) (by decide +kernel) ⟨Nat.le_of_ble_eq_true rfl, Nat.le_of_ble_eq_true rfl⟩), hts _ q395, trivial⟩ hP hK hD hS hA [2] [0, 1, 3] rfl rfl (by decide) (by decide) (by decide) rfl hl.1 rfl (Nat.le_of_ble_eq_true rfl) dX3_point_23 ⟨show 0 + 1 ≤ 2 by omega, show 0 + ((2 * nq)) ≤ (4 * nq) by omega⟩ (fun u H locs hp_3 hP hD hS => ?_)
    obtain ⟨qn_2, rfl⟩ : ∃ z, z = u := ⟨_, rfl⟩
    have hP : va_P D zCl [(h0, .inr (2, [.int (nI kd), .ref c1, .int (nI np), .ref c2, .ref c3, .int (nI nq)])), (c1, .inl (dA 0, ns, .inl fun j => nI (ST j))), (c3, .inl (dA 0, nx, .inl fun j => iZ (Y j))), (c2, .inl (dA 0, nx, .inl fun j => iZ (X j))), (qn_2, .inl (dA 0, (2 * nq), .inl fun j => iZ ((zcpy X (fun _ => 0) nx) j)))] H := hP
    have hD : va_D A [(h0, .inr (2, [.int (nI kd), .ref c1, .int (nI np), .ref c2, .ref c3, .int (nI nq)])), (c1, .inl (dA 0, ns, .inl fun j => nI (ST j))), (c3, .inl (dA 0, nx, .inl fun j => iZ (Y j))), (c2, .inl (dA 0, nx, .inl fun j => iZ (X j))), (qn_2, .inl (dA 0, (2 * nq), .inl fun j => iZ ((zcpy X (fun _ => 0) nx) j)))] := hD
    show W _ _ _ _ _ _ _ _ _ _ _ _ 1 (0 + ((2 * nq))) _ (F0 mG 26 ls [.ref qn_2, .ref h0])
    refine va_put (D := D) (ci := 2) (v := .ref qn_2) (ty := .array .int) (C := RX3) (T := TX3) (N := 6) hx hb hts in_X3 tyX3 tyX3_ok nmX3 hown hK.1 hP hD hS 0 rfl rfl 3 (Nat.le_of_ble_eq_true rfl) (hts _ q122) (fun _ h9 => h9) rfl (by decide +kernel) rfl rfl (Nat.le_of_ble_eq_true rfl) dX3_point_26 (fun H locs hP hD hS => ?_)
    have hP : va_P D zCl [(h0, .inr (2, [.int (nI kd), .ref c1, .int (nI np), .ref qn_2, .ref c3, .int (nI nq)])), (c1, .inl (dA 0, ns, .inl fun j => nI (ST j))), (c3, .inl (dA 0, nx, .inl fun j => iZ (Y j))), (c2, .inl (dA 0, nx, .inl fun j => iZ (X j))), (qn_2, .inl (dA 0, (2 * nq), .inl fun j => iZ ((zcpy X (fun _ => 0) nx) j)))] H := hP
    have hD : va_D A [(h0, .inr (2, [.int (nI kd), .ref c1, .int (nI np), .ref qn_2, .ref c3, .int (nI nq)])), (c1, .inl (dA 0, ns, .inl fun j => nI (ST j))), (c3, .inl (dA 0, nx, .inl fun j => iZ (Y j))), (c2, .inl (dA 0, nx, .inl fun j => iZ (X j))), (qn_2, .inl (dA 0, (2 * nq), .inl fun j => iZ ((zcpy X (fun _ => 0) nx) j)))] := hD
    refine lv_aload_n hx hb dX3_point_29 rfl (lv_at hl 0 rfl) ?_
    refine lv_aload_n hx hb dX3_point_30 rfl (lv_at hl 0 rfl) ?_
    refine va_get (D := D) (ci := 2) (v := .ref c3) (C := RX3) (T := TX3) (N := 6) hx hb hts in_X3 hown hK.1 hP 0 rfl rfl 4 (Nat.le_of_ble_eq_true rfl) (hts _ q125) (fun _ h9 => h9) rfl dX3_point_31 ?_
    refine lv_iconst (v := nI 2) hx hb dX3_point_34 (by decide) ?_
    refine lv_aload_n hx hb dX3_point_35 rfl (lv_at hl 0 rfl) ?_
    refine va_get (D := D) (ci := 2) (v := .int (nI nq)) (C := RX3) (T := TX3) (N := 6) hx hb hts in_X3 hown hK.1 hP 0 rfl rfl 5 (Nat.le_of_ble_eq_true rfl) (hts _ q128) (fun _ h9 => h9) rfl dX3_point_36 ?_
    refine zn_imul hx hb dX3_point_39 ?_
    refine zc_wrSN (rest := [.ref h0]) (wr := [(h0, .inr (2, [.int (nI kd), .ref c1, .int (nI np), .ref qn_2, .ref c3, .int (nI nq)])), (c1, .inl (dA 0, ns, .inl fun j => nI (ST j))), (c2, .inl (dA 0, nx, .inl fun j => iZ (X j))), (qn_2, .inl (dA 0, (2 * nq), .inl fun j => iZ ((zcpy X (fun _ => 0) nx) j)))]) ⟨hx, hb, hml, hown, hts⟩ (metX5_longer_z lG D dA c3 nx Y (2 * nq) (by first | assumption | omega) (by first | assumption | omega)) ⟨(va_cnB 2 hts (lw_meth q396) rfl rfl rfl (hK.2.1 _ zq866) (hts _ q75) (by decide +kernel) ⟨Nat.le_of_ble_eq_true rfl, Nat.le_of_ble_eq_true rfl⟩), hts _ q395, trivial⟩ hP hK hD hS hA [2] [0, 1, 3, 4] rfl rfl (by decide) (by decide) (by decide) rfl hl.1 rfl (Nat.le_of_ble_eq_true rfl) dX3_point_40 ⟨show 1 + 1 ≤ 2 by omega, show (0 + ((2 * nq))) + ((2 * nq)) ≤ (4 * nq) by omega⟩ (fun u H locs hp_5 hP hD hS => ?_)
    obtain ⟨qn_4, rfl⟩ : ∃ z, z = u := ⟨_, rfl⟩
    have hP : va_P D zCl [(h0, .inr (2, [.int (nI kd), .ref c1, .int (nI np), .ref qn_2, .ref c3, .int (nI nq)])), (c1, .inl (dA 0, ns, .inl fun j => nI (ST j))), (c2, .inl (dA 0, nx, .inl fun j => iZ (X j))), (qn_2, .inl (dA 0, (2 * nq), .inl fun j => iZ ((zcpy X (fun _ => 0) nx) j))), (c3, .inl (dA 0, nx, .inl fun j => iZ (Y j))), (qn_4, .inl (dA 0, (2 * nq), .inl fun j => iZ ((zcpy Y (fun _ => 0) nx) j)))] H := hP
    have hD : va_D A [(h0, .inr (2, [.int (nI kd), .ref c1, .int (nI np), .ref qn_2, .ref c3, .int (nI nq)])), (c1, .inl (dA 0, ns, .inl fun j => nI (ST j))), (c2, .inl (dA 0, nx, .inl fun j => iZ (X j))), (qn_2, .inl (dA 0, (2 * nq), .inl fun j => iZ ((zcpy X (fun _ => 0) nx) j))), (c3, .inl (dA 0, nx, .inl fun j => iZ (Y j))), (qn_4, .inl (dA 0, (2 * nq), .inl fun j => iZ ((zcpy Y (fun _ => 0) nx) j)))] := hD
    show W _ _ _ _ _ _ _ _ _ _ _ _ 2 ((0 + ((2 * nq))) + ((2 * nq))) _ (F0 mG 43 ls [.ref qn_4, .ref h0])
    refine va_put (D := D) (ci := 2) (v := .ref qn_4) (ty := .array .int) (C := RX3) (T := TX3) (N := 6) hx hb hts in_X3 tyX3 tyX3_ok nmX3 hown hK.1 hP hD hS 0 rfl rfl 4 (Nat.le_of_ble_eq_true rfl) (hts _ q125) (fun _ h9 => h9) rfl (by decide +kernel) rfl rfl (Nat.le_of_ble_eq_true rfl) dX3_point_43 (fun H locs hP hD hS => ?_)
    have hP : va_P D zCl [(h0, .inr (2, [.int (nI kd), .ref c1, .int (nI np), .ref qn_2, .ref qn_4, .int (nI nq)])), (c1, .inl (dA 0, ns, .inl fun j => nI (ST j))), (c2, .inl (dA 0, nx, .inl fun j => iZ (X j))), (qn_2, .inl (dA 0, (2 * nq), .inl fun j => iZ ((zcpy X (fun _ => 0) nx) j))), (c3, .inl (dA 0, nx, .inl fun j => iZ (Y j))), (qn_4, .inl (dA 0, (2 * nq), .inl fun j => iZ ((zcpy Y (fun _ => 0) nx) j)))] H := hP
    have hD : va_D A [(h0, .inr (2, [.int (nI kd), .ref c1, .int (nI np), .ref qn_2, .ref qn_4, .int (nI nq)])), (c1, .inl (dA 0, ns, .inl fun j => nI (ST j))), (c2, .inl (dA 0, nx, .inl fun j => iZ (X j))), (qn_2, .inl (dA 0, (2 * nq), .inl fun j => iZ ((zcpy X (fun _ => 0) nx) j))), (c3, .inl (dA 0, nx, .inl fun j => iZ (Y j))), (qn_4, .inl (dA 0, (2 * nq), .inl fun j => iZ ((zcpy Y (fun _ => 0) nx) j)))] := hD
    refine lv_aload_n hx hb dX3_point_46 rfl (lv_at hl 0 rfl) ?_
    refine va_get (D := D) (ci := 2) (v := .ref qn_2) (C := RX3) (T := TX3) (N := 6) hx hb hts in_X3 hown hK.1 hP 0 rfl rfl 3 (Nat.le_of_ble_eq_true rfl) (hts _ q122) (fun _ h9 => h9) rfl dX3_point_47 ?_
    refine lv_aload_n hx hb dX3_point_50 rfl (lv_at hl 0 rfl) ?_
    refine va_get (D := D) (ci := 2) (v := .int (nI nq)) (C := RX3) (T := TX3) (N := 6) hx hb hts in_X3 hown hK.1 hP 0 rfl rfl 5 (Nat.le_of_ble_eq_true rfl) (hts _ q128) (fun _ h9 => h9) rfl dX3_point_51 ?_
    refine lv_iload_n hx hb dX3_point_54 rfl (lv_at hl 1 rfl) ?_
    refine zz_iastore (f := zcpy X (fun _ => 0) nx) (i := nq) (x := px) hx hb hK.1 hP hD hS 3 0 rfl rfl (by omega) (by omega) dX3_point_55 (fun H locs hP hD hS => ?_)
    have hP : va_P D zCl [(h0, .inr (2, [.int (nI kd), .ref c1, .int (nI np), .ref qn_2, .ref qn_4, .int (nI nq)])), (c1, .inl (dA 0, ns, .inl fun j => nI (ST j))), (c2, .inl (dA 0, nx, .inl fun j => iZ (X j))), (qn_2, .inl (dA 0, (2 * nq), .inl fun j => iZ ((updZ (zcpy X (fun _ => 0) nx) nq px) j))), (c3, .inl (dA 0, nx, .inl fun j => iZ (Y j))), (qn_4, .inl (dA 0, (2 * nq), .inl fun j => iZ ((zcpy Y (fun _ => 0) nx) j)))] H := hP
    have hD : va_D A [(h0, .inr (2, [.int (nI kd), .ref c1, .int (nI np), .ref qn_2, .ref qn_4, .int (nI nq)])), (c1, .inl (dA 0, ns, .inl fun j => nI (ST j))), (c2, .inl (dA 0, nx, .inl fun j => iZ (X j))), (qn_2, .inl (dA 0, (2 * nq), .inl fun j => iZ ((updZ (zcpy X (fun _ => 0) nx) nq px) j))), (c3, .inl (dA 0, nx, .inl fun j => iZ (Y j))), (qn_4, .inl (dA 0, (2 * nq), .inl fun j => iZ ((zcpy Y (fun _ => 0) nx) j)))] := hD
    refine lv_aload_n hx hb dX3_point_56 rfl (lv_at hl 0 rfl) ?_
    refine va_get (D := D) (ci := 2) (v := .ref qn_4) (C := RX3) (T := TX3) (N := 6) hx hb hts in_X3 hown hK.1 hP 0 rfl rfl 4 (Nat.le_of_ble_eq_true rfl) (hts _ q125) (fun _ h9 => h9) rfl dX3_point_57 ?_
    refine lv_aload_n hx hb dX3_point_60 rfl (lv_at hl 0 rfl) ?_
    refine va_get (D := D) (ci := 2) (v := .int (nI nq)) (C := RX3) (T := TX3) (N := 6) hx hb hts in_X3 hown hK.1 hP 0 rfl rfl 5 (Nat.le_of_ble_eq_true rfl) (hts _ q128) (fun _ h9 => h9) rfl dX3_point_61 ?_
    refine lv_iload_n hx hb dX3_point_64 rfl (lv_at hl 2 rfl) ?_
    refine zz_iastore (f := zcpy Y (fun _ => 0) nx) (i := nq) (x := py) hx hb hK.1 hP hD hS 5 0 rfl rfl (by omega) (by omega) dX3_point_65 (fun H locs hP hD hS => ?_)
    have hP : va_P D zCl [(h0, .inr (2, [.int (nI kd), .ref c1, .int (nI np), .ref qn_2, .ref qn_4, .int (nI nq)])), (c1, .inl (dA 0, ns, .inl fun j => nI (ST j))), (c2, .inl (dA 0, nx, .inl fun j => iZ (X j))), (qn_2, .inl (dA 0, (2 * nq), .inl fun j => iZ ((updZ (zcpy X (fun _ => 0) nx) nq px) j))), (c3, .inl (dA 0, nx, .inl fun j => iZ (Y j))), (qn_4, .inl (dA 0, (2 * nq), .inl fun j => iZ ((updZ (zcpy Y (fun _ => 0) nx) nq py) j)))] H := hP
    have hD : va_D A [(h0, .inr (2, [.int (nI kd), .ref c1, .int (nI np), .ref qn_2, .ref qn_4, .int (nI nq)])), (c1, .inl (dA 0, ns, .inl fun j => nI (ST j))), (c2, .inl (dA 0, nx, .inl fun j => iZ (X j))), (qn_2, .inl (dA 0, (2 * nq), .inl fun j => iZ ((updZ (zcpy X (fun _ => 0) nx) nq px) j))), (c3, .inl (dA 0, nx, .inl fun j => iZ (Y j))), (qn_4, .inl (dA 0, (2 * nq), .inl fun j => iZ ((updZ (zcpy Y (fun _ => 0) nx) nq py) j)))] := hD
    refine lv_aload_n hx hb dX3_point_66 rfl (lv_at hl 0 rfl) ?_
    refine lv_dup hx hb dX3_point_67 rfl ?_
    refine va_get (D := D) (ci := 2) (v := .int (nI nq)) (C := RX3) (T := TX3) (N := 6) hx hb hts in_X3 hown hK.1 hP 0 rfl rfl 5 (Nat.le_of_ble_eq_true rfl) (hts _ q128) (fun _ h9 => h9) rfl dX3_point_68 ?_
    refine lv_iconst (v := nI 1) hx hb dX3_point_71 (by decide) ?_
    refine zn_iadd hx hb dX3_point_72 ?_
    refine va_put (D := D) (ci := 2) (v := .int (nI (nq + 1))) (ty := .int) (C := RX3) (T := TX3) (N := 6) hx hb hts in_X3 tyX3 tyX3_ok nmX3 hown hK.1 hP hD hS 0 rfl rfl 5 (Nat.le_of_ble_eq_true rfl) (hts _ q128) (fun _ h9 => h9) rfl (by decide +kernel) rfl rfl (Nat.le_of_ble_eq_true rfl) dX3_point_73 (fun H locs hP hD hS => ?_)
    have hP : va_P D zCl [(h0, .inr (2, [.int (nI kd), .ref c1, .int (nI np), .ref qn_2, .ref qn_4, .int (nI (nq + 1))])), (c1, .inl (dA 0, ns, .inl fun j => nI (ST j))), (c2, .inl (dA 0, nx, .inl fun j => iZ (X j))), (qn_2, .inl (dA 0, (2 * nq), .inl fun j => iZ ((updZ (zcpy X (fun _ => 0) nx) nq px) j))), (c3, .inl (dA 0, nx, .inl fun j => iZ (Y j))), (qn_4, .inl (dA 0, (2 * nq), .inl fun j => iZ ((updZ (zcpy Y (fun _ => 0) nx) nq py) j)))] H := hP
    have hD : va_D A [(h0, .inr (2, [.int (nI kd), .ref c1, .int (nI np), .ref qn_2, .ref qn_4, .int (nI (nq + 1))])), (c1, .inl (dA 0, ns, .inl fun j => nI (ST j))), (c2, .inl (dA 0, nx, .inl fun j => iZ (X j))), (qn_2, .inl (dA 0, (2 * nq), .inl fun j => iZ ((updZ (zcpy X (fun _ => 0) nx) nq px) j))), (c3, .inl (dA 0, nx, .inl fun j => iZ (Y j))), (qn_4, .inl (dA 0, (2 * nq), .inl fun j => iZ ((updZ (zcpy Y (fun _ => 0) nx) nq py) j)))] := hD
    refine W.widen (k := 2) (n := 4 * nq) (by omega) (by omega) ?_
    exact zr_wrV (u := (qn_2, qn_4, (2 * nq), updZ (zcpy X (fun _ => 0) nx) nq px, updZ (zcpy Y (fun _ => 0) nx) nq py)) rfl (show nq < ((2 * nq)) ∧ ((2 * nq)) ≤ max nx (2 * nq) ∧ nx ≤ ((2 * nq)) ∧ (∀ k, k < nq → (updZ (zcpy X (fun _ => 0) nx) nq px) k = X k ∧ (updZ (zcpy Y (fun _ => 0) nx) nq py) k = Y k) ∧ (updZ (zcpy X (fun _ => 0) nx) nq px) nq = px ∧ (updZ (zcpy Y (fun _ => 0) nx) nq py) nq = py from ⟨by omega, by omega, by omega, fun k hk => by first | (rw [updZ_n (by omega), updZ_n (by omega)]; exact ⟨rfl, rfl⟩) | (rw [updZ_n (by omega), updZ_n (by omega), zcpy_lt (by omega), zcpy_lt (by omega)]; exact ⟨rfl, rfl⟩), updZ_s, updZ_s⟩) (hP.sub [0, 1, 3, 5] rfl) (hD.sub [0, 1, 3, 5] (by decide) rfl) hS hx hb hr hlocks dX3_point_76
set_option maxHeartbeats 4000000 in
set_option maxRecDepth 100000 in
theorem metX3_end (lG : Launch) (D : va_G) (dA : Nat → ClassId) (h0 : Nat) (kd : Nat) (c1 : Nat) (np : Nat) (c2 : Nat) (c3 : Nat) (nq : Nat) (ns : Nat) (nx : Nat) (ST : Nat → Nat) (X : Nat → Int) (Y : Nat → Int) (p : Nat) (hns2 : ns ≤ 4096) (hnp : np ≤ ns) (hp : p < 4096) : Ro lG yX3_end (ws_ yX3_end cX3_end 2 (some .int)) 0 0 D dA [.ref h0, .int (nI p)] [(h0, .inr (2, [.int (nI kd), .ref c1, .int (nI np), .ref c2, .ref c3, .int (nI nq)])), (c1, .inl (dA 0, ns, .inl fun j => nI (ST j))), (c2, .inl (dA 0, nx, .inl fun j => iZ (X j))), (c3, .inl (dA 0, nx, .inl fun j => iZ (Y j)))] (some (.int (nI (olEnd ST np nq p)))) := by
  refine Ro.of (by decide) (Nat.le_of_ble_eq_true rfl) ?_
  intro pG eG sG mG bG tG cG ls hx hb hr hml hown hts hlocks hP hK hl
  have hown : sG.vm.findClass RX3 = some mG.cls := hown
  have hl : lv_has ls 2 [(0, .ref h0), (1, .int (nI p))] := hl
  refine lv_iload_n hx hb dX3_end_0 rfl (lv_at hl 1 rfl) ?_
  refine lv_iconst (v := nI 1) hx hb dX3_end_1 (by decide) ?_
  refine zn_iadd hx hb dX3_end_2 ?_
  refine lv_aload_n hx hb dX3_end_3 rfl (lv_at hl 0 rfl) ?_
  refine va_get (D := D) (ci := 2) (v := .int (nI np)) (C := RX3) (T := TX3) (N := 6) hx hb hts in_X3 hown hK.1 hP 0 rfl rfl 2 (Nat.le_of_ble_eq_true rfl) (hts _ q119) (fun _ h9 => h9) rfl dX3_end_4 ?_
  refine zn_icmp_ge (tgt := 21) hx hb (by omega) (by omega) dX3_end_7 (by decide) (fun c_1 => ?_) (fun c_1 => ?_)
  · skip
    refine lv_aload_n hx hb dX3_end_21 rfl (lv_at hl 0 rfl) ?_
    refine va_get (D := D) (ci := 2) (v := .int (nI nq)) (C := RX3) (T := TX3) (N := 6) hx hb hts in_X3 hown hK.1 hP 0 rfl rfl 5 (Nat.le_of_ble_eq_true rfl) (hts _ q128) (fun _ h9 => h9) rfl dX3_end_22 ?_
    exact zr_roI (by unfold olEnd; first | rw [if_pos (by omega)] | rw [if_neg (by omega)]) hx hb hr hlocks dX3_end_25
  · skip
    refine lv_aload_n hx hb dX3_end_10 rfl (lv_at hl 0 rfl) ?_
    refine va_get (D := D) (ci := 2) (v := .ref c1) (C := RX3) (T := TX3) (N := 6) hx hb hts in_X3 hown hK.1 hP 0 rfl rfl 1 (Nat.le_of_ble_eq_true rfl) (hts _ q117) (fun _ h9 => h9) rfl dX3_end_11 ?_
    refine lv_iload_n hx hb dX3_end_14 rfl (lv_at hl 1 rfl) ?_
    refine lv_iconst (v := nI 1) hx hb dX3_end_15 (by decide) ?_
    refine zn_iadd hx hb dX3_end_16 ?_
    refine zn_iaload (f := ST) (i := p + 1) hx hb hK.1 hP 1 0 rfl rfl (by omega) (by omega) dX3_end_17 ?_
    refine lv_goto (tgt := 25) hx hb dX3_end_18 (by decide) ?_
    exact zr_roI (by unfold olEnd; first | rw [if_pos (by omega)] | rw [if_neg (by omega)]) hx hb hr hlocks dX3_end_25
set_option maxHeartbeats 4000000 in
set_option maxRecDepth 100000 in
theorem metX3_isAt (lG : Launch) (D : va_G) (dA : Nat → ClassId) (h0 : Nat) (kd : Nat) (c1 : Nat) (np : Nat) (c2 : Nat) (c3 : Nat) (nq : Nat) (ns : Nat) (nx : Nat) (ST : Nat → Nat) (X : Nat → Int) (Y : Nat → Int) (k : Nat) (px : Int) (py : Int) (hk : k < nx) (hnx2 : nx ≤ 4096) (hX : cB (X k)) (hY : cB (Y k)) (hpx : cB px) (hpy : cB py) : Ro lG yX3_isAt (ws_ yX3_isAt cX3_isAt 4 (some .boolean)) 0 0 D dA [.ref h0, .int (nI k), .int (iZ px), .int (iZ py)] [(h0, .inr (2, [.int (nI kd), .ref c1, .int (nI np), .ref c2, .ref c3, .int (nI nq)])), (c1, .inl (dA 0, ns, .inl fun j => nI (ST j))), (c2, .inl (dA 0, nx, .inl fun j => iZ (X j))), (c3, .inl (dA 0, nx, .inl fun j => iZ (Y j)))] (some (.int (bI (ptAt X Y k px py)))) := by
  refine Ro.of (by decide) (Nat.le_of_ble_eq_true rfl) ?_
  intro pG eG sG mG bG tG cG ls hx hb hr hml hown hts hlocks hP hK hl
  have hown : sG.vm.findClass RX3 = some mG.cls := hown
  have hl : lv_has ls 4 [(0, .ref h0), (1, .int (nI k)), (2, .int (iZ px)), (3, .int (iZ py))] := hl
  refine lv_aload_n hx hb dX3_isAt_0 rfl (lv_at hl 0 rfl) ?_
  refine va_get (D := D) (ci := 2) (v := .ref c2) (C := RX3) (T := TX3) (N := 6) hx hb hts in_X3 hown hK.1 hP 0 rfl rfl 3 (Nat.le_of_ble_eq_true rfl) (hts _ q122) (fun _ h9 => h9) rfl dX3_isAt_1 ?_
  refine lv_iload_n hx hb dX3_isAt_4 rfl (lv_at hl 1 rfl) ?_
  refine zz_iaload (f := X) (i := k) hx hb hK.1 hP 2 0 rfl rfl (by omega) (by omega) dX3_isAt_5 ?_
  refine lv_iload_n hx hb dX3_isAt_6 rfl (lv_at hl 2 rfl) ?_
  refine zz_icmp_ne (tgt := 24) hx hb hX.i hpx.i dX3_isAt_7 (by decide) (fun c_1 => ?_) (fun c_1 => ?_)
  · skip
    refine lv_iconst (v := nI 0) hx hb dX3_isAt_24 (by decide) ?_
    exact zr_roB (by unfold ptAt; simp_all [bI, nI]) hx hb hr hlocks dX3_isAt_25
  · skip
    refine lv_aload_n hx hb dX3_isAt_10 rfl (lv_at hl 0 rfl) ?_
    refine va_get (D := D) (ci := 2) (v := .ref c3) (C := RX3) (T := TX3) (N := 6) hx hb hts in_X3 hown hK.1 hP 0 rfl rfl 4 (Nat.le_of_ble_eq_true rfl) (hts _ q125) (fun _ h9 => h9) rfl dX3_isAt_11 ?_
    refine lv_iload_n hx hb dX3_isAt_14 rfl (lv_at hl 1 rfl) ?_
    refine zz_iaload (f := Y) (i := k) hx hb hK.1 hP 3 0 rfl rfl (by omega) (by omega) dX3_isAt_15 ?_
    refine lv_iload_n hx hb dX3_isAt_16 rfl (lv_at hl 3 rfl) ?_
    refine zz_icmp_ne (tgt := 24) hx hb hY.i hpy.i dX3_isAt_17 (by decide) (fun c_2 => ?_) (fun c_2 => ?_)
    · skip
      refine lv_iconst (v := nI 0) hx hb dX3_isAt_24 (by decide) ?_
      exact zr_roB (by unfold ptAt; simp_all [bI, nI]) hx hb hr hlocks dX3_isAt_25
    · skip
      refine lv_iconst (v := nI 1) hx hb dX3_isAt_20 (by decide) ?_
      refine lv_goto (tgt := 25) hx hb dX3_isAt_21 (by decide) ?_
      exact zr_roB (by unfold ptAt; simp_all [bI, nI]) hx hb hr hlocks dX3_isAt_25
set_option maxHeartbeats 4000000 in
set_option maxRecDepth 100000 in
theorem metX3_ends (lG : Launch) (D : va_G) (dA : Nat → ClassId) (h0 : Nat) (kd : Nat) (c1 : Nat) (np : Nat) (c2 : Nat) (c3 : Nat) (nq : Nat) (ns : Nat) (nx : Nat) (ST : Nat → Nat) (X : Nat → Int) (Y : Nat → Int) (px : Int) (py : Int) (hns2 : ns ≤ 4096) (hnp : np ≤ ns) (hnx2 : nx ≤ 4096) (hnq : nq ≤ nx) (hST : ∀ p, p < np → ST p ≤ nq) (hX : ∀ k, cB (X k)) (hY : ∀ k, cB (Y k)) (hpx : cB px) (hpy : cB py) : Ro lG yX3_ends (ws_ yX3_ends cX3_ends 6 (some .int)) 1 23 D dA [.ref h0, .int (iZ px), .int (iZ py)] [(h0, .inr (2, [.int (nI kd), .ref c1, .int (nI np), .ref c2, .ref c3, .int (nI nq)])), (c1, .inl (dA 0, ns, .inl fun j => nI (ST j))), (c2, .inl (dA 0, nx, .inl fun j => iZ (X j))), (c3, .inl (dA 0, nx, .inl fun j => iZ (Y j)))] (some (.int (nI (olEnds X Y ST np nq px py np)))) := by
  refine Ro.of (by decide) (Nat.le_of_ble_eq_true rfl) ?_
  intro pG eG sG mG bG tG cG ls hx hb hr hml hown hts hlocks hP hK hl
  have hown : sG.vm.findClass RX3 = some mG.cls := hown
  have hl : lv_has ls 6 [(0, .ref h0), (1, .int (iZ px)), (2, .int (iZ py))] := hl
  refine lv_iconst (v := nI 0) hx hb dX3_ends_0 (by decide) ?_
  refine lv_istore_n (lv' := [(3, .int (nI 0)), (0, .ref h0), (1, .int (iZ px)), (2, .int (iZ py))]) hx hb dX3_ends_1 rfl hl (by decide) rfl (fun ls hl => ?_)
  refine lv_iconst (v := nI 0) hx hb dX3_ends_2 (by decide) ?_
  refine lv_istore (lv' := [(4, .int (nI 0)), (3, .int (nI 0)), (0, .ref h0), (1, .int (iZ px)), (2, .int (iZ py))]) hx hb dX3_ends_3 hl (by decide) rfl (fun ls hl => ?_)
  have loop5 : ∀ (n5 : Nat) (p : Nat) (n : Nat), (p ≤ np) → (n = olEnds X Y ST np nq px py p) → np - p < n5 → ∀ (ls : Array Slot), lv_has ls 6 [(4, .int (nI p)), (3, .int (nI n)), (0, .ref h0), (1, .int (iZ px)), (2, .int (iZ py))] → W pG lG eG (zRoom 1 0 0 23) sG mG [.ref h0, .int (iZ px), .int (iZ py)].toArray bG tG cG sG.heap [] 0 0 (MQ bG (roQ (some (.int (nI (olEnds X Y ST np nq px py np)))) sG.heap) [.ref h0, .int (iZ px), .int (iZ py)].toArray sG 0 0 (fun _ => False)) (F0 mG 5 ls []) := by
    intro n5
    induction n5 with
    | zero => intro p n h1 h2 hm; exact absurd hm (Nat.not_lt_zero _)
    | succ n5 ih5 =>
      intro p n h1 h2 hm5 ls hl
      have hle := olEnds_le (X := X) (Y := Y) (ST := ST) (np := np) (nq := nq) (px := px) (py := py) p
      refine lv_iload hx hb dX3_ends_5 (lv_at hl 0 rfl) ?_
      refine lv_aload_n hx hb dX3_ends_7 rfl (lv_at hl 2 rfl) ?_
      refine va_get (D := D) (ci := 2) (v := .int (nI np)) (C := RX3) (T := TX3) (N := 6) hx hb hts in_X3 hown hK.1 hP 0 rfl rfl 2 (Nat.le_of_ble_eq_true rfl) (hts _ q119) (fun _ h9 => h9) rfl dX3_ends_8 ?_
      refine zn_icmp_ge (tgt := 85) hx hb (by omega) (by omega) dX3_ends_11 (by decide) (fun c_1 => ?_) (fun c_1 => ?_)
      · skip
        refine lv_iload_n hx hb dX3_ends_85 rfl (lv_at hl 1 rfl) ?_
        exact zr_roI (by rw [h2, show p = np from by omega]) hx hb hr hlocks dX3_ends_86
      · skip
        have hE : olEnd ST np nq p ≤ nq := olEnd_le hST
        have hSp := hST p (by omega)
        refine lv_aload_n hx hb dX3_ends_14 rfl (lv_at hl 2 rfl) ?_
        refine lv_iload hx hb dX3_ends_15 (lv_at hl 0 rfl) ?_
        refine zc_roV (v := .int (nI (olEnd ST np nq p))) (rest := []) ⟨hx, hb, hml, hown, hts⟩ (metX3_end lG D dA h0 kd c1 np c2 c3 nq ns nx ST X Y p (by first | assumption | omega) (by first | assumption | omega) (by first | assumption | omega)) (cwV 1 hts (lw_V q604 q383 q384 q73 q385) rfl rfl rfl (by decide +kernel) ⟨Nat.le_of_ble_eq_true rfl, Nat.le_of_ble_eq_true rfl⟩) (va_recv hK.1 hP (ci := 2) (q0 := 0) rfl rfl) (hP.sub [0, 1, 2, 3] rfl) hK rfl hl.1 rfl (Nat.le_of_ble_eq_true rfl) dX3_ends_17 ⟨Nat.zero_le _, Nat.zero_le _⟩ ?_
        refine lv_iconst (v := nI 1) hx hb dX3_ends_20 (by decide) ?_
        refine zt_n2z ?_
        refine zt_n2z1 ?_
        refine zz_isub hx hb dX3_ends_21 ?_
        refine lv_istore (lv' := [(5, .int (iZ ((((olEnd ST np nq p : Nat) : Int)) - (((1 : Nat) : Int))))), (4, .int (nI p)), (3, .int (nI n)), (0, .ref h0), (1, .int (iZ px)), (2, .int (iZ py))]) hx hb dX3_ends_22 hl (by decide) rfl (fun ls hl => ?_)
        refine lv_iload hx hb dX3_ends_24 (lv_at hl 0 rfl) ?_
        refine lv_aload_n hx hb dX3_ends_26 rfl (lv_at hl 3 rfl) ?_
        refine va_get (D := D) (ci := 2) (v := .ref c1) (C := RX3) (T := TX3) (N := 6) hx hb hts in_X3 hown hK.1 hP 0 rfl rfl 1 (Nat.le_of_ble_eq_true rfl) (hts _ q117) (fun _ h9 => h9) rfl dX3_ends_27 ?_
        refine lv_iload hx hb dX3_ends_30 (lv_at hl 1 rfl) ?_
        refine zn_iaload (f := ST) (i := p) hx hb hK.1 hP 1 0 rfl rfl (by omega) (by omega) dX3_ends_32 ?_
        refine zt_n2z ?_
        refine zz_icmp_lt (tgt := 79) hx hb ⟨by omega, by omega⟩ ⟨by omega, by omega⟩ dX3_ends_33 (by decide) (fun c_2 => ?_) (fun c_2 => ?_)
        · skip
          refine lv_iinc (v := nI (p + 1)) (lv' := [(4, .int (nI (p + 1))), (5, .int (iZ ((((olEnd ST np nq p : Nat) : Int)) - (((1 : Nat) : Int))))), (3, .int (nI n)), (0, .ref h0), (1, .int (iZ px)), (2, .int (iZ py))]) hx hb dX3_ends_79 hl (k := 1) rfl (nI_add _ _) (by decide) rfl (fun ls hl => ?_)
          refine lv_goto (tgt := 5) hx hb dX3_ends_82 (by decide) ?_
          exact ih5 (p + 1) n (by first | assumption | omega) (by rw [olEnds]; first | (rw [if_pos (by omega)]; simp_all; done) | (rw [if_pos (by omega)]; simp_all; omega) | (rw [if_neg (by omega)]; simp_all; done)) (by omega) _ (lv_sub hl [0, 2, 3, 4, 5] rfl)
        · skip
          refine lv_iload_n hx hb dX3_ends_36 rfl (lv_at hl 2 rfl) ?_
          refine lv_aload_n hx hb dX3_ends_37 rfl (lv_at hl 3 rfl) ?_
          refine lv_aload_n hx hb dX3_ends_38 rfl (lv_at hl 3 rfl) ?_
          refine va_get (D := D) (ci := 2) (v := .ref c1) (C := RX3) (T := TX3) (N := 6) hx hb hts in_X3 hown hK.1 hP 0 rfl rfl 1 (Nat.le_of_ble_eq_true rfl) (hts _ q117) (fun _ h9 => h9) rfl dX3_ends_39 ?_
          refine lv_iload hx hb dX3_ends_42 (lv_at hl 1 rfl) ?_
          refine zn_iaload (f := ST) (i := p) hx hb hK.1 hP 1 0 rfl rfl (by omega) (by omega) dX3_ends_44 ?_
          refine lv_iload_n hx hb dX3_ends_45 rfl (lv_at hl 4 rfl) ?_
          refine lv_iload_n hx hb dX3_ends_46 rfl (lv_at hl 5 rfl) ?_
          refine zc_roV (v := .int (bI (ptAt X Y (ST p) px py))) (rest := [.int (nI n)]) ⟨hx, hb, hml, hown, hts⟩ (metX3_isAt lG D dA h0 kd c1 np c2 c3 nq ns nx ST X Y (ST p) px py (by omega) (by first | assumption | omega) (hX _) (hY _) (by first | assumption | omega) (by first | assumption | omega)) (cwV 3 hts (lw_V q605 q391 q392 q73 q393) rfl rfl rfl (by decide +kernel) ⟨Nat.le_of_ble_eq_true rfl, Nat.le_of_ble_eq_true rfl⟩) (va_recv hK.1 hP (ci := 2) (q0 := 0) rfl rfl) (hP.sub [0, 1, 2, 3] rfl) hK rfl hl.1 rfl (Nat.le_of_ble_eq_true rfl) dX3_ends_47 ⟨Nat.zero_le _, Nat.zero_le _⟩ ?_
          refine zb_if_eq (tgt := 57) hx hb dX3_ends_50 (by decide) (fun c_3 => ?_) (fun c_3 => ?_)
          · skip
            refine lv_iconst (v := nI 0) hx hb dX3_ends_57 (by decide) ?_
            refine zn_iadd hx hb dX3_ends_58 ?_
            refine lv_istore_n (lv' := [(3, .int (nI (n + 0))), (5, .int (iZ ((((olEnd ST np nq p : Nat) : Int)) - (((1 : Nat) : Int))))), (4, .int (nI p)), (0, .ref h0), (1, .int (iZ px)), (2, .int (iZ py))]) hx hb dX3_ends_59 rfl hl (by decide) rfl (fun ls hl => ?_)
            refine lv_iload_n hx hb dX3_ends_60 rfl (lv_at hl 0 rfl) ?_
            refine lv_aload_n hx hb dX3_ends_61 rfl (lv_at hl 3 rfl) ?_
            refine lv_iload hx hb dX3_ends_62 (lv_at hl 1 rfl) ?_
            refine zt_eq (.int (nI ((olEnd ST np nq p) - 1))) (congrArg Value.int (zz_pred (by omega))) ?_
            refine lv_iload_n hx hb dX3_ends_64 rfl (lv_at hl 4 rfl) ?_
            refine lv_iload_n hx hb dX3_ends_65 rfl (lv_at hl 5 rfl) ?_
            refine zc_roV (v := .int (bI (ptAt X Y ((olEnd ST np nq p) - 1) px py))) (rest := [.int (nI (n + 0))]) ⟨hx, hb, hml, hown, hts⟩ (metX3_isAt lG D dA h0 kd c1 np c2 c3 nq ns nx ST X Y ((olEnd ST np nq p) - 1) px py (by omega) (by first | assumption | omega) (hX _) (hY _) (by first | assumption | omega) (by first | assumption | omega)) (cwV 3 hts (lw_V q605 q391 q392 q73 q393) rfl rfl rfl (by decide +kernel) ⟨Nat.le_of_ble_eq_true rfl, Nat.le_of_ble_eq_true rfl⟩) (va_recv hK.1 hP (ci := 2) (q0 := 0) rfl rfl) (hP.sub [0, 1, 2, 3] rfl) hK rfl hl.1 rfl (Nat.le_of_ble_eq_true rfl) dX3_ends_66 ⟨Nat.zero_le _, Nat.zero_le _⟩ ?_
            refine zb_if_eq (tgt := 76) hx hb dX3_ends_69 (by decide) (fun c_4 => ?_) (fun c_4 => ?_)
            · skip
              refine lv_iconst (v := nI 0) hx hb dX3_ends_76 (by decide) ?_
              refine zn_iadd hx hb dX3_ends_77 ?_
              refine lv_istore_n (lv' := [(3, .int (nI ((n + 0) + 0))), (5, .int (iZ ((((olEnd ST np nq p : Nat) : Int)) - (((1 : Nat) : Int))))), (4, .int (nI p)), (0, .ref h0), (1, .int (iZ px)), (2, .int (iZ py))]) hx hb dX3_ends_78 rfl hl (by decide) rfl (fun ls hl => ?_)
              refine lv_iinc (v := nI (p + 1)) (lv' := [(4, .int (nI (p + 1))), (3, .int (nI ((n + 0) + 0))), (5, .int (iZ ((((olEnd ST np nq p : Nat) : Int)) - (((1 : Nat) : Int))))), (0, .ref h0), (1, .int (iZ px)), (2, .int (iZ py))]) hx hb dX3_ends_79 hl (k := 2) rfl (nI_add _ _) (by decide) rfl (fun ls hl => ?_)
              refine lv_goto (tgt := 5) hx hb dX3_ends_82 (by decide) ?_
              exact ih5 (p + 1) ((n + 0) + 0) (by first | assumption | omega) (by rw [olEnds]; first | (rw [if_pos (by omega)]; simp_all; done) | (rw [if_pos (by omega)]; simp_all; omega) | (rw [if_neg (by omega)]; simp_all; done)) (by omega) _ (lv_sub hl [0, 1, 3, 4, 5] rfl)
            · skip
              refine lv_iconst (v := nI 1) hx hb dX3_ends_72 (by decide) ?_
              refine lv_goto (tgt := 77) hx hb dX3_ends_73 (by decide) ?_
              refine zn_iadd hx hb dX3_ends_77 ?_
              refine lv_istore_n (lv' := [(3, .int (nI ((n + 0) + 1))), (5, .int (iZ ((((olEnd ST np nq p : Nat) : Int)) - (((1 : Nat) : Int))))), (4, .int (nI p)), (0, .ref h0), (1, .int (iZ px)), (2, .int (iZ py))]) hx hb dX3_ends_78 rfl hl (by decide) rfl (fun ls hl => ?_)
              refine lv_iinc (v := nI (p + 1)) (lv' := [(4, .int (nI (p + 1))), (3, .int (nI ((n + 0) + 1))), (5, .int (iZ ((((olEnd ST np nq p : Nat) : Int)) - (((1 : Nat) : Int))))), (0, .ref h0), (1, .int (iZ px)), (2, .int (iZ py))]) hx hb dX3_ends_79 hl (k := 2) rfl (nI_add _ _) (by decide) rfl (fun ls hl => ?_)
              refine lv_goto (tgt := 5) hx hb dX3_ends_82 (by decide) ?_
              exact ih5 (p + 1) ((n + 0) + 1) (by first | assumption | omega) (by rw [olEnds]; first | (rw [if_pos (by omega)]; simp_all; done) | (rw [if_pos (by omega)]; simp_all; omega) | (rw [if_neg (by omega)]; simp_all; done)) (by omega) _ (lv_sub hl [0, 1, 3, 4, 5] rfl)
          · skip
            refine lv_iconst (v := nI 1) hx hb dX3_ends_53 (by decide) ?_
            refine lv_goto (tgt := 58) hx hb dX3_ends_54 (by decide) ?_
            refine zn_iadd hx hb dX3_ends_58 ?_
            refine lv_istore_n (lv' := [(3, .int (nI (n + 1))), (5, .int (iZ ((((olEnd ST np nq p : Nat) : Int)) - (((1 : Nat) : Int))))), (4, .int (nI p)), (0, .ref h0), (1, .int (iZ px)), (2, .int (iZ py))]) hx hb dX3_ends_59 rfl hl (by decide) rfl (fun ls hl => ?_)
            refine lv_iload_n hx hb dX3_ends_60 rfl (lv_at hl 0 rfl) ?_
            refine lv_aload_n hx hb dX3_ends_61 rfl (lv_at hl 3 rfl) ?_
            refine lv_iload hx hb dX3_ends_62 (lv_at hl 1 rfl) ?_
            refine zt_eq (.int (nI ((olEnd ST np nq p) - 1))) (congrArg Value.int (zz_pred (by omega))) ?_
            refine lv_iload_n hx hb dX3_ends_64 rfl (lv_at hl 4 rfl) ?_
            refine lv_iload_n hx hb dX3_ends_65 rfl (lv_at hl 5 rfl) ?_
            refine zc_roV (v := .int (bI (ptAt X Y ((olEnd ST np nq p) - 1) px py))) (rest := [.int (nI (n + 1))]) ⟨hx, hb, hml, hown, hts⟩ (metX3_isAt lG D dA h0 kd c1 np c2 c3 nq ns nx ST X Y ((olEnd ST np nq p) - 1) px py (by omega) (by first | assumption | omega) (hX _) (hY _) (by first | assumption | omega) (by first | assumption | omega)) (cwV 3 hts (lw_V q605 q391 q392 q73 q393) rfl rfl rfl (by decide +kernel) ⟨Nat.le_of_ble_eq_true rfl, Nat.le_of_ble_eq_true rfl⟩) (va_recv hK.1 hP (ci := 2) (q0 := 0) rfl rfl) (hP.sub [0, 1, 2, 3] rfl) hK rfl hl.1 rfl (Nat.le_of_ble_eq_true rfl) dX3_ends_66 ⟨Nat.zero_le _, Nat.zero_le _⟩ ?_
            refine zb_if_eq (tgt := 76) hx hb dX3_ends_69 (by decide) (fun c_5 => ?_) (fun c_5 => ?_)
            · skip
              refine lv_iconst (v := nI 0) hx hb dX3_ends_76 (by decide) ?_
              refine zn_iadd hx hb dX3_ends_77 ?_
              refine lv_istore_n (lv' := [(3, .int (nI ((n + 1) + 0))), (5, .int (iZ ((((olEnd ST np nq p : Nat) : Int)) - (((1 : Nat) : Int))))), (4, .int (nI p)), (0, .ref h0), (1, .int (iZ px)), (2, .int (iZ py))]) hx hb dX3_ends_78 rfl hl (by decide) rfl (fun ls hl => ?_)
              refine lv_iinc (v := nI (p + 1)) (lv' := [(4, .int (nI (p + 1))), (3, .int (nI ((n + 1) + 0))), (5, .int (iZ ((((olEnd ST np nq p : Nat) : Int)) - (((1 : Nat) : Int))))), (0, .ref h0), (1, .int (iZ px)), (2, .int (iZ py))]) hx hb dX3_ends_79 hl (k := 2) rfl (nI_add _ _) (by decide) rfl (fun ls hl => ?_)
              refine lv_goto (tgt := 5) hx hb dX3_ends_82 (by decide) ?_
              exact ih5 (p + 1) ((n + 1) + 0) (by first | assumption | omega) (by rw [olEnds]; first | (rw [if_pos (by omega)]; simp_all; done) | (rw [if_pos (by omega)]; simp_all; omega) | (rw [if_neg (by omega)]; simp_all; done)) (by omega) _ (lv_sub hl [0, 1, 3, 4, 5] rfl)
            · skip
              refine lv_iconst (v := nI 1) hx hb dX3_ends_72 (by decide) ?_
              refine lv_goto (tgt := 77) hx hb dX3_ends_73 (by decide) ?_
              refine zn_iadd hx hb dX3_ends_77 ?_
              refine lv_istore_n (lv' := [(3, .int (nI ((n + 1) + 1))), (5, .int (iZ ((((olEnd ST np nq p : Nat) : Int)) - (((1 : Nat) : Int))))), (4, .int (nI p)), (0, .ref h0), (1, .int (iZ px)), (2, .int (iZ py))]) hx hb dX3_ends_78 rfl hl (by decide) rfl (fun ls hl => ?_)
              refine lv_iinc (v := nI (p + 1)) (lv' := [(4, .int (nI (p + 1))), (3, .int (nI ((n + 1) + 1))), (5, .int (iZ ((((olEnd ST np nq p : Nat) : Int)) - (((1 : Nat) : Int))))), (0, .ref h0), (1, .int (iZ px)), (2, .int (iZ py))]) hx hb dX3_ends_79 hl (k := 2) rfl (nI_add _ _) (by decide) rfl (fun ls hl => ?_)
              refine lv_goto (tgt := 5) hx hb dX3_ends_82 (by decide) ?_
              exact ih5 (p + 1) ((n + 1) + 1) (by first | assumption | omega) (by rw [olEnds]; first | (rw [if_pos (by omega)]; simp_all; done) | (rw [if_pos (by omega)]; simp_all; omega) | (rw [if_neg (by omega)]; simp_all; done)) (by omega) _ (lv_sub hl [0, 1, 3, 4, 5] rfl)
  exact loop5 (np - 0 + 1) 0 0 (by first | assumption | omega) rfl (Nat.lt_succ_self _) _ (lv_sub hl [0, 1, 2, 3, 4] rfl)
