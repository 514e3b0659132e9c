/-! ShapeRelator: shape, part, point, count (printed by wip gen/c77.py) -/
set_option maxHeartbeats 4000000 in
set_option maxRecDepth 100000 in
theorem metX3_point_z (lG : Launch) (D : va_G) (dA : Nat → ClassId) (h0 : Nat) (kd : Nat) (c1 : Nat) (np : Nat) (c2 : Nat) (c3 : Nat) (nq : Nat) (ns : Nat) (nx : Nat) (ST : Nat → Nat) (X : Nat → Int) (Y : Nat → Int) (px : Int) (py : Int) (hnx : 1 ≤ nx) (hnx2 : nx ≤ 4096) (hnq : nq ≤ nx) : Wr lG yX3_point (ws_ yX3_point cX3_point 3 none) 2 62 D dA [.ref h0, .int (iZ px), .int (iZ py)] [(h0, .inr (2, [.int (nI kd), .ref c1, .int (nI np), .ref c2, .ref c3, .int (nI nq)])), (c1, .inl (dA 0, ns, .inl fun j => nI (ST j))), (c2, .inl (dA 0, nx, .inl fun j => iZ (X j))), (c3, .inl (dA 0, nx, .inl fun j => iZ (Y j)))] 2 (4 * nq) (fun (u : Nat × Nat × Nat × (Nat → Int) × (Nat → Int)) => let b1 := u.1; let b2 := u.2.1; let nx2 := u.2.2.1; let X2 := u.2.2.2.1; let Y2 := u.2.2.2.2; nq < nx2 ∧ nx2 ≤ max nx (2 * nq) ∧ nx ≤ nx2 ∧ (∀ k, k < nq → X2 k = X k ∧ Y2 k = Y k) ∧ X2 nq = px ∧ Y2 nq = py ∧ (∀ zk, zk ≠ nq → (X2 zk = X zk ∨ X2 zk = 0) ∧ (Y2 zk = Y zk ∨ Y2 zk = 0))) (fun (u : Nat × Nat × Nat × (Nat → Int) × (Nat → Int)) => let b1 := u.1; let b2 := u.2.1; let nx2 := u.2.2.1; let X2 := u.2.2.2.1; let Y2 := u.2.2.2.2; none) (fun (u : Nat × Nat × Nat × (Nat → Int) × (Nat → Int)) => let b1 := u.1; let b2 := u.2.1; let nx2 := u.2.2.1; let X2 := u.2.2.2.1; let Y2 := u.2.2.2.2; [(h0, .inr (2, [.int (nI kd), .ref c1, .int (nI np), .ref b1, .ref b2, .int (nI (nq + 1))])), (c1, .inl (dA 0, ns, .inl fun j => nI (ST j))), (b1, .inl (dA 0, nx2, .inl fun j => iZ (X2 j))), (b2, .inl (dA 0, nx2, .inl fun j => iZ (Y2 j)))]) := by
  refine Wr.of (by decide) (Nat.le_of_ble_eq_true rfl) ?_
  intro pG eG sG mG bG tG cG ls A hx hb hr hml hown hts hlocks hnm hP hK hD hS hA hl
  have hK1 := hK.1
  have hown : sG.vm.findClass RX3 = some mG.cls := hown
  have hl : lv_has ls 3 [(0, .ref h0), (1, .int (iZ px)), (2, .int (iZ py))] := hl
  refine lv_aload_n hx hb dX3_point_0 rfl (lv_at hl 0 rfl) ?_
  refine va_get (D := D) (ci := 2) (v := .int (nI nq)) (C := RX3) (T := TX3) (N := 6) hx hb hts in_X3 hown hK.1 hP 0 rfl rfl 5 (Nat.le_of_ble_eq_true rfl) (hts _ q128) (fun _ h9 => h9) rfl dX3_point_1 ?_
  refine lv_aload_n hx hb dX3_point_4 rfl (lv_at hl 0 rfl) ?_
  refine va_get (D := D) (ci := 2) (v := .ref c2) (C := RX3) (T := TX3) (N := 6) hx hb hts in_X3 hown hK.1 hP 0 rfl rfl 3 (Nat.le_of_ble_eq_true rfl) (hts _ q122) (fun _ h9 => h9) rfl dX3_point_5 ?_
  refine va_alen (v := nI nx) hx hb hK.1 hP 2 0 rfl rfl rfl dX3_point_8 ?_
  refine zn_icmp_ne (tgt := 46) hx hb (by omega) (by omega) dX3_point_9 (by decide) (fun c_1 => ?_) (fun c_1 => ?_)
  · skip
    refine lv_aload_n hx hb dX3_point_46 rfl (lv_at hl 0 rfl) ?_
    refine va_get (D := D) (ci := 2) (v := .ref c2) (C := RX3) (T := TX3) (N := 6) hx hb hts in_X3 hown hK.1 hP 0 rfl rfl 3 (Nat.le_of_ble_eq_true rfl) (hts _ q122) (fun _ h9 => h9) rfl dX3_point_47 ?_
    refine lv_aload_n hx hb dX3_point_50 rfl (lv_at hl 0 rfl) ?_
    refine va_get (D := D) (ci := 2) (v := .int (nI nq)) (C := RX3) (T := TX3) (N := 6) hx hb hts in_X3 hown hK.1 hP 0 rfl rfl 5 (Nat.le_of_ble_eq_true rfl) (hts _ q128) (fun _ h9 => h9) rfl dX3_point_51 ?_
    refine lv_iload_n hx hb dX3_point_54 rfl (lv_at hl 1 rfl) ?_
    refine zz_iastore (f := X) (i := nq) (x := px) hx hb hK.1 hP hD hS 2 0 rfl rfl (by omega) (by omega) dX3_point_55 (fun H locs hP hD hS => ?_)
    have hP : va_P D zCl [(h0, .inr (2, [.int (nI kd), .ref c1, .int (nI np), .ref c2, .ref c3, .int (nI nq)])), (c1, .inl (dA 0, ns, .inl fun j => nI (ST j))), (c2, .inl (dA 0, nx, .inl fun j => iZ ((updZ X nq px) j))), (c3, .inl (dA 0, nx, .inl fun j => iZ (Y j)))] H := hP
    have hD : va_D A [(h0, .inr (2, [.int (nI kd), .ref c1, .int (nI np), .ref c2, .ref c3, .int (nI nq)])), (c1, .inl (dA 0, ns, .inl fun j => nI (ST j))), (c2, .inl (dA 0, nx, .inl fun j => iZ ((updZ X nq px) j))), (c3, .inl (dA 0, nx, .inl fun j => iZ (Y j)))] := hD
    refine lv_aload_n hx hb dX3_point_56 rfl (lv_at hl 0 rfl) ?_
    refine va_get (D := D) (ci := 2) (v := .ref c3) (C := RX3) (T := TX3) (N := 6) hx hb hts in_X3 hown hK.1 hP 0 rfl rfl 4 (Nat.le_of_ble_eq_true rfl) (hts _ q125) (fun _ h9 => h9) rfl dX3_point_57 ?_
    refine lv_aload_n hx hb dX3_point_60 rfl (lv_at hl 0 rfl) ?_
    refine va_get (D := D) (ci := 2) (v := .int (nI nq)) (C := RX3) (T := TX3) (N := 6) hx hb hts in_X3 hown hK.1 hP 0 rfl rfl 5 (Nat.le_of_ble_eq_true rfl) (hts _ q128) (fun _ h9 => h9) rfl dX3_point_61 ?_
    refine lv_iload_n hx hb dX3_point_64 rfl (lv_at hl 2 rfl) ?_
    refine zz_iastore (f := Y) (i := nq) (x := py) hx hb hK.1 hP hD hS 3 0 rfl rfl (by omega) (by omega) dX3_point_65 (fun H locs hP hD hS => ?_)
    have hP : va_P D zCl [(h0, .inr (2, [.int (nI kd), .ref c1, .int (nI np), .ref c2, .ref c3, .int (nI nq)])), (c1, .inl (dA 0, ns, .inl fun j => nI (ST j))), (c2, .inl (dA 0, nx, .inl fun j => iZ ((updZ X nq px) j))), (c3, .inl (dA 0, nx, .inl fun j => iZ ((updZ Y nq py) j)))] H := hP
    have hD : va_D A [(h0, .inr (2, [.int (nI kd), .ref c1, .int (nI np), .ref c2, .ref c3, .int (nI nq)])), (c1, .inl (dA 0, ns, .inl fun j => nI (ST j))), (c2, .inl (dA 0, nx, .inl fun j => iZ ((updZ X nq px) j))), (c3, .inl (dA 0, nx, .inl fun j => iZ ((updZ Y nq py) j)))] := hD
    refine lv_aload_n hx hb dX3_point_66 rfl (lv_at hl 0 rfl) ?_
    refine lv_dup hx hb dX3_point_67 rfl ?_
    refine va_get (D := D) (ci := 2) (v := .int (nI nq)) (C := RX3) (T := TX3) (N := 6) hx hb hts in_X3 hown hK.1 hP 0 rfl rfl 5 (Nat.le_of_ble_eq_true rfl) (hts _ q128) (fun _ h9 => h9) rfl dX3_point_68 ?_
    refine lv_iconst (v := nI 1) hx hb dX3_point_71 (by decide) ?_
    refine zn_iadd hx hb dX3_point_72 ?_
    refine va_put (D := D) (ci := 2) (v := .int (nI (nq + 1))) (ty := .int) (C := RX3) (T := TX3) (N := 6) hx hb hts in_X3 tyX3 tyX3_ok nmX3 hown hK.1 hP hD hS 0 rfl rfl 5 (Nat.le_of_ble_eq_true rfl) (hts _ q128) (fun _ h9 => h9) rfl (by decide +kernel) rfl rfl (Nat.le_of_ble_eq_true rfl) dX3_point_73 (fun H locs hP hD hS => ?_)
    have hP : va_P D zCl [(h0, .inr (2, [.int (nI kd), .ref c1, .int (nI np), .ref c2, .ref c3, .int (nI (nq + 1))])), (c1, .inl (dA 0, ns, .inl fun j => nI (ST j))), (c2, .inl (dA 0, nx, .inl fun j => iZ ((updZ X nq px) j))), (c3, .inl (dA 0, nx, .inl fun j => iZ ((updZ Y nq py) j)))] H := hP
    have hD : va_D A [(h0, .inr (2, [.int (nI kd), .ref c1, .int (nI np), .ref c2, .ref c3, .int (nI (nq + 1))])), (c1, .inl (dA 0, ns, .inl fun j => nI (ST j))), (c2, .inl (dA 0, nx, .inl fun j => iZ ((updZ X nq px) j))), (c3, .inl (dA 0, nx, .inl fun j => iZ ((updZ Y nq py) j)))] := hD
    refine W.widen (k := 2) (n := 4 * nq) (by omega) (by omega) ?_
    exact zr_wrV (u := (c2, c3, nx, updZ X nq px, updZ Y nq py)) rfl (show nq < nx ∧ nx ≤ max nx (2 * nq) ∧ nx ≤ nx ∧ (∀ k, k < nq → (updZ X nq px) k = X k ∧ (updZ Y nq py) k = Y k) ∧ (updZ X nq px) nq = px ∧ (updZ Y nq py) nq = py ∧ (∀ zk, zk ≠ nq → ((updZ X nq px) zk = X zk ∨ (updZ X nq px) zk = 0) ∧ ((updZ Y nq py) zk = Y zk ∨ (updZ Y nq py) zk = 0)) from ⟨by omega, by omega, by omega, fun k hk => by first | (rw [updZ_n (by omega), updZ_n (by omega)]; exact ⟨rfl, rfl⟩) | (rw [updZ_n (by omega), updZ_n (by omega), zcpy_lt (by omega), zcpy_lt (by omega)]; exact ⟨rfl, rfl⟩), updZ_s, updZ_s, fun zk hz => by first | (rw [updZ_n hz, updZ_n hz]; exact ⟨Or.inl rfl, Or.inl rfl⟩) | (rw [updZ_n hz, updZ_n hz]; rcases Nat.lt_or_ge zk nx with h | h; exact ⟨Or.inl (zcpy_lt (by omega)), Or.inl (zcpy_lt (by omega))⟩; exact ⟨Or.inr (zcpy_ge (by omega)), Or.inr (zcpy_ge (by omega))⟩)⟩) (hP.sub [0, 1, 2, 3] rfl) (hD.sub [0, 1, 2, 3] (by decide) rfl) hS hx hb hr hlocks dX3_point_76
  · skip
    refine lv_aload_n hx hb dX3_point_12 rfl (lv_at hl 0 rfl) ?_
    refine lv_aload_n hx hb dX3_point_13 rfl (lv_at hl 0 rfl) ?_
    refine va_get (D := D) (ci := 2) (v := .ref c2) (C := RX3) (T := TX3) (N := 6) hx hb hts in_X3 hown hK.1 hP 0 rfl rfl 3 (Nat.le_of_ble_eq_true rfl) (hts _ q122) (fun _ h9 => h9) rfl dX3_point_14 ?_
    refine lv_iconst (v := nI 2) hx hb dX3_point_17 (by decide) ?_
    refine lv_aload_n hx hb dX3_point_18 rfl (lv_at hl 0 rfl) ?_
    refine va_get (D := D) (ci := 2) (v := .int (nI nq)) (C := RX3) (T := TX3) (N := 6) hx hb hts in_X3 hown hK.1 hP 0 rfl rfl 5 (Nat.le_of_ble_eq_true rfl) (hts _ q128) (fun _ h9 => h9) rfl dX3_point_19 ?_
    refine zn_imul hx hb dX3_point_22 ?_
    refine zc_wrSN (rest := [.ref h0]) (wr := [(h0, .inr (2, [.int (nI kd), .ref c1, .int (nI np), .ref c2, .ref c3, .int (nI nq)])), (c1, .inl (dA 0, ns, .inl fun j => nI (ST j))), (c3, .inl (dA 0, nx, .inl fun j => iZ (Y j)))]) ⟨hx, hb, hml, hown, hts⟩ (metX5_longer_z lG D dA c2 nx X (2 * nq) (by first | assumption | omega) (by first | assumption | omega)) ⟨(va_cnB 2 hts (lw_meth q396) rfl rfl rfl (hK.2.1 _ zq866) (hts _ q75) (by decide +kernel) ⟨Nat.le_of_ble_eq_true rfl, Nat.le_of_ble_eq_true rfl⟩), hts _ q395, trivial⟩ hP hK hD hS hA [2] [0, 1, 3] rfl rfl (by decide) (by decide) (by decide) rfl hl.1 rfl (Nat.le_of_ble_eq_true rfl) dX3_point_23 ⟨show 0 + 1 ≤ 2 by omega, show 0 + ((2 * nq)) ≤ (4 * nq) by omega⟩ (fun u H locs hp_3 hP hD hS => ?_)
    obtain ⟨qn_2, rfl⟩ : ∃ z, z = u := ⟨_, rfl⟩
    have hP : va_P D zCl [(h0, .inr (2, [.int (nI kd), .ref c1, .int (nI np), .ref c2, .ref c3, .int (nI nq)])), (c1, .inl (dA 0, ns, .inl fun j => nI (ST j))), (c3, .inl (dA 0, nx, .inl fun j => iZ (Y j))), (c2, .inl (dA 0, nx, .inl fun j => iZ (X j))), (qn_2, .inl (dA 0, (2 * nq), .inl fun j => iZ ((zcpy X (fun _ => 0) nx) j)))] H := hP
    have hD : va_D A [(h0, .inr (2, [.int (nI kd), .ref c1, .int (nI np), .ref c2, .ref c3, .int (nI nq)])), (c1, .inl (dA 0, ns, .inl fun j => nI (ST j))), (c3, .inl (dA 0, nx, .inl fun j => iZ (Y j))), (c2, .inl (dA 0, nx, .inl fun j => iZ (X j))), (qn_2, .inl (dA 0, (2 * nq), .inl fun j => iZ ((zcpy X (fun _ => 0) nx) j)))] := hD
    show W _ _ _ _ _ _ _ _ _ _ _ _ 1 (0 + ((2 * nq))) _ (F0 mG 26 ls [.ref qn_2, .ref h0])
    refine va_put (D := D) (ci := 2) (v := .ref qn_2) (ty := .array .int) (C := RX3) (T := TX3) (N := 6) hx hb hts in_X3 tyX3 tyX3_ok nmX3 hown hK.1 hP hD hS 0 rfl rfl 3 (Nat.le_of_ble_eq_true rfl) (hts _ q122) (fun _ h9 => h9) rfl (by decide +kernel) rfl rfl (Nat.le_of_ble_eq_true rfl) dX3_point_26 (fun H locs hP hD hS => ?_)
    have hP : va_P D zCl [(h0, .inr (2, [.int (nI kd), .ref c1, .int (nI np), .ref qn_2, .ref c3, .int (nI nq)])), (c1, .inl (dA 0, ns, .inl fun j => nI (ST j))), (c3, .inl (dA 0, nx, .inl fun j => iZ (Y j))), (c2, .inl (dA 0, nx, .inl fun j => iZ (X j))), (qn_2, .inl (dA 0, (2 * nq), .inl fun j => iZ ((zcpy X (fun _ => 0) nx) j)))] H := hP
    have hD : va_D A [(h0, .inr (2, [.int (nI kd), .ref c1, .int (nI np), .ref qn_2, .ref c3, .int (nI nq)])), (c1, .inl (dA 0, ns, .inl fun j => nI (ST j))), (c3, .inl (dA 0, nx, .inl fun j => iZ (Y j))), (c2, .inl (dA 0, nx, .inl fun j => iZ (X j))), (qn_2, .inl (dA 0, (2 * nq), .inl fun j => iZ ((zcpy X (fun _ => 0) nx) j)))] := hD
    refine lv_aload_n hx hb dX3_point_29 rfl (lv_at hl 0 rfl) ?_
    refine lv_aload_n hx hb dX3_point_30 rfl (lv_at hl 0 rfl) ?_
    refine va_get (D := D) (ci := 2) (v := .ref c3) (C := RX3) (T := TX3) (N := 6) hx hb hts in_X3 hown hK.1 hP 0 rfl rfl 4 (Nat.le_of_ble_eq_true rfl) (hts _ q125) (fun _ h9 => h9) rfl dX3_point_31 ?_
    refine lv_iconst (v := nI 2) hx hb dX3_point_34 (by decide) ?_
    refine lv_aload_n hx hb dX3_point_35 rfl (lv_at hl 0 rfl) ?_
    refine va_get (D := D) (ci := 2) (v := .int (nI nq)) (C := RX3) (T := TX3) (N := 6) hx hb hts in_X3 hown hK.1 hP 0 rfl rfl 5 (Nat.le_of_ble_eq_true rfl) (hts _ q128) (fun _ h9 => h9) rfl dX3_point_36 ?_
    refine zn_imul hx hb dX3_point_39 ?_
    refine zc_wrSN (rest := [.ref h0]) (wr := [(h0, .inr (2, [.int (nI kd), .ref c1, .int (nI np), .ref qn_2, .ref c3, .int (nI nq)])), (c1, .inl (dA 0, ns, .inl fun j => nI (ST j))), (c2, .inl (dA 0, nx, .inl fun j => iZ (X j))), (qn_2, .inl (dA 0, (2 * nq), .inl fun j => iZ ((zcpy X (fun _ => 0) nx) j)))]) ⟨hx, hb, hml, hown, hts⟩ (metX5_longer_z lG D dA c3 nx Y (2 * nq) (by first | assumption | omega) (by first | assumption | omega)) ⟨(va_cnB 2 hts (lw_meth q396) rfl rfl rfl (hK.2.1 _ zq866) (hts _ q75) (by decide +kernel) ⟨Nat.le_of_ble_eq_true rfl, Nat.le_of_ble_eq_true rfl⟩), hts _ q395, trivial⟩ hP hK hD hS hA [2] [0, 1, 3, 4] rfl rfl (by decide) (by decide) (by decide) rfl hl.1 rfl (Nat.le_of_ble_eq_true rfl) dX3_point_40 ⟨show 1 + 1 ≤ 2 by omega, show (0 + ((2 * nq))) + ((2 * nq)) ≤ (4 * nq) by omega⟩ (fun u H locs hp_5 hP hD hS => ?_)
    obtain ⟨qn_4, rfl⟩ : ∃ z, z = u := ⟨_, rfl⟩
    have hP : va_P D zCl [(h0, .inr (2, [.int (nI kd), .ref c1, .int (nI np), .ref qn_2, .ref c3, .int (nI nq)])), (c1, .inl (dA 0, ns, .inl fun j => nI (ST j))), (c2, .inl (dA 0, nx, .inl fun j => iZ (X j))), (qn_2, .inl (dA 0, (2 * nq), .inl fun j => iZ ((zcpy X (fun _ => 0) nx) j))), (c3, .inl (dA 0, nx, .inl fun j => iZ (Y j))), (qn_4, .inl (dA 0, (2 * nq), .inl fun j => iZ ((zcpy Y (fun _ => 0) nx) j)))] H := hP
    have hD : va_D A [(h0, .inr (2, [.int (nI kd), .ref c1, .int (nI np), .ref qn_2, .ref c3, .int (nI nq)])), (c1, .inl (dA 0, ns, .inl fun j => nI (ST j))), (c2, .inl (dA 0, nx, .inl fun j => iZ (X j))), (qn_2, .inl (dA 0, (2 * nq), .inl fun j => iZ ((zcpy X (fun _ => 0) nx) j))), (c3, .inl (dA 0, nx, .inl fun j => iZ (Y j))), (qn_4, .inl (dA 0, (2 * nq), .inl fun j => iZ ((zcpy Y (fun _ => 0) nx) j)))] := hD
    show W _ _ _ _ _ _ _ _ _ _ _ _ 2 ((0 + ((2 * nq))) + ((2 * nq))) _ (F0 mG 43 ls [.ref qn_4, .ref h0])
    refine va_put (D := D) (ci := 2) (v := .ref qn_4) (ty := .array .int) (C := RX3) (T := TX3) (N := 6) hx hb hts in_X3 tyX3 tyX3_ok nmX3 hown hK.1 hP hD hS 0 rfl rfl 4 (Nat.le_of_ble_eq_true rfl) (hts _ q125) (fun _ h9 => h9) rfl (by decide +kernel) rfl rfl (Nat.le_of_ble_eq_true rfl) dX3_point_43 (fun H locs hP hD hS => ?_)
    have hP : va_P D zCl [(h0, .inr (2, [.int (nI kd), .ref c1, .int (nI np), .ref qn_2, .ref qn_4, .int (nI nq)])), (c1, .inl (dA 0, ns, .inl fun j => nI (ST j))), (c2, .inl (dA 0, nx, .inl fun j => iZ (X j))), (qn_2, .inl (dA 0, (2 * nq), .inl fun j => iZ ((zcpy X (fun _ => 0) nx) j))), (c3, .inl (dA 0, nx, .inl fun j => iZ (Y j))), (qn_4, .inl (dA 0, (2 * nq), .inl fun j => iZ ((zcpy Y (fun _ => 0) nx) j)))] H := hP
    have hD : va_D A [(h0, .inr (2, [.int (nI kd), .ref c1, .int (nI np), .ref qn_2, .ref qn_4, .int (nI nq)])), (c1, .inl (dA 0, ns, .inl fun j => nI (ST j))), (c2, .inl (dA 0, nx, .inl fun j => iZ (X j))), (qn_2, .inl (dA 0, (2 * nq), .inl fun j => iZ ((zcpy X (fun _ => 0) nx) j))), (c3, .inl (dA 0, nx, .inl fun j => iZ (Y j))), (qn_4, .inl (dA 0, (2 * nq), .inl fun j => iZ ((zcpy Y (fun _ => 0) nx) j)))] := hD
    refine lv_aload_n hx hb dX3_point_46 rfl (lv_at hl 0 rfl) ?_
    refine va_get (D := D) (ci := 2) (v := .ref qn_2) (C := RX3) (T := TX3) (N := 6) hx hb hts in_X3 hown hK.1 hP 0 rfl rfl 3 (Nat.le_of_ble_eq_true rfl) (hts _ q122) (fun _ h9 => h9) rfl dX3_point_47 ?_
    refine lv_aload_n hx hb dX3_point_50 rfl (lv_at hl 0 rfl) ?_
    refine va_get (D := D) (ci := 2) (v := .int (nI nq)) (C := RX3) (T := TX3) (N := 6) hx hb hts in_X3 hown hK.1 hP 0 rfl rfl 5 (Nat.le_of_ble_eq_true rfl) (hts _ q128) (fun _ h9 => h9) rfl dX3_point_51 ?_
    refine lv_iload_n hx hb dX3_point_54 rfl (lv_at hl 1 rfl) ?_
    refine zz_iastore (f := zcpy X (fun _ => 0) nx) (i := nq) (x := px) hx hb hK.1 hP hD hS 3 0 rfl rfl (by omega) (by omega) dX3_point_55 (fun H locs hP hD hS => ?_)
    have hP : va_P D zCl [(h0, .inr (2, [.int (nI kd), .ref c1, .int (nI np), .ref qn_2, .ref qn_4, .int (nI nq)])), (c1, .inl (dA 0, ns, .inl fun j => nI (ST j))), (c2, .inl (dA 0, nx, .inl fun j => iZ (X j))), (qn_2, .inl (dA 0, (2 * nq), .inl fun j => iZ ((updZ (zcpy X (fun _ => 0) nx) nq px) j))), (c3, .inl (dA 0, nx, .inl fun j => iZ (Y j))), (qn_4, .inl (dA 0, (2 * nq), .inl fun j => iZ ((zcpy Y (fun _ => 0) nx) j)))] H := hP
    have hD : va_D A [(h0, .inr (2, [.int (nI kd), .ref c1, .int (nI np), .ref qn_2, .ref qn_4, .int (nI nq)])), (c1, .inl (dA 0, ns, .inl fun j => nI (ST j))), (c2, .inl (dA 0, nx, .inl fun j => iZ (X j))), (qn_2, .inl (dA 0, (2 * nq), .inl fun j => iZ ((updZ (zcpy X (fun _ => 0) nx) nq px) j))), (c3, .inl (dA 0, nx, .inl fun j => iZ (Y j))), (qn_4, .inl (dA 0, (2 * nq), .inl fun j => iZ ((zcpy Y (fun _ => 0) nx) j)))] := hD
    refine lv_aload_n hx hb dX3_point_56 rfl (lv_at hl 0 rfl) ?_
    refine va_get (D := D) (ci := 2) (v := .ref qn_4) (C := RX3) (T := TX3) (N := 6) hx hb hts in_X3 hown hK.1 hP 0 rfl rfl 4 (Nat.le_of_ble_eq_true rfl) (hts _ q125) (fun _ h9 => h9) rfl dX3_point_57 ?_
    refine lv_aload_n hx hb dX3_point_60 rfl (lv_at hl 0 rfl) ?_
    refine va_get (D := D) (ci := 2) (v := .int (nI nq)) (C := RX3) (T := TX3) (N := 6) hx hb hts in_X3 hown hK.1 hP 0 rfl rfl 5 (Nat.le_of_ble_eq_true rfl) (hts _ q128) (fun _ h9 => h9) rfl dX3_point_61 ?_
    refine lv_iload_n hx hb dX3_point_64 rfl (lv_at hl 2 rfl) ?_
    refine zz_iastore (f := zcpy Y (fun _ => 0) nx) (i := nq) (x := py) hx hb hK.1 hP hD hS 5 0 rfl rfl (by omega) (by omega) dX3_point_65 (fun H locs hP hD hS => ?_)
    have hP : va_P D zCl [(h0, .inr (2, [.int (nI kd), .ref c1, .int (nI np), .ref qn_2, .ref qn_4, .int (nI nq)])), (c1, .inl (dA 0, ns, .inl fun j => nI (ST j))), (c2, .inl (dA 0, nx, .inl fun j => iZ (X j))), (qn_2, .inl (dA 0, (2 * nq), .inl fun j => iZ ((updZ (zcpy X (fun _ => 0) nx) nq px) j))), (c3, .inl (dA 0, nx, .inl fun j => iZ (Y j))), (qn_4, .inl (dA 0, (2 * nq), .inl fun j => iZ ((updZ (zcpy Y (fun _ => 0) nx) nq py) j)))] H := hP
    have hD : va_D A [(h0, .inr (2, [.int (nI kd), .ref c1, .int (nI np), .ref qn_2, .ref qn_4, .int (nI nq)])), (c1, .inl (dA 0, ns, .inl fun j => nI (ST j))), (c2, .inl (dA 0, nx, .inl fun j => iZ (X j))), (qn_2, .inl (dA 0, (2 * nq), .inl fun j => iZ ((updZ (zcpy X (fun _ => 0) nx) nq px) j))), (c3, .inl (dA 0, nx, .inl fun j => iZ (Y j))), (qn_4, .inl (dA 0, (2 * nq), .inl fun j => iZ ((updZ (zcpy Y (fun _ => 0) nx) nq py) j)))] := hD
    refine lv_aload_n hx hb dX3_point_66 rfl (lv_at hl 0 rfl) ?_
    refine lv_dup hx hb dX3_point_67 rfl ?_
    refine va_get (D := D) (ci := 2) (v := .int (nI nq)) (C := RX3) (T := TX3) (N := 6) hx hb hts in_X3 hown hK.1 hP 0 rfl rfl 5 (Nat.le_of_ble_eq_true rfl) (hts _ q128) (fun _ h9 => h9) rfl dX3_point_68 ?_
    refine lv_iconst (v := nI 1) hx hb dX3_point_71 (by decide) ?_
    refine zn_iadd hx hb dX3_point_72 ?_
    refine va_put (D := D) (ci := 2) (v := .int (nI (nq + 1))) (ty := .int) (C := RX3) (T := TX3) (N := 6) hx hb hts in_X3 tyX3 tyX3_ok nmX3 hown hK.1 hP hD hS 0 rfl rfl 5 (Nat.le_of_ble_eq_true rfl) (hts _ q128) (fun _ h9 => h9) rfl (by decide +kernel) rfl rfl (Nat.le_of_ble_eq_true rfl) dX3_point_73 (fun H locs hP hD hS => ?_)
    have hP : va_P D zCl [(h0, .inr (2, [.int (nI kd), .ref c1, .int (nI np), .ref qn_2, .ref qn_4, .int (nI (nq + 1))])), (c1, .inl (dA 0, ns, .inl fun j => nI (ST j))), (c2, .inl (dA 0, nx, .inl fun j => iZ (X j))), (qn_2, .inl (dA 0, (2 * nq), .inl fun j => iZ ((updZ (zcpy X (fun _ => 0) nx) nq px) j))), (c3, .inl (dA 0, nx, .inl fun j => iZ (Y j))), (qn_4, .inl (dA 0, (2 * nq), .inl fun j => iZ ((updZ (zcpy Y (fun _ => 0) nx) nq py) j)))] H := hP
    have hD : va_D A [(h0, .inr (2, [.int (nI kd), .ref c1, .int (nI np), .ref qn_2, .ref qn_4, .int (nI (nq + 1))])), (c1, .inl (dA 0, ns, .inl fun j => nI (ST j))), (c2, .inl (dA 0, nx, .inl fun j => iZ (X j))), (qn_2, .inl (dA 0, (2 * nq), .inl fun j => iZ ((updZ (zcpy X (fun _ => 0) nx) nq px) j))), (c3, .inl (dA 0, nx, .inl fun j => iZ (Y j))), (qn_4, .inl (dA 0, (2 * nq), .inl fun j => iZ ((updZ (zcpy Y (fun _ => 0) nx) nq py) j)))] := hD
    refine W.widen (k := 2) (n := 4 * nq) (by omega) (by omega) ?_
    exact zr_wrV (u := (qn_2, qn_4, (2 * nq), updZ (zcpy X (fun _ => 0) nx) nq px, updZ (zcpy Y (fun _ => 0) nx) nq py)) rfl (show nq < ((2 * nq)) ∧ ((2 * nq)) ≤ max nx (2 * nq) ∧ nx ≤ ((2 * nq)) ∧ (∀ k, k < nq → (updZ (zcpy X (fun _ => 0) nx) nq px) k = X k ∧ (updZ (zcpy Y (fun _ => 0) nx) nq py) k = Y k) ∧ (updZ (zcpy X (fun _ => 0) nx) nq px) nq = px ∧ (updZ (zcpy Y (fun _ => 0) nx) nq py) nq = py ∧ (∀ zk, zk ≠ nq → ((updZ (zcpy X (fun _ => 0) nx) nq px) zk = X zk ∨ (updZ (zcpy X (fun _ => 0) nx) nq px) zk = 0) ∧ ((updZ (zcpy Y (fun _ => 0) nx) nq py) zk = Y zk ∨ (updZ (zcpy Y (fun _ => 0) nx) nq py) zk = 0)) from ⟨by omega, by omega, by omega, fun k hk => by first | (rw [updZ_n (by omega), updZ_n (by omega)]; exact ⟨rfl, rfl⟩) | (rw [updZ_n (by omega), updZ_n (by omega), zcpy_lt (by omega), zcpy_lt (by omega)]; exact ⟨rfl, rfl⟩), updZ_s, updZ_s, fun zk hz => by first | (rw [updZ_n hz, updZ_n hz]; exact ⟨Or.inl rfl, Or.inl rfl⟩) | (rw [updZ_n hz, updZ_n hz]; rcases Nat.lt_or_ge zk nx with h | h; exact ⟨Or.inl (zcpy_lt (by omega)), Or.inl (zcpy_lt (by omega))⟩; exact ⟨Or.inr (zcpy_ge (by omega)), Or.inr (zcpy_ge (by omega))⟩)⟩) (hP.sub [0, 1, 3, 5] rfl) (hD.sub [0, 1, 3, 5] (by decide) rfl) hS hx hb hr hlocks dX3_point_76
set_option maxHeartbeats 4000000 in
set_option maxRecDepth 100000 in
theorem metX1_shape_ok0 (lG : Launch) (D : va_G) (dA : Nat → ClassId) (s0 : Nat) (r0 : Nat) (sh : Nat) (sg : Nat) (tk : Bool) (bx : Nat) (th : Nat) (tr : Nat) (ev : Nat) (stp : Nat) (mx : Nat) (rl : Bool) (wa : Nat) (la : Nat) (ra : Nat) (ti : Nat) (o0a : Nat) (o0b : Nat) (kda : Nat) (c1a : Nat) (npa : Nat) (c2a : Nat) (c3a : Nat) (nqa : Nat) (nsa : Nat) (nxa : Nat) (STa : Nat → Nat) (Xa : Nat → Int) (Ya : Nat → Int) (kk : Nat) (hk : 1 ≤ kk ∧ kk ≤ 3) : Wr lG yX1_shape (ws_ yX1_shape cX1_shape 5 (some .int)) 2 42 D dA [.ref s0, .int (nI 0), .int (nI kk)] [(s0, .inr (0, [.ref r0])), (r0, .inr (1, [.ref sh, .ref sg, .int (bI tk), .ref bx, .ref th, .ref tr, .ref ev, .ref stp, .ref mx, .int (bI rl), .ref wa, .ref la, .ref ra, .ref ti])), (sh, .inl (dA 3, 2, .inr (.inr (.inr (.inr (sh2 o0a o0b)))))), (o0a, .inr (2, [.int (nI kda), .ref c1a, .int (nI npa), .ref c2a, .ref c3a, .int (nI nqa)])), (c1a, .inl (dA 0, nsa, .inl fun j => nI (STa j))), (c2a, .inl (dA 0, nxa, .inl fun j => iZ (Xa j))), (c3a, .inl (dA 0, nxa, .inl fun j => iZ (Ya j)))] 0 0 (fun (_u : Unit) => True) (fun (_u : Unit) => some (.int (nI nqa))) (fun (_u : Unit) => [(s0, .inr (0, [.ref r0])), (r0, .inr (1, [.ref sh, .ref sg, .int (bI false), .ref bx, .ref th, .ref tr, .ref ev, .ref stp, .ref mx, .int (bI false), .ref wa, .ref la, .ref ra, .ref ti])), (sh, .inl (dA 3, 2, .inr (.inr (.inr (.inr (sh2 o0a o0b)))))), (o0a, .inr (2, [.int (nI kk), .ref c1a, .int (nI 0), .ref c2a, .ref c3a, .int (nI 0)])), (c1a, .inl (dA 0, nsa, .inl fun j => nI (STa j))), (c2a, .inl (dA 0, nxa, .inl fun j => iZ (Xa j))), (c3a, .inl (dA 0, nxa, .inl fun j => iZ (Ya j)))]) := by
  refine Wr.of (by decide) (Nat.le_of_ble_eq_true rfl) ?_
  intro pG eG sG mG bG tG cG ls A hx hb hr hml hown hts hlocks hnm hP hK hD hS hA hl
  have hK1 := hK.1
  have hown : sG.vm.findClass RX1 = some mG.cls := hown
  have hl : lv_has ls 5 [(0, .ref s0), (1, .int (nI 0)), (2, .int (nI kk))] := hl
  refine lv_aload_n hx hb dX1_shape_0 rfl (lv_at hl 0 rfl) ?_
  refine lv_iload_n hx hb dX1_shape_1 rfl (lv_at hl 1 rfl) ?_
  refine zc_roV (v := .ref o0a) (rest := []) ⟨hx, hb, hml, hown, hts⟩ (metX1_known_0 lG D dA s0 r0 sh sg tk bx th tr ev stp mx rl wa la ra ti o0a o0b ) (cwV 1 hts (lw_V q778 q780 qs28 q71 q781) rfl rfl rfl (by decide +kernel) ⟨Nat.le_of_ble_eq_true rfl, Nat.le_of_ble_eq_true rfl⟩) (va_recv hK.1 hP (ci := 0) (q0 := 0) rfl rfl) (hP.sub [0, 1, 2] rfl) hK rfl hl.1 rfl (Nat.le_of_ble_eq_true rfl) dX1_shape_2 ⟨Nat.zero_le _, Nat.zero_le _⟩ ?_
  refine lv_astore_n (lv' := [(3, .ref o0a), (0, .ref s0), (1, .int (nI 0)), (2, .int (nI kk))]) hx hb dX1_shape_5 rfl hl (by decide) rfl (fun ls hl => ?_)
  refine lv_iload_n hx hb dX1_shape_6 rfl (lv_at hl 3 rfl) ?_
  refine lv_iconst (v := nI 1) hx hb dX1_shape_7 (by decide) ?_
  refine zn_icmp_lt (tgt := 20) hx hb (by omega) (by decide) dX1_shape_8 (by decide) (fun c_1 => ?_) (fun c_1 => ?_)
  · skip
    exfalso; omega
  · skip
    refine lv_iload_n hx hb dX1_shape_11 rfl (lv_at hl 3 rfl) ?_
    refine lv_iconst (v := nI 3) hx hb dX1_shape_12 (by decide) ?_
    refine zn_icmp_gt (tgt := 20) hx hb (by omega) (by decide) dX1_shape_13 (by decide) (fun c_2 => ?_) (fun c_2 => ?_)
    · skip
      exfalso; omega
    · skip
      refine lv_iconst (v := bI true) hx hb dX1_shape_16 (by decide) ?_
      refine lv_goto (tgt := 21) hx hb dX1_shape_17 (by decide) ?_
      refine zc_roSv (rest := []) ⟨hx, hb, hml, hown, hts⟩ (metX1_right_ok lG D dA ) (va_cwS 1 hts (lw_S q810 q811 q71 q812) rfl rfl rfl (by decide +kernel) ⟨Nat.le_of_ble_eq_true rfl, Nat.le_of_ble_eq_true rfl⟩) (hP.sub [] rfl) hK rfl hl.1 rfl (Nat.le_of_ble_eq_true rfl) dX1_shape_21 ⟨Nat.zero_le _, Nat.zero_le _⟩ ?_
      refine lv_aload_n hx hb dX1_shape_24 rfl (lv_at hl 0 rfl) ?_
      refine va_getN (D := D) (ci := 2) (v := .int (nI nqa)) (C := RX3) (T := TX3) (N := 6) hx hb hts in_X3 hown hK.1 hP 3 rfl rfl 5 (Nat.le_of_ble_eq_true rfl) (hK.use zq130) (fun _ h9 => h9) rfl dX1_shape_25 ?_
      refine lv_istore (lv' := [(4, .int (nI nqa)), (3, .ref o0a), (0, .ref s0), (1, .int (nI 0)), (2, .int (nI kk))]) hx hb dX1_shape_28 hl (by decide) rfl (fun ls hl => ?_)
      refine lv_aload_n hx hb dX1_shape_30 rfl (lv_at hl 1 rfl) ?_
      refine lv_iload_n hx hb dX1_shape_31 rfl (lv_at hl 4 rfl) ?_
      refine zc_wrV (rest := []) (wr := [(s0, .inr (0, [.ref r0])), (r0, .inr (1, [.ref sh, .ref sg, .int (bI tk), .ref bx, .ref th, .ref tr, .ref ev, .ref stp, .ref mx, .int (bI rl), .ref wa, .ref la, .ref ra, .ref ti])), (sh, .inl (dA 3, 2, .inr (.inr (.inr (.inr (sh2 o0a o0b))))))]) ⟨hx, hb, hml, hown, hts⟩ (metX3_begin lG D dA o0a kda c1a npa c2a c3a nqa nsa nxa STa Xa Ya kk ) (cwV 1 hts (lw_V q828 q829 q830 q73 q831) rfl rfl rfl (by decide +kernel) ⟨Nat.le_of_ble_eq_true rfl, Nat.le_of_ble_eq_true rfl⟩) (va_recv hK.1 hP (ci := 2) (q0 := 3) rfl rfl) hP hK hD hS hA [3, 4, 5, 6] [0, 1, 2] rfl rfl (by decide) (by decide) (by decide) rfl hl.1 rfl (Nat.le_of_ble_eq_true rfl) dX1_shape_32 ⟨Nat.zero_le _, Nat.zero_le _⟩ (fun u H locs hp_3 hP hD hS => ?_)
      have hP : va_P D zCl [(s0, .inr (0, [.ref r0])), (r0, .inr (1, [.ref sh, .ref sg, .int (bI tk), .ref bx, .ref th, .ref tr, .ref ev, .ref stp, .ref mx, .int (bI rl), .ref wa, .ref la, .ref ra, .ref ti])), (sh, .inl (dA 3, 2, .inr (.inr (.inr (.inr (sh2 o0a o0b)))))), (o0a, .inr (2, [.int (nI kk), .ref c1a, .int (nI 0), .ref c2a, .ref c3a, .int (nI 0)])), (c1a, .inl (dA 0, nsa, .inl fun j => nI (STa j))), (c2a, .inl (dA 0, nxa, .inl fun j => iZ (Xa j))), (c3a, .inl (dA 0, nxa, .inl fun j => iZ (Ya j)))] H := hP
      have hD : va_D A [(s0, .inr (0, [.ref r0])), (r0, .inr (1, [.ref sh, .ref sg, .int (bI tk), .ref bx, .ref th, .ref tr, .ref ev, .ref stp, .ref mx, .int (bI rl), .ref wa, .ref la, .ref ra, .ref ti])), (sh, .inl (dA 3, 2, .inr (.inr (.inr (.inr (sh2 o0a o0b)))))), (o0a, .inr (2, [.int (nI kk), .ref c1a, .int (nI 0), .ref c2a, .ref c3a, .int (nI 0)])), (c1a, .inl (dA 0, nsa, .inl fun j => nI (STa j))), (c2a, .inl (dA 0, nxa, .inl fun j => iZ (Xa j))), (c3a, .inl (dA 0, nxa, .inl fun j => iZ (Ya j)))] := hD
      show W _ _ _ _ _ _ _ _ _ _ _ _ 0 0 _ (F0 mG 35 ls [])
      refine lv_aload_n hx hb dX1_shape_35 rfl (lv_at hl 2 rfl) ?_
      refine va_get (D := D) (ci := 0) (v := .ref r0) (C := RX1) (T := TX1) (N := 1) hx hb hts in_X1 hown hK.1 hP 0 rfl rfl 0 (Nat.le_of_ble_eq_true rfl) (hts _ q358) (fun _ h9 => h9) rfl dX1_shape_36 ?_
      refine zc_wrV (rest := []) (wr := [(s0, .inr (0, [.ref r0])), (sh, .inl (dA 3, 2, .inr (.inr (.inr (.inr (sh2 o0a o0b)))))), (o0a, .inr (2, [.int (nI kk), .ref c1a, .int (nI 0), .ref c2a, .ref c3a, .int (nI 0)])), (c1a, .inl (dA 0, nsa, .inl fun j => nI (STa j))), (c2a, .inl (dA 0, nxa, .inl fun j => iZ (Xa j))), (c3a, .inl (dA 0, nxa, .inl fun j => iZ (Ya j)))]) ⟨hx, hb, hml, hown, hts⟩ (metX2_change lG D dA r0 sh sg tk bx th tr ev stp mx rl wa la ra ti ) (cwV 0 hts (lw_V q832 q833 q834 q72 q835) rfl rfl rfl (by decide +kernel) ⟨Nat.le_of_ble_eq_true rfl, Nat.le_of_ble_eq_true rfl⟩) (va_recv hK.1 hP (ci := 1) (q0 := 1) rfl rfl) hP hK hD hS hA [1] [0, 2, 3, 4, 5, 6] rfl rfl (by decide) (by decide) (by decide) rfl hl.1 rfl (Nat.le_of_ble_eq_true rfl) dX1_shape_39 ⟨Nat.zero_le _, Nat.zero_le _⟩ (fun u H locs hp_4 hP hD hS => ?_)
      have hP : va_P D zCl [(s0, .inr (0, [.ref r0])), (sh, .inl (dA 3, 2, .inr (.inr (.inr (.inr (sh2 o0a o0b)))))), (o0a, .inr (2, [.int (nI kk), .ref c1a, .int (nI 0), .ref c2a, .ref c3a, .int (nI 0)])), (c1a, .inl (dA 0, nsa, .inl fun j => nI (STa j))), (c2a, .inl (dA 0, nxa, .inl fun j => iZ (Xa j))), (c3a, .inl (dA 0, nxa, .inl fun j => iZ (Ya j))), (r0, .inr (1, [.ref sh, .ref sg, .int (bI false), .ref bx, .ref th, .ref tr, .ref ev, .ref stp, .ref mx, .int (bI false), .ref wa, .ref la, .ref ra, .ref ti]))] H := hP
      have hD : va_D A [(s0, .inr (0, [.ref r0])), (sh, .inl (dA 3, 2, .inr (.inr (.inr (.inr (sh2 o0a o0b)))))), (o0a, .inr (2, [.int (nI kk), .ref c1a, .int (nI 0), .ref c2a, .ref c3a, .int (nI 0)])), (c1a, .inl (dA 0, nsa, .inl fun j => nI (STa j))), (c2a, .inl (dA 0, nxa, .inl fun j => iZ (Xa j))), (c3a, .inl (dA 0, nxa, .inl fun j => iZ (Ya j))), (r0, .inr (1, [.ref sh, .ref sg, .int (bI false), .ref bx, .ref th, .ref tr, .ref ev, .ref stp, .ref mx, .int (bI false), .ref wa, .ref la, .ref ra, .ref ti]))] := hD
      show W _ _ _ _ _ _ _ _ _ _ _ _ 0 0 _ (F0 mG 42 ls [])
      refine lv_iload hx hb dX1_shape_42 (lv_at hl 0 rfl) ?_
      exact zr_wrI (u := ()) rfl trivial (hP.sub [0, 6, 1, 2, 3, 4, 5] rfl) (hD.sub [0, 6, 1, 2, 3, 4, 5] (by decide) rfl) hS hx hb hr hlocks dX1_shape_44
set_option maxHeartbeats 4000000 in
set_option maxRecDepth 100000 in
theorem metX1_part_ok0 (lG : Launch) (D : va_G) (dA : Nat → ClassId) (s0 : Nat) (r0 : Nat) (sh : Nat) (sg : Nat) (tk : Bool) (bx : Nat) (th : Nat) (tr : Nat) (ev : Nat) (stp : Nat) (mx : Nat) (rl : Bool) (wa : Nat) (la : Nat) (ra : Nat) (ti : Nat) (o0a : Nat) (o0b : Nat) (kda : Nat) (c1a : Nat) (npa : Nat) (c2a : Nat) (c3a : Nat) (nqa : Nat) (nsa : Nat) (nxa : Nat) (STa : Nat → Nat) (Xa : Nat → Int) (Ya : Nat → Int) (hns : 1 ≤ nsa) (hns2 : nsa ≤ 4096) (hnp : npa ≤ nsa) (hnp9 : npa < 1024) : Wr lG yX1_part (ws_ yX1_part cX1_part 3 (some .int)) 3 82 D dA [.ref s0, .int (nI 0)] [(s0, .inr (0, [.ref r0])), (r0, .inr (1, [.ref sh, .ref sg, .int (bI tk), .ref bx, .ref th, .ref tr, .ref ev, .ref stp, .ref mx, .int (bI rl), .ref wa, .ref la, .ref ra, .ref ti])), (sh, .inl (dA 3, 2, .inr (.inr (.inr (.inr (sh2 o0a o0b)))))), (o0a, .inr (2, [.int (nI kda), .ref c1a, .int (nI npa), .ref c2a, .ref c3a, .int (nI nqa)])), (c1a, .inl (dA 0, nsa, .inl fun j => nI (STa j))), (c2a, .inl (dA 0, nxa, .inl fun j => iZ (Xa j))), (c3a, .inl (dA 0, nxa, .inl fun j => iZ (Ya j)))] 1 (2 * npa) (fun (u : Nat × Nat × (Nat → Nat)) => let b := u.1; let ns2 := u.2.1; let ST2 := u.2.2; npa < ns2 ∧ ns2 ≤ max nsa (2 * npa) ∧ nsa ≤ ns2 ∧ (∀ k, k < npa → ST2 k = STa k) ∧ ST2 npa = nqa) (fun (u : Nat × Nat × (Nat → Nat)) => let b := u.1; let ns2 := u.2.1; let ST2 := u.2.2; some (.int (nI (npa + 1)))) (fun (u : Nat × Nat × (Nat → Nat)) => let b := u.1; let ns2 := u.2.1; let ST2 := u.2.2; [(s0, .inr (0, [.ref r0])), (r0, .inr (1, [.ref sh, .ref sg, .int (bI false), .ref bx, .ref th, .ref tr, .ref ev, .ref stp, .ref mx, .int (bI false), .ref wa, .ref la, .ref ra, .ref ti])), (sh, .inl (dA 3, 2, .inr (.inr (.inr (.inr (sh2 o0a o0b)))))), (o0a, .inr (2, [.int (nI kda), .ref b, .int (nI (npa + 1)), .ref c2a, .ref c3a, .int (nI nqa)])), (b, .inl (dA 0, ns2, .inl fun j => nI (ST2 j))), (c2a, .inl (dA 0, nxa, .inl fun j => iZ (Xa j))), (c3a, .inl (dA 0, nxa, .inl fun j => iZ (Ya j)))]) := by
  refine Wr.of (by decide) (Nat.le_of_ble_eq_true rfl) ?_
  intro pG eG sG mG bG tG cG ls A hx hb hr hml hown hts hlocks hnm hP hK hD hS hA hl
  have hK1 := hK.1
  have hown : sG.vm.findClass RX1 = some mG.cls := hown
  have hl : lv_has ls 3 [(0, .ref s0), (1, .int (nI 0))] := hl
  refine lv_aload_n hx hb dX1_part_0 rfl (lv_at hl 0 rfl) ?_
  refine lv_iload_n hx hb dX1_part_1 rfl (lv_at hl 1 rfl) ?_
  refine zc_roV (v := .ref o0a) (rest := []) ⟨hx, hb, hml, hown, hts⟩ (metX1_known_0 lG D dA s0 r0 sh sg tk bx th tr ev stp mx rl wa la ra ti o0a o0b ) (cwV 1 hts (lw_V q778 q780 qs28 q71 q781) rfl rfl rfl (by decide +kernel) ⟨Nat.le_of_ble_eq_true rfl, Nat.le_of_ble_eq_true rfl⟩) (va_recv hK.1 hP (ci := 0) (q0 := 0) rfl rfl) (hP.sub [0, 1, 2] rfl) hK rfl hl.1 rfl (Nat.le_of_ble_eq_true rfl) dX1_part_2 ⟨Nat.zero_le _, Nat.zero_le _⟩ ?_
  refine lv_astore_n (lv' := [(2, .ref o0a), (0, .ref s0), (1, .int (nI 0))]) hx hb dX1_part_5 rfl hl (by decide) rfl (fun ls hl => ?_)
  refine lv_aload_n hx hb dX1_part_6 rfl (lv_at hl 0 rfl) ?_
  refine va_getN (D := D) (ci := 2) (v := .int (nI npa)) (C := RX3) (T := TX3) (N := 6) hx hb hts in_X3 hown hK.1 hP 3 rfl rfl 2 (Nat.le_of_ble_eq_true rfl) (hK.use zq121) (fun _ h9 => h9) rfl dX1_part_7 ?_
  refine lv_sipush (v := nI 1024) hx hb dX1_part_10 (by decide) ?_
  refine zn_icmp_ge (tgt := 20) hx hb (by omega) (by decide) dX1_part_13 (by decide) (fun c_1 => ?_) (fun c_1 => ?_)
  · skip
    exfalso; omega
  · skip
    refine lv_iconst (v := bI true) hx hb dX1_part_16 (by decide) ?_
    refine lv_goto (tgt := 21) hx hb dX1_part_17 (by decide) ?_
    refine zc_roSv (rest := []) ⟨hx, hb, hml, hown, hts⟩ (metX1_can_ok lG D dA ) (va_cwS 1 hts (lw_S q844 q845 q71 q846) rfl rfl rfl (by decide +kernel) ⟨Nat.le_of_ble_eq_true rfl, Nat.le_of_ble_eq_true rfl⟩) (hP.sub [] rfl) hK rfl hl.1 rfl (Nat.le_of_ble_eq_true rfl) dX1_part_21 ⟨Nat.zero_le _, Nat.zero_le _⟩ ?_
    refine lv_aload_n hx hb dX1_part_24 rfl (lv_at hl 0 rfl) ?_
    refine zc_wrV (rest := []) (wr := [(s0, .inr (0, [.ref r0])), (r0, .inr (1, [.ref sh, .ref sg, .int (bI tk), .ref bx, .ref th, .ref tr, .ref ev, .ref stp, .ref mx, .int (bI rl), .ref wa, .ref la, .ref ra, .ref ti])), (sh, .inl (dA 3, 2, .inr (.inr (.inr (.inr (sh2 o0a o0b))))))]) ⟨hx, hb, hml, hown, hts⟩ (metX3_part lG D dA o0a kda c1a npa c2a c3a nqa nsa nxa STa Xa Ya (by first | assumption | omega) (by first | assumption | omega) (by first | assumption | omega)) (cwV 0 hts (lw_V q862 q863 q864 q73 q865) rfl rfl rfl (by decide +kernel) ⟨Nat.le_of_ble_eq_true rfl, Nat.le_of_ble_eq_true rfl⟩) (va_recv hK.1 hP (ci := 2) (q0 := 3) rfl rfl) hP hK hD hS hA [3, 4, 5, 6] [0, 1, 2] rfl rfl (by decide) (by decide) (by decide) rfl hl.1 rfl (Nat.le_of_ble_eq_true rfl) dX1_part_25 ⟨show 0 + 1 ≤ 1 by omega, show 0 + (2 * npa) ≤ (2 * npa) by omega⟩ (fun u H locs hp9 hP hD hS => ?_)
    obtain ⟨b, ns2, ST2⟩ := u
    have hP : va_P D zCl [(s0, .inr (0, [.ref r0])), (r0, .inr (1, [.ref sh, .ref sg, .int (bI tk), .ref bx, .ref th, .ref tr, .ref ev, .ref stp, .ref mx, .int (bI rl), .ref wa, .ref la, .ref ra, .ref ti])), (sh, .inl (dA 3, 2, .inr (.inr (.inr (.inr (sh2 o0a o0b)))))), (o0a, .inr (2, [.int (nI kda), .ref b, .int (nI (npa + 1)), .ref c2a, .ref c3a, .int (nI nqa)])), (b, .inl (dA 0, ns2, .inl fun j => nI (ST2 j))), (c2a, .inl (dA 0, nxa, .inl fun j => iZ (Xa j))), (c3a, .inl (dA 0, nxa, .inl fun j => iZ (Ya j)))] H := hP
    have hD : va_D A [(s0, .inr (0, [.ref r0])), (r0, .inr (1, [.ref sh, .ref sg, .int (bI tk), .ref bx, .ref th, .ref tr, .ref ev, .ref stp, .ref mx, .int (bI rl), .ref wa, .ref la, .ref ra, .ref ti])), (sh, .inl (dA 3, 2, .inr (.inr (.inr (.inr (sh2 o0a o0b)))))), (o0a, .inr (2, [.int (nI kda), .ref b, .int (nI (npa + 1)), .ref c2a, .ref c3a, .int (nI nqa)])), (b, .inl (dA 0, ns2, .inl fun j => nI (ST2 j))), (c2a, .inl (dA 0, nxa, .inl fun j => iZ (Xa j))), (c3a, .inl (dA 0, nxa, .inl fun j => iZ (Ya j)))] := hD
    have hp9 : npa < ns2 ∧ ns2 ≤ max nsa (2 * npa) ∧ nsa ≤ ns2 ∧ (∀ k, k < npa → ST2 k = STa k) ∧ ST2 npa = nqa := hp9
    show W _ _ _ _ _ _ _ _ _ _ _ _ 1 (0 + (2 * npa)) _ (F0 mG 28 ls [])
    refine lv_aload_n hx hb dX1_part_28 rfl (lv_at hl 1 rfl) ?_
    refine va_get (D := D) (ci := 0) (v := .ref r0) (C := RX1) (T := TX1) (N := 1) hx hb hts in_X1 hown hK.1 hP 0 rfl rfl 0 (Nat.le_of_ble_eq_true rfl) (hts _ q358) (fun _ h9 => h9) rfl dX1_part_29 ?_
    refine zc_wrV (rest := []) (wr := [(s0, .inr (0, [.ref r0])), (sh, .inl (dA 3, 2, .inr (.inr (.inr (.inr (sh2 o0a o0b)))))), (o0a, .inr (2, [.int (nI kda), .ref b, .int (nI (npa + 1)), .ref c2a, .ref c3a, .int (nI nqa)])), (b, .inl (dA 0, ns2, .inl fun j => nI (ST2 j))), (c2a, .inl (dA 0, nxa, .inl fun j => iZ (Xa j))), (c3a, .inl (dA 0, nxa, .inl fun j => iZ (Ya j)))]) ⟨hx, hb, hml, hown, hts⟩ (metX2_change lG D dA r0 sh sg tk bx th tr ev stp mx rl wa la ra ti ) (cwV 0 hts (lw_V q832 q833 q834 q72 q835) rfl rfl rfl (by decide +kernel) ⟨Nat.le_of_ble_eq_true rfl, Nat.le_of_ble_eq_true rfl⟩) (va_recv hK.1 hP (ci := 1) (q0 := 1) rfl rfl) hP hK hD hS hA [1] [0, 2, 3, 4, 5, 6] rfl rfl (by decide) (by decide) (by decide) rfl hl.1 rfl (Nat.le_of_ble_eq_true rfl) dX1_part_32 ⟨show 1 ≤ 1 by omega, show (0 + (2 * npa)) ≤ (2 * npa) by omega⟩ (fun u H locs hp_2 hP hD hS => ?_)
    have hP : va_P D zCl [(s0, .inr (0, [.ref r0])), (sh, .inl (dA 3, 2, .inr (.inr (.inr (.inr (sh2 o0a o0b)))))), (o0a, .inr (2, [.int (nI kda), .ref b, .int (nI (npa + 1)), .ref c2a, .ref c3a, .int (nI nqa)])), (b, .inl (dA 0, ns2, .inl fun j => nI (ST2 j))), (c2a, .inl (dA 0, nxa, .inl fun j => iZ (Xa j))), (c3a, .inl (dA 0, nxa, .inl fun j => iZ (Ya j))), (r0, .inr (1, [.ref sh, .ref sg, .int (bI false), .ref bx, .ref th, .ref tr, .ref ev, .ref stp, .ref mx, .int (bI false), .ref wa, .ref la, .ref ra, .ref ti]))] H := hP
    have hD : va_D A [(s0, .inr (0, [.ref r0])), (sh, .inl (dA 3, 2, .inr (.inr (.inr (.inr (sh2 o0a o0b)))))), (o0a, .inr (2, [.int (nI kda), .ref b, .int (nI (npa + 1)), .ref c2a, .ref c3a, .int (nI nqa)])), (b, .inl (dA 0, ns2, .inl fun j => nI (ST2 j))), (c2a, .inl (dA 0, nxa, .inl fun j => iZ (Xa j))), (c3a, .inl (dA 0, nxa, .inl fun j => iZ (Ya j))), (r0, .inr (1, [.ref sh, .ref sg, .int (bI false), .ref bx, .ref th, .ref tr, .ref ev, .ref stp, .ref mx, .int (bI false), .ref wa, .ref la, .ref ra, .ref ti]))] := hD
    show W _ _ _ _ _ _ _ _ _ _ _ _ 1 (0 + (2 * npa)) _ (F0 mG 35 ls [])
    refine lv_aload_n hx hb dX1_part_35 rfl (lv_at hl 0 rfl) ?_
    refine va_getN (D := D) (ci := 2) (v := .int (nI (npa + 1))) (C := RX3) (T := TX3) (N := 6) hx hb hts in_X3 hown hK.1 hP 2 rfl rfl 2 (Nat.le_of_ble_eq_true rfl) (hK.use zq121) (fun _ h9 => h9) rfl dX1_part_36 ?_
    refine W.widen (k := 1) (n := 2 * npa) (by omega) (by omega) ?_
    exact zr_wrI (u := (b, ns2, ST2)) rfl (show npa < ns2 ∧ ns2 ≤ max nsa (2 * npa) ∧ nsa ≤ ns2 ∧ (∀ k, k < npa → ST2 k = STa k) ∧ ST2 npa = nqa from hp9) (hP.sub [0, 6, 1, 2, 3, 4, 5] rfl) (hD.sub [0, 6, 1, 2, 3, 4, 5] (by decide) rfl) hS hx hb hr hlocks dX1_part_39
set_option maxHeartbeats 4000000 in
set_option maxRecDepth 100000 in
theorem metX1_point_ok0 (lG : Launch) (D : va_G) (dA : Nat → ClassId) (s0 : Nat) (r0 : Nat) (sh : Nat) (sg : Nat) (tk : Bool) (bx : Nat) (th : Nat) (tr : Nat) (ev : Nat) (stp : Nat) (mx : Nat) (rl : Bool) (wa : Nat) (la : Nat) (ra : Nat) (ti : Nat) (o0a : Nat) (o0b : Nat) (kda : Nat) (c1a : Nat) (npa : Nat) (c2a : Nat) (c3a : Nat) (nqa : Nat) (nsa : Nat) (nxa : Nat) (STa : Nat → Nat) (Xa : Nat → Int) (Ya : Nat → Int) (x : Int) (y : Int) (hxy : wiZ x (-500000000) 500000000 = true ∧ wiZ y (-500000000) 500000000 = true) (hxI : inI x) (hyI : inI y) (hnx : 1 ≤ nxa) (hnx2 : nxa ≤ 4096) (hnq : nqa ≤ nxa) (hnp9 : 1 ≤ npa) (hnp8 : npa ≤ 4096) (hnq9 : nqa < 2048) : Wr lG yX1_point (ws_ yX1_point cX1_point 5 (some .int)) 3 84 D dA [.ref s0, .int (nI 0), .int (iZ x), .int (iZ y)] [(s0, .inr (0, [.ref r0])), (r0, .inr (1, [.ref sh, .ref sg, .int (bI tk), .ref bx, .ref th, .ref tr, .ref ev, .ref stp, .ref mx, .int (bI rl), .ref wa, .ref la, .ref ra, .ref ti])), (sh, .inl (dA 3, 2, .inr (.inr (.inr (.inr (sh2 o0a o0b)))))), (o0a, .inr (2, [.int (nI kda), .ref c1a, .int (nI npa), .ref c2a, .ref c3a, .int (nI nqa)])), (c1a, .inl (dA 0, nsa, .inl fun j => nI (STa j))), (c2a, .inl (dA 0, nxa, .inl fun j => iZ (Xa j))), (c3a, .inl (dA 0, nxa, .inl fun j => iZ (Ya j)))] 2 (4 * nqa) (fun (u : Nat × Nat × Nat × (Nat → Int) × (Nat → Int)) => let b1 := u.1; let b2 := u.2.1; let nx2 := u.2.2.1; let X2 := u.2.2.2.1; let Y2 := u.2.2.2.2; nqa < nx2 ∧ nx2 ≤ max nxa (2 * nqa) ∧ nxa ≤ nx2 ∧ (∀ k, k < nqa → X2 k = Xa k ∧ Y2 k = Ya k) ∧ X2 nqa = x ∧ Y2 nqa = y ∧ (∀ zk, zk ≠ nqa → (X2 zk = Xa zk ∨ X2 zk = 0) ∧ (Y2 zk = Ya zk ∨ Y2 zk = 0))) (fun (u : Nat × Nat × Nat × (Nat → Int) × (Nat → Int)) => let b1 := u.1; let b2 := u.2.1; let nx2 := u.2.2.1; let X2 := u.2.2.2.1; let Y2 := u.2.2.2.2; some (.int (nI (nqa + 1)))) (fun (u : Nat × Nat × Nat × (Nat → Int) × (Nat → Int)) => let b1 := u.1; let b2 := u.2.1; let nx2 := u.2.2.1; let X2 := u.2.2.2.1; let Y2 := u.2.2.2.2; [(s0, .inr (0, [.ref r0])), (r0, .inr (1, [.ref sh, .ref sg, .int (bI false), .ref bx, .ref th, .ref tr, .ref ev, .ref stp, .ref mx, .int (bI false), .ref wa, .ref la, .ref ra, .ref ti])), (sh, .inl (dA 3, 2, .inr (.inr (.inr (.inr (sh2 o0a o0b)))))), (o0a, .inr (2, [.int (nI kda), .ref c1a, .int (nI npa), .ref b1, .ref b2, .int (nI (nqa + 1))])), (c1a, .inl (dA 0, nsa, .inl fun j => nI (STa j))), (b1, .inl (dA 0, nx2, .inl fun j => iZ (X2 j))), (b2, .inl (dA 0, nx2, .inl fun j => iZ (Y2 j)))]) := by
  refine Wr.of (by decide) (Nat.le_of_ble_eq_true rfl) ?_
  intro pG eG sG mG bG tG cG ls A hx hb hr hml hown hts hlocks hnm hP hK hD hS hA hl
  have hK1 := hK.1
  have hown : sG.vm.findClass RX1 = some mG.cls := hown
  have hl : lv_has ls 5 [(0, .ref s0), (1, .int (nI 0)), (2, .int (iZ x)), (3, .int (iZ y))] := hl
  refine lv_aload_n hx hb dX1_point_0 rfl (lv_at hl 0 rfl) ?_
  refine lv_iload_n hx hb dX1_point_1 rfl (lv_at hl 1 rfl) ?_
  refine zc_roV (v := .ref o0a) (rest := []) ⟨hx, hb, hml, hown, hts⟩ (metX1_known_0 lG D dA s0 r0 sh sg tk bx th tr ev stp mx rl wa la ra ti o0a o0b ) (cwV 1 hts (lw_V q778 q780 qs28 q71 q781) rfl rfl rfl (by decide +kernel) ⟨Nat.le_of_ble_eq_true rfl, Nat.le_of_ble_eq_true rfl⟩) (va_recv hK.1 hP (ci := 0) (q0 := 0) rfl rfl) (hP.sub [0, 1, 2] rfl) hK rfl hl.1 rfl (Nat.le_of_ble_eq_true rfl) dX1_point_2 ⟨Nat.zero_le _, Nat.zero_le _⟩ ?_
  refine lv_astore (lv' := [(4, .ref o0a), (0, .ref s0), (1, .int (nI 0)), (2, .int (iZ x)), (3, .int (iZ y))]) hx hb dX1_point_5 hl (by decide) rfl (fun ls hl => ?_)
  refine lv_iload_n hx hb dX1_point_7 rfl (lv_at hl 3 rfl) ?_
  refine zc_roS (v := .int (bI (wiZ x (-500000000) 500000000))) (rest := []) ⟨hx, hb, hml, hown, hts⟩ (metX1_isPlace lG D dA x (by first | assumption | omega)) (va_cwS 1 hts (lw_S q874 q875 q71 q876) rfl rfl rfl (by decide +kernel) ⟨Nat.le_of_ble_eq_true rfl, Nat.le_of_ble_eq_true rfl⟩) (hP.sub [] rfl) hK rfl hl.1 rfl (Nat.le_of_ble_eq_true rfl) dX1_point_8 ⟨Nat.zero_le _, Nat.zero_le _⟩ ?_
  refine zb_if_eq (tgt := 25) hx hb dX1_point_11 (by decide) (fun hq1 => ?_) (fun hq1 => ?_)
  · skip
    exfalso; rw [hxy.1] at hq1; cases hq1
  · skip
    refine lv_iload_n hx hb dX1_point_14 rfl (lv_at hl 4 rfl) ?_
    refine zc_roS (v := .int (bI (wiZ y (-500000000) 500000000))) (rest := []) ⟨hx, hb, hml, hown, hts⟩ (metX1_isPlace lG D dA y (by first | assumption | omega)) (va_cwS 1 hts (lw_S q874 q875 q71 q876) rfl rfl rfl (by decide +kernel) ⟨Nat.le_of_ble_eq_true rfl, Nat.le_of_ble_eq_true rfl⟩) (hP.sub [] rfl) hK rfl hl.1 rfl (Nat.le_of_ble_eq_true rfl) dX1_point_15 ⟨Nat.zero_le _, Nat.zero_le _⟩ ?_
    refine zb_if_eq (tgt := 25) hx hb dX1_point_18 (by decide) (fun hq2 => ?_) (fun hq2 => ?_)
    · skip
      exfalso; rw [hxy.2] at hq2; cases hq2
    · skip
      refine lv_iconst (v := bI true) hx hb dX1_point_21 (by decide) ?_
      refine lv_goto (tgt := 26) hx hb dX1_point_22 (by decide) ?_
      refine zc_roSv (rest := []) ⟨hx, hb, hml, hown, hts⟩ (metX1_right_ok lG D dA ) (va_cwS 1 hts (lw_S q810 q811 q71 q812) rfl rfl rfl (by decide +kernel) ⟨Nat.le_of_ble_eq_true rfl, Nat.le_of_ble_eq_true rfl⟩) (hP.sub [] rfl) hK rfl hl.1 rfl (Nat.le_of_ble_eq_true rfl) dX1_point_26 ⟨Nat.zero_le _, Nat.zero_le _⟩ ?_
      refine lv_aload hx hb dX1_point_29 (lv_at hl 0 rfl) ?_
      refine va_getN (D := D) (ci := 2) (v := .int (nI npa)) (C := RX3) (T := TX3) (N := 6) hx hb hts in_X3 hown hK.1 hP 3 rfl rfl 2 (Nat.le_of_ble_eq_true rfl) (hK.use zq121) (fun _ h9 => h9) rfl dX1_point_31 ?_
      refine zn_if_le (tgt := 52) hx hb (by omega) dX1_point_34 (by decide) (fun c_1 => ?_) (fun c_1 => ?_)
      · skip
        exfalso; omega
      · skip
        refine lv_aload hx hb dX1_point_37 (lv_at hl 0 rfl) ?_
        refine va_getN (D := D) (ci := 2) (v := .int (nI nqa)) (C := RX3) (T := TX3) (N := 6) hx hb hts in_X3 hown hK.1 hP 3 rfl rfl 5 (Nat.le_of_ble_eq_true rfl) (hK.use zq130) (fun _ h9 => h9) rfl dX1_point_39 ?_
        refine lv_sipush (v := nI 2048) hx hb dX1_point_42 (by decide) ?_
        refine zn_icmp_ge (tgt := 52) hx hb (by omega) (by decide) dX1_point_45 (by decide) (fun c_2 => ?_) (fun c_2 => ?_)
        · skip
          exfalso; omega
        · skip
          refine lv_iconst (v := bI true) hx hb dX1_point_48 (by decide) ?_
          refine lv_goto (tgt := 53) hx hb dX1_point_49 (by decide) ?_
          refine zc_roSv (rest := []) ⟨hx, hb, hml, hown, hts⟩ (metX1_can_ok lG D dA ) (va_cwS 1 hts (lw_S q844 q845 q71 q846) rfl rfl rfl (by decide +kernel) ⟨Nat.le_of_ble_eq_true rfl, Nat.le_of_ble_eq_true rfl⟩) (hP.sub [] rfl) hK rfl hl.1 rfl (Nat.le_of_ble_eq_true rfl) dX1_point_53 ⟨Nat.zero_le _, Nat.zero_le _⟩ ?_
          refine lv_aload hx hb dX1_point_56 (lv_at hl 0 rfl) ?_
          refine lv_iload_n hx hb dX1_point_58 rfl (lv_at hl 3 rfl) ?_
          refine lv_iload_n hx hb dX1_point_59 rfl (lv_at hl 4 rfl) ?_
          refine zc_wrV (rest := []) (wr := [(s0, .inr (0, [.ref r0])), (r0, .inr (1, [.ref sh, .ref sg, .int (bI tk), .ref bx, .ref th, .ref tr, .ref ev, .ref stp, .ref mx, .int (bI rl), .ref wa, .ref la, .ref ra, .ref ti])), (sh, .inl (dA 3, 2, .inr (.inr (.inr (.inr (sh2 o0a o0b))))))]) ⟨hx, hb, hml, hown, hts⟩ (metX3_point_z lG D dA o0a kda c1a npa c2a c3a nqa nsa nxa STa Xa Ya x y (by first | assumption | omega) (by first | assumption | omega) (by first | assumption | omega)) (cwV 2 hts (lw_V q879 q880 q881 q73 q882) rfl rfl rfl (by decide +kernel) ⟨Nat.le_of_ble_eq_true rfl, Nat.le_of_ble_eq_true rfl⟩) (va_recv hK.1 hP (ci := 2) (q0 := 3) rfl rfl) hP hK hD hS hA [3, 4, 5, 6] [0, 1, 2] rfl rfl (by decide) (by decide) (by decide) rfl hl.1 rfl (Nat.le_of_ble_eq_true rfl) dX1_point_60 ⟨show 0 + 2 ≤ 2 by omega, show 0 + (4 * nqa) ≤ (4 * nqa) by omega⟩ (fun u H locs hp9 hP hD hS => ?_)
          obtain ⟨b1, b2, nx2, X2, Y2⟩ := u
          have hP : va_P D zCl [(s0, .inr (0, [.ref r0])), (r0, .inr (1, [.ref sh, .ref sg, .int (bI tk), .ref bx, .ref th, .ref tr, .ref ev, .ref stp, .ref mx, .int (bI rl), .ref wa, .ref la, .ref ra, .ref ti])), (sh, .inl (dA 3, 2, .inr (.inr (.inr (.inr (sh2 o0a o0b)))))), (o0a, .inr (2, [.int (nI kda), .ref c1a, .int (nI npa), .ref b1, .ref b2, .int (nI (nqa + 1))])), (c1a, .inl (dA 0, nsa, .inl fun j => nI (STa j))), (b1, .inl (dA 0, nx2, .inl fun j => iZ (X2 j))), (b2, .inl (dA 0, nx2, .inl fun j => iZ (Y2 j)))] H := hP
          have hD : va_D A [(s0, .inr (0, [.ref r0])), (r0, .inr (1, [.ref sh, .ref sg, .int (bI tk), .ref bx, .ref th, .ref tr, .ref ev, .ref stp, .ref mx, .int (bI rl), .ref wa, .ref la, .ref ra, .ref ti])), (sh, .inl (dA 3, 2, .inr (.inr (.inr (.inr (sh2 o0a o0b)))))), (o0a, .inr (2, [.int (nI kda), .ref c1a, .int (nI npa), .ref b1, .ref b2, .int (nI (nqa + 1))])), (c1a, .inl (dA 0, nsa, .inl fun j => nI (STa j))), (b1, .inl (dA 0, nx2, .inl fun j => iZ (X2 j))), (b2, .inl (dA 0, nx2, .inl fun j => iZ (Y2 j)))] := hD
          have hp9 : nqa < nx2 ∧ nx2 ≤ max nxa (2 * nqa) ∧ nxa ≤ nx2 ∧ (∀ k, k < nqa → X2 k = Xa k ∧ Y2 k = Ya k) ∧ X2 nqa = x ∧ Y2 nqa = y ∧ (∀ zk, zk ≠ nqa → (X2 zk = Xa zk ∨ X2 zk = 0) ∧ (Y2 zk = Ya zk ∨ Y2 zk = 0)) := hp9
          show W _ _ _ _ _ _ _ _ _ _ _ _ 2 (0 + (4 * nqa)) _ (F0 mG 63 ls [])
          refine lv_aload_n hx hb dX1_point_63 rfl (lv_at hl 1 rfl) ?_
          refine va_get (D := D) (ci := 0) (v := .ref r0) (C := RX1) (T := TX1) (N := 1) hx hb hts in_X1 hown hK.1 hP 0 rfl rfl 0 (Nat.le_of_ble_eq_true rfl) (hts _ q358) (fun _ h9 => h9) rfl dX1_point_64 ?_
          refine zc_wrV (rest := []) (wr := [(s0, .inr (0, [.ref r0])), (sh, .inl (dA 3, 2, .inr (.inr (.inr (.inr (sh2 o0a o0b)))))), (o0a, .inr (2, [.int (nI kda), .ref c1a, .int (nI npa), .ref b1, .ref b2, .int (nI (nqa + 1))])), (c1a, .inl (dA 0, nsa, .inl fun j => nI (STa j))), (b1, .inl (dA 0, nx2, .inl fun j => iZ (X2 j))), (b2, .inl (dA 0, nx2, .inl fun j => iZ (Y2 j)))]) ⟨hx, hb, hml, hown, hts⟩ (metX2_change lG D dA r0 sh sg tk bx th tr ev stp mx rl wa la ra ti ) (cwV 0 hts (lw_V q832 q833 q834 q72 q835) rfl rfl rfl (by decide +kernel) ⟨Nat.le_of_ble_eq_true rfl, Nat.le_of_ble_eq_true rfl⟩) (va_recv hK.1 hP (ci := 1) (q0 := 1) rfl rfl) hP hK hD hS hA [1] [0, 2, 3, 4, 5, 6] rfl rfl (by decide) (by decide) (by decide) rfl hl.1 rfl (Nat.le_of_ble_eq_true rfl) dX1_point_67 ⟨show 2 ≤ 2 by omega, show (0 + (4 * nqa)) ≤ (4 * nqa) by omega⟩ (fun u H locs hp_3 hP hD hS => ?_)
          have hP : va_P D zCl [(s0, .inr (0, [.ref r0])), (sh, .inl (dA 3, 2, .inr (.inr (.inr (.inr (sh2 o0a o0b)))))), (o0a, .inr (2, [.int (nI kda), .ref c1a, .int (nI npa), .ref b1, .ref b2, .int (nI (nqa + 1))])), (c1a, .inl (dA 0, nsa, .inl fun j => nI (STa j))), (b1, .inl (dA 0, nx2, .inl fun j => iZ (X2 j))), (b2, .inl (dA 0, nx2, .inl fun j => iZ (Y2 j))), (r0, .inr (1, [.ref sh, .ref sg, .int (bI false), .ref bx, .ref th, .ref tr, .ref ev, .ref stp, .ref mx, .int (bI false), .ref wa, .ref la, .ref ra, .ref ti]))] H := hP
          have hD : va_D A [(s0, .inr (0, [.ref r0])), (sh, .inl (dA 3, 2, .inr (.inr (.inr (.inr (sh2 o0a o0b)))))), (o0a, .inr (2, [.int (nI kda), .ref c1a, .int (nI npa), .ref b1, .ref b2, .int (nI (nqa + 1))])), (c1a, .inl (dA 0, nsa, .inl fun j => nI (STa j))), (b1, .inl (dA 0, nx2, .inl fun j => iZ (X2 j))), (b2, .inl (dA 0, nx2, .inl fun j => iZ (Y2 j))), (r0, .inr (1, [.ref sh, .ref sg, .int (bI false), .ref bx, .ref th, .ref tr, .ref ev, .ref stp, .ref mx, .int (bI false), .ref wa, .ref la, .ref ra, .ref ti]))] := hD
          show W _ _ _ _ _ _ _ _ _ _ _ _ 2 (0 + (4 * nqa)) _ (F0 mG 70 ls [])
          refine lv_aload hx hb dX1_point_70 (lv_at hl 0 rfl) ?_
          refine va_getN (D := D) (ci := 2) (v := .int (nI (nqa + 1))) (C := RX3) (T := TX3) (N := 6) hx hb hts in_X3 hown hK.1 hP 2 rfl rfl 5 (Nat.le_of_ble_eq_true rfl) (hK.use zq130) (fun _ h9 => h9) rfl dX1_point_72 ?_
          refine W.widen (k := 2) (n := 4 * nqa) (by omega) (by omega) ?_
          exact zr_wrI (u := (b1, b2, nx2, X2, Y2)) rfl (show nqa < nx2 ∧ nx2 ≤ max nxa (2 * nqa) ∧ nxa ≤ nx2 ∧ (∀ k, k < nqa → X2 k = Xa k ∧ Y2 k = Ya k) ∧ X2 nqa = x ∧ Y2 nqa = y ∧ (∀ zk, zk ≠ nqa → (X2 zk = Xa zk ∨ X2 zk = 0) ∧ (Y2 zk = Ya zk ∨ Y2 zk = 0)) from hp9) (hP.sub [0, 6, 1, 2, 3, 4, 5] rfl) (hD.sub [0, 6, 1, 2, 3, 4, 5] (by decide) rfl) hS hx hb hr hlocks dX1_point_75
set_option maxHeartbeats 4000000 in
set_option maxRecDepth 100000 in
theorem metX1_count_00 (lG : Launch) (D : va_G) (dA : Nat → ClassId) (s0 : Nat) (r0 : Nat) (sh : Nat) (sg : Nat) (tk : Bool) (bx : Nat) (th : Nat) (tr : Nat) (ev : Nat) (stp : Nat) (mx : Nat) (rl : Bool) (wa : Nat) (la : Nat) (ra : Nat) (ti : Nat) (o0a : Nat) (o0b : Nat) (kda : Nat) (c1a : Nat) (npa : Nat) (c2a : Nat) (c3a : Nat) (nqa : Nat) (nsa : Nat) (nxa : Nat) (STa : Nat → Nat) (Xa : Nat → Int) (Ya : Nat → Int)  : Ro lG yX1_count (ws_ yX1_count cX1_count 4 (some .int)) 2 42 D dA [.ref s0, .int (nI 0), .int (nI 0)] [(s0, .inr (0, [.ref r0])), (r0, .inr (1, [.ref sh, .ref sg, .int (bI tk), .ref bx, .ref th, .ref tr, .ref ev, .ref stp, .ref mx, .int (bI rl), .ref wa, .ref la, .ref ra, .ref ti])), (sh, .inl (dA 3, 2, .inr (.inr (.inr (.inr (sh2 o0a o0b)))))), (o0a, .inr (2, [.int (nI kda), .ref c1a, .int (nI npa), .ref c2a, .ref c3a, .int (nI nqa)])), (c1a, .inl (dA 0, nsa, .inl fun j => nI (STa j))), (c2a, .inl (dA 0, nxa, .inl fun j => iZ (Xa j))), (c3a, .inl (dA 0, nxa, .inl fun j => iZ (Ya j)))] (some (.int (nI kda))) := by
  refine Ro.of (by decide) (Nat.le_of_ble_eq_true rfl) ?_
  intro pG eG sG mG bG tG cG ls hx hb hr hml hown hts hlocks hP hK hl
  have hown : sG.vm.findClass RX1 = some mG.cls := hown
  have hl : lv_has ls 4 [(0, .ref s0), (1, .int (nI 0)), (2, .int (nI 0))] := hl
  refine lv_aload_n hx hb dX1_count_0 rfl (lv_at hl 0 rfl) ?_
  refine lv_iload_n hx hb dX1_count_1 rfl (lv_at hl 1 rfl) ?_
  refine zc_roV (v := .ref o0a) (rest := []) ⟨hx, hb, hml, hown, hts⟩ (metX1_known_0 lG D dA s0 r0 sh sg tk bx th tr ev stp mx rl wa la ra ti o0a o0b ) (cwV 1 hts (lw_V q778 q780 qs28 q71 q781) rfl rfl rfl (by decide +kernel) ⟨Nat.le_of_ble_eq_true rfl, Nat.le_of_ble_eq_true rfl⟩) (va_recv hK.1 hP (ci := 0) (q0 := 0) rfl rfl) (hP.sub [0, 1, 2] rfl) hK rfl hl.1 rfl (Nat.le_of_ble_eq_true rfl) dX1_count_2 ⟨Nat.zero_le _, Nat.zero_le _⟩ ?_
  refine lv_astore_n (lv' := [(3, .ref o0a), (0, .ref s0), (1, .int (nI 0)), (2, .int (nI 0))]) hx hb dX1_count_5 rfl hl (by decide) rfl (fun ls hl => ?_)
  refine lv_iload_n hx hb dX1_count_6 rfl (lv_at hl 3 rfl) ?_
  refine zn_if_lt (tgt := 19) hx hb (by decide) dX1_count_7 (by decide) (fun c_1 => ?_) (fun c_1 => ?_)
  · skip
    exfalso; omega
  · skip
    refine lv_iload_n hx hb dX1_count_10 rfl (lv_at hl 3 rfl) ?_
    refine lv_iconst (v := nI 3) hx hb dX1_count_11 (by decide) ?_
    refine zn_icmp_ge (tgt := 19) hx hb (by decide) (by decide) dX1_count_12 (by decide) (fun c_2 => ?_) (fun c_2 => ?_)
    · skip
      exfalso; omega
    · skip
      refine lv_iconst (v := bI true) hx hb dX1_count_15 (by decide) ?_
      refine lv_goto (tgt := 20) hx hb dX1_count_16 (by decide) ?_
      refine zc_roSv (rest := []) ⟨hx, hb, hml, hown, hts⟩ (metX1_there_ok lG D dA ) (va_cwS 1 hts (lw_S q782 q783 q71 q784) rfl rfl rfl (by decide +kernel) ⟨Nat.le_of_ble_eq_true rfl, Nat.le_of_ble_eq_true rfl⟩) (hP.sub [] rfl) hK rfl hl.1 rfl (Nat.le_of_ble_eq_true rfl) dX1_count_20 ⟨Nat.zero_le _, Nat.zero_le _⟩ ?_
      refine lv_iload_n hx hb dX1_count_23 rfl (lv_at hl 3 rfl) ?_
      refine zn_if_ne (tgt := 34) hx hb (by decide) dX1_count_24 (by decide) (fun c_3 => ?_) (fun c_3 => ?_)
      · skip
        exfalso; omega
      · skip
        refine lv_aload_n hx hb dX1_count_27 rfl (lv_at hl 0 rfl) ?_
        refine va_getN (D := D) (ci := 2) (v := .int (nI kda)) (C := RX3) (T := TX3) (N := 6) hx hb hts in_X3 hown hK.1 hP 3 rfl rfl 0 (Nat.le_of_ble_eq_true rfl) (hK.use zq116) (fun _ h9 => h9) rfl dX1_count_28 ?_
        refine lv_goto (tgt := 50) hx hb dX1_count_31 (by decide) ?_
        exact zr_roI rfl hx hb hr hlocks dX1_count_50
set_option maxHeartbeats 4000000 in
set_option maxRecDepth 100000 in
theorem metX1_count_01 (lG : Launch) (D : va_G) (dA : Nat → ClassId) (s0 : Nat) (r0 : Nat) (sh : Nat) (sg : Nat) (tk : Bool) (bx : Nat) (th : Nat) (tr : Nat) (ev : Nat) (stp : Nat) (mx : Nat) (rl : Bool) (wa : Nat) (la : Nat) (ra : Nat) (ti : Nat) (o0a : Nat) (o0b : Nat) (kda : Nat) (c1a : Nat) (npa : Nat) (c2a : Nat) (c3a : Nat) (nqa : Nat) (nsa : Nat) (nxa : Nat) (STa : Nat → Nat) (Xa : Nat → Int) (Ya : Nat → Int)  : Ro lG yX1_count (ws_ yX1_count cX1_count 4 (some .int)) 2 42 D dA [.ref s0, .int (nI 0), .int (nI 1)] [(s0, .inr (0, [.ref r0])), (r0, .inr (1, [.ref sh, .ref sg, .int (bI tk), .ref bx, .ref th, .ref tr, .ref ev, .ref stp, .ref mx, .int (bI rl), .ref wa, .ref la, .ref ra, .ref ti])), (sh, .inl (dA 3, 2, .inr (.inr (.inr (.inr (sh2 o0a o0b)))))), (o0a, .inr (2, [.int (nI kda), .ref c1a, .int (nI npa), .ref c2a, .ref c3a, .int (nI nqa)])), (c1a, .inl (dA 0, nsa, .inl fun j => nI (STa j))), (c2a, .inl (dA 0, nxa, .inl fun j => iZ (Xa j))), (c3a, .inl (dA 0, nxa, .inl fun j => iZ (Ya j)))] (some (.int (nI npa))) := by
  refine Ro.of (by decide) (Nat.le_of_ble_eq_true rfl) ?_
  intro pG eG sG mG bG tG cG ls hx hb hr hml hown hts hlocks hP hK hl
  have hown : sG.vm.findClass RX1 = some mG.cls := hown
  have hl : lv_has ls 4 [(0, .ref s0), (1, .int (nI 0)), (2, .int (nI 1))] := hl
  refine lv_aload_n hx hb dX1_count_0 rfl (lv_at hl 0 rfl) ?_
  refine lv_iload_n hx hb dX1_count_1 rfl (lv_at hl 1 rfl) ?_
  refine zc_roV (v := .ref o0a) (rest := []) ⟨hx, hb, hml, hown, hts⟩ (metX1_known_0 lG D dA s0 r0 sh sg tk bx th tr ev stp mx rl wa la ra ti o0a o0b ) (cwV 1 hts (lw_V q778 q780 qs28 q71 q781) rfl rfl rfl (by decide +kernel) ⟨Nat.le_of_ble_eq_true rfl, Nat.le_of_ble_eq_true rfl⟩) (va_recv hK.1 hP (ci := 0) (q0 := 0) rfl rfl) (hP.sub [0, 1, 2] rfl) hK rfl hl.1 rfl (Nat.le_of_ble_eq_true rfl) dX1_count_2 ⟨Nat.zero_le _, Nat.zero_le _⟩ ?_
  refine lv_astore_n (lv' := [(3, .ref o0a), (0, .ref s0), (1, .int (nI 0)), (2, .int (nI 1))]) hx hb dX1_count_5 rfl hl (by decide) rfl (fun ls hl => ?_)
  refine lv_iload_n hx hb dX1_count_6 rfl (lv_at hl 3 rfl) ?_
  refine zn_if_lt (tgt := 19) hx hb (by decide) dX1_count_7 (by decide) (fun c_1 => ?_) (fun c_1 => ?_)
  · skip
    exfalso; omega
  · skip
    refine lv_iload_n hx hb dX1_count_10 rfl (lv_at hl 3 rfl) ?_
    refine lv_iconst (v := nI 3) hx hb dX1_count_11 (by decide) ?_
    refine zn_icmp_ge (tgt := 19) hx hb (by decide) (by decide) dX1_count_12 (by decide) (fun c_2 => ?_) (fun c_2 => ?_)
    · skip
      exfalso; omega
    · skip
      refine lv_iconst (v := bI true) hx hb dX1_count_15 (by decide) ?_
      refine lv_goto (tgt := 20) hx hb dX1_count_16 (by decide) ?_
      refine zc_roSv (rest := []) ⟨hx, hb, hml, hown, hts⟩ (metX1_there_ok lG D dA ) (va_cwS 1 hts (lw_S q782 q783 q71 q784) rfl rfl rfl (by decide +kernel) ⟨Nat.le_of_ble_eq_true rfl, Nat.le_of_ble_eq_true rfl⟩) (hP.sub [] rfl) hK rfl hl.1 rfl (Nat.le_of_ble_eq_true rfl) dX1_count_20 ⟨Nat.zero_le _, Nat.zero_le _⟩ ?_
      refine lv_iload_n hx hb dX1_count_23 rfl (lv_at hl 3 rfl) ?_
      refine zn_if_ne (tgt := 34) hx hb (by decide) dX1_count_24 (by decide) (fun c_3 => ?_) (fun c_3 => ?_)
      · skip
        refine lv_iload_n hx hb dX1_count_34 rfl (lv_at hl 3 rfl) ?_
        refine lv_iconst (v := nI 1) hx hb dX1_count_35 (by decide) ?_
        refine zn_icmp_ne (tgt := 46) hx hb (by decide) (by decide) dX1_count_36 (by decide) (fun c_4 => ?_) (fun c_4 => ?_)
        · skip
          exfalso; omega
        · skip
          refine lv_aload_n hx hb dX1_count_39 rfl (lv_at hl 0 rfl) ?_
          refine va_getN (D := D) (ci := 2) (v := .int (nI npa)) (C := RX3) (T := TX3) (N := 6) hx hb hts in_X3 hown hK.1 hP 3 rfl rfl 2 (Nat.le_of_ble_eq_true rfl) (hK.use zq121) (fun _ h9 => h9) rfl dX1_count_40 ?_
          refine lv_goto (tgt := 50) hx hb dX1_count_43 (by decide) ?_
          exact zr_roI rfl hx hb hr hlocks dX1_count_50
      · skip
        exfalso; omega
set_option maxHeartbeats 4000000 in
set_option maxRecDepth 100000 in
theorem metX1_count_02 (lG : Launch) (D : va_G) (dA : Nat → ClassId) (s0 : Nat) (r0 : Nat) (sh : Nat) (sg : Nat) (tk : Bool) (bx : Nat) (th : Nat) (tr : Nat) (ev : Nat) (stp : Nat) (mx : Nat) (rl : Bool) (wa : Nat) (la : Nat) (ra : Nat) (ti : Nat) (o0a : Nat) (o0b : Nat) (kda : Nat) (c1a : Nat) (npa : Nat) (c2a : Nat) (c3a : Nat) (nqa : Nat) (nsa : Nat) (nxa : Nat) (STa : Nat → Nat) (Xa : Nat → Int) (Ya : Nat → Int)  : Ro lG yX1_count (ws_ yX1_count cX1_count 4 (some .int)) 2 42 D dA [.ref s0, .int (nI 0), .int (nI 2)] [(s0, .inr (0, [.ref r0])), (r0, .inr (1, [.ref sh, .ref sg, .int (bI tk), .ref bx, .ref th, .ref tr, .ref ev, .ref stp, .ref mx, .int (bI rl), .ref wa, .ref la, .ref ra, .ref ti])), (sh, .inl (dA 3, 2, .inr (.inr (.inr (.inr (sh2 o0a o0b)))))), (o0a, .inr (2, [.int (nI kda), .ref c1a, .int (nI npa), .ref c2a, .ref c3a, .int (nI nqa)])), (c1a, .inl (dA 0, nsa, .inl fun j => nI (STa j))), (c2a, .inl (dA 0, nxa, .inl fun j => iZ (Xa j))), (c3a, .inl (dA 0, nxa, .inl fun j => iZ (Ya j)))] (some (.int (nI nqa))) := by
  refine Ro.of (by decide) (Nat.le_of_ble_eq_true rfl) ?_
  intro pG eG sG mG bG tG cG ls hx hb hr hml hown hts hlocks hP hK hl
  have hown : sG.vm.findClass RX1 = some mG.cls := hown
  have hl : lv_has ls 4 [(0, .ref s0), (1, .int (nI 0)), (2, .int (nI 2))] := hl
  refine lv_aload_n hx hb dX1_count_0 rfl (lv_at hl 0 rfl) ?_
  refine lv_iload_n hx hb dX1_count_1 rfl (lv_at hl 1 rfl) ?_
  refine zc_roV (v := .ref o0a) (rest := []) ⟨hx, hb, hml, hown, hts⟩ (metX1_known_0 lG D dA s0 r0 sh sg tk bx th tr ev stp mx rl wa la ra ti o0a o0b ) (cwV 1 hts (lw_V q778 q780 qs28 q71 q781) rfl rfl rfl (by decide +kernel) ⟨Nat.le_of_ble_eq_true rfl, Nat.le_of_ble_eq_true rfl⟩) (va_recv hK.1 hP (ci := 0) (q0 := 0) rfl rfl) (hP.sub [0, 1, 2] rfl) hK rfl hl.1 rfl (Nat.le_of_ble_eq_true rfl) dX1_count_2 ⟨Nat.zero_le _, Nat.zero_le _⟩ ?_
  refine lv_astore_n (lv' := [(3, .ref o0a), (0, .ref s0), (1, .int (nI 0)), (2, .int (nI 2))]) hx hb dX1_count_5 rfl hl (by decide) rfl (fun ls hl => ?_)
  refine lv_iload_n hx hb dX1_count_6 rfl (lv_at hl 3 rfl) ?_
  refine zn_if_lt (tgt := 19) hx hb (by decide) dX1_count_7 (by decide) (fun c_1 => ?_) (fun c_1 => ?_)
  · skip
    exfalso; omega
  · skip
    refine lv_iload_n hx hb dX1_count_10 rfl (lv_at hl 3 rfl) ?_
    refine lv_iconst (v := nI 3) hx hb dX1_count_11 (by decide) ?_
    refine zn_icmp_ge (tgt := 19) hx hb (by decide) (by decide) dX1_count_12 (by decide) (fun c_2 => ?_) (fun c_2 => ?_)
    · skip
      exfalso; omega
    · skip
      refine lv_iconst (v := bI true) hx hb dX1_count_15 (by decide) ?_
      refine lv_goto (tgt := 20) hx hb dX1_count_16 (by decide) ?_
      refine zc_roSv (rest := []) ⟨hx, hb, hml, hown, hts⟩ (metX1_there_ok lG D dA ) (va_cwS 1 hts (lw_S q782 q783 q71 q784) rfl rfl rfl (by decide +kernel) ⟨Nat.le_of_ble_eq_true rfl, Nat.le_of_ble_eq_true rfl⟩) (hP.sub [] rfl) hK rfl hl.1 rfl (Nat.le_of_ble_eq_true rfl) dX1_count_20 ⟨Nat.zero_le _, Nat.zero_le _⟩ ?_
      refine lv_iload_n hx hb dX1_count_23 rfl (lv_at hl 3 rfl) ?_
      refine zn_if_ne (tgt := 34) hx hb (by decide) dX1_count_24 (by decide) (fun c_3 => ?_) (fun c_3 => ?_)
      · skip
        refine lv_iload_n hx hb dX1_count_34 rfl (lv_at hl 3 rfl) ?_
        refine lv_iconst (v := nI 1) hx hb dX1_count_35 (by decide) ?_
        refine zn_icmp_ne (tgt := 46) hx hb (by decide) (by decide) dX1_count_36 (by decide) (fun c_4 => ?_) (fun c_4 => ?_)
        · skip
          refine lv_aload_n hx hb dX1_count_46 rfl (lv_at hl 0 rfl) ?_
          refine va_getN (D := D) (ci := 2) (v := .int (nI nqa)) (C := RX3) (T := TX3) (N := 6) hx hb hts in_X3 hown hK.1 hP 3 rfl rfl 5 (Nat.le_of_ble_eq_true rfl) (hK.use zq130) (fun _ h9 => h9) rfl dX1_count_47 ?_
          exact zr_roI rfl hx hb hr hlocks dX1_count_50
        · skip
          exfalso; omega
      · skip
        exfalso; omega
set_option maxHeartbeats 4000000 in
set_option maxRecDepth 100000 in
theorem metX1_shape_ok1 (lG : Launch) (D : va_G) (dA : Nat → ClassId) (s0 : Nat) (r0 : Nat) (sh : Nat) (sg : Nat) (tk : Bool) (bx : Nat) (th : Nat) (tr : Nat) (ev : Nat) (stp : Nat) (mx : Nat) (rl : Bool) (wa : Nat) (la : Nat) (ra : Nat) (ti : Nat) (o0a : Nat) (o0b : Nat) (kdb : Nat) (c1b : Nat) (npb : Nat) (c2b : Nat) (c3b : Nat) (nqb : Nat) (nsb : Nat) (nxb : Nat) (STb : Nat → Nat) (Xb : Nat → Int) (Yb : Nat → Int) (kk : Nat) (hk : 1 ≤ kk ∧ kk ≤ 3) : Wr lG yX1_shape (ws_ yX1_shape cX1_shape 5 (some .int)) 2 42 D dA [.ref s0, .int (nI 1), .int (nI kk)] [(s0, .inr (0, [.ref r0])), (r0, .inr (1, [.ref sh, .ref sg, .int (bI tk), .ref bx, .ref th, .ref tr, .ref ev, .ref stp, .ref mx, .int (bI rl), .ref wa, .ref la, .ref ra, .ref ti])), (sh, .inl (dA 3, 2, .inr (.inr (.inr (.inr (sh2 o0a o0b)))))), (o0b, .inr (2, [.int (nI kdb), .ref c1b, .int (nI npb), .ref c2b, .ref c3b, .int (nI nqb)])), (c1b, .inl (dA 0, nsb, .inl fun j => nI (STb j))), (c2b, .inl (dA 0, nxb, .inl fun j => iZ (Xb j))), (c3b, .inl (dA 0, nxb, .inl fun j => iZ (Yb j)))] 0 0 (fun (_u : Unit) => True) (fun (_u : Unit) => some (.int (nI nqb))) (fun (_u : Unit) => [(s0, .inr (0, [.ref r0])), (r0, .inr (1, [.ref sh, .ref sg, .int (bI false), .ref bx, .ref th, .ref tr, .ref ev, .ref stp, .ref mx, .int (bI false), .ref wa, .ref la, .ref ra, .ref ti])), (sh, .inl (dA 3, 2, .inr (.inr (.inr (.inr (sh2 o0a o0b)))))), (o0b, .inr (2, [.int (nI kk), .ref c1b, .int (nI 0), .ref c2b, .ref c3b, .int (nI 0)])), (c1b, .inl (dA 0, nsb, .inl fun j => nI (STb j))), (c2b, .inl (dA 0, nxb, .inl fun j => iZ (Xb j))), (c3b, .inl (dA 0, nxb, .inl fun j => iZ (Yb j)))]) := by
  refine Wr.of (by decide) (Nat.le_of_ble_eq_true rfl) ?_
  intro pG eG sG mG bG tG cG ls A hx hb hr hml hown hts hlocks hnm hP hK hD hS hA hl
  have hK1 := hK.1
  have hown : sG.vm.findClass RX1 = some mG.cls := hown
  have hl : lv_has ls 5 [(0, .ref s0), (1, .int (nI 1)), (2, .int (nI kk))] := hl
  refine lv_aload_n hx hb dX1_shape_0 rfl (lv_at hl 0 rfl) ?_
  refine lv_iload_n hx hb dX1_shape_1 rfl (lv_at hl 1 rfl) ?_
  refine zc_roV (v := .ref o0b) (rest := []) ⟨hx, hb, hml, hown, hts⟩ (metX1_known_1 lG D dA s0 r0 sh sg tk bx th tr ev stp mx rl wa la ra ti o0a o0b ) (cwV 1 hts (lw_V q778 q780 qs28 q71 q781) rfl rfl rfl (by decide +kernel) ⟨Nat.le_of_ble_eq_true rfl, Nat.le_of_ble_eq_true rfl⟩) (va_recv hK.1 hP (ci := 0) (q0 := 0) rfl rfl) (hP.sub [0, 1, 2] rfl) hK rfl hl.1 rfl (Nat.le_of_ble_eq_true rfl) dX1_shape_2 ⟨Nat.zero_le _, Nat.zero_le _⟩ ?_
  refine lv_astore_n (lv' := [(3, .ref o0b), (0, .ref s0), (1, .int (nI 1)), (2, .int (nI kk))]) hx hb dX1_shape_5 rfl hl (by decide) rfl (fun ls hl => ?_)
  refine lv_iload_n hx hb dX1_shape_6 rfl (lv_at hl 3 rfl) ?_
  refine lv_iconst (v := nI 1) hx hb dX1_shape_7 (by decide) ?_
  refine zn_icmp_lt (tgt := 20) hx hb (by omega) (by decide) dX1_shape_8 (by decide) (fun c_1 => ?_) (fun c_1 => ?_)
  · skip
    exfalso; omega
  · skip
    refine lv_iload_n hx hb dX1_shape_11 rfl (lv_at hl 3 rfl) ?_
    refine lv_iconst (v := nI 3) hx hb dX1_shape_12 (by decide) ?_
    refine zn_icmp_gt (tgt := 20) hx hb (by omega) (by decide) dX1_shape_13 (by decide) (fun c_2 => ?_) (fun c_2 => ?_)
    · skip
      exfalso; omega
    · skip
      refine lv_iconst (v := bI true) hx hb dX1_shape_16 (by decide) ?_
      refine lv_goto (tgt := 21) hx hb dX1_shape_17 (by decide) ?_
      refine zc_roSv (rest := []) ⟨hx, hb, hml, hown, hts⟩ (metX1_right_ok lG D dA ) (va_cwS 1 hts (lw_S q810 q811 q71 q812) rfl rfl rfl (by decide +kernel) ⟨Nat.le_of_ble_eq_true rfl, Nat.le_of_ble_eq_true rfl⟩) (hP.sub [] rfl) hK rfl hl.1 rfl (Nat.le_of_ble_eq_true rfl) dX1_shape_21 ⟨Nat.zero_le _, Nat.zero_le _⟩ ?_
      refine lv_aload_n hx hb dX1_shape_24 rfl (lv_at hl 0 rfl) ?_
      refine va_getN (D := D) (ci := 2) (v := .int (nI nqb)) (C := RX3) (T := TX3) (N := 6) hx hb hts in_X3 hown hK.1 hP 3 rfl rfl 5 (Nat.le_of_ble_eq_true rfl) (hK.use zq130) (fun _ h9 => h9) rfl dX1_shape_25 ?_
      refine lv_istore (lv' := [(4, .int (nI nqb)), (3, .ref o0b), (0, .ref s0), (1, .int (nI 1)), (2, .int (nI kk))]) hx hb dX1_shape_28 hl (by decide) rfl (fun ls hl => ?_)
      refine lv_aload_n hx hb dX1_shape_30 rfl (lv_at hl 1 rfl) ?_
      refine lv_iload_n hx hb dX1_shape_31 rfl (lv_at hl 4 rfl) ?_
      refine zc_wrV (rest := []) (wr := [(s0, .inr (0, [.ref r0])), (r0, .inr (1, [.ref sh, .ref sg, .int (bI tk), .ref bx, .ref th, .ref tr, .ref ev, .ref stp, .ref mx, .int (bI rl), .ref wa, .ref la, .ref ra, .ref ti])), (sh, .inl (dA 3, 2, .inr (.inr (.inr (.inr (sh2 o0a o0b))))))]) ⟨hx, hb, hml, hown, hts⟩ (metX3_begin lG D dA o0b kdb c1b npb c2b c3b nqb nsb nxb STb Xb Yb kk ) (cwV 1 hts (lw_V q828 q829 q830 q73 q831) rfl rfl rfl (by decide +kernel) ⟨Nat.le_of_ble_eq_true rfl, Nat.le_of_ble_eq_true rfl⟩) (va_recv hK.1 hP (ci := 2) (q0 := 3) rfl rfl) hP hK hD hS hA [3, 4, 5, 6] [0, 1, 2] rfl rfl (by decide) (by decide) (by decide) rfl hl.1 rfl (Nat.le_of_ble_eq_true rfl) dX1_shape_32 ⟨Nat.zero_le _, Nat.zero_le _⟩ (fun u H locs hp_3 hP hD hS => ?_)
      have hP : va_P D zCl [(s0, .inr (0, [.ref r0])), (r0, .inr (1, [.ref sh, .ref sg, .int (bI tk), .ref bx, .ref th, .ref tr, .ref ev, .ref stp, .ref mx, .int (bI rl), .ref wa, .ref la, .ref ra, .ref ti])), (sh, .inl (dA 3, 2, .inr (.inr (.inr (.inr (sh2 o0a o0b)))))), (o0b, .inr (2, [.int (nI kk), .ref c1b, .int (nI 0), .ref c2b, .ref c3b, .int (nI 0)])), (c1b, .inl (dA 0, nsb, .inl fun j => nI (STb j))), (c2b, .inl (dA 0, nxb, .inl fun j => iZ (Xb j))), (c3b, .inl (dA 0, nxb, .inl fun j => iZ (Yb j)))] H := hP
      have hD : va_D A [(s0, .inr (0, [.ref r0])), (r0, .inr (1, [.ref sh, .ref sg, .int (bI tk), .ref bx, .ref th, .ref tr, .ref ev, .ref stp, .ref mx, .int (bI rl), .ref wa, .ref la, .ref ra, .ref ti])), (sh, .inl (dA 3, 2, .inr (.inr (.inr (.inr (sh2 o0a o0b)))))), (o0b, .inr (2, [.int (nI kk), .ref c1b, .int (nI 0), .ref c2b, .ref c3b, .int (nI 0)])), (c1b, .inl (dA 0, nsb, .inl fun j => nI (STb j))), (c2b, .inl (dA 0, nxb, .inl fun j => iZ (Xb j))), (c3b, .inl (dA 0, nxb, .inl fun j => iZ (Yb j)))] := hD
      show W _ _ _ _ _ _ _ _ _ _ _ _ 0 0 _ (F0 mG 35 ls [])
      refine lv_aload_n hx hb dX1_shape_35 rfl (lv_at hl 2 rfl) ?_
      refine va_get (D := D) (ci := 0) (v := .ref r0) (C := RX1) (T := TX1) (N := 1) hx hb hts in_X1 hown hK.1 hP 0 rfl rfl 0 (Nat.le_of_ble_eq_true rfl) (hts _ q358) (fun _ h9 => h9) rfl dX1_shape_36 ?_
      refine zc_wrV (rest := []) (wr := [(s0, .inr (0, [.ref r0])), (sh, .inl (dA 3, 2, .inr (.inr (.inr (.inr (sh2 o0a o0b)))))), (o0b, .inr (2, [.int (nI kk), .ref c1b, .int (nI 0), .ref c2b, .ref c3b, .int (nI 0)])), (c1b, .inl (dA 0, nsb, .inl fun j => nI (STb j))), (c2b, .inl (dA 0, nxb, .inl fun j => iZ (Xb j))), (c3b, .inl (dA 0, nxb, .inl fun j => iZ (Yb j)))]) ⟨hx, hb, hml, hown, hts⟩ (metX2_change lG D dA r0 sh sg tk bx th tr ev stp mx rl wa la ra ti ) (cwV 0 hts (lw_V q832 q833 q834 q72 q835) rfl rfl rfl (by decide +kernel) ⟨Nat.le_of_ble_eq_true rfl, Nat.le_of_ble_eq_true rfl⟩) (va_recv hK.1 hP (ci := 1) (q0 := 1) rfl rfl) hP hK hD hS hA [1] [0, 2, 3, 4, 5, 6] rfl rfl (by decide) (by decide) (by decide) rfl hl.1 rfl (Nat.le_of_ble_eq_true rfl) dX1_shape_39 ⟨Nat.zero_le _, Nat.zero_le _⟩ (fun u H locs hp_4 hP hD hS => ?_)
      have hP : va_P D zCl [(s0, .inr (0, [.ref r0])), (sh, .inl (dA 3, 2, .inr (.inr (.inr (.inr (sh2 o0a o0b)))))), (o0b, .inr (2, [.int (nI kk), .ref c1b, .int (nI 0), .ref c2b, .ref c3b, .int (nI 0)])), (c1b, .inl (dA 0, nsb, .inl fun j => nI (STb j))), (c2b, .inl (dA 0, nxb, .inl fun j => iZ (Xb j))), (c3b, .inl (dA 0, nxb, .inl fun j => iZ (Yb j))), (r0, .inr (1, [.ref sh, .ref sg, .int (bI false), .ref bx, .ref th, .ref tr, .ref ev, .ref stp, .ref mx, .int (bI false), .ref wa, .ref la, .ref ra, .ref ti]))] H := hP
      have hD : va_D A [(s0, .inr (0, [.ref r0])), (sh, .inl (dA 3, 2, .inr (.inr (.inr (.inr (sh2 o0a o0b)))))), (o0b, .inr (2, [.int (nI kk), .ref c1b, .int (nI 0), .ref c2b, .ref c3b, .int (nI 0)])), (c1b, .inl (dA 0, nsb, .inl fun j => nI (STb j))), (c2b, .inl (dA 0, nxb, .inl fun j => iZ (Xb j))), (c3b, .inl (dA 0, nxb, .inl fun j => iZ (Yb j))), (r0, .inr (1, [.ref sh, .ref sg, .int (bI false), .ref bx, .ref th, .ref tr, .ref ev, .ref stp, .ref mx, .int (bI false), .ref wa, .ref la, .ref ra, .ref ti]))] := hD
      show W _ _ _ _ _ _ _ _ _ _ _ _ 0 0 _ (F0 mG 42 ls [])
      refine lv_iload hx hb dX1_shape_42 (lv_at hl 0 rfl) ?_
      exact zr_wrI (u := ()) rfl trivial (hP.sub [0, 6, 1, 2, 3, 4, 5] rfl) (hD.sub [0, 6, 1, 2, 3, 4, 5] (by decide) rfl) hS hx hb hr hlocks dX1_shape_44
set_option maxHeartbeats 4000000 in
set_option maxRecDepth 100000 in
theorem metX1_part_ok1 (lG : Launch) (D : va_G) (dA : Nat → ClassId) (s0 : Nat) (r0 : Nat) (sh : Nat) (sg : Nat) (tk : Bool) (bx : Nat) (th : Nat) (tr : Nat) (ev : Nat) (stp : Nat) (mx : Nat) (rl : Bool) (wa : Nat) (la : Nat) (ra : Nat) (ti : Nat) (o0a : Nat) (o0b : Nat) (kdb : Nat) (c1b : Nat) (npb : Nat) (c2b : Nat) (c3b : Nat) (nqb : Nat) (nsb : Nat) (nxb : Nat) (STb : Nat → Nat) (Xb : Nat → Int) (Yb : Nat → Int) (hns : 1 ≤ nsb) (hns2 : nsb ≤ 4096) (hnp : npb ≤ nsb) (hnp9 : npb < 1024) : Wr lG yX1_part (ws_ yX1_part cX1_part 3 (some .int)) 3 82 D dA [.ref s0, .int (nI 1)] [(s0, .inr (0, [.ref r0])), (r0, .inr (1, [.ref sh, .ref sg, .int (bI tk), .ref bx, .ref th, .ref tr, .ref ev, .ref stp, .ref mx, .int (bI rl), .ref wa, .ref la, .ref ra, .ref ti])), (sh, .inl (dA 3, 2, .inr (.inr (.inr (.inr (sh2 o0a o0b)))))), (o0b, .inr (2, [.int (nI kdb), .ref c1b, .int (nI npb), .ref c2b, .ref c3b, .int (nI nqb)])), (c1b, .inl (dA 0, nsb, .inl fun j => nI (STb j))), (c2b, .inl (dA 0, nxb, .inl fun j => iZ (Xb j))), (c3b, .inl (dA 0, nxb, .inl fun j => iZ (Yb j)))] 1 (2 * npb) (fun (u : Nat × Nat × (Nat → Nat)) => let b := u.1; let ns2 := u.2.1; let ST2 := u.2.2; npb < ns2 ∧ ns2 ≤ max nsb (2 * npb) ∧ nsb ≤ ns2 ∧ (∀ k, k < npb → ST2 k = STb k) ∧ ST2 npb = nqb) (fun (u : Nat × Nat × (Nat → Nat)) => let b := u.1; let ns2 := u.2.1; let ST2 := u.2.2; some (.int (nI (npb + 1)))) (fun (u : Nat × Nat × (Nat → Nat)) => let b := u.1; let ns2 := u.2.1; let ST2 := u.2.2; [(s0, .inr (0, [.ref r0])), (r0, .inr (1, [.ref sh, .ref sg, .int (bI false), .ref bx, .ref th, .ref tr, .ref ev, .ref stp, .ref mx, .int (bI false), .ref wa, .ref la, .ref ra, .ref ti])), (sh, .inl (dA 3, 2, .inr (.inr (.inr (.inr (sh2 o0a o0b)))))), (o0b, .inr (2, [.int (nI kdb), .ref b, .int (nI (npb + 1)), .ref c2b, .ref c3b, .int (nI nqb)])), (b, .inl (dA 0, ns2, .inl fun j => nI (ST2 j))), (c2b, .inl (dA 0, nxb, .inl fun j => iZ (Xb j))), (c3b, .inl (dA 0, nxb, .inl fun j => iZ (Yb j)))]) := by
  refine Wr.of (by decide) (Nat.le_of_ble_eq_true rfl) ?_
  intro pG eG sG mG bG tG cG ls A hx hb hr hml hown hts hlocks hnm hP hK hD hS hA hl
  have hK1 := hK.1
  have hown : sG.vm.findClass RX1 = some mG.cls := hown
  have hl : lv_has ls 3 [(0, .ref s0), (1, .int (nI 1))] := hl
  refine lv_aload_n hx hb dX1_part_0 rfl (lv_at hl 0 rfl) ?_
  refine lv_iload_n hx hb dX1_part_1 rfl (lv_at hl 1 rfl) ?_
  refine zc_roV (v := .ref o0b) (rest := []) ⟨hx, hb, hml, hown, hts⟩ (metX1_known_1 lG D dA s0 r0 sh sg tk bx th tr ev stp mx rl wa la ra ti o0a o0b ) (cwV 1 hts (lw_V q778 q780 qs28 q71 q781) rfl rfl rfl (by decide +kernel) ⟨Nat.le_of_ble_eq_true rfl, Nat.le_of_ble_eq_true rfl⟩) (va_recv hK.1 hP (ci := 0) (q0 := 0) rfl rfl) (hP.sub [0, 1, 2] rfl) hK rfl hl.1 rfl (Nat.le_of_ble_eq_true rfl) dX1_part_2 ⟨Nat.zero_le _, Nat.zero_le _⟩ ?_
  refine lv_astore_n (lv' := [(2, .ref o0b), (0, .ref s0), (1, .int (nI 1))]) hx hb dX1_part_5 rfl hl (by decide) rfl (fun ls hl => ?_)
  refine lv_aload_n hx hb dX1_part_6 rfl (lv_at hl 0 rfl) ?_
  refine va_getN (D := D) (ci := 2) (v := .int (nI npb)) (C := RX3) (T := TX3) (N := 6) hx hb hts in_X3 hown hK.1 hP 3 rfl rfl 2 (Nat.le_of_ble_eq_true rfl) (hK.use zq121) (fun _ h9 => h9) rfl dX1_part_7 ?_
  refine lv_sipush (v := nI 1024) hx hb dX1_part_10 (by decide) ?_
  refine zn_icmp_ge (tgt := 20) hx hb (by omega) (by decide) dX1_part_13 (by decide) (fun c_1 => ?_) (fun c_1 => ?_)
  · skip
    exfalso; omega
  · skip
    refine lv_iconst (v := bI true) hx hb dX1_part_16 (by decide) ?_
    refine lv_goto (tgt := 21) hx hb dX1_part_17 (by decide) ?_
    refine zc_roSv (rest := []) ⟨hx, hb, hml, hown, hts⟩ (metX1_can_ok lG D dA ) (va_cwS 1 hts (lw_S q844 q845 q71 q846) rfl rfl rfl (by decide +kernel) ⟨Nat.le_of_ble_eq_true rfl, Nat.le_of_ble_eq_true rfl⟩) (hP.sub [] rfl) hK rfl hl.1 rfl (Nat.le_of_ble_eq_true rfl) dX1_part_21 ⟨Nat.zero_le _, Nat.zero_le _⟩ ?_
    refine lv_aload_n hx hb dX1_part_24 rfl (lv_at hl 0 rfl) ?_
    refine zc_wrV (rest := []) (wr := [(s0, .inr (0, [.ref r0])), (r0, .inr (1, [.ref sh, .ref sg, .int (bI tk), .ref bx, .ref th, .ref tr, .ref ev, .ref stp, .ref mx, .int (bI rl), .ref wa, .ref la, .ref ra, .ref ti])), (sh, .inl (dA 3, 2, .inr (.inr (.inr (.inr (sh2 o0a o0b))))))]) ⟨hx, hb, hml, hown, hts⟩ (metX3_part lG D dA o0b kdb c1b npb c2b c3b nqb nsb nxb STb Xb Yb (by first | assumption | omega) (by first | assumption | omega) (by first | assumption | omega)) (cwV 0 hts (lw_V q862 q863 q864 q73 q865) rfl rfl rfl (by decide +kernel) ⟨Nat.le_of_ble_eq_true rfl, Nat.le_of_ble_eq_true rfl⟩) (va_recv hK.1 hP (ci := 2) (q0 := 3) rfl rfl) hP hK hD hS hA [3, 4, 5, 6] [0, 1, 2] rfl rfl (by decide) (by decide) (by decide) rfl hl.1 rfl (Nat.le_of_ble_eq_true rfl) dX1_part_25 ⟨show 0 + 1 ≤ 1 by omega, show 0 + (2 * npb) ≤ (2 * npb) by omega⟩ (fun u H locs hp9 hP hD hS => ?_)
    obtain ⟨b, ns2, ST2⟩ := u
    have hP : va_P D zCl [(s0, .inr (0, [.ref r0])), (r0, .inr (1, [.ref sh, .ref sg, .int (bI tk), .ref bx, .ref th, .ref tr, .ref ev, .ref stp, .ref mx, .int (bI rl), .ref wa, .ref la, .ref ra, .ref ti])), (sh, .inl (dA 3, 2, .inr (.inr (.inr (.inr (sh2 o0a o0b)))))), (o0b, .inr (2, [.int (nI kdb), .ref b, .int (nI (npb + 1)), .ref c2b, .ref c3b, .int (nI nqb)])), (b, .inl (dA 0, ns2, .inl fun j => nI (ST2 j))), (c2b, .inl (dA 0, nxb, .inl fun j => iZ (Xb j))), (c3b, .inl (dA 0, nxb, .inl fun j => iZ (Yb j)))] H := hP
    have hD : va_D A [(s0, .inr (0, [.ref r0])), (r0, .inr (1, [.ref sh, .ref sg, .int (bI tk), .ref bx, .ref th, .ref tr, .ref ev, .ref stp, .ref mx, .int (bI rl), .ref wa, .ref la, .ref ra, .ref ti])), (sh, .inl (dA 3, 2, .inr (.inr (.inr (.inr (sh2 o0a o0b)))))), (o0b, .inr (2, [.int (nI kdb), .ref b, .int (nI (npb + 1)), .ref c2b, .ref c3b, .int (nI nqb)])), (b, .inl (dA 0, ns2, .inl fun j => nI (ST2 j))), (c2b, .inl (dA 0, nxb, .inl fun j => iZ (Xb j))), (c3b, .inl (dA 0, nxb, .inl fun j => iZ (Yb j)))] := hD
    have hp9 : npb < ns2 ∧ ns2 ≤ max nsb (2 * npb) ∧ nsb ≤ ns2 ∧ (∀ k, k < npb → ST2 k = STb k) ∧ ST2 npb = nqb := hp9
    show W _ _ _ _ _ _ _ _ _ _ _ _ 1 (0 + (2 * npb)) _ (F0 mG 28 ls [])
    refine lv_aload_n hx hb dX1_part_28 rfl (lv_at hl 1 rfl) ?_
    refine va_get (D := D) (ci := 0) (v := .ref r0) (C := RX1) (T := TX1) (N := 1) hx hb hts in_X1 hown hK.1 hP 0 rfl rfl 0 (Nat.le_of_ble_eq_true rfl) (hts _ q358) (fun _ h9 => h9) rfl dX1_part_29 ?_
    refine zc_wrV (rest := []) (wr := [(s0, .inr (0, [.ref r0])), (sh, .inl (dA 3, 2, .inr (.inr (.inr (.inr (sh2 o0a o0b)))))), (o0b, .inr (2, [.int (nI kdb), .ref b, .int (nI (npb + 1)), .ref c2b, .ref c3b, .int (nI nqb)])), (b, .inl (dA 0, ns2, .inl fun j => nI (ST2 j))), (c2b, .inl (dA 0, nxb, .inl fun j => iZ (Xb j))), (c3b, .inl (dA 0, nxb, .inl fun j => iZ (Yb j)))]) ⟨hx, hb, hml, hown, hts⟩ (metX2_change lG D dA r0 sh sg tk bx th tr ev stp mx rl wa la ra ti ) (cwV 0 hts (lw_V q832 q833 q834 q72 q835) rfl rfl rfl (by decide +kernel) ⟨Nat.le_of_ble_eq_true rfl, Nat.le_of_ble_eq_true rfl⟩) (va_recv hK.1 hP (ci := 1) (q0 := 1) rfl rfl) hP hK hD hS hA [1] [0, 2, 3, 4, 5, 6] rfl rfl (by decide) (by decide) (by decide) rfl hl.1 rfl (Nat.le_of_ble_eq_true rfl) dX1_part_32 ⟨show 1 ≤ 1 by omega, show (0 + (2 * npb)) ≤ (2 * npb) by omega⟩ (fun u H locs hp_2 hP hD hS => ?_)
    have hP : va_P D zCl [(s0, .inr (0, [.ref r0])), (sh, .inl (dA 3, 2, .inr (.inr (.inr (.inr (sh2 o0a o0b)))))), (o0b, .inr (2, [.int (nI kdb), .ref b, .int (nI (npb + 1)), .ref c2b, .ref c3b, .int (nI nqb)])), (b, .inl (dA 0, ns2, .inl fun j => nI (ST2 j))), (c2b, .inl (dA 0, nxb, .inl fun j => iZ (Xb j))), (c3b, .inl (dA 0, nxb, .inl fun j => iZ (Yb j))), (r0, .inr (1, [.ref sh, .ref sg, .int (bI false), .ref bx, .ref th, .ref tr, .ref ev, .ref stp, .ref mx, .int (bI false), .ref wa, .ref la, .ref ra, .ref ti]))] H := hP
    have hD : va_D A [(s0, .inr (0, [.ref r0])), (sh, .inl (dA 3, 2, .inr (.inr (.inr (.inr (sh2 o0a o0b)))))), (o0b, .inr (2, [.int (nI kdb), .ref b, .int (nI (npb + 1)), .ref c2b, .ref c3b, .int (nI nqb)])), (b, .inl (dA 0, ns2, .inl fun j => nI (ST2 j))), (c2b, .inl (dA 0, nxb, .inl fun j => iZ (Xb j))), (c3b, .inl (dA 0, nxb, .inl fun j => iZ (Yb j))), (r0, .inr (1, [.ref sh, .ref sg, .int (bI false), .ref bx, .ref th, .ref tr, .ref ev, .ref stp, .ref mx, .int (bI false), .ref wa, .ref la, .ref ra, .ref ti]))] := hD
    show W _ _ _ _ _ _ _ _ _ _ _ _ 1 (0 + (2 * npb)) _ (F0 mG 35 ls [])
    refine lv_aload_n hx hb dX1_part_35 rfl (lv_at hl 0 rfl) ?_
    refine va_getN (D := D) (ci := 2) (v := .int (nI (npb + 1))) (C := RX3) (T := TX3) (N := 6) hx hb hts in_X3 hown hK.1 hP 2 rfl rfl 2 (Nat.le_of_ble_eq_true rfl) (hK.use zq121) (fun _ h9 => h9) rfl dX1_part_36 ?_
    refine W.widen (k := 1) (n := 2 * npb) (by omega) (by omega) ?_
    exact zr_wrI (u := (b, ns2, ST2)) rfl (show npb < ns2 ∧ ns2 ≤ max nsb (2 * npb) ∧ nsb ≤ ns2 ∧ (∀ k, k < npb → ST2 k = STb k) ∧ ST2 npb = nqb from hp9) (hP.sub [0, 6, 1, 2, 3, 4, 5] rfl) (hD.sub [0, 6, 1, 2, 3, 4, 5] (by decide) rfl) hS hx hb hr hlocks dX1_part_39
set_option maxHeartbeats 4000000 in
set_option maxRecDepth 100000 in
theorem metX1_point_ok1 (lG : Launch) (D : va_G) (dA : Nat → ClassId) (s0 : Nat) (r0 : Nat) (sh : Nat) (sg : Nat) (tk : Bool) (bx : Nat) (th : Nat) (tr : Nat) (ev : Nat) (stp : Nat) (mx : Nat) (rl : Bool) (wa : Nat) (la : Nat) (ra : Nat) (ti : Nat) (o0a : Nat) (o0b : Nat) (kdb : Nat) (c1b : Nat) (npb : Nat) (c2b : Nat) (c3b : Nat) (nqb : Nat) (nsb : Nat) (nxb : Nat) (STb : Nat → Nat) (Xb : Nat → Int) (Yb : Nat → Int) (x : Int) (y : Int) (hxy : wiZ x (-500000000) 500000000 = true ∧ wiZ y (-500000000) 500000000 = true) (hxI : inI x) (hyI : inI y) (hnx : 1 ≤ nxb) (hnx2 : nxb ≤ 4096) (hnq : nqb ≤ nxb) (hnp9 : 1 ≤ npb) (hnp8 : npb ≤ 4096) (hnq9 : nqb < 2048) : Wr lG yX1_point (ws_ yX1_point cX1_point 5 (some .int)) 3 84 D dA [.ref s0, .int (nI 1), .int (iZ x), .int (iZ y)] [(s0, .inr (0, [.ref r0])), (r0, .inr (1, [.ref sh, .ref sg, .int (bI tk), .ref bx, .ref th, .ref tr, .ref ev, .ref stp, .ref mx, .int (bI rl), .ref wa, .ref la, .ref ra, .ref ti])), (sh, .inl (dA 3, 2, .inr (.inr (.inr (.inr (sh2 o0a o0b)))))), (o0b, .inr (2, [.int (nI kdb), .ref c1b, .int (nI npb), .ref c2b, .ref c3b, .int (nI nqb)])), (c1b, .inl (dA 0, nsb, .inl fun j => nI (STb j))), (c2b, .inl (dA 0, nxb, .inl fun j => iZ (Xb j))), (c3b, .inl (dA 0, nxb, .inl fun j => iZ (Yb j)))] 2 (4 * nqb) (fun (u : Nat × Nat × Nat × (Nat → Int) × (Nat → Int)) => let b1 := u.1; let b2 := u.2.1; let nx2 := u.2.2.1; let X2 := u.2.2.2.1; let Y2 := u.2.2.2.2; nqb < nx2 ∧ nx2 ≤ max nxb (2 * nqb) ∧ nxb ≤ nx2 ∧ (∀ k, k < nqb → X2 k = Xb k ∧ Y2 k = Yb k) ∧ X2 nqb = x ∧ Y2 nqb = y ∧ (∀ zk, zk ≠ nqb → (X2 zk = Xb zk ∨ X2 zk = 0) ∧ (Y2 zk = Yb zk ∨ Y2 zk = 0))) (fun (u : Nat × Nat × Nat × (Nat → Int) × (Nat → Int)) => let b1 := u.1; let b2 := u.2.1; let nx2 := u.2.2.1; let X2 := u.2.2.2.1; let Y2 := u.2.2.2.2; some (.int (nI (nqb + 1)))) (fun (u : Nat × Nat × Nat × (Nat → Int) × (Nat → Int)) => let b1 := u.1; let b2 := u.2.1; let nx2 := u.2.2.1; let X2 := u.2.2.2.1; let Y2 := u.2.2.2.2; [(s0, .inr (0, [.ref r0])), (r0, .inr (1, [.ref sh, .ref sg, .int (bI false), .ref bx, .ref th, .ref tr, .ref ev, .ref stp, .ref mx, .int (bI false), .ref wa, .ref la, .ref ra, .ref ti])), (sh, .inl (dA 3, 2, .inr (.inr (.inr (.inr (sh2 o0a o0b)))))), (o0b, .inr (2, [.int (nI kdb), .ref c1b, .int (nI npb), .ref b1, .ref b2, .int (nI (nqb + 1))])), (c1b, .inl (dA 0, nsb, .inl fun j => nI (STb j))), (b1, .inl (dA 0, nx2, .inl fun j => iZ (X2 j))), (b2, .inl (dA 0, nx2, .inl fun j => iZ (Y2 j)))]) := by
  refine Wr.of (by decide) (Nat.le_of_ble_eq_true rfl) ?_
  intro pG eG sG mG bG tG cG ls A hx hb hr hml hown hts hlocks hnm hP hK hD hS hA hl
  have hK1 := hK.1
  have hown : sG.vm.findClass RX1 = some mG.cls := hown
  have hl : lv_has ls 5 [(0, .ref s0), (1, .int (nI 1)), (2, .int (iZ x)), (3, .int (iZ y))] := hl
  refine lv_aload_n hx hb dX1_point_0 rfl (lv_at hl 0 rfl) ?_
  refine lv_iload_n hx hb dX1_point_1 rfl (lv_at hl 1 rfl) ?_
  refine zc_roV (v := .ref o0b) (rest := []) ⟨hx, hb, hml, hown, hts⟩ (metX1_known_1 lG D dA s0 r0 sh sg tk bx th tr ev stp mx rl wa la ra ti o0a o0b ) (cwV 1 hts (lw_V q778 q780 qs28 q71 q781) rfl rfl rfl (by decide +kernel) ⟨Nat.le_of_ble_eq_true rfl, Nat.le_of_ble_eq_true rfl⟩) (va_recv hK.1 hP (ci := 0) (q0 := 0) rfl rfl) (hP.sub [0, 1, 2] rfl) hK rfl hl.1 rfl (Nat.le_of_ble_eq_true rfl) dX1_point_2 ⟨Nat.zero_le _, Nat.zero_le _⟩ ?_
  refine lv_astore (lv' := [(4, .ref o0b), (0, .ref s0), (1, .int (nI 1)), (2, .int (iZ x)), (3, .int (iZ y))]) hx hb dX1_point_5 hl (by decide) rfl (fun ls hl => ?_)
  refine lv_iload_n hx hb dX1_point_7 rfl (lv_at hl 3 rfl) ?_
  refine zc_roS (v := .int (bI (wiZ x (-500000000) 500000000))) (rest := []) ⟨hx, hb, hml, hown, hts⟩ (metX1_isPlace lG D dA x (by first | assumption | omega)) (va_cwS 1 hts (lw_S q874 q875 q71 q876) rfl rfl rfl (by decide +kernel) ⟨Nat.le_of_ble_eq_true rfl, Nat.le_of_ble_eq_true rfl⟩) (hP.sub [] rfl) hK rfl hl.1 rfl (Nat.le_of_ble_eq_true rfl) dX1_point_8 ⟨Nat.zero_le _, Nat.zero_le _⟩ ?_
  refine zb_if_eq (tgt := 25) hx hb dX1_point_11 (by decide) (fun hq1 => ?_) (fun hq1 => ?_)
  · skip
    exfalso; rw [hxy.1] at hq1; cases hq1
  · skip
    refine lv_iload_n hx hb dX1_point_14 rfl (lv_at hl 4 rfl) ?_
    refine zc_roS (v := .int (bI (wiZ y (-500000000) 500000000))) (rest := []) ⟨hx, hb, hml, hown, hts⟩ (metX1_isPlace lG D dA y (by first | assumption | omega)) (va_cwS 1 hts (lw_S q874 q875 q71 q876) rfl rfl rfl (by decide +kernel) ⟨Nat.le_of_ble_eq_true rfl, Nat.le_of_ble_eq_true rfl⟩) (hP.sub [] rfl) hK rfl hl.1 rfl (Nat.le_of_ble_eq_true rfl) dX1_point_15 ⟨Nat.zero_le _, Nat.zero_le _⟩ ?_
    refine zb_if_eq (tgt := 25) hx hb dX1_point_18 (by decide) (fun hq2 => ?_) (fun hq2 => ?_)
    · skip
      exfalso; rw [hxy.2] at hq2; cases hq2
    · skip
      refine lv_iconst (v := bI true) hx hb dX1_point_21 (by decide) ?_
      refine lv_goto (tgt := 26) hx hb dX1_point_22 (by decide) ?_
      refine zc_roSv (rest := []) ⟨hx, hb, hml, hown, hts⟩ (metX1_right_ok lG D dA ) (va_cwS 1 hts (lw_S q810 q811 q71 q812) rfl rfl rfl (by decide +kernel) ⟨Nat.le_of_ble_eq_true rfl, Nat.le_of_ble_eq_true rfl⟩) (hP.sub [] rfl) hK rfl hl.1 rfl (Nat.le_of_ble_eq_true rfl) dX1_point_26 ⟨Nat.zero_le _, Nat.zero_le _⟩ ?_
      refine lv_aload hx hb dX1_point_29 (lv_at hl 0 rfl) ?_
      refine va_getN (D := D) (ci := 2) (v := .int (nI npb)) (C := RX3) (T := TX3) (N := 6) hx hb hts in_X3 hown hK.1 hP 3 rfl rfl 2 (Nat.le_of_ble_eq_true rfl) (hK.use zq121) (fun _ h9 => h9) rfl dX1_point_31 ?_
      refine zn_if_le (tgt := 52) hx hb (by omega) dX1_point_34 (by decide) (fun c_1 => ?_) (fun c_1 => ?_)
      · skip
        exfalso; omega
      · skip
        refine lv_aload hx hb dX1_point_37 (lv_at hl 0 rfl) ?_
        refine va_getN (D := D) (ci := 2) (v := .int (nI nqb)) (C := RX3) (T := TX3) (N := 6) hx hb hts in_X3 hown hK.1 hP 3 rfl rfl 5 (Nat.le_of_ble_eq_true rfl) (hK.use zq130) (fun _ h9 => h9) rfl dX1_point_39 ?_
        refine lv_sipush (v := nI 2048) hx hb dX1_point_42 (by decide) ?_
        refine zn_icmp_ge (tgt := 52) hx hb (by omega) (by decide) dX1_point_45 (by decide) (fun c_2 => ?_) (fun c_2 => ?_)
        · skip
          exfalso; omega
        · skip
          refine lv_iconst (v := bI true) hx hb dX1_point_48 (by decide) ?_
          refine lv_goto (tgt := 53) hx hb dX1_point_49 (by decide) ?_
          refine zc_roSv (rest := []) ⟨hx, hb, hml, hown, hts⟩ (metX1_can_ok lG D dA ) (va_cwS 1 hts (lw_S q844 q845 q71 q846) rfl rfl rfl (by decide +kernel) ⟨Nat.le_of_ble_eq_true rfl, Nat.le_of_ble_eq_true rfl⟩) (hP.sub [] rfl) hK rfl hl.1 rfl (Nat.le_of_ble_eq_true rfl) dX1_point_53 ⟨Nat.zero_le _, Nat.zero_le _⟩ ?_
          refine lv_aload hx hb dX1_point_56 (lv_at hl 0 rfl) ?_
          refine lv_iload_n hx hb dX1_point_58 rfl (lv_at hl 3 rfl) ?_
          refine lv_iload_n hx hb dX1_point_59 rfl (lv_at hl 4 rfl) ?_
          refine zc_wrV (rest := []) (wr := [(s0, .inr (0, [.ref r0])), (r0, .inr (1, [.ref sh, .ref sg, .int (bI tk), .ref bx, .ref th, .ref tr, .ref ev, .ref stp, .ref mx, .int (bI rl), .ref wa, .ref la, .ref ra, .ref ti])), (sh, .inl (dA 3, 2, .inr (.inr (.inr (.inr (sh2 o0a o0b))))))]) ⟨hx, hb, hml, hown, hts⟩ (metX3_point_z lG D dA o0b kdb c1b npb c2b c3b nqb nsb nxb STb Xb Yb x y (by first | assumption | omega) (by first | assumption | omega) (by first | assumption | omega)) (cwV 2 hts (lw_V q879 q880 q881 q73 q882) rfl rfl rfl (by decide +kernel) ⟨Nat.le_of_ble_eq_true rfl, Nat.le_of_ble_eq_true rfl⟩) (va_recv hK.1 hP (ci := 2) (q0 := 3) rfl rfl) hP hK hD hS hA [3, 4, 5, 6] [0, 1, 2] rfl rfl (by decide) (by decide) (by decide) rfl hl.1 rfl (Nat.le_of_ble_eq_true rfl) dX1_point_60 ⟨show 0 + 2 ≤ 2 by omega, show 0 + (4 * nqb) ≤ (4 * nqb) by omega⟩ (fun u H locs hp9 hP hD hS => ?_)
          obtain ⟨b1, b2, nx2, X2, Y2⟩ := u
          have hP : va_P D zCl [(s0, .inr (0, [.ref r0])), (r0, .inr (1, [.ref sh, .ref sg, .int (bI tk), .ref bx, .ref th, .ref tr, .ref ev, .ref stp, .ref mx, .int (bI rl), .ref wa, .ref la, .ref ra, .ref ti])), (sh, .inl (dA 3, 2, .inr (.inr (.inr (.inr (sh2 o0a o0b)))))), (o0b, .inr (2, [.int (nI kdb), .ref c1b, .int (nI npb), .ref b1, .ref b2, .int (nI (nqb + 1))])), (c1b, .inl (dA 0, nsb, .inl fun j => nI (STb j))), (b1, .inl (dA 0, nx2, .inl fun j => iZ (X2 j))), (b2, .inl (dA 0, nx2, .inl fun j => iZ (Y2 j)))] H := hP
          have hD : va_D A [(s0, .inr (0, [.ref r0])), (r0, .inr (1, [.ref sh, .ref sg, .int (bI tk), .ref bx, .ref th, .ref tr, .ref ev, .ref stp, .ref mx, .int (bI rl), .ref wa, .ref la, .ref ra, .ref ti])), (sh, .inl (dA 3, 2, .inr (.inr (.inr (.inr (sh2 o0a o0b)))))), (o0b, .inr (2, [.int (nI kdb), .ref c1b, .int (nI npb), .ref b1, .ref b2, .int (nI (nqb + 1))])), (c1b, .inl (dA 0, nsb, .inl fun j => nI (STb j))), (b1, .inl (dA 0, nx2, .inl fun j => iZ (X2 j))), (b2, .inl (dA 0, nx2, .inl fun j => iZ (Y2 j)))] := hD
          have hp9 : nqb < nx2 ∧ nx2 ≤ max nxb (2 * nqb) ∧ nxb ≤ nx2 ∧ (∀ k, k < nqb → X2 k = Xb k ∧ Y2 k = Yb k) ∧ X2 nqb = x ∧ Y2 nqb = y ∧ (∀ zk, zk ≠ nqb → (X2 zk = Xb zk ∨ X2 zk = 0) ∧ (Y2 zk = Yb zk ∨ Y2 zk = 0)) := hp9
          show W _ _ _ _ _ _ _ _ _ _ _ _ 2 (0 + (4 * nqb)) _ (F0 mG 63 ls [])
          refine lv_aload_n hx hb dX1_point_63 rfl (lv_at hl 1 rfl) ?_
          refine va_get (D := D) (ci := 0) (v := .ref r0) (C := RX1) (T := TX1) (N := 1) hx hb hts in_X1 hown hK.1 hP 0 rfl rfl 0 (Nat.le_of_ble_eq_true rfl) (hts _ q358) (fun _ h9 => h9) rfl dX1_point_64 ?_
          refine zc_wrV (rest := []) (wr := [(s0, .inr (0, [.ref r0])), (sh, .inl (dA 3, 2, .inr (.inr (.inr (.inr (sh2 o0a o0b)))))), (o0b, .inr (2, [.int (nI kdb), .ref c1b, .int (nI npb), .ref b1, .ref b2, .int (nI (nqb + 1))])), (c1b, .inl (dA 0, nsb, .inl fun j => nI (STb j))), (b1, .inl (dA 0, nx2, .inl fun j => iZ (X2 j))), (b2, .inl (dA 0, nx2, .inl fun j => iZ (Y2 j)))]) ⟨hx, hb, hml, hown, hts⟩ (metX2_change lG D dA r0 sh sg tk bx th tr ev stp mx rl wa la ra ti ) (cwV 0 hts (lw_V q832 q833 q834 q72 q835) rfl rfl rfl (by decide +kernel) ⟨Nat.le_of_ble_eq_true rfl, Nat.le_of_ble_eq_true rfl⟩) (va_recv hK.1 hP (ci := 1) (q0 := 1) rfl rfl) hP hK hD hS hA [1] [0, 2, 3, 4, 5, 6] rfl rfl (by decide) (by decide) (by decide) rfl hl.1 rfl (Nat.le_of_ble_eq_true rfl) dX1_point_67 ⟨show 2 ≤ 2 by omega, show (0 + (4 * nqb)) ≤ (4 * nqb) by omega⟩ (fun u H locs hp_3 hP hD hS => ?_)
          have hP : va_P D zCl [(s0, .inr (0, [.ref r0])), (sh, .inl (dA 3, 2, .inr (.inr (.inr (.inr (sh2 o0a o0b)))))), (o0b, .inr (2, [.int (nI kdb), .ref c1b, .int (nI npb), .ref b1, .ref b2, .int (nI (nqb + 1))])), (c1b, .inl (dA 0, nsb, .inl fun j => nI (STb j))), (b1, .inl (dA 0, nx2, .inl fun j => iZ (X2 j))), (b2, .inl (dA 0, nx2, .inl fun j => iZ (Y2 j))), (r0, .inr (1, [.ref sh, .ref sg, .int (bI false), .ref bx, .ref th, .ref tr, .ref ev, .ref stp, .ref mx, .int (bI false), .ref wa, .ref la, .ref ra, .ref ti]))] H := hP
          have hD : va_D A [(s0, .inr (0, [.ref r0])), (sh, .inl (dA 3, 2, .inr (.inr (.inr (.inr (sh2 o0a o0b)))))), (o0b, .inr (2, [.int (nI kdb), .ref c1b, .int (nI npb), .ref b1, .ref b2, .int (nI (nqb + 1))])), (c1b, .inl (dA 0, nsb, .inl fun j => nI (STb j))), (b1, .inl (dA 0, nx2, .inl fun j => iZ (X2 j))), (b2, .inl (dA 0, nx2, .inl fun j => iZ (Y2 j))), (r0, .inr (1, [.ref sh, .ref sg, .int (bI false), .ref bx, .ref th, .ref tr, .ref ev, .ref stp, .ref mx, .int (bI false), .ref wa, .ref la, .ref ra, .ref ti]))] := hD
          show W _ _ _ _ _ _ _ _ _ _ _ _ 2 (0 + (4 * nqb)) _ (F0 mG 70 ls [])
          refine lv_aload hx hb dX1_point_70 (lv_at hl 0 rfl) ?_
          refine va_getN (D := D) (ci := 2) (v := .int (nI (nqb + 1))) (C := RX3) (T := TX3) (N := 6) hx hb hts in_X3 hown hK.1 hP 2 rfl rfl 5 (Nat.le_of_ble_eq_true rfl) (hK.use zq130) (fun _ h9 => h9) rfl dX1_point_72 ?_
          refine W.widen (k := 2) (n := 4 * nqb) (by omega) (by omega) ?_
          exact zr_wrI (u := (b1, b2, nx2, X2, Y2)) rfl (show nqb < nx2 ∧ nx2 ≤ max nxb (2 * nqb) ∧ nxb ≤ nx2 ∧ (∀ k, k < nqb → X2 k = Xb k ∧ Y2 k = Yb k) ∧ X2 nqb = x ∧ Y2 nqb = y ∧ (∀ zk, zk ≠ nqb → (X2 zk = Xb zk ∨ X2 zk = 0) ∧ (Y2 zk = Yb zk ∨ Y2 zk = 0)) from hp9) (hP.sub [0, 6, 1, 2, 3, 4, 5] rfl) (hD.sub [0, 6, 1, 2, 3, 4, 5] (by decide) rfl) hS hx hb hr hlocks dX1_point_75
set_option maxHeartbeats 4000000 in
set_option maxRecDepth 100000 in
theorem metX1_count_10 (lG : Launch) (D : va_G) (dA : Nat → ClassId) (s0 : Nat) (r0 : Nat) (sh : Nat) (sg : Nat) (tk : Bool) (bx : Nat) (th : Nat) (tr : Nat) (ev : Nat) (stp : Nat) (mx : Nat) (rl : Bool) (wa : Nat) (la : Nat) (ra : Nat) (ti : Nat) (o0a : Nat) (o0b : Nat) (kdb : Nat) (c1b : Nat) (npb : Nat) (c2b : Nat) (c3b : Nat) (nqb : Nat) (nsb : Nat) (nxb : Nat) (STb : Nat → Nat) (Xb : Nat → Int) (Yb : Nat → Int)  : Ro lG yX1_count (ws_ yX1_count cX1_count 4 (some .int)) 2 42 D dA [.ref s0, .int (nI 1), .int (nI 0)] [(s0, .inr (0, [.ref r0])), (r0, .inr (1, [.ref sh, .ref sg, .int (bI tk), .ref bx, .ref th, .ref tr, .ref ev, .ref stp, .ref mx, .int (bI rl), .ref wa, .ref la, .ref ra, .ref ti])), (sh, .inl (dA 3, 2, .inr (.inr (.inr (.inr (sh2 o0a o0b)))))), (o0b, .inr (2, [.int (nI kdb), .ref c1b, .int (nI npb), .ref c2b, .ref c3b, .int (nI nqb)])), (c1b, .inl (dA 0, nsb, .inl fun j => nI (STb j))), (c2b, .inl (dA 0, nxb, .inl fun j => iZ (Xb j))), (c3b, .inl (dA 0, nxb, .inl fun j => iZ (Yb j)))] (some (.int (nI kdb))) := by
  refine Ro.of (by decide) (Nat.le_of_ble_eq_true rfl) ?_
  intro pG eG sG mG bG tG cG ls hx hb hr hml hown hts hlocks hP hK hl
  have hown : sG.vm.findClass RX1 = some mG.cls := hown
  have hl : lv_has ls 4 [(0, .ref s0), (1, .int (nI 1)), (2, .int (nI 0))] := hl
  refine lv_aload_n hx hb dX1_count_0 rfl (lv_at hl 0 rfl) ?_
  refine lv_iload_n hx hb dX1_count_1 rfl (lv_at hl 1 rfl) ?_
  refine zc_roV (v := .ref o0b) (rest := []) ⟨hx, hb, hml, hown, hts⟩ (metX1_known_1 lG D dA s0 r0 sh sg tk bx th tr ev stp mx rl wa la ra ti o0a o0b ) (cwV 1 hts (lw_V q778 q780 qs28 q71 q781) rfl rfl rfl (by decide +kernel) ⟨Nat.le_of_ble_eq_true rfl, Nat.le_of_ble_eq_true rfl⟩) (va_recv hK.1 hP (ci := 0) (q0 := 0) rfl rfl) (hP.sub [0, 1, 2] rfl) hK rfl hl.1 rfl (Nat.le_of_ble_eq_true rfl) dX1_count_2 ⟨Nat.zero_le _, Nat.zero_le _⟩ ?_
  refine lv_astore_n (lv' := [(3, .ref o0b), (0, .ref s0), (1, .int (nI 1)), (2, .int (nI 0))]) hx hb dX1_count_5 rfl hl (by decide) rfl (fun ls hl => ?_)
  refine lv_iload_n hx hb dX1_count_6 rfl (lv_at hl 3 rfl) ?_
  refine zn_if_lt (tgt := 19) hx hb (by decide) dX1_count_7 (by decide) (fun c_1 => ?_) (fun c_1 => ?_)
  · skip
    exfalso; omega
  · skip
    refine lv_iload_n hx hb dX1_count_10 rfl (lv_at hl 3 rfl) ?_
    refine lv_iconst (v := nI 3) hx hb dX1_count_11 (by decide) ?_
    refine zn_icmp_ge (tgt := 19) hx hb (by decide) (by decide) dX1_count_12 (by decide) (fun c_2 => ?_) (fun c_2 => ?_)
    · skip
      exfalso; omega
    · skip
      refine lv_iconst (v := bI true) hx hb dX1_count_15 (by decide) ?_
      refine lv_goto (tgt := 20) hx hb dX1_count_16 (by decide) ?_
      refine zc_roSv (rest := []) ⟨hx, hb, hml, hown, hts⟩ (metX1_there_ok lG D dA ) (va_cwS 1 hts (lw_S q782 q783 q71 q784) rfl rfl rfl (by decide +kernel) ⟨Nat.le_of_ble_eq_true rfl, Nat.le_of_ble_eq_true rfl⟩) (hP.sub [] rfl) hK rfl hl.1 rfl (Nat.le_of_ble_eq_true rfl) dX1_count_20 ⟨Nat.zero_le _, Nat.zero_le _⟩ ?_
      refine lv_iload_n hx hb dX1_count_23 rfl (lv_at hl 3 rfl) ?_
      refine zn_if_ne (tgt := 34) hx hb (by decide) dX1_count_24 (by decide) (fun c_3 => ?_) (fun c_3 => ?_)
      · skip
        exfalso; omega
      · skip
        refine lv_aload_n hx hb dX1_count_27 rfl (lv_at hl 0 rfl) ?_
        refine va_getN (D := D) (ci := 2) (v := .int (nI kdb)) (C := RX3) (T := TX3) (N := 6) hx hb hts in_X3 hown hK.1 hP 3 rfl rfl 0 (Nat.le_of_ble_eq_true rfl) (hK.use zq116) (fun _ h9 => h9) rfl dX1_count_28 ?_
        refine lv_goto (tgt := 50) hx hb dX1_count_31 (by decide) ?_
        exact zr_roI rfl hx hb hr hlocks dX1_count_50
set_option maxHeartbeats 4000000 in
set_option maxRecDepth 100000 in
theorem metX1_count_11 (lG : Launch) (D : va_G) (dA : Nat → ClassId) (s0 : Nat) (r0 : Nat) (sh : Nat) (sg : Nat) (tk : Bool) (bx : Nat) (th : Nat) (tr : Nat) (ev : Nat) (stp : Nat) (mx : Nat) (rl : Bool) (wa : Nat) (la : Nat) (ra : Nat) (ti : Nat) (o0a : Nat) (o0b : Nat) (kdb : Nat) (c1b : Nat) (npb : Nat) (c2b : Nat) (c3b : Nat) (nqb : Nat) (nsb : Nat) (nxb : Nat) (STb : Nat → Nat) (Xb : Nat → Int) (Yb : Nat → Int)  : Ro lG yX1_count (ws_ yX1_count cX1_count 4 (some .int)) 2 42 D dA [.ref s0, .int (nI 1), .int (nI 1)] [(s0, .inr (0, [.ref r0])), (r0, .inr (1, [.ref sh, .ref sg, .int (bI tk), .ref bx, .ref th, .ref tr, .ref ev, .ref stp, .ref mx, .int (bI rl), .ref wa, .ref la, .ref ra, .ref ti])), (sh, .inl (dA 3, 2, .inr (.inr (.inr (.inr (sh2 o0a o0b)))))), (o0b, .inr (2, [.int (nI kdb), .ref c1b, .int (nI npb), .ref c2b, .ref c3b, .int (nI nqb)])), (c1b, .inl (dA 0, nsb, .inl fun j => nI (STb j))), (c2b, .inl (dA 0, nxb, .inl fun j => iZ (Xb j))), (c3b, .inl (dA 0, nxb, .inl fun j => iZ (Yb j)))] (some (.int (nI npb))) := by
  refine Ro.of (by decide) (Nat.le_of_ble_eq_true rfl) ?_
  intro pG eG sG mG bG tG cG ls hx hb hr hml hown hts hlocks hP hK hl
  have hown : sG.vm.findClass RX1 = some mG.cls := hown
  have hl : lv_has ls 4 [(0, .ref s0), (1, .int (nI 1)), (2, .int (nI 1))] := hl
  refine lv_aload_n hx hb dX1_count_0 rfl (lv_at hl 0 rfl) ?_
  refine lv_iload_n hx hb dX1_count_1 rfl (lv_at hl 1 rfl) ?_
  refine zc_roV (v := .ref o0b) (rest := []) ⟨hx, hb, hml, hown, hts⟩ (metX1_known_1 lG D dA s0 r0 sh sg tk bx th tr ev stp mx rl wa la ra ti o0a o0b ) (cwV 1 hts (lw_V q778 q780 qs28 q71 q781) rfl rfl rfl (by decide +kernel) ⟨Nat.le_of_ble_eq_true rfl, Nat.le_of_ble_eq_true rfl⟩) (va_recv hK.1 hP (ci := 0) (q0 := 0) rfl rfl) (hP.sub [0, 1, 2] rfl) hK rfl hl.1 rfl (Nat.le_of_ble_eq_true rfl) dX1_count_2 ⟨Nat.zero_le _, Nat.zero_le _⟩ ?_
  refine lv_astore_n (lv' := [(3, .ref o0b), (0, .ref s0), (1, .int (nI 1)), (2, .int (nI 1))]) hx hb dX1_count_5 rfl hl (by decide) rfl (fun ls hl => ?_)
  refine lv_iload_n hx hb dX1_count_6 rfl (lv_at hl 3 rfl) ?_
  refine zn_if_lt (tgt := 19) hx hb (by decide) dX1_count_7 (by decide) (fun c_1 => ?_) (fun c_1 => ?_)
  · skip
    exfalso; omega
  · skip
    refine lv_iload_n hx hb dX1_count_10 rfl (lv_at hl 3 rfl) ?_
    refine lv_iconst (v := nI 3) hx hb dX1_count_11 (by decide) ?_
    refine zn_icmp_ge (tgt := 19) hx hb (by decide) (by decide) dX1_count_12 (by decide) (fun c_2 => ?_) (fun c_2 => ?_)
    · skip
      exfalso; omega
    · skip
      refine lv_iconst (v := bI true) hx hb dX1_count_15 (by decide) ?_
      refine lv_goto (tgt := 20) hx hb dX1_count_16 (by decide) ?_
      refine zc_roSv (rest := []) ⟨hx, hb, hml, hown, hts⟩ (metX1_there_ok lG D dA ) (va_cwS 1 hts (lw_S q782 q783 q71 q784) rfl rfl rfl (by decide +kernel) ⟨Nat.le_of_ble_eq_true rfl, Nat.le_of_ble_eq_true rfl⟩) (hP.sub [] rfl) hK rfl hl.1 rfl (Nat.le_of_ble_eq_true rfl) dX1_count_20 ⟨Nat.zero_le _, Nat.zero_le _⟩ ?_
      refine lv_iload_n hx hb dX1_count_23 rfl (lv_at hl 3 rfl) ?_
      refine zn_if_ne (tgt := 34) hx hb (by decide) dX1_count_24 (by decide) (fun c_3 => ?_) (fun c_3 => ?_)
      · skip
        refine lv_iload_n hx hb dX1_count_34 rfl (lv_at hl 3 rfl) ?_
        refine lv_iconst (v := nI 1) hx hb dX1_count_35 (by decide) ?_
        refine zn_icmp_ne (tgt := 46) hx hb (by decide) (by decide) dX1_count_36 (by decide) (fun c_4 => ?_) (fun c_4 => ?_)
        · skip
          exfalso; omega
        · skip
          refine lv_aload_n hx hb dX1_count_39 rfl (lv_at hl 0 rfl) ?_
          refine va_getN (D := D) (ci := 2) (v := .int (nI npb)) (C := RX3) (T := TX3) (N := 6) hx hb hts in_X3 hown hK.1 hP 3 rfl rfl 2 (Nat.le_of_ble_eq_true rfl) (hK.use zq121) (fun _ h9 => h9) rfl dX1_count_40 ?_
          refine lv_goto (tgt := 50) hx hb dX1_count_43 (by decide) ?_
          exact zr_roI rfl hx hb hr hlocks dX1_count_50
      · skip
        exfalso; omega
set_option maxHeartbeats 4000000 in
set_option maxRecDepth 100000 in
theorem metX1_count_12 (lG : Launch) (D : va_G) (dA : Nat → ClassId) (s0 : Nat) (r0 : Nat) (sh : Nat) (sg : Nat) (tk : Bool) (bx : Nat) (th : Nat) (tr : Nat) (ev : Nat) (stp : Nat) (mx : Nat) (rl : Bool) (wa : Nat) (la : Nat) (ra : Nat) (ti : Nat) (o0a : Nat) (o0b : Nat) (kdb : Nat) (c1b : Nat) (npb : Nat) (c2b : Nat) (c3b : Nat) (nqb : Nat) (nsb : Nat) (nxb : Nat) (STb : Nat → Nat) (Xb : Nat → Int) (Yb : Nat → Int)  : Ro lG yX1_count (ws_ yX1_count cX1_count 4 (some .int)) 2 42 D dA [.ref s0, .int (nI 1), .int (nI 2)] [(s0, .inr (0, [.ref r0])), (r0, .inr (1, [.ref sh, .ref sg, .int (bI tk), .ref bx, .ref th, .ref tr, .ref ev, .ref stp, .ref mx, .int (bI rl), .ref wa, .ref la, .ref ra, .ref ti])), (sh, .inl (dA 3, 2, .inr (.inr (.inr (.inr (sh2 o0a o0b)))))), (o0b, .inr (2, [.int (nI kdb), .ref c1b, .int (nI npb), .ref c2b, .ref c3b, .int (nI nqb)])), (c1b, .inl (dA 0, nsb, .inl fun j => nI (STb j))), (c2b, .inl (dA 0, nxb, .inl fun j => iZ (Xb j))), (c3b, .inl (dA 0, nxb, .inl fun j => iZ (Yb j)))] (some (.int (nI nqb))) := by
  refine Ro.of (by decide) (Nat.le_of_ble_eq_true rfl) ?_
  intro pG eG sG mG bG tG cG ls hx hb hr hml hown hts hlocks hP hK hl
  have hown : sG.vm.findClass RX1 = some mG.cls := hown
  have hl : lv_has ls 4 [(0, .ref s0), (1, .int (nI 1)), (2, .int (nI 2))] := hl
  refine lv_aload_n hx hb dX1_count_0 rfl (lv_at hl 0 rfl) ?_
  refine lv_iload_n hx hb dX1_count_1 rfl (lv_at hl 1 rfl) ?_
  refine zc_roV (v := .ref o0b) (rest := []) ⟨hx, hb, hml, hown, hts⟩ (metX1_known_1 lG D dA s0 r0 sh sg tk bx th tr ev stp mx rl wa la ra ti o0a o0b ) (cwV 1 hts (lw_V q778 q780 qs28 q71 q781) rfl rfl rfl (by decide +kernel) ⟨Nat.le_of_ble_eq_true rfl, Nat.le_of_ble_eq_true rfl⟩) (va_recv hK.1 hP (ci := 0) (q0 := 0) rfl rfl) (hP.sub [0, 1, 2] rfl) hK rfl hl.1 rfl (Nat.le_of_ble_eq_true rfl) dX1_count_2 ⟨Nat.zero_le _, Nat.zero_le _⟩ ?_
  refine lv_astore_n (lv' := [(3, .ref o0b), (0, .ref s0), (1, .int (nI 1)), (2, .int (nI 2))]) hx hb dX1_count_5 rfl hl (by decide) rfl (fun ls hl => ?_)
  refine lv_iload_n hx hb dX1_count_6 rfl (lv_at hl 3 rfl) ?_
  refine zn_if_lt (tgt := 19) hx hb (by decide) dX1_count_7 (by decide) (fun c_1 => ?_) (fun c_1 => ?_)
  · skip
    exfalso; omega
  · skip
    refine lv_iload_n hx hb dX1_count_10 rfl (lv_at hl 3 rfl) ?_
    refine lv_iconst (v := nI 3) hx hb dX1_count_11 (by decide) ?_
    refine zn_icmp_ge (tgt := 19) hx hb (by decide) (by decide) dX1_count_12 (by decide) (fun c_2 => ?_) (fun c_2 => ?_)
    · skip
      exfalso; omega
    · skip
      refine lv_iconst (v := bI true) hx hb dX1_count_15 (by decide) ?_
      refine lv_goto (tgt := 20) hx hb dX1_count_16 (by decide) ?_
      refine zc_roSv (rest := []) ⟨hx, hb, hml, hown, hts⟩ (metX1_there_ok lG D dA ) (va_cwS 1 hts (lw_S q782 q783 q71 q784) rfl rfl rfl (by decide +kernel) ⟨Nat.le_of_ble_eq_true rfl, Nat.le_of_ble_eq_true rfl⟩) (hP.sub [] rfl) hK rfl hl.1 rfl (Nat.le_of_ble_eq_true rfl) dX1_count_20 ⟨Nat.zero_le _, Nat.zero_le _⟩ ?_
      refine lv_iload_n hx hb dX1_count_23 rfl (lv_at hl 3 rfl) ?_
      refine zn_if_ne (tgt := 34) hx hb (by decide) dX1_count_24 (by decide) (fun c_3 => ?_) (fun c_3 => ?_)
      · skip
        refine lv_iload_n hx hb dX1_count_34 rfl (lv_at hl 3 rfl) ?_
        refine lv_iconst (v := nI 1) hx hb dX1_count_35 (by decide) ?_
        refine zn_icmp_ne (tgt := 46) hx hb (by decide) (by decide) dX1_count_36 (by decide) (fun c_4 => ?_) (fun c_4 => ?_)
        · skip
          refine lv_aload_n hx hb dX1_count_46 rfl (lv_at hl 0 rfl) ?_
          refine va_getN (D := D) (ci := 2) (v := .int (nI nqb)) (C := RX3) (T := TX3) (N := 6) hx hb hts in_X3 hown hK.1 hP 3 rfl rfl 5 (Nat.le_of_ble_eq_true rfl) (hK.use zq130) (fun _ h9 => h9) rfl dX1_count_47 ?_
          exact zr_roI rfl hx hb hr hlocks dX1_count_50
        · skip
          exfalso; omega
      · skip
        exfalso; omega
