/-! Model: its public methods (printed by wip gen/c69.py) -/
def relF (MX : Nat → Int) : Nat → Int
  | 0 => 0
  | k + 1 => 4 * relF MX k + MX k + 1
def dimM (KD PT WO : Nat → Nat) (HA : Nat → Bool) (n s : Nat) : Int := if inM KD PT WO HA n s < 0 ∧ hsM WO n s = true then 1 else inM KD PT WO HA n s
section DIMM
variable {KD PT WO : Nat → Nat} {HA : Nat → Bool} {n s : Nat}
theorem dim_t (h : inM KD PT WO HA n s < 0) (g : hsM WO n s = true) : 1 = dimM KD PT WO HA n s := by unfold dimM; rw [if_pos ⟨h, g⟩]
theorem dim_a (h : 0 ≤ inM KD PT WO HA n s) : inM KD PT WO HA n s = dimM KD PT WO HA n s := by unfold dimM; rw [if_neg (fun q => by have := q.1; omega)]
theorem dim_b (g : hsM WO n s = false) : inM KD PT WO HA n s = dimM KD PT WO HA n s := by unfold dimM; rw [if_neg (fun q => by have := q.2; rw [g] at this; cases this)]
end DIMM
set_option maxHeartbeats 4000000 in
set_option maxRecDepth 100000 in
theorem metX10_shape_bad1 (lG : Launch) (D : va_G) (dA : Nat → ClassId) (m0 : Nat) (thr : Nat) (kn : Nat) (pt : Nat) (pa : Nat) (bg : Nat) (xs_ : Nat) (ys_ : Nat) (sgm : Nat) (fr_ : Nat) (tw : Nat) (wo_ : Nat) (mt : Nat) (ha_ : Nat) (x0 : Int) (y0 : Int) (dx : Int) (dy : Int) (zz : Nat) (ct : Nat) (ov : Nat) (un : Nat) (sz_ : Int) (kz : Int) (hs0 : inI sz_) (hb1 : wiZ sz_ 0 1 = false) : Wr lG yX10_shape (ws_ yX10_shape cX10_shape 4 (some .int)) 2 42 D dA [.ref m0, .int (iZ sz_), .int (iZ kz)] [(m0, .inr (9, [.int (nI thr), .ref kn, .ref pt, .ref pa, .ref bg, .ref xs_, .ref ys_, .int (nI sgm), .ref fr_, .ref tw, .ref wo_, .ref mt, .ref ha_, .long (lZ x0), .long (lZ y0), .long (lZ dx), .long (lZ dy), .ref zz, .int (nI ct), .ref ov, .ref un]))] 0 0 (fun (_u : Unit) => True) (fun (_u : Unit) => some (.int (nI 0))) (fun (_u : Unit) => [(m0, .inr (9, [.int (nI 1), .ref kn, .ref pt, .ref pa, .ref bg, .ref xs_, .ref ys_, .int (nI sgm), .ref fr_, .ref tw, .ref wo_, .ref mt, .ref ha_, .long (lZ x0), .long (lZ y0), .long (lZ dx), .long (lZ dy), .ref zz, .int (nI ct), .ref ov, .ref un]))]) := by
  refine Wr.of (by decide) (Nat.le_of_ble_eq_true rfl) ?_
  intro pG eG sG mG bG tG cG ls A hx hb hr hml hown hts hlocks hnm hP hK hD hS hA hl
  have hK1 := hK.1
  have hown : sG.vm.findClass RX10 = some mG.cls := hown
  have hl : lv_has ls 4 [(0, .ref m0), (1, .int (iZ sz_)), (2, .int (iZ kz))] := hl
  refine lv_aload_n hx hb dX10_shape_0 rfl (lv_at hl 0 rfl) ?_
  refine lv_iconst (v := nI 0) hx hb dX10_shape_1 (by decide) ?_
  refine va_put (D := D) (ci := 9) (v := .int (nI 0)) (ty := .int) (C := RX10) (T := TX10) (N := 21) hx hb hts in_X10 tyX10 tyX10_ok nmX10 hown hK.1 hP hD hS 0 rfl rfl 0 (Nat.le_of_ble_eq_true rfl) (hts _ q969) (fun _ h9 => h9) rfl (by decide +kernel) rfl rfl (Nat.le_of_ble_eq_true rfl) dX10_shape_2 (fun H locs hP hD hS => ?_)
  have hP : va_P D zCl [(m0, .inr (9, [.int (nI 0), .ref kn, .ref pt, .ref pa, .ref bg, .ref xs_, .ref ys_, .int (nI sgm), .ref fr_, .ref tw, .ref wo_, .ref mt, .ref ha_, .long (lZ x0), .long (lZ y0), .long (lZ dx), .long (lZ dy), .ref zz, .int (nI ct), .ref ov, .ref un]))] H := hP
  have hD : va_D A [(m0, .inr (9, [.int (nI 0), .ref kn, .ref pt, .ref pa, .ref bg, .ref xs_, .ref ys_, .int (nI sgm), .ref fr_, .ref tw, .ref wo_, .ref mt, .ref ha_, .long (lZ x0), .long (lZ y0), .long (lZ dx), .long (lZ dy), .ref zz, .int (nI ct), .ref ov, .ref un]))] := hD
  refine lv_iload_n hx hb dX10_shape_5 rfl (lv_at hl 1 rfl) ?_
  refine zc_roS (v := .int (bI (wiZ sz_ 0 1))) (rest := []) ⟨hx, hb, hml, hown, hts⟩ (metX10_isShape lG D dA sz_ (by first | assumption | omega)) (va_cwS 1 hts (lw_S q1041 q1042 q80 q1043) rfl rfl rfl (by decide +kernel) ⟨Nat.le_of_ble_eq_true rfl, Nat.le_of_ble_eq_true rfl⟩) (hP.sub [] rfl) hK rfl hl.1 rfl (Nat.le_of_ble_eq_true rfl) dX10_shape_6 ⟨Nat.zero_le _, Nat.zero_le _⟩ ?_
  refine zb_if_ne (tgt := 18) hx hb dX10_shape_9 (by decide) (fun hq1 => ?_) (fun hq1 => ?_)
  · skip
    exfalso; rw [hb1] at hq1; cases hq1
  · skip
    refine lv_aload_n hx hb dX10_shape_12 rfl (lv_at hl 0 rfl) ?_
    refine lv_iconst (v := nI 1) hx hb dX10_shape_13 (by decide) ?_
    refine zc_wrV (rest := []) (wr := []) ⟨hx, hb, hml, hown, hts⟩ (metX10_fail lG D dA m0 0 kn pt pa bg xs_ ys_ sgm fr_ tw wo_ mt ha_ x0 y0 dx dy zz ct ov un 1 ) (cwV 1 hts (lw_V q1047 q1049 qs29 q80 q1050) rfl rfl rfl (by decide +kernel) ⟨Nat.le_of_ble_eq_true rfl, Nat.le_of_ble_eq_true rfl⟩) (va_recv hK.1 hP (ci := 9) (q0 := 0) rfl rfl) hP hK hD hS hA [0] [] rfl rfl (by decide) (by decide) (by decide) rfl hl.1 rfl (Nat.le_of_ble_eq_true rfl) dX10_shape_14 ⟨Nat.zero_le _, Nat.zero_le _⟩ (fun u H locs hp_1 hP hD hS => ?_)
    have hP : va_P D zCl [(m0, .inr (9, [.int (nI 1), .ref kn, .ref pt, .ref pa, .ref bg, .ref xs_, .ref ys_, .int (nI sgm), .ref fr_, .ref tw, .ref wo_, .ref mt, .ref ha_, .long (lZ x0), .long (lZ y0), .long (lZ dx), .long (lZ dy), .ref zz, .int (nI ct), .ref ov, .ref un]))] H := hP
    have hD : va_D A [(m0, .inr (9, [.int (nI 1), .ref kn, .ref pt, .ref pa, .ref bg, .ref xs_, .ref ys_, .int (nI sgm), .ref fr_, .ref tw, .ref wo_, .ref mt, .ref ha_, .long (lZ x0), .long (lZ y0), .long (lZ dx), .long (lZ dy), .ref zz, .int (nI ct), .ref ov, .ref un]))] := hD
    show W _ _ _ _ _ _ _ _ _ _ _ _ 0 0 _ (F0 mG 17 ls [.int (nI 0)])
    exact zr_wrI (u := ()) rfl trivial (hP.sub [0] rfl) (hD.sub [0] (by decide) rfl) hS hx hb hr hlocks dX10_shape_17
set_option maxHeartbeats 4000000 in
set_option maxRecDepth 100000 in
theorem metX10_shape_bad2 (lG : Launch) (D : va_G) (dA : Nat → ClassId) (m0 : Nat) (thr : Nat) (kn : Nat) (pt : Nat) (pa : Nat) (bg : Nat) (xs_ : Nat) (ys_ : Nat) (sgm : Nat) (fr_ : Nat) (tw : Nat) (wo_ : Nat) (mt : Nat) (ha_ : Nat) (x0 : Int) (y0 : Int) (dx : Int) (dy : Int) (zz : Nat) (ct : Nat) (ov : Nat) (un : Nat) (w : Nat) (kz : Int) (hw : w < 2) (hk0 : inI kz) (hb2 : wiZ kz 1 3 = false) : Wr lG yX10_shape (ws_ yX10_shape cX10_shape 4 (some .int)) 2 42 D dA [.ref m0, .int (nI w), .int (iZ kz)] [(m0, .inr (9, [.int (nI thr), .ref kn, .ref pt, .ref pa, .ref bg, .ref xs_, .ref ys_, .int (nI sgm), .ref fr_, .ref tw, .ref wo_, .ref mt, .ref ha_, .long (lZ x0), .long (lZ y0), .long (lZ dx), .long (lZ dy), .ref zz, .int (nI ct), .ref ov, .ref un]))] 0 0 (fun (_u : Unit) => True) (fun (_u : Unit) => some (.int (nI 0))) (fun (_u : Unit) => [(m0, .inr (9, [.int (nI 2), .ref kn, .ref pt, .ref pa, .ref bg, .ref xs_, .ref ys_, .int (nI sgm), .ref fr_, .ref tw, .ref wo_, .ref mt, .ref ha_, .long (lZ x0), .long (lZ y0), .long (lZ dx), .long (lZ dy), .ref zz, .int (nI ct), .ref ov, .ref un]))]) := by
  refine Wr.of (by decide) (Nat.le_of_ble_eq_true rfl) ?_
  intro pG eG sG mG bG tG cG ls A hx hb hr hml hown hts hlocks hnm hP hK hD hS hA hl
  have hK1 := hK.1
  have hown : sG.vm.findClass RX10 = some mG.cls := hown
  have hl : lv_has ls 4 [(0, .ref m0), (1, .int (nI w)), (2, .int (iZ kz))] := hl
  refine lv_aload_n hx hb dX10_shape_0 rfl (lv_at hl 0 rfl) ?_
  refine lv_iconst (v := nI 0) hx hb dX10_shape_1 (by decide) ?_
  refine va_put (D := D) (ci := 9) (v := .int (nI 0)) (ty := .int) (C := RX10) (T := TX10) (N := 21) hx hb hts in_X10 tyX10 tyX10_ok nmX10 hown hK.1 hP hD hS 0 rfl rfl 0 (Nat.le_of_ble_eq_true rfl) (hts _ q969) (fun _ h9 => h9) rfl (by decide +kernel) rfl rfl (Nat.le_of_ble_eq_true rfl) dX10_shape_2 (fun H locs hP hD hS => ?_)
  have hP : va_P D zCl [(m0, .inr (9, [.int (nI 0), .ref kn, .ref pt, .ref pa, .ref bg, .ref xs_, .ref ys_, .int (nI sgm), .ref fr_, .ref tw, .ref wo_, .ref mt, .ref ha_, .long (lZ x0), .long (lZ y0), .long (lZ dx), .long (lZ dy), .ref zz, .int (nI ct), .ref ov, .ref un]))] H := hP
  have hD : va_D A [(m0, .inr (9, [.int (nI 0), .ref kn, .ref pt, .ref pa, .ref bg, .ref xs_, .ref ys_, .int (nI sgm), .ref fr_, .ref tw, .ref wo_, .ref mt, .ref ha_, .long (lZ x0), .long (lZ y0), .long (lZ dx), .long (lZ dy), .ref zz, .int (nI ct), .ref ov, .ref un]))] := hD
  refine lv_iload_n hx hb dX10_shape_5 rfl (lv_at hl 1 rfl) ?_
  refine zc_roS (v := .int (bI true)) (rest := []) ⟨hx, hb, hml, hown, hts⟩ (metX10_isShape_n lG D dA w (by first | assumption | omega)) (va_cwS 1 hts (lw_S q1041 q1042 q80 q1043) rfl rfl rfl (by decide +kernel) ⟨Nat.le_of_ble_eq_true rfl, Nat.le_of_ble_eq_true rfl⟩) (hP.sub [] rfl) hK rfl hl.1 rfl (Nat.le_of_ble_eq_true rfl) dX10_shape_6 ⟨Nat.zero_le _, Nat.zero_le _⟩ ?_
  refine zb_if_ne (tgt := 18) hx hb dX10_shape_9 (by decide) (fun c_1 => ?_) (fun c_1 => ?_)
  · skip
    refine lv_iload_n hx hb dX10_shape_18 rfl (lv_at hl 2 rfl) ?_
    refine lv_iconst (v := iZ 1) hx hb dX10_shape_19 (by decide) ?_
    refine lv_iconst (v := iZ 3) hx hb dX10_shape_20 (by decide) ?_
    refine zc_roS (v := .int (bI (wiZ kz 1 3))) (rest := []) ⟨hx, hb, hml, hown, hts⟩ (metX10_within lG D dA kz 1 3 (by first | assumption | omega) (⟨by decide, by decide⟩) (⟨by decide, by decide⟩)) (va_cwS 3 hts (lw_S q1044 q1045 q80 q1046) rfl rfl rfl (by decide +kernel) ⟨Nat.le_of_ble_eq_true rfl, Nat.le_of_ble_eq_true rfl⟩) (hP.sub [] rfl) hK rfl hl.1 rfl (Nat.le_of_ble_eq_true rfl) dX10_shape_21 ⟨Nat.zero_le _, Nat.zero_le _⟩ ?_
    refine zb_if_ne (tgt := 33) hx hb dX10_shape_24 (by decide) (fun hq1 => ?_) (fun hq1 => ?_)
    · skip
      exfalso; rw [hb2] at hq1; cases hq1
    · skip
      refine lv_aload_n hx hb dX10_shape_27 rfl (lv_at hl 0 rfl) ?_
      refine lv_iconst (v := nI 2) hx hb dX10_shape_28 (by decide) ?_
      refine zc_wrV (rest := []) (wr := []) ⟨hx, hb, hml, hown, hts⟩ (metX10_fail lG D dA m0 0 kn pt pa bg xs_ ys_ sgm fr_ tw wo_ mt ha_ x0 y0 dx dy zz ct ov un 2 ) (cwV 1 hts (lw_V q1047 q1049 qs29 q80 q1050) rfl rfl rfl (by decide +kernel) ⟨Nat.le_of_ble_eq_true rfl, Nat.le_of_ble_eq_true rfl⟩) (va_recv hK.1 hP (ci := 9) (q0 := 0) rfl rfl) hP hK hD hS hA [0] [] rfl rfl (by decide) (by decide) (by decide) rfl hl.1 rfl (Nat.le_of_ble_eq_true rfl) dX10_shape_29 ⟨Nat.zero_le _, Nat.zero_le _⟩ (fun u H locs hp_2 hP hD hS => ?_)
      have hP : va_P D zCl [(m0, .inr (9, [.int (nI 2), .ref kn, .ref pt, .ref pa, .ref bg, .ref xs_, .ref ys_, .int (nI sgm), .ref fr_, .ref tw, .ref wo_, .ref mt, .ref ha_, .long (lZ x0), .long (lZ y0), .long (lZ dx), .long (lZ dy), .ref zz, .int (nI ct), .ref ov, .ref un]))] H := hP
      have hD : va_D A [(m0, .inr (9, [.int (nI 2), .ref kn, .ref pt, .ref pa, .ref bg, .ref xs_, .ref ys_, .int (nI sgm), .ref fr_, .ref tw, .ref wo_, .ref mt, .ref ha_, .long (lZ x0), .long (lZ y0), .long (lZ dx), .long (lZ dy), .ref zz, .int (nI ct), .ref ov, .ref un]))] := hD
      show W _ _ _ _ _ _ _ _ _ _ _ _ 0 0 _ (F0 mG 32 ls [.int (nI 0)])
      exact zr_wrI (u := ()) rfl trivial (hP.sub [0] rfl) (hD.sub [0] (by decide) rfl) hS hx hb hr hlocks dX10_shape_32
  · skip
    exfalso; contradiction
set_option maxHeartbeats 4000000 in
set_option maxRecDepth 100000 in
theorem metX10_shape_ok (lG : Launch) (D : va_G) (dA : Nat → ClassId) (m0 : Nat) (thr : Nat) (kn : Nat) (pt : Nat) (pa : Nat) (bg : Nat) (xs_ : Nat) (ys_ : Nat) (sgm : Nat) (fr_ : Nat) (tw : Nat) (wo_ : Nat) (mt : Nat) (ha_ : Nat) (x0 : Int) (y0 : Int) (dx : Int) (dy : Int) (zz : Nat) (ct : Nat) (ov : Nat) (un : Nat) (KD : Nat → Nat) (PT : Nat → Nat) (PN : Nat → Nat) (w : Nat) (kd : Nat) (hw : w < 2) (hk1 : 1 ≤ kd) (hk2 : kd ≤ 3) : Wr lG yX10_shape (ws_ yX10_shape cX10_shape 4 (some .int)) 2 42 D dA [.ref m0, .int (nI w), .int (nI kd)] [(m0, .inr (9, [.int (nI thr), .ref kn, .ref pt, .ref pa, .ref bg, .ref xs_, .ref ys_, .int (nI sgm), .ref fr_, .ref tw, .ref wo_, .ref mt, .ref ha_, .long (lZ x0), .long (lZ y0), .long (lZ dx), .long (lZ dy), .ref zz, .int (nI ct), .ref ov, .ref un])), (kn, .inl (dA 0, 2, .inl fun j => nI (KD j))), (pt, .inl (dA 0, 2, .inl fun j => nI (PT j))), (pa, .inl (dA 0, 2, .inl fun j => nI (PN j)))] 0 0 (fun (_u : Unit) => True) (fun (_u : Unit) => some (.int (nI (PT w)))) (fun (_u : Unit) => [(m0, .inr (9, [.int (nI 0), .ref kn, .ref pt, .ref pa, .ref bg, .ref xs_, .ref ys_, .int (nI sgm), .ref fr_, .ref tw, .ref wo_, .ref mt, .ref ha_, .long (lZ x0), .long (lZ y0), .long (lZ dx), .long (lZ dy), .ref zz, .int (nI ct), .ref ov, .ref un])), (kn, .inl (dA 0, 2, .inl fun j => nI ((updZ KD w kd) j))), (pt, .inl (dA 0, 2, .inl fun j => nI ((updZ PT w 0) j))), (pa, .inl (dA 0, 2, .inl fun j => nI ((updZ PN w 0) j)))]) := by
  refine Wr.of (by decide) (Nat.le_of_ble_eq_true rfl) ?_
  intro pG eG sG mG bG tG cG ls A hx hb hr hml hown hts hlocks hnm hP hK hD hS hA hl
  have hK1 := hK.1
  have hown : sG.vm.findClass RX10 = some mG.cls := hown
  have hl : lv_has ls 4 [(0, .ref m0), (1, .int (nI w)), (2, .int (nI kd))] := hl
  refine lv_aload_n hx hb dX10_shape_0 rfl (lv_at hl 0 rfl) ?_
  refine lv_iconst (v := nI 0) hx hb dX10_shape_1 (by decide) ?_
  refine va_put (D := D) (ci := 9) (v := .int (nI 0)) (ty := .int) (C := RX10) (T := TX10) (N := 21) hx hb hts in_X10 tyX10 tyX10_ok nmX10 hown hK.1 hP hD hS 0 rfl rfl 0 (Nat.le_of_ble_eq_true rfl) (hts _ q969) (fun _ h9 => h9) rfl (by decide +kernel) rfl rfl (Nat.le_of_ble_eq_true rfl) dX10_shape_2 (fun H locs hP hD hS => ?_)
  have hP : va_P D zCl [(m0, .inr (9, [.int (nI 0), .ref kn, .ref pt, .ref pa, .ref bg, .ref xs_, .ref ys_, .int (nI sgm), .ref fr_, .ref tw, .ref wo_, .ref mt, .ref ha_, .long (lZ x0), .long (lZ y0), .long (lZ dx), .long (lZ dy), .ref zz, .int (nI ct), .ref ov, .ref un])), (kn, .inl (dA 0, 2, .inl fun j => nI (KD j))), (pt, .inl (dA 0, 2, .inl fun j => nI (PT j))), (pa, .inl (dA 0, 2, .inl fun j => nI (PN j)))] H := hP
  have hD : va_D A [(m0, .inr (9, [.int (nI 0), .ref kn, .ref pt, .ref pa, .ref bg, .ref xs_, .ref ys_, .int (nI sgm), .ref fr_, .ref tw, .ref wo_, .ref mt, .ref ha_, .long (lZ x0), .long (lZ y0), .long (lZ dx), .long (lZ dy), .ref zz, .int (nI ct), .ref ov, .ref un])), (kn, .inl (dA 0, 2, .inl fun j => nI (KD j))), (pt, .inl (dA 0, 2, .inl fun j => nI (PT j))), (pa, .inl (dA 0, 2, .inl fun j => nI (PN j)))] := hD
  refine lv_iload_n hx hb dX10_shape_5 rfl (lv_at hl 1 rfl) ?_
  refine zc_roS (v := .int (bI true)) (rest := []) ⟨hx, hb, hml, hown, hts⟩ (metX10_isShape_n lG D dA w (by first | assumption | omega)) (va_cwS 1 hts (lw_S q1041 q1042 q80 q1043) rfl rfl rfl (by decide +kernel) ⟨Nat.le_of_ble_eq_true rfl, Nat.le_of_ble_eq_true rfl⟩) (hP.sub [] rfl) hK rfl hl.1 rfl (Nat.le_of_ble_eq_true rfl) dX10_shape_6 ⟨Nat.zero_le _, Nat.zero_le _⟩ ?_
  refine zb_if_ne (tgt := 18) hx hb dX10_shape_9 (by decide) (fun c_1 => ?_) (fun c_1 => ?_)
  · skip
    refine lv_iload_n hx hb dX10_shape_18 rfl (lv_at hl 2 rfl) ?_
    refine lv_iconst (v := nI 1) hx hb dX10_shape_19 (by decide) ?_
    refine lv_iconst (v := nI 3) hx hb dX10_shape_20 (by decide) ?_
    refine zc_roS (v := .int (bI ((decide (1 ≤ kd) && decide (kd ≤ 3))))) (rest := []) ⟨hx, hb, hml, hown, hts⟩ (metX10_within_n lG D dA kd 1 3 (by first | assumption | omega) (by first | assumption | omega) (by first | assumption | omega)) (va_cwS 3 hts (lw_S q1044 q1045 q80 q1046) rfl rfl rfl (by decide +kernel) ⟨Nat.le_of_ble_eq_true rfl, Nat.le_of_ble_eq_true rfl⟩) (hP.sub [] rfl) hK rfl hl.1 rfl (Nat.le_of_ble_eq_true rfl) dX10_shape_21 ⟨Nat.zero_le _, Nat.zero_le _⟩ ?_
    refine zb_if_ne (tgt := 33) hx hb dX10_shape_24 (by decide) (fun hq1 => ?_) (fun hq1 => ?_)
    · skip
      refine lv_aload_n hx hb dX10_shape_33 rfl (lv_at hl 0 rfl) ?_
      refine va_get (D := D) (ci := 9) (v := .ref pt) (C := RX10) (T := TX10) (N := 21) hx hb hts in_X10 hown hK.1 hP 0 rfl rfl 2 (Nat.le_of_ble_eq_true rfl) (hts _ q971) (fun _ h9 => h9) rfl dX10_shape_34 ?_
      refine lv_iload_n hx hb dX10_shape_37 rfl (lv_at hl 1 rfl) ?_
      refine zn_iaload (f := PT) (i := w) hx hb hK.1 hP 2 0 rfl rfl (by omega) (by decide) dX10_shape_38 ?_
      refine lv_istore_n (lv' := [(3, .int (nI (PT w))), (0, .ref m0), (1, .int (nI w)), (2, .int (nI kd))]) hx hb dX10_shape_39 rfl hl (by decide) rfl (fun ls hl => ?_)
      refine lv_aload_n hx hb dX10_shape_40 rfl (lv_at hl 1 rfl) ?_
      refine va_get (D := D) (ci := 9) (v := .ref kn) (C := RX10) (T := TX10) (N := 21) hx hb hts in_X10 hown hK.1 hP 0 rfl rfl 1 (Nat.le_of_ble_eq_true rfl) (hts _ q970) (fun _ h9 => h9) rfl dX10_shape_41 ?_
      refine lv_iload_n hx hb dX10_shape_44 rfl (lv_at hl 2 rfl) ?_
      refine lv_iload_n hx hb dX10_shape_45 rfl (lv_at hl 3 rfl) ?_
      refine zn_iastore (f := KD) (i := w) (x := kd) hx hb hK.1 hP hD hS 1 0 rfl rfl (by omega) (by decide) dX10_shape_46 (fun H locs hP hD hS => ?_)
      have hP : va_P D zCl [(m0, .inr (9, [.int (nI 0), .ref kn, .ref pt, .ref pa, .ref bg, .ref xs_, .ref ys_, .int (nI sgm), .ref fr_, .ref tw, .ref wo_, .ref mt, .ref ha_, .long (lZ x0), .long (lZ y0), .long (lZ dx), .long (lZ dy), .ref zz, .int (nI ct), .ref ov, .ref un])), (kn, .inl (dA 0, 2, .inl fun j => nI ((updZ KD w kd) j))), (pt, .inl (dA 0, 2, .inl fun j => nI (PT j))), (pa, .inl (dA 0, 2, .inl fun j => nI (PN j)))] H := hP
      have hD : va_D A [(m0, .inr (9, [.int (nI 0), .ref kn, .ref pt, .ref pa, .ref bg, .ref xs_, .ref ys_, .int (nI sgm), .ref fr_, .ref tw, .ref wo_, .ref mt, .ref ha_, .long (lZ x0), .long (lZ y0), .long (lZ dx), .long (lZ dy), .ref zz, .int (nI ct), .ref ov, .ref un])), (kn, .inl (dA 0, 2, .inl fun j => nI ((updZ KD w kd) j))), (pt, .inl (dA 0, 2, .inl fun j => nI (PT j))), (pa, .inl (dA 0, 2, .inl fun j => nI (PN j)))] := hD
      refine lv_aload_n hx hb dX10_shape_47 rfl (lv_at hl 1 rfl) ?_
      refine va_get (D := D) (ci := 9) (v := .ref pt) (C := RX10) (T := TX10) (N := 21) hx hb hts in_X10 hown hK.1 hP 0 rfl rfl 2 (Nat.le_of_ble_eq_true rfl) (hts _ q971) (fun _ h9 => h9) rfl dX10_shape_48 ?_
      refine lv_iload_n hx hb dX10_shape_51 rfl (lv_at hl 2 rfl) ?_
      refine lv_iconst (v := nI 0) hx hb dX10_shape_52 (by decide) ?_
      refine zn_iastore (f := PT) (i := w) (x := 0) hx hb hK.1 hP hD hS 2 0 rfl rfl (by omega) (by decide) dX10_shape_53 (fun H locs hP hD hS => ?_)
      have hP : va_P D zCl [(m0, .inr (9, [.int (nI 0), .ref kn, .ref pt, .ref pa, .ref bg, .ref xs_, .ref ys_, .int (nI sgm), .ref fr_, .ref tw, .ref wo_, .ref mt, .ref ha_, .long (lZ x0), .long (lZ y0), .long (lZ dx), .long (lZ dy), .ref zz, .int (nI ct), .ref ov, .ref un])), (kn, .inl (dA 0, 2, .inl fun j => nI ((updZ KD w kd) j))), (pt, .inl (dA 0, 2, .inl fun j => nI ((updZ PT w 0) j))), (pa, .inl (dA 0, 2, .inl fun j => nI (PN j)))] H := hP
      have hD : va_D A [(m0, .inr (9, [.int (nI 0), .ref kn, .ref pt, .ref pa, .ref bg, .ref xs_, .ref ys_, .int (nI sgm), .ref fr_, .ref tw, .ref wo_, .ref mt, .ref ha_, .long (lZ x0), .long (lZ y0), .long (lZ dx), .long (lZ dy), .ref zz, .int (nI ct), .ref ov, .ref un])), (kn, .inl (dA 0, 2, .inl fun j => nI ((updZ KD w kd) j))), (pt, .inl (dA 0, 2, .inl fun j => nI ((updZ PT w 0) j))), (pa, .inl (dA 0, 2, .inl fun j => nI (PN j)))] := hD
      refine lv_aload_n hx hb dX10_shape_54 rfl (lv_at hl 1 rfl) ?_
      refine va_get (D := D) (ci := 9) (v := .ref pa) (C := RX10) (T := TX10) (N := 21) hx hb hts in_X10 hown hK.1 hP 0 rfl rfl 3 (Nat.le_of_ble_eq_true rfl) (hts _ q972) (fun _ h9 => h9) rfl dX10_shape_55 ?_
      refine lv_iload_n hx hb dX10_shape_58 rfl (lv_at hl 2 rfl) ?_
      refine lv_iconst (v := nI 0) hx hb dX10_shape_59 (by decide) ?_
      refine zn_iastore (f := PN) (i := w) (x := 0) hx hb hK.1 hP hD hS 3 0 rfl rfl (by omega) (by decide) dX10_shape_60 (fun H locs hP hD hS => ?_)
      have hP : va_P D zCl [(m0, .inr (9, [.int (nI 0), .ref kn, .ref pt, .ref pa, .ref bg, .ref xs_, .ref ys_, .int (nI sgm), .ref fr_, .ref tw, .ref wo_, .ref mt, .ref ha_, .long (lZ x0), .long (lZ y0), .long (lZ dx), .long (lZ dy), .ref zz, .int (nI ct), .ref ov, .ref un])), (kn, .inl (dA 0, 2, .inl fun j => nI ((updZ KD w kd) j))), (pt, .inl (dA 0, 2, .inl fun j => nI ((updZ PT w 0) j))), (pa, .inl (dA 0, 2, .inl fun j => nI ((updZ PN w 0) j)))] H := hP
      have hD : va_D A [(m0, .inr (9, [.int (nI 0), .ref kn, .ref pt, .ref pa, .ref bg, .ref xs_, .ref ys_, .int (nI sgm), .ref fr_, .ref tw, .ref wo_, .ref mt, .ref ha_, .long (lZ x0), .long (lZ y0), .long (lZ dx), .long (lZ dy), .ref zz, .int (nI ct), .ref ov, .ref un])), (kn, .inl (dA 0, 2, .inl fun j => nI ((updZ KD w kd) j))), (pt, .inl (dA 0, 2, .inl fun j => nI ((updZ PT w 0) j))), (pa, .inl (dA 0, 2, .inl fun j => nI ((updZ PN w 0) j)))] := hD
      refine lv_iload_n hx hb dX10_shape_61 rfl (lv_at hl 0 rfl) ?_
      exact zr_wrI (u := ()) rfl trivial (hP.sub [0, 1, 2, 3] rfl) (hD.sub [0, 1, 2, 3] (by decide) rfl) hS hx hb hr hlocks dX10_shape_62
    · skip
      exfalso; rw [decide_eq_true hk1, decide_eq_true hk2] at hq1; cases hq1
  · skip
    exfalso; contradiction
set_option maxHeartbeats 4000000 in
set_option maxRecDepth 100000 in
theorem metX10_part_bad1 (lG : Launch) (D : va_G) (dA : Nat → ClassId) (m0 : Nat) (thr : Nat) (kn : Nat) (pt : Nat) (pa : Nat) (bg : Nat) (xs_ : Nat) (ys_ : Nat) (sgm : Nat) (fr_ : Nat) (tw : Nat) (wo_ : Nat) (mt : Nat) (ha_ : Nat) (x0 : Int) (y0 : Int) (dx : Int) (dy : Int) (zz : Nat) (ct : Nat) (ov : Nat) (un : Nat) (sz_ : Int) (hs0 : inI sz_) (hb1 : wiZ sz_ 0 1 = false) : Wr lG yX10_part (ws_ yX10_part cX10_part 2 (some .int)) 2 42 D dA [.ref m0, .int (iZ sz_)] [(m0, .inr (9, [.int (nI thr), .ref kn, .ref pt, .ref pa, .ref bg, .ref xs_, .ref ys_, .int (nI sgm), .ref fr_, .ref tw, .ref wo_, .ref mt, .ref ha_, .long (lZ x0), .long (lZ y0), .long (lZ dx), .long (lZ dy), .ref zz, .int (nI ct), .ref ov, .ref un]))] 0 0 (fun (_u : Unit) => True) (fun (_u : Unit) => some (.int (nI 0))) (fun (_u : Unit) => [(m0, .inr (9, [.int (nI 1), .ref kn, .ref pt, .ref pa, .ref bg, .ref xs_, .ref ys_, .int (nI sgm), .ref fr_, .ref tw, .ref wo_, .ref mt, .ref ha_, .long (lZ x0), .long (lZ y0), .long (lZ dx), .long (lZ dy), .ref zz, .int (nI ct), .ref ov, .ref un]))]) := by
  refine Wr.of (by decide) (Nat.le_of_ble_eq_true rfl) ?_
  intro pG eG sG mG bG tG cG ls A hx hb hr hml hown hts hlocks hnm hP hK hD hS hA hl
  have hK1 := hK.1
  have hown : sG.vm.findClass RX10 = some mG.cls := hown
  have hl : lv_has ls 2 [(0, .ref m0), (1, .int (iZ sz_))] := hl
  refine lv_aload_n hx hb dX10_part_0 rfl (lv_at hl 0 rfl) ?_
  refine lv_iconst (v := nI 0) hx hb dX10_part_1 (by decide) ?_
  refine va_put (D := D) (ci := 9) (v := .int (nI 0)) (ty := .int) (C := RX10) (T := TX10) (N := 21) hx hb hts in_X10 tyX10 tyX10_ok nmX10 hown hK.1 hP hD hS 0 rfl rfl 0 (Nat.le_of_ble_eq_true rfl) (hts _ q969) (fun _ h9 => h9) rfl (by decide +kernel) rfl rfl (Nat.le_of_ble_eq_true rfl) dX10_part_2 (fun H locs hP hD hS => ?_)
  have hP : va_P D zCl [(m0, .inr (9, [.int (nI 0), .ref kn, .ref pt, .ref pa, .ref bg, .ref xs_, .ref ys_, .int (nI sgm), .ref fr_, .ref tw, .ref wo_, .ref mt, .ref ha_, .long (lZ x0), .long (lZ y0), .long (lZ dx), .long (lZ dy), .ref zz, .int (nI ct), .ref ov, .ref un]))] H := hP
  have hD : va_D A [(m0, .inr (9, [.int (nI 0), .ref kn, .ref pt, .ref pa, .ref bg, .ref xs_, .ref ys_, .int (nI sgm), .ref fr_, .ref tw, .ref wo_, .ref mt, .ref ha_, .long (lZ x0), .long (lZ y0), .long (lZ dx), .long (lZ dy), .ref zz, .int (nI ct), .ref ov, .ref un]))] := hD
  refine lv_iload_n hx hb dX10_part_5 rfl (lv_at hl 1 rfl) ?_
  refine zc_roS (v := .int (bI (wiZ sz_ 0 1))) (rest := []) ⟨hx, hb, hml, hown, hts⟩ (metX10_isShape lG D dA sz_ (by first | assumption | omega)) (va_cwS 1 hts (lw_S q1041 q1042 q80 q1043) rfl rfl rfl (by decide +kernel) ⟨Nat.le_of_ble_eq_true rfl, Nat.le_of_ble_eq_true rfl⟩) (hP.sub [] rfl) hK rfl hl.1 rfl (Nat.le_of_ble_eq_true rfl) dX10_part_6 ⟨Nat.zero_le _, Nat.zero_le _⟩ ?_
  refine zb_if_ne (tgt := 18) hx hb dX10_part_9 (by decide) (fun hq1 => ?_) (fun hq1 => ?_)
  · skip
    exfalso; rw [hb1] at hq1; cases hq1
  · skip
    refine lv_aload_n hx hb dX10_part_12 rfl (lv_at hl 0 rfl) ?_
    refine lv_iconst (v := nI 1) hx hb dX10_part_13 (by decide) ?_
    refine zc_wrV (rest := []) (wr := []) ⟨hx, hb, hml, hown, hts⟩ (metX10_fail lG D dA m0 0 kn pt pa bg xs_ ys_ sgm fr_ tw wo_ mt ha_ x0 y0 dx dy zz ct ov un 1 ) (cwV 1 hts (lw_V q1047 q1049 qs29 q80 q1050) rfl rfl rfl (by decide +kernel) ⟨Nat.le_of_ble_eq_true rfl, Nat.le_of_ble_eq_true rfl⟩) (va_recv hK.1 hP (ci := 9) (q0 := 0) rfl rfl) hP hK hD hS hA [0] [] rfl rfl (by decide) (by decide) (by decide) rfl hl.1 rfl (Nat.le_of_ble_eq_true rfl) dX10_part_14 ⟨Nat.zero_le _, Nat.zero_le _⟩ (fun u H locs hp_1 hP hD hS => ?_)
    have hP : va_P D zCl [(m0, .inr (9, [.int (nI 1), .ref kn, .ref pt, .ref pa, .ref bg, .ref xs_, .ref ys_, .int (nI sgm), .ref fr_, .ref tw, .ref wo_, .ref mt, .ref ha_, .long (lZ x0), .long (lZ y0), .long (lZ dx), .long (lZ dy), .ref zz, .int (nI ct), .ref ov, .ref un]))] H := hP
    have hD : va_D A [(m0, .inr (9, [.int (nI 1), .ref kn, .ref pt, .ref pa, .ref bg, .ref xs_, .ref ys_, .int (nI sgm), .ref fr_, .ref tw, .ref wo_, .ref mt, .ref ha_, .long (lZ x0), .long (lZ y0), .long (lZ dx), .long (lZ dy), .ref zz, .int (nI ct), .ref ov, .ref un]))] := hD
    show W _ _ _ _ _ _ _ _ _ _ _ _ 0 0 _ (F0 mG 17 ls [.int (nI 0)])
    exact zr_wrI (u := ()) rfl trivial (hP.sub [0] rfl) (hD.sub [0] (by decide) rfl) hS hx hb hr hlocks dX10_part_17
set_option maxHeartbeats 4000000 in
set_option maxRecDepth 100000 in
theorem metX10_part_ok (lG : Launch) (D : va_G) (dA : Nat → ClassId) (m0 : Nat) (thr : Nat) (kn : Nat) (pt : Nat) (pa : Nat) (bg : Nat) (xs_ : Nat) (ys_ : Nat) (sgm : Nat) (fr_ : Nat) (tw : Nat) (wo_ : Nat) (mt : Nat) (ha_ : Nat) (x0 : Int) (y0 : Int) (dx : Int) (dy : Int) (zz : Nat) (ct : Nat) (ov : Nat) (un : Nat) (PT : Nat → Nat) (PN : Nat → Nat) (BG : Nat → Nat) (w : Nat) (hw : w < 2) (hPN : PN w < 1024) : Wr lG yX10_part (ws_ yX10_part cX10_part 2 (some .int)) 2 42 D dA [.ref m0, .int (nI w)] [(m0, .inr (9, [.int (nI thr), .ref kn, .ref pt, .ref pa, .ref bg, .ref xs_, .ref ys_, .int (nI sgm), .ref fr_, .ref tw, .ref wo_, .ref mt, .ref ha_, .long (lZ x0), .long (lZ y0), .long (lZ dx), .long (lZ dy), .ref zz, .int (nI ct), .ref ov, .ref un])), (pt, .inl (dA 0, 2, .inl fun j => nI (PT j))), (pa, .inl (dA 0, 2, .inl fun j => nI (PN j))), (bg, .inl (dA 0, 2050, .inl fun j => nI (BG j)))] 0 0 (fun (_u : Unit) => True) (fun (_u : Unit) => some (.int (nI (PN w + 1)))) (fun (_u : Unit) => [(m0, .inr (9, [.int (nI 0), .ref kn, .ref pt, .ref pa, .ref bg, .ref xs_, .ref ys_, .int (nI sgm), .ref fr_, .ref tw, .ref wo_, .ref mt, .ref ha_, .long (lZ x0), .long (lZ y0), .long (lZ dx), .long (lZ dy), .ref zz, .int (nI ct), .ref ov, .ref un])), (pt, .inl (dA 0, 2, .inl fun j => nI (PT j))), (pa, .inl (dA 0, 2, .inl fun j => nI ((updZ PN w (PN w + 1)) j))), (bg, .inl (dA 0, 2050, .inl fun j => nI ((updZ BG (1025 * w + PN w) (PT w)) j)))]) := by
  refine Wr.of (by decide) (Nat.le_of_ble_eq_true rfl) ?_
  intro pG eG sG mG bG tG cG ls A hx hb hr hml hown hts hlocks hnm hP hK hD hS hA hl
  have hK1 := hK.1
  have hown : sG.vm.findClass RX10 = some mG.cls := hown
  have hl : lv_has ls 2 [(0, .ref m0), (1, .int (nI w))] := hl
  refine lv_aload_n hx hb dX10_part_0 rfl (lv_at hl 0 rfl) ?_
  refine lv_iconst (v := nI 0) hx hb dX10_part_1 (by decide) ?_
  refine va_put (D := D) (ci := 9) (v := .int (nI 0)) (ty := .int) (C := RX10) (T := TX10) (N := 21) hx hb hts in_X10 tyX10 tyX10_ok nmX10 hown hK.1 hP hD hS 0 rfl rfl 0 (Nat.le_of_ble_eq_true rfl) (hts _ q969) (fun _ h9 => h9) rfl (by decide +kernel) rfl rfl (Nat.le_of_ble_eq_true rfl) dX10_part_2 (fun H locs hP hD hS => ?_)
  have hP : va_P D zCl [(m0, .inr (9, [.int (nI 0), .ref kn, .ref pt, .ref pa, .ref bg, .ref xs_, .ref ys_, .int (nI sgm), .ref fr_, .ref tw, .ref wo_, .ref mt, .ref ha_, .long (lZ x0), .long (lZ y0), .long (lZ dx), .long (lZ dy), .ref zz, .int (nI ct), .ref ov, .ref un])), (pt, .inl (dA 0, 2, .inl fun j => nI (PT j))), (pa, .inl (dA 0, 2, .inl fun j => nI (PN j))), (bg, .inl (dA 0, 2050, .inl fun j => nI (BG j)))] H := hP
  have hD : va_D A [(m0, .inr (9, [.int (nI 0), .ref kn, .ref pt, .ref pa, .ref bg, .ref xs_, .ref ys_, .int (nI sgm), .ref fr_, .ref tw, .ref wo_, .ref mt, .ref ha_, .long (lZ x0), .long (lZ y0), .long (lZ dx), .long (lZ dy), .ref zz, .int (nI ct), .ref ov, .ref un])), (pt, .inl (dA 0, 2, .inl fun j => nI (PT j))), (pa, .inl (dA 0, 2, .inl fun j => nI (PN j))), (bg, .inl (dA 0, 2050, .inl fun j => nI (BG j)))] := hD
  refine lv_iload_n hx hb dX10_part_5 rfl (lv_at hl 1 rfl) ?_
  refine zc_roS (v := .int (bI true)) (rest := []) ⟨hx, hb, hml, hown, hts⟩ (metX10_isShape_n lG D dA w (by first | assumption | omega)) (va_cwS 1 hts (lw_S q1041 q1042 q80 q1043) rfl rfl rfl (by decide +kernel) ⟨Nat.le_of_ble_eq_true rfl, Nat.le_of_ble_eq_true rfl⟩) (hP.sub [] rfl) hK rfl hl.1 rfl (Nat.le_of_ble_eq_true rfl) dX10_part_6 ⟨Nat.zero_le _, Nat.zero_le _⟩ ?_
  refine zb_if_ne (tgt := 18) hx hb dX10_part_9 (by decide) (fun c_1 => ?_) (fun c_1 => ?_)
  · skip
    refine lv_aload_n hx hb dX10_part_18 rfl (lv_at hl 0 rfl) ?_
    refine va_get (D := D) (ci := 9) (v := .ref pa) (C := RX10) (T := TX10) (N := 21) hx hb hts in_X10 hown hK.1 hP 0 rfl rfl 3 (Nat.le_of_ble_eq_true rfl) (hts _ q972) (fun _ h9 => h9) rfl dX10_part_19 ?_
    refine lv_iload_n hx hb dX10_part_22 rfl (lv_at hl 1 rfl) ?_
    refine zn_iaload (f := PN) (i := w) hx hb hK.1 hP 2 0 rfl rfl (by omega) (by decide) dX10_part_23 ?_
    refine lv_sipush (v := nI 1024) hx hb dX10_part_24 (by decide) ?_
    refine zn_icmp_ne (tgt := 36) hx hb (by omega) (by decide) dX10_part_27 (by decide) (fun c_2 => ?_) (fun c_2 => ?_)
    · skip
      refine lv_aload_n hx hb dX10_part_36 rfl (lv_at hl 0 rfl) ?_
      refine va_get (D := D) (ci := 9) (v := .ref bg) (C := RX10) (T := TX10) (N := 21) hx hb hts in_X10 hown hK.1 hP 0 rfl rfl 4 (Nat.le_of_ble_eq_true rfl) (hts _ q973) (fun _ h9 => h9) rfl dX10_part_37 ?_
      refine lv_sipush (v := nI 1025) hx hb dX10_part_40 (by decide) ?_
      refine lv_iload_n hx hb dX10_part_43 rfl (lv_at hl 1 rfl) ?_
      refine zn_imul hx hb dX10_part_44 ?_
      refine lv_aload_n hx hb dX10_part_45 rfl (lv_at hl 0 rfl) ?_
      refine va_get (D := D) (ci := 9) (v := .ref pa) (C := RX10) (T := TX10) (N := 21) hx hb hts in_X10 hown hK.1 hP 0 rfl rfl 3 (Nat.le_of_ble_eq_true rfl) (hts _ q972) (fun _ h9 => h9) rfl dX10_part_46 ?_
      refine lv_iload_n hx hb dX10_part_49 rfl (lv_at hl 1 rfl) ?_
      refine zn_iaload (f := PN) (i := w) hx hb hK.1 hP 2 0 rfl rfl (by omega) (by decide) dX10_part_50 ?_
      refine zn_iadd hx hb dX10_part_51 ?_
      refine lv_aload_n hx hb dX10_part_52 rfl (lv_at hl 0 rfl) ?_
      refine va_get (D := D) (ci := 9) (v := .ref pt) (C := RX10) (T := TX10) (N := 21) hx hb hts in_X10 hown hK.1 hP 0 rfl rfl 2 (Nat.le_of_ble_eq_true rfl) (hts _ q971) (fun _ h9 => h9) rfl dX10_part_53 ?_
      refine lv_iload_n hx hb dX10_part_56 rfl (lv_at hl 1 rfl) ?_
      refine zn_iaload (f := PT) (i := w) hx hb hK.1 hP 1 0 rfl rfl (by omega) (by decide) dX10_part_57 ?_
      refine zn_iastore (f := BG) (i := (1025 * w) + (PN w)) (x := PT w) hx hb hK.1 hP hD hS 3 0 rfl rfl (by omega) (by decide) dX10_part_58 (fun H locs hP hD hS => ?_)
      have hP : va_P D zCl [(m0, .inr (9, [.int (nI 0), .ref kn, .ref pt, .ref pa, .ref bg, .ref xs_, .ref ys_, .int (nI sgm), .ref fr_, .ref tw, .ref wo_, .ref mt, .ref ha_, .long (lZ x0), .long (lZ y0), .long (lZ dx), .long (lZ dy), .ref zz, .int (nI ct), .ref ov, .ref un])), (pt, .inl (dA 0, 2, .inl fun j => nI (PT j))), (pa, .inl (dA 0, 2, .inl fun j => nI (PN j))), (bg, .inl (dA 0, 2050, .inl fun j => nI ((updZ BG ((1025 * w) + (PN w)) (PT w)) j)))] H := hP
      have hD : va_D A [(m0, .inr (9, [.int (nI 0), .ref kn, .ref pt, .ref pa, .ref bg, .ref xs_, .ref ys_, .int (nI sgm), .ref fr_, .ref tw, .ref wo_, .ref mt, .ref ha_, .long (lZ x0), .long (lZ y0), .long (lZ dx), .long (lZ dy), .ref zz, .int (nI ct), .ref ov, .ref un])), (pt, .inl (dA 0, 2, .inl fun j => nI (PT j))), (pa, .inl (dA 0, 2, .inl fun j => nI (PN j))), (bg, .inl (dA 0, 2050, .inl fun j => nI ((updZ BG ((1025 * w) + (PN w)) (PT w)) j)))] := hD
      refine lv_aload_n hx hb dX10_part_59 rfl (lv_at hl 0 rfl) ?_
      refine va_get (D := D) (ci := 9) (v := .ref pa) (C := RX10) (T := TX10) (N := 21) hx hb hts in_X10 hown hK.1 hP 0 rfl rfl 3 (Nat.le_of_ble_eq_true rfl) (hts _ q972) (fun _ h9 => h9) rfl dX10_part_60 ?_
      refine lv_iload_n hx hb dX10_part_63 rfl (lv_at hl 1 rfl) ?_
      refine lv_dup2_11 hx hb dX10_part_64 rfl rfl ?_
      refine zn_iaload (f := PN) (i := w) hx hb hK.1 hP 2 0 rfl rfl (by omega) (by decide) dX10_part_65 ?_
      refine lv_iconst (v := nI 1) hx hb dX10_part_66 (by decide) ?_
      refine zn_iadd hx hb dX10_part_67 ?_
      refine zn_iastore (f := PN) (i := w) (x := (PN w) + 1) hx hb hK.1 hP hD hS 2 0 rfl rfl (by omega) (by decide) dX10_part_68 (fun H locs hP hD hS => ?_)
      have hP : va_P D zCl [(m0, .inr (9, [.int (nI 0), .ref kn, .ref pt, .ref pa, .ref bg, .ref xs_, .ref ys_, .int (nI sgm), .ref fr_, .ref tw, .ref wo_, .ref mt, .ref ha_, .long (lZ x0), .long (lZ y0), .long (lZ dx), .long (lZ dy), .ref zz, .int (nI ct), .ref ov, .ref un])), (pt, .inl (dA 0, 2, .inl fun j => nI (PT j))), (pa, .inl (dA 0, 2, .inl fun j => nI ((updZ PN w ((PN w) + 1)) j))), (bg, .inl (dA 0, 2050, .inl fun j => nI ((updZ BG ((1025 * w) + (PN w)) (PT w)) j)))] H := hP
      have hD : va_D A [(m0, .inr (9, [.int (nI 0), .ref kn, .ref pt, .ref pa, .ref bg, .ref xs_, .ref ys_, .int (nI sgm), .ref fr_, .ref tw, .ref wo_, .ref mt, .ref ha_, .long (lZ x0), .long (lZ y0), .long (lZ dx), .long (lZ dy), .ref zz, .int (nI ct), .ref ov, .ref un])), (pt, .inl (dA 0, 2, .inl fun j => nI (PT j))), (pa, .inl (dA 0, 2, .inl fun j => nI ((updZ PN w ((PN w) + 1)) j))), (bg, .inl (dA 0, 2050, .inl fun j => nI ((updZ BG ((1025 * w) + (PN w)) (PT w)) j)))] := hD
      refine lv_aload_n hx hb dX10_part_69 rfl (lv_at hl 0 rfl) ?_
      refine va_get (D := D) (ci := 9) (v := .ref pa) (C := RX10) (T := TX10) (N := 21) hx hb hts in_X10 hown hK.1 hP 0 rfl rfl 3 (Nat.le_of_ble_eq_true rfl) (hts _ q972) (fun _ h9 => h9) rfl dX10_part_70 ?_
      refine lv_iload_n hx hb dX10_part_73 rfl (lv_at hl 1 rfl) ?_
      refine zn_iaload (f := updZ PN w ((PN w) + 1)) (i := w) hx hb hK.1 hP 2 0 rfl rfl (by omega) (by decide) dX10_part_74 ?_
      exact zr_wrI (u := ()) (congrArg (fun z => some (Value.int (nI z))) updZ_s) trivial (hP.sub [0, 1, 2, 3] rfl) (hD.sub [0, 1, 2, 3] (by decide) rfl) hS hx hb hr hlocks dX10_part_75
    · skip
      exfalso; omega
  · skip
    exfalso; contradiction
set_option maxHeartbeats 4000000 in
set_option maxRecDepth 100000 in
theorem metX10_point_bad1 (lG : Launch) (D : va_G) (dA : Nat → ClassId) (m0 : Nat) (thr : Nat) (kn : Nat) (pt : Nat) (pa : Nat) (bg : Nat) (xs_ : Nat) (ys_ : Nat) (sgm : Nat) (fr_ : Nat) (tw : Nat) (wo_ : Nat) (mt : Nat) (ha_ : Nat) (x0 : Int) (y0 : Int) (dx : Int) (dy : Int) (zz : Nat) (ct : Nat) (ov : Nat) (un : Nat) (sz_ : Int) (px : Int) (py : Int) (hs0 : inI sz_) (hb1 : wiZ sz_ 0 1 = false) : Wr lG yX10_point (ws_ yX10_point cX10_point 4 (some .int)) 2 42 D dA [.ref m0, .int (iZ sz_), .int (iZ px), .int (iZ py)] [(m0, .inr (9, [.int (nI thr), .ref kn, .ref pt, .ref pa, .ref bg, .ref xs_, .ref ys_, .int (nI sgm), .ref fr_, .ref tw, .ref wo_, .ref mt, .ref ha_, .long (lZ x0), .long (lZ y0), .long (lZ dx), .long (lZ dy), .ref zz, .int (nI ct), .ref ov, .ref un]))] 0 0 (fun (_u : Unit) => True) (fun (_u : Unit) => some (.int (nI 0))) (fun (_u : Unit) => [(m0, .inr (9, [.int (nI 1), .ref kn, .ref pt, .ref pa, .ref bg, .ref xs_, .ref ys_, .int (nI sgm), .ref fr_, .ref tw, .ref wo_, .ref mt, .ref ha_, .long (lZ x0), .long (lZ y0), .long (lZ dx), .long (lZ dy), .ref zz, .int (nI ct), .ref ov, .ref un]))]) := by
  refine Wr.of (by decide) (Nat.le_of_ble_eq_true rfl) ?_
  intro pG eG sG mG bG tG cG ls A hx hb hr hml hown hts hlocks hnm hP hK hD hS hA hl
  have hK1 := hK.1
  have hown : sG.vm.findClass RX10 = some mG.cls := hown
  have hl : lv_has ls 4 [(0, .ref m0), (1, .int (iZ sz_)), (2, .int (iZ px)), (3, .int (iZ py))] := hl
  refine lv_aload_n hx hb dX10_point_0 rfl (lv_at hl 0 rfl) ?_
  refine lv_iconst (v := nI 0) hx hb dX10_point_1 (by decide) ?_
  refine va_put (D := D) (ci := 9) (v := .int (nI 0)) (ty := .int) (C := RX10) (T := TX10) (N := 21) hx hb hts in_X10 tyX10 tyX10_ok nmX10 hown hK.1 hP hD hS 0 rfl rfl 0 (Nat.le_of_ble_eq_true rfl) (hts _ q969) (fun _ h9 => h9) rfl (by decide +kernel) rfl rfl (Nat.le_of_ble_eq_true rfl) dX10_point_2 (fun H locs hP hD hS => ?_)
  have hP : va_P D zCl [(m0, .inr (9, [.int (nI 0), .ref kn, .ref pt, .ref pa, .ref bg, .ref xs_, .ref ys_, .int (nI sgm), .ref fr_, .ref tw, .ref wo_, .ref mt, .ref ha_, .long (lZ x0), .long (lZ y0), .long (lZ dx), .long (lZ dy), .ref zz, .int (nI ct), .ref ov, .ref un]))] H := hP
  have hD : va_D A [(m0, .inr (9, [.int (nI 0), .ref kn, .ref pt, .ref pa, .ref bg, .ref xs_, .ref ys_, .int (nI sgm), .ref fr_, .ref tw, .ref wo_, .ref mt, .ref ha_, .long (lZ x0), .long (lZ y0), .long (lZ dx), .long (lZ dy), .ref zz, .int (nI ct), .ref ov, .ref un]))] := hD
  refine lv_iload_n hx hb dX10_point_5 rfl (lv_at hl 1 rfl) ?_
  refine zc_roS (v := .int (bI (wiZ sz_ 0 1))) (rest := []) ⟨hx, hb, hml, hown, hts⟩ (metX10_isShape lG D dA sz_ (by first | assumption | omega)) (va_cwS 1 hts (lw_S q1041 q1042 q80 q1043) rfl rfl rfl (by decide +kernel) ⟨Nat.le_of_ble_eq_true rfl, Nat.le_of_ble_eq_true rfl⟩) (hP.sub [] rfl) hK rfl hl.1 rfl (Nat.le_of_ble_eq_true rfl) dX10_point_6 ⟨Nat.zero_le _, Nat.zero_le _⟩ ?_
  refine zb_if_ne (tgt := 18) hx hb dX10_point_9 (by decide) (fun hq1 => ?_) (fun hq1 => ?_)
  · skip
    exfalso; rw [hb1] at hq1; cases hq1
  · skip
    refine lv_aload_n hx hb dX10_point_12 rfl (lv_at hl 0 rfl) ?_
    refine lv_iconst (v := nI 1) hx hb dX10_point_13 (by decide) ?_
    refine zc_wrV (rest := []) (wr := []) ⟨hx, hb, hml, hown, hts⟩ (metX10_fail lG D dA m0 0 kn pt pa bg xs_ ys_ sgm fr_ tw wo_ mt ha_ x0 y0 dx dy zz ct ov un 1 ) (cwV 1 hts (lw_V q1047 q1049 qs29 q80 q1050) rfl rfl rfl (by decide +kernel) ⟨Nat.le_of_ble_eq_true rfl, Nat.le_of_ble_eq_true rfl⟩) (va_recv hK.1 hP (ci := 9) (q0 := 0) rfl rfl) hP hK hD hS hA [0] [] rfl rfl (by decide) (by decide) (by decide) rfl hl.1 rfl (Nat.le_of_ble_eq_true rfl) dX10_point_14 ⟨Nat.zero_le _, Nat.zero_le _⟩ (fun u H locs hp_1 hP hD hS => ?_)
    have hP : va_P D zCl [(m0, .inr (9, [.int (nI 1), .ref kn, .ref pt, .ref pa, .ref bg, .ref xs_, .ref ys_, .int (nI sgm), .ref fr_, .ref tw, .ref wo_, .ref mt, .ref ha_, .long (lZ x0), .long (lZ y0), .long (lZ dx), .long (lZ dy), .ref zz, .int (nI ct), .ref ov, .ref un]))] H := hP
    have hD : va_D A [(m0, .inr (9, [.int (nI 1), .ref kn, .ref pt, .ref pa, .ref bg, .ref xs_, .ref ys_, .int (nI sgm), .ref fr_, .ref tw, .ref wo_, .ref mt, .ref ha_, .long (lZ x0), .long (lZ y0), .long (lZ dx), .long (lZ dy), .ref zz, .int (nI ct), .ref ov, .ref un]))] := hD
    show W _ _ _ _ _ _ _ _ _ _ _ _ 0 0 _ (F0 mG 17 ls [.int (nI 0)])
    exact zr_wrI (u := ()) rfl trivial (hP.sub [0] rfl) (hD.sub [0] (by decide) rfl) hS hx hb hr hlocks dX10_point_17
set_option maxHeartbeats 4000000 in
set_option maxRecDepth 100000 in
theorem metX10_point_bad2 (lG : Launch) (D : va_G) (dA : Nat → ClassId) (m0 : Nat) (thr : Nat) (kn : Nat) (pt : Nat) (pa : Nat) (bg : Nat) (xs_ : Nat) (ys_ : Nat) (sgm : Nat) (fr_ : Nat) (tw : Nat) (wo_ : Nat) (mt : Nat) (ha_ : Nat) (x0 : Int) (y0 : Int) (dx : Int) (dy : Int) (zz : Nat) (ct : Nat) (ov : Nat) (un : Nat) (w : Nat) (px : Int) (py : Int) (hw : w < 2) (hpx0 : inI px) (hpy0 : inI py) (hb2 : (wiZ px (-500000000) 500000000 && wiZ py (-500000000) 500000000) = false) : Wr lG yX10_point (ws_ yX10_point cX10_point 4 (some .int)) 2 42 D dA [.ref m0, .int (nI w), .int (iZ px), .int (iZ py)] [(m0, .inr (9, [.int (nI thr), .ref kn, .ref pt, .ref pa, .ref bg, .ref xs_, .ref ys_, .int (nI sgm), .ref fr_, .ref tw, .ref wo_, .ref mt, .ref ha_, .long (lZ x0), .long (lZ y0), .long (lZ dx), .long (lZ dy), .ref zz, .int (nI ct), .ref ov, .ref un]))] 0 0 (fun (_u : Unit) => True) (fun (_u : Unit) => some (.int (nI 0))) (fun (_u : Unit) => [(m0, .inr (9, [.int (nI 2), .ref kn, .ref pt, .ref pa, .ref bg, .ref xs_, .ref ys_, .int (nI sgm), .ref fr_, .ref tw, .ref wo_, .ref mt, .ref ha_, .long (lZ x0), .long (lZ y0), .long (lZ dx), .long (lZ dy), .ref zz, .int (nI ct), .ref ov, .ref un]))]) := by
  refine Wr.of (by decide) (Nat.le_of_ble_eq_true rfl) ?_
  intro pG eG sG mG bG tG cG ls A hx hb hr hml hown hts hlocks hnm hP hK hD hS hA hl
  have hK1 := hK.1
  have hown : sG.vm.findClass RX10 = some mG.cls := hown
  have hl : lv_has ls 4 [(0, .ref m0), (1, .int (nI w)), (2, .int (iZ px)), (3, .int (iZ py))] := hl
  refine lv_aload_n hx hb dX10_point_0 rfl (lv_at hl 0 rfl) ?_
  refine lv_iconst (v := nI 0) hx hb dX10_point_1 (by decide) ?_
  refine va_put (D := D) (ci := 9) (v := .int (nI 0)) (ty := .int) (C := RX10) (T := TX10) (N := 21) hx hb hts in_X10 tyX10 tyX10_ok nmX10 hown hK.1 hP hD hS 0 rfl rfl 0 (Nat.le_of_ble_eq_true rfl) (hts _ q969) (fun _ h9 => h9) rfl (by decide +kernel) rfl rfl (Nat.le_of_ble_eq_true rfl) dX10_point_2 (fun H locs hP hD hS => ?_)
  have hP : va_P D zCl [(m0, .inr (9, [.int (nI 0), .ref kn, .ref pt, .ref pa, .ref bg, .ref xs_, .ref ys_, .int (nI sgm), .ref fr_, .ref tw, .ref wo_, .ref mt, .ref ha_, .long (lZ x0), .long (lZ y0), .long (lZ dx), .long (lZ dy), .ref zz, .int (nI ct), .ref ov, .ref un]))] H := hP
  have hD : va_D A [(m0, .inr (9, [.int (nI 0), .ref kn, .ref pt, .ref pa, .ref bg, .ref xs_, .ref ys_, .int (nI sgm), .ref fr_, .ref tw, .ref wo_, .ref mt, .ref ha_, .long (lZ x0), .long (lZ y0), .long (lZ dx), .long (lZ dy), .ref zz, .int (nI ct), .ref ov, .ref un]))] := hD
  refine lv_iload_n hx hb dX10_point_5 rfl (lv_at hl 1 rfl) ?_
  refine zc_roS (v := .int (bI true)) (rest := []) ⟨hx, hb, hml, hown, hts⟩ (metX10_isShape_n lG D dA w (by first | assumption | omega)) (va_cwS 1 hts (lw_S q1041 q1042 q80 q1043) rfl rfl rfl (by decide +kernel) ⟨Nat.le_of_ble_eq_true rfl, Nat.le_of_ble_eq_true rfl⟩) (hP.sub [] rfl) hK rfl hl.1 rfl (Nat.le_of_ble_eq_true rfl) dX10_point_6 ⟨Nat.zero_le _, Nat.zero_le _⟩ ?_
  refine zb_if_ne (tgt := 18) hx hb dX10_point_9 (by decide) (fun c_1 => ?_) (fun c_1 => ?_)
  · skip
    refine lv_iload_n hx hb dX10_point_18 rfl (lv_at hl 2 rfl) ?_
    refine zc_roS (v := .int (bI (!wiZ px (-500000000) 500000000))) (rest := []) ⟨hx, hb, hml, hown, hts⟩ (metX10_isFar lG D dA px (by first | assumption | omega)) (va_cwS 1 hts (lw_S q1059 q1060 q80 q1061) rfl rfl rfl (by decide +kernel) ⟨Nat.le_of_ble_eq_true rfl, Nat.le_of_ble_eq_true rfl⟩) (hP.sub [] rfl) hK rfl hl.1 rfl (Nat.le_of_ble_eq_true rfl) dX10_point_19 ⟨Nat.zero_le _, Nat.zero_le _⟩ ?_
    refine zb_if_ne (tgt := 32) hx hb dX10_point_22 (by decide) (fun hq1 => ?_) (fun hq1 => ?_)
    · skip
      refine lv_aload_n hx hb dX10_point_32 rfl (lv_at hl 0 rfl) ?_
      refine lv_iconst (v := nI 2) hx hb dX10_point_33 (by decide) ?_
      refine zc_wrV (rest := []) (wr := []) ⟨hx, hb, hml, hown, hts⟩ (metX10_fail lG D dA m0 0 kn pt pa bg xs_ ys_ sgm fr_ tw wo_ mt ha_ x0 y0 dx dy zz ct ov un 2 ) (cwV 1 hts (lw_V q1047 q1049 qs29 q80 q1050) rfl rfl rfl (by decide +kernel) ⟨Nat.le_of_ble_eq_true rfl, Nat.le_of_ble_eq_true rfl⟩) (va_recv hK.1 hP (ci := 9) (q0 := 0) rfl rfl) hP hK hD hS hA [0] [] rfl rfl (by decide) (by decide) (by decide) rfl hl.1 rfl (Nat.le_of_ble_eq_true rfl) dX10_point_34 ⟨Nat.zero_le _, Nat.zero_le _⟩ (fun u H locs hp_2 hP hD hS => ?_)
      have hP : va_P D zCl [(m0, .inr (9, [.int (nI 2), .ref kn, .ref pt, .ref pa, .ref bg, .ref xs_, .ref ys_, .int (nI sgm), .ref fr_, .ref tw, .ref wo_, .ref mt, .ref ha_, .long (lZ x0), .long (lZ y0), .long (lZ dx), .long (lZ dy), .ref zz, .int (nI ct), .ref ov, .ref un]))] H := hP
      have hD : va_D A [(m0, .inr (9, [.int (nI 2), .ref kn, .ref pt, .ref pa, .ref bg, .ref xs_, .ref ys_, .int (nI sgm), .ref fr_, .ref tw, .ref wo_, .ref mt, .ref ha_, .long (lZ x0), .long (lZ y0), .long (lZ dx), .long (lZ dy), .ref zz, .int (nI ct), .ref ov, .ref un]))] := hD
      show W _ _ _ _ _ _ _ _ _ _ _ _ 0 0 _ (F0 mG 37 ls [.int (nI 0)])
      exact zr_wrI (u := ()) rfl trivial (hP.sub [0] rfl) (hD.sub [0] (by decide) rfl) hS hx hb hr hlocks dX10_point_37
    · skip
      refine lv_iload_n hx hb dX10_point_25 rfl (lv_at hl 3 rfl) ?_
      refine zc_roS (v := .int (bI (!wiZ py (-500000000) 500000000))) (rest := []) ⟨hx, hb, hml, hown, hts⟩ (metX10_isFar lG D dA py (by first | assumption | omega)) (va_cwS 1 hts (lw_S q1059 q1060 q80 q1061) rfl rfl rfl (by decide +kernel) ⟨Nat.le_of_ble_eq_true rfl, Nat.le_of_ble_eq_true rfl⟩) (hP.sub [] rfl) hK rfl hl.1 rfl (Nat.le_of_ble_eq_true rfl) dX10_point_26 ⟨Nat.zero_le _, Nat.zero_le _⟩ ?_
      refine zb_if_eq (tgt := 38) hx hb dX10_point_29 (by decide) (fun hq2 => ?_) (fun hq2 => ?_)
      · skip
        exfalso; rw [show wiZ px (-500000000) 500000000 = true by cases hz : wiZ px (-500000000) 500000000; rw [hz] at hq1; cases hq1; rfl, show wiZ py (-500000000) 500000000 = true by cases hz : wiZ py (-500000000) 500000000; rw [hz] at hq2; cases hq2; rfl] at hb2; cases hb2
      · skip
        refine lv_aload_n hx hb dX10_point_32 rfl (lv_at hl 0 rfl) ?_
        refine lv_iconst (v := nI 2) hx hb dX10_point_33 (by decide) ?_
        refine zc_wrV (rest := []) (wr := []) ⟨hx, hb, hml, hown, hts⟩ (metX10_fail lG D dA m0 0 kn pt pa bg xs_ ys_ sgm fr_ tw wo_ mt ha_ x0 y0 dx dy zz ct ov un 2 ) (cwV 1 hts (lw_V q1047 q1049 qs29 q80 q1050) rfl rfl rfl (by decide +kernel) ⟨Nat.le_of_ble_eq_true rfl, Nat.le_of_ble_eq_true rfl⟩) (va_recv hK.1 hP (ci := 9) (q0 := 0) rfl rfl) hP hK hD hS hA [0] [] rfl rfl (by decide) (by decide) (by decide) rfl hl.1 rfl (Nat.le_of_ble_eq_true rfl) dX10_point_34 ⟨Nat.zero_le _, Nat.zero_le _⟩ (fun u H locs hp_3 hP hD hS => ?_)
        have hP : va_P D zCl [(m0, .inr (9, [.int (nI 2), .ref kn, .ref pt, .ref pa, .ref bg, .ref xs_, .ref ys_, .int (nI sgm), .ref fr_, .ref tw, .ref wo_, .ref mt, .ref ha_, .long (lZ x0), .long (lZ y0), .long (lZ dx), .long (lZ dy), .ref zz, .int (nI ct), .ref ov, .ref un]))] H := hP
        have hD : va_D A [(m0, .inr (9, [.int (nI 2), .ref kn, .ref pt, .ref pa, .ref bg, .ref xs_, .ref ys_, .int (nI sgm), .ref fr_, .ref tw, .ref wo_, .ref mt, .ref ha_, .long (lZ x0), .long (lZ y0), .long (lZ dx), .long (lZ dy), .ref zz, .int (nI ct), .ref ov, .ref un]))] := hD
        show W _ _ _ _ _ _ _ _ _ _ _ _ 0 0 _ (F0 mG 37 ls [.int (nI 0)])
        exact zr_wrI (u := ()) rfl trivial (hP.sub [0] rfl) (hD.sub [0] (by decide) rfl) hS hx hb hr hlocks dX10_point_37
  · skip
    exfalso; contradiction
set_option maxHeartbeats 4000000 in
set_option maxRecDepth 100000 in
theorem metX10_locate_bad2 (lG : Launch) (D : va_G) (dA : Nat → ClassId) (m0 : Nat) (thr : Nat) (kn : Nat) (pt : Nat) (pa : Nat) (bg : Nat) (xs_ : Nat) (ys_ : Nat) (sgm : Nat) (fr_ : Nat) (tw : Nat) (wo_ : Nat) (mt : Nat) (ha_ : Nat) (x0 : Int) (y0 : Int) (dx : Int) (dy : Int) (zz : Nat) (ct : Nat) (ov : Nat) (un : Nat) (w : Nat) (px : Int) (py : Int) (hw : w < 2) (hpx0 : inI px) (hpy0 : inI py) (hb2 : (wiZ px (-500000000) 500000000 && wiZ py (-500000000) 500000000) = false) : Wr lG yX10_locate (ws_ yX10_locate cX10_locate 4 (some .int)) 2 42 D dA [.ref m0, .int (nI w), .int (iZ px), .int (iZ py)] [(m0, .inr (9, [.int (nI thr), .ref kn, .ref pt, .ref pa, .ref bg, .ref xs_, .ref ys_, .int (nI sgm), .ref fr_, .ref tw, .ref wo_, .ref mt, .ref ha_, .long (lZ x0), .long (lZ y0), .long (lZ dx), .long (lZ dy), .ref zz, .int (nI ct), .ref ov, .ref un]))] 0 0 (fun (_u : Unit) => True) (fun (_u : Unit) => some (.int (nI 0))) (fun (_u : Unit) => [(m0, .inr (9, [.int (nI 2), .ref kn, .ref pt, .ref pa, .ref bg, .ref xs_, .ref ys_, .int (nI sgm), .ref fr_, .ref tw, .ref wo_, .ref mt, .ref ha_, .long (lZ x0), .long (lZ y0), .long (lZ dx), .long (lZ dy), .ref zz, .int (nI ct), .ref ov, .ref un]))]) := by
  refine Wr.of (by decide) (Nat.le_of_ble_eq_true rfl) ?_
  intro pG eG sG mG bG tG cG ls A hx hb hr hml hown hts hlocks hnm hP hK hD hS hA hl
  have hK1 := hK.1
  have hown : sG.vm.findClass RX10 = some mG.cls := hown
  have hl : lv_has ls 4 [(0, .ref m0), (1, .int (nI w)), (2, .int (iZ px)), (3, .int (iZ py))] := hl
  refine lv_aload_n hx hb dX10_locate_0 rfl (lv_at hl 0 rfl) ?_
  refine lv_iconst (v := nI 0) hx hb dX10_locate_1 (by decide) ?_
  refine va_put (D := D) (ci := 9) (v := .int (nI 0)) (ty := .int) (C := RX10) (T := TX10) (N := 21) hx hb hts in_X10 tyX10 tyX10_ok nmX10 hown hK.1 hP hD hS 0 rfl rfl 0 (Nat.le_of_ble_eq_true rfl) (hts _ q969) (fun _ h9 => h9) rfl (by decide +kernel) rfl rfl (Nat.le_of_ble_eq_true rfl) dX10_locate_2 (fun H locs hP hD hS => ?_)
  have hP : va_P D zCl [(m0, .inr (9, [.int (nI 0), .ref kn, .ref pt, .ref pa, .ref bg, .ref xs_, .ref ys_, .int (nI sgm), .ref fr_, .ref tw, .ref wo_, .ref mt, .ref ha_, .long (lZ x0), .long (lZ y0), .long (lZ dx), .long (lZ dy), .ref zz, .int (nI ct), .ref ov, .ref un]))] H := hP
  have hD : va_D A [(m0, .inr (9, [.int (nI 0), .ref kn, .ref pt, .ref pa, .ref bg, .ref xs_, .ref ys_, .int (nI sgm), .ref fr_, .ref tw, .ref wo_, .ref mt, .ref ha_, .long (lZ x0), .long (lZ y0), .long (lZ dx), .long (lZ dy), .ref zz, .int (nI ct), .ref ov, .ref un]))] := hD
  refine lv_iload_n hx hb dX10_locate_5 rfl (lv_at hl 1 rfl) ?_
  refine zc_roS (v := .int (bI true)) (rest := []) ⟨hx, hb, hml, hown, hts⟩ (metX10_isShape_n lG D dA w (by first | assumption | omega)) (va_cwS 1 hts (lw_S q1041 q1042 q80 q1043) rfl rfl rfl (by decide +kernel) ⟨Nat.le_of_ble_eq_true rfl, Nat.le_of_ble_eq_true rfl⟩) (hP.sub [] rfl) hK rfl hl.1 rfl (Nat.le_of_ble_eq_true rfl) dX10_locate_6 ⟨Nat.zero_le _, Nat.zero_le _⟩ ?_
  refine zb_if_ne (tgt := 18) hx hb dX10_locate_9 (by decide) (fun c_1 => ?_) (fun c_1 => ?_)
  · skip
    refine lv_iload_n hx hb dX10_locate_18 rfl (lv_at hl 2 rfl) ?_
    refine zc_roS (v := .int (bI (!wiZ px (-500000000) 500000000))) (rest := []) ⟨hx, hb, hml, hown, hts⟩ (metX10_isFar lG D dA px (by first | assumption | omega)) (va_cwS 1 hts (lw_S q1059 q1060 q80 q1061) rfl rfl rfl (by decide +kernel) ⟨Nat.le_of_ble_eq_true rfl, Nat.le_of_ble_eq_true rfl⟩) (hP.sub [] rfl) hK rfl hl.1 rfl (Nat.le_of_ble_eq_true rfl) dX10_locate_19 ⟨Nat.zero_le _, Nat.zero_le _⟩ ?_
    refine zb_if_ne (tgt := 32) hx hb dX10_locate_22 (by decide) (fun hq1 => ?_) (fun hq1 => ?_)
    · skip
      refine lv_aload_n hx hb dX10_locate_32 rfl (lv_at hl 0 rfl) ?_
      refine lv_iconst (v := nI 2) hx hb dX10_locate_33 (by decide) ?_
      refine zc_wrV (rest := []) (wr := []) ⟨hx, hb, hml, hown, hts⟩ (metX10_fail lG D dA m0 0 kn pt pa bg xs_ ys_ sgm fr_ tw wo_ mt ha_ x0 y0 dx dy zz ct ov un 2 ) (cwV 1 hts (lw_V q1047 q1049 qs29 q80 q1050) rfl rfl rfl (by decide +kernel) ⟨Nat.le_of_ble_eq_true rfl, Nat.le_of_ble_eq_true rfl⟩) (va_recv hK.1 hP (ci := 9) (q0 := 0) rfl rfl) hP hK hD hS hA [0] [] rfl rfl (by decide) (by decide) (by decide) rfl hl.1 rfl (Nat.le_of_ble_eq_true rfl) dX10_locate_34 ⟨Nat.zero_le _, Nat.zero_le _⟩ (fun u H locs hp_2 hP hD hS => ?_)
      have hP : va_P D zCl [(m0, .inr (9, [.int (nI 2), .ref kn, .ref pt, .ref pa, .ref bg, .ref xs_, .ref ys_, .int (nI sgm), .ref fr_, .ref tw, .ref wo_, .ref mt, .ref ha_, .long (lZ x0), .long (lZ y0), .long (lZ dx), .long (lZ dy), .ref zz, .int (nI ct), .ref ov, .ref un]))] H := hP
      have hD : va_D A [(m0, .inr (9, [.int (nI 2), .ref kn, .ref pt, .ref pa, .ref bg, .ref xs_, .ref ys_, .int (nI sgm), .ref fr_, .ref tw, .ref wo_, .ref mt, .ref ha_, .long (lZ x0), .long (lZ y0), .long (lZ dx), .long (lZ dy), .ref zz, .int (nI ct), .ref ov, .ref un]))] := hD
      show W _ _ _ _ _ _ _ _ _ _ _ _ 0 0 _ (F0 mG 37 ls [.int (nI 0)])
      exact zr_wrI (u := ()) rfl trivial (hP.sub [0] rfl) (hD.sub [0] (by decide) rfl) hS hx hb hr hlocks dX10_locate_37
    · skip
      refine lv_iload_n hx hb dX10_locate_25 rfl (lv_at hl 3 rfl) ?_
      refine zc_roS (v := .int (bI (!wiZ py (-500000000) 500000000))) (rest := []) ⟨hx, hb, hml, hown, hts⟩ (metX10_isFar lG D dA py (by first | assumption | omega)) (va_cwS 1 hts (lw_S q1059 q1060 q80 q1061) rfl rfl rfl (by decide +kernel) ⟨Nat.le_of_ble_eq_true rfl, Nat.le_of_ble_eq_true rfl⟩) (hP.sub [] rfl) hK rfl hl.1 rfl (Nat.le_of_ble_eq_true rfl) dX10_locate_26 ⟨Nat.zero_le _, Nat.zero_le _⟩ ?_
      refine zb_if_eq (tgt := 38) hx hb dX10_locate_29 (by decide) (fun hq2 => ?_) (fun hq2 => ?_)
      · skip
        exfalso; rw [show wiZ px (-500000000) 500000000 = true by cases hz : wiZ px (-500000000) 500000000; rw [hz] at hq1; cases hq1; rfl, show wiZ py (-500000000) 500000000 = true by cases hz : wiZ py (-500000000) 500000000; rw [hz] at hq2; cases hq2; rfl] at hb2; cases hb2
      · skip
        refine lv_aload_n hx hb dX10_locate_32 rfl (lv_at hl 0 rfl) ?_
        refine lv_iconst (v := nI 2) hx hb dX10_locate_33 (by decide) ?_
        refine zc_wrV (rest := []) (wr := []) ⟨hx, hb, hml, hown, hts⟩ (metX10_fail lG D dA m0 0 kn pt pa bg xs_ ys_ sgm fr_ tw wo_ mt ha_ x0 y0 dx dy zz ct ov un 2 ) (cwV 1 hts (lw_V q1047 q1049 qs29 q80 q1050) rfl rfl rfl (by decide +kernel) ⟨Nat.le_of_ble_eq_true rfl, Nat.le_of_ble_eq_true rfl⟩) (va_recv hK.1 hP (ci := 9) (q0 := 0) rfl rfl) hP hK hD hS hA [0] [] rfl rfl (by decide) (by decide) (by decide) rfl hl.1 rfl (Nat.le_of_ble_eq_true rfl) dX10_locate_34 ⟨Nat.zero_le _, Nat.zero_le _⟩ (fun u H locs hp_3 hP hD hS => ?_)
        have hP : va_P D zCl [(m0, .inr (9, [.int (nI 2), .ref kn, .ref pt, .ref pa, .ref bg, .ref xs_, .ref ys_, .int (nI sgm), .ref fr_, .ref tw, .ref wo_, .ref mt, .ref ha_, .long (lZ x0), .long (lZ y0), .long (lZ dx), .long (lZ dy), .ref zz, .int (nI ct), .ref ov, .ref un]))] H := hP
        have hD : va_D A [(m0, .inr (9, [.int (nI 2), .ref kn, .ref pt, .ref pa, .ref bg, .ref xs_, .ref ys_, .int (nI sgm), .ref fr_, .ref tw, .ref wo_, .ref mt, .ref ha_, .long (lZ x0), .long (lZ y0), .long (lZ dx), .long (lZ dy), .ref zz, .int (nI ct), .ref ov, .ref un]))] := hD
        show W _ _ _ _ _ _ _ _ _ _ _ _ 0 0 _ (F0 mG 37 ls [.int (nI 0)])
        exact zr_wrI (u := ()) rfl trivial (hP.sub [0] rfl) (hD.sub [0] (by decide) rfl) hS hx hb hr hlocks dX10_locate_37
  · skip
    exfalso; contradiction
set_option maxHeartbeats 4000000 in
set_option maxRecDepth 100000 in
theorem metX10_point_bad3 (lG : Launch) (D : va_G) (dA : Nat → ClassId) (m0 : Nat) (thr : Nat) (kn : Nat) (pt : Nat) (pa : Nat) (bg : Nat) (xs_ : Nat) (ys_ : Nat) (sgm : Nat) (fr_ : Nat) (tw : Nat) (wo_ : Nat) (mt : Nat) (ha_ : Nat) (x0 : Int) (y0 : Int) (dx : Int) (dy : Int) (zz : Nat) (ct : Nat) (ov : Nat) (un : Nat) (PT : Nat → Nat) (PN : Nat → Nat) (w : Nat) (px : Int) (py : Int) (hw : w < 2) (hpx0 : inI px) (hpy0 : inI py) (hn1 : wiZ px (-500000000) 500000000 = true) (hn2 : wiZ py (-500000000) 500000000 = true) (hPN : PN w = 0) : Wr lG yX10_point (ws_ yX10_point cX10_point 4 (some .int)) 2 42 D dA [.ref m0, .int (nI w), .int (iZ px), .int (iZ py)] [(m0, .inr (9, [.int (nI thr), .ref kn, .ref pt, .ref pa, .ref bg, .ref xs_, .ref ys_, .int (nI sgm), .ref fr_, .ref tw, .ref wo_, .ref mt, .ref ha_, .long (lZ x0), .long (lZ y0), .long (lZ dx), .long (lZ dy), .ref zz, .int (nI ct), .ref ov, .ref un])), (pt, .inl (dA 0, 2, .inl fun j => nI (PT j))), (pa, .inl (dA 0, 2, .inl fun j => nI (PN j)))] 0 0 (fun (_u : Unit) => True) (fun (_u : Unit) => some (.int (nI 0))) (fun (_u : Unit) => [(m0, .inr (9, [.int (nI 3), .ref kn, .ref pt, .ref pa, .ref bg, .ref xs_, .ref ys_, .int (nI sgm), .ref fr_, .ref tw, .ref wo_, .ref mt, .ref ha_, .long (lZ x0), .long (lZ y0), .long (lZ dx), .long (lZ dy), .ref zz, .int (nI ct), .ref ov, .ref un])), (pt, .inl (dA 0, 2, .inl fun j => nI (PT j))), (pa, .inl (dA 0, 2, .inl fun j => nI (PN j)))]) := by
  refine Wr.of (by decide) (Nat.le_of_ble_eq_true rfl) ?_
  intro pG eG sG mG bG tG cG ls A hx hb hr hml hown hts hlocks hnm hP hK hD hS hA hl
  have hK1 := hK.1
  have hown : sG.vm.findClass RX10 = some mG.cls := hown
  have hl : lv_has ls 4 [(0, .ref m0), (1, .int (nI w)), (2, .int (iZ px)), (3, .int (iZ py))] := hl
  refine lv_aload_n hx hb dX10_point_0 rfl (lv_at hl 0 rfl) ?_
  refine lv_iconst (v := nI 0) hx hb dX10_point_1 (by decide) ?_
  refine va_put (D := D) (ci := 9) (v := .int (nI 0)) (ty := .int) (C := RX10) (T := TX10) (N := 21) hx hb hts in_X10 tyX10 tyX10_ok nmX10 hown hK.1 hP hD hS 0 rfl rfl 0 (Nat.le_of_ble_eq_true rfl) (hts _ q969) (fun _ h9 => h9) rfl (by decide +kernel) rfl rfl (Nat.le_of_ble_eq_true rfl) dX10_point_2 (fun H locs hP hD hS => ?_)
  have hP : va_P D zCl [(m0, .inr (9, [.int (nI 0), .ref kn, .ref pt, .ref pa, .ref bg, .ref xs_, .ref ys_, .int (nI sgm), .ref fr_, .ref tw, .ref wo_, .ref mt, .ref ha_, .long (lZ x0), .long (lZ y0), .long (lZ dx), .long (lZ dy), .ref zz, .int (nI ct), .ref ov, .ref un])), (pt, .inl (dA 0, 2, .inl fun j => nI (PT j))), (pa, .inl (dA 0, 2, .inl fun j => nI (PN j)))] H := hP
  have hD : va_D A [(m0, .inr (9, [.int (nI 0), .ref kn, .ref pt, .ref pa, .ref bg, .ref xs_, .ref ys_, .int (nI sgm), .ref fr_, .ref tw, .ref wo_, .ref mt, .ref ha_, .long (lZ x0), .long (lZ y0), .long (lZ dx), .long (lZ dy), .ref zz, .int (nI ct), .ref ov, .ref un])), (pt, .inl (dA 0, 2, .inl fun j => nI (PT j))), (pa, .inl (dA 0, 2, .inl fun j => nI (PN j)))] := hD
  refine lv_iload_n hx hb dX10_point_5 rfl (lv_at hl 1 rfl) ?_
  refine zc_roS (v := .int (bI true)) (rest := []) ⟨hx, hb, hml, hown, hts⟩ (metX10_isShape_n lG D dA w (by first | assumption | omega)) (va_cwS 1 hts (lw_S q1041 q1042 q80 q1043) rfl rfl rfl (by decide +kernel) ⟨Nat.le_of_ble_eq_true rfl, Nat.le_of_ble_eq_true rfl⟩) (hP.sub [] rfl) hK rfl hl.1 rfl (Nat.le_of_ble_eq_true rfl) dX10_point_6 ⟨Nat.zero_le _, Nat.zero_le _⟩ ?_
  refine zb_if_ne (tgt := 18) hx hb dX10_point_9 (by decide) (fun c_1 => ?_) (fun c_1 => ?_)
  · skip
    refine lv_iload_n hx hb dX10_point_18 rfl (lv_at hl 2 rfl) ?_
    refine zc_roS (v := .int (bI (!wiZ px (-500000000) 500000000))) (rest := []) ⟨hx, hb, hml, hown, hts⟩ (metX10_isFar lG D dA px (by first | assumption | omega)) (va_cwS 1 hts (lw_S q1059 q1060 q80 q1061) rfl rfl rfl (by decide +kernel) ⟨Nat.le_of_ble_eq_true rfl, Nat.le_of_ble_eq_true rfl⟩) (hP.sub [] rfl) hK rfl hl.1 rfl (Nat.le_of_ble_eq_true rfl) dX10_point_19 ⟨Nat.zero_le _, Nat.zero_le _⟩ ?_
    refine zb_if_ne (tgt := 32) hx hb dX10_point_22 (by decide) (fun hq1 => ?_) (fun hq1 => ?_)
    · skip
      exfalso; rw [hn1] at hq1; cases hq1
    · skip
      refine lv_iload_n hx hb dX10_point_25 rfl (lv_at hl 3 rfl) ?_
      refine zc_roS (v := .int (bI (!wiZ py (-500000000) 500000000))) (rest := []) ⟨hx, hb, hml, hown, hts⟩ (metX10_isFar lG D dA py (by first | assumption | omega)) (va_cwS 1 hts (lw_S q1059 q1060 q80 q1061) rfl rfl rfl (by decide +kernel) ⟨Nat.le_of_ble_eq_true rfl, Nat.le_of_ble_eq_true rfl⟩) (hP.sub [] rfl) hK rfl hl.1 rfl (Nat.le_of_ble_eq_true rfl) dX10_point_26 ⟨Nat.zero_le _, Nat.zero_le _⟩ ?_
      refine zb_if_eq (tgt := 38) hx hb dX10_point_29 (by decide) (fun hq2 => ?_) (fun hq2 => ?_)
      · skip
        refine lv_aload_n hx hb dX10_point_38 rfl (lv_at hl 0 rfl) ?_
        refine va_get (D := D) (ci := 9) (v := .ref pa) (C := RX10) (T := TX10) (N := 21) hx hb hts in_X10 hown hK.1 hP 0 rfl rfl 3 (Nat.le_of_ble_eq_true rfl) (hts _ q972) (fun _ h9 => h9) rfl dX10_point_39 ?_
        refine lv_iload_n hx hb dX10_point_42 rfl (lv_at hl 1 rfl) ?_
        refine zn_iaload (f := PN) (i := w) hx hb hK.1 hP 2 0 rfl rfl (by omega) (by decide) dX10_point_43 ?_
        refine zn_if_eq (tgt := 59) hx hb (by omega) dX10_point_44 (by decide) (fun c_2 => ?_) (fun c_2 => ?_)
        · skip
          refine lv_aload_n hx hb dX10_point_59 rfl (lv_at hl 0 rfl) ?_
          refine lv_iconst (v := nI 3) hx hb dX10_point_60 (by decide) ?_
          refine zc_wrV (rest := []) (wr := [(pt, .inl (dA 0, 2, .inl fun j => nI (PT j))), (pa, .inl (dA 0, 2, .inl fun j => nI (PN j)))]) ⟨hx, hb, hml, hown, hts⟩ (metX10_fail lG D dA m0 0 kn pt pa bg xs_ ys_ sgm fr_ tw wo_ mt ha_ x0 y0 dx dy zz ct ov un 3 ) (cwV 1 hts (lw_V q1047 q1049 qs29 q80 q1050) rfl rfl rfl (by decide +kernel) ⟨Nat.le_of_ble_eq_true rfl, Nat.le_of_ble_eq_true rfl⟩) (va_recv hK.1 hP (ci := 9) (q0 := 0) rfl rfl) hP hK hD hS hA [0] [1, 2] rfl rfl (by decide) (by decide) (by decide) rfl hl.1 rfl (Nat.le_of_ble_eq_true rfl) dX10_point_61 ⟨Nat.zero_le _, Nat.zero_le _⟩ (fun u H locs hp_3 hP hD hS => ?_)
          have hP : va_P D zCl [(pt, .inl (dA 0, 2, .inl fun j => nI (PT j))), (pa, .inl (dA 0, 2, .inl fun j => nI (PN j))), (m0, .inr (9, [.int (nI 3), .ref kn, .ref pt, .ref pa, .ref bg, .ref xs_, .ref ys_, .int (nI sgm), .ref fr_, .ref tw, .ref wo_, .ref mt, .ref ha_, .long (lZ x0), .long (lZ y0), .long (lZ dx), .long (lZ dy), .ref zz, .int (nI ct), .ref ov, .ref un]))] H := hP
          have hD : va_D A [(pt, .inl (dA 0, 2, .inl fun j => nI (PT j))), (pa, .inl (dA 0, 2, .inl fun j => nI (PN j))), (m0, .inr (9, [.int (nI 3), .ref kn, .ref pt, .ref pa, .ref bg, .ref xs_, .ref ys_, .int (nI sgm), .ref fr_, .ref tw, .ref wo_, .ref mt, .ref ha_, .long (lZ x0), .long (lZ y0), .long (lZ dx), .long (lZ dy), .ref zz, .int (nI ct), .ref ov, .ref un]))] := hD
          show W _ _ _ _ _ _ _ _ _ _ _ _ 0 0 _ (F0 mG 64 ls [.int (nI 0)])
          exact zr_wrI (u := ()) rfl trivial (hP.sub [2, 0, 1] rfl) (hD.sub [2, 0, 1] (by decide) rfl) hS hx hb hr hlocks dX10_point_64
        · skip
          exfalso; omega
      · skip
        exfalso; rw [hn2] at hq2; cases hq2
  · skip
    exfalso; contradiction
set_option maxHeartbeats 4000000 in
set_option maxRecDepth 100000 in
theorem metX10_point_ok (lG : Launch) (D : va_G) (dA : Nat → ClassId) (m0 : Nat) (thr : Nat) (kn : Nat) (pt : Nat) (pa : Nat) (bg : Nat) (xs_ : Nat) (ys_ : Nat) (sgm : Nat) (fr_ : Nat) (tw : Nat) (wo_ : Nat) (mt : Nat) (ha_ : Nat) (x0 : Int) (y0 : Int) (dx : Int) (dy : Int) (zz : Nat) (ct : Nat) (ov : Nat) (un : Nat) (XS : Nat → Int) (YS : Nat → Int) (PT : Nat → Nat) (PN : Nat → Nat) (w : Nat) (px : Int) (py : Int) (hw : w < 2) (hpx0 : inI px) (hpy0 : inI py) (hn1 : wiZ px (-500000000) 500000000 = true) (hn2 : wiZ py (-500000000) 500000000 = true) (hPN : 0 < PN w) (hPN2 : PN w ≤ 1024) (hPT : PT w < 2048) : Wr lG yX10_point (ws_ yX10_point cX10_point 4 (some .int)) 2 42 D dA [.ref m0, .int (nI w), .int (iZ px), .int (iZ py)] [(m0, .inr (9, [.int (nI thr), .ref kn, .ref pt, .ref pa, .ref bg, .ref xs_, .ref ys_, .int (nI sgm), .ref fr_, .ref tw, .ref wo_, .ref mt, .ref ha_, .long (lZ x0), .long (lZ y0), .long (lZ dx), .long (lZ dy), .ref zz, .int (nI ct), .ref ov, .ref un])), (xs_, .inl (dA 0, 4096, .inl fun j => iZ (XS j))), (ys_, .inl (dA 0, 4096, .inl fun j => iZ (YS j))), (pt, .inl (dA 0, 2, .inl fun j => nI (PT j))), (pa, .inl (dA 0, 2, .inl fun j => nI (PN j)))] 0 0 (fun (_u : Unit) => True) (fun (_u : Unit) => some (.int (nI (PT w + 1)))) (fun (_u : Unit) => [(m0, .inr (9, [.int (nI 0), .ref kn, .ref pt, .ref pa, .ref bg, .ref xs_, .ref ys_, .int (nI sgm), .ref fr_, .ref tw, .ref wo_, .ref mt, .ref ha_, .long (lZ x0), .long (lZ y0), .long (lZ dx), .long (lZ dy), .ref zz, .int (nI ct), .ref ov, .ref un])), (xs_, .inl (dA 0, 4096, .inl fun j => iZ ((updZ XS (2048 * w + PT w) px) j))), (ys_, .inl (dA 0, 4096, .inl fun j => iZ ((updZ YS (2048 * w + PT w) py) j))), (pt, .inl (dA 0, 2, .inl fun j => nI ((updZ PT w (PT w + 1)) j))), (pa, .inl (dA 0, 2, .inl fun j => nI (PN j)))]) := by
  refine Wr.of (by decide) (Nat.le_of_ble_eq_true rfl) ?_
  intro pG eG sG mG bG tG cG ls A hx hb hr hml hown hts hlocks hnm hP hK hD hS hA hl
  have hK1 := hK.1
  have hown : sG.vm.findClass RX10 = some mG.cls := hown
  have hl : lv_has ls 4 [(0, .ref m0), (1, .int (nI w)), (2, .int (iZ px)), (3, .int (iZ py))] := hl
  refine lv_aload_n hx hb dX10_point_0 rfl (lv_at hl 0 rfl) ?_
  refine lv_iconst (v := nI 0) hx hb dX10_point_1 (by decide) ?_
  refine va_put (D := D) (ci := 9) (v := .int (nI 0)) (ty := .int) (C := RX10) (T := TX10) (N := 21) hx hb hts in_X10 tyX10 tyX10_ok nmX10 hown hK.1 hP hD hS 0 rfl rfl 0 (Nat.le_of_ble_eq_true rfl) (hts _ q969) (fun _ h9 => h9) rfl (by decide +kernel) rfl rfl (Nat.le_of_ble_eq_true rfl) dX10_point_2 (fun H locs hP hD hS => ?_)
  have hP : va_P D zCl [(m0, .inr (9, [.int (nI 0), .ref kn, .ref pt, .ref pa, .ref bg, .ref xs_, .ref ys_, .int (nI sgm), .ref fr_, .ref tw, .ref wo_, .ref mt, .ref ha_, .long (lZ x0), .long (lZ y0), .long (lZ dx), .long (lZ dy), .ref zz, .int (nI ct), .ref ov, .ref un])), (xs_, .inl (dA 0, 4096, .inl fun j => iZ (XS j))), (ys_, .inl (dA 0, 4096, .inl fun j => iZ (YS j))), (pt, .inl (dA 0, 2, .inl fun j => nI (PT j))), (pa, .inl (dA 0, 2, .inl fun j => nI (PN j)))] H := hP
  have hD : va_D A [(m0, .inr (9, [.int (nI 0), .ref kn, .ref pt, .ref pa, .ref bg, .ref xs_, .ref ys_, .int (nI sgm), .ref fr_, .ref tw, .ref wo_, .ref mt, .ref ha_, .long (lZ x0), .long (lZ y0), .long (lZ dx), .long (lZ dy), .ref zz, .int (nI ct), .ref ov, .ref un])), (xs_, .inl (dA 0, 4096, .inl fun j => iZ (XS j))), (ys_, .inl (dA 0, 4096, .inl fun j => iZ (YS j))), (pt, .inl (dA 0, 2, .inl fun j => nI (PT j))), (pa, .inl (dA 0, 2, .inl fun j => nI (PN j)))] := hD
  refine lv_iload_n hx hb dX10_point_5 rfl (lv_at hl 1 rfl) ?_
  refine zc_roS (v := .int (bI true)) (rest := []) ⟨hx, hb, hml, hown, hts⟩ (metX10_isShape_n lG D dA w (by first | assumption | omega)) (va_cwS 1 hts (lw_S q1041 q1042 q80 q1043) rfl rfl rfl (by decide +kernel) ⟨Nat.le_of_ble_eq_true rfl, Nat.le_of_ble_eq_true rfl⟩) (hP.sub [] rfl) hK rfl hl.1 rfl (Nat.le_of_ble_eq_true rfl) dX10_point_6 ⟨Nat.zero_le _, Nat.zero_le _⟩ ?_
  refine zb_if_ne (tgt := 18) hx hb dX10_point_9 (by decide) (fun c_1 => ?_) (fun c_1 => ?_)
  · skip
    refine lv_iload_n hx hb dX10_point_18 rfl (lv_at hl 2 rfl) ?_
    refine zc_roS (v := .int (bI (!wiZ px (-500000000) 500000000))) (rest := []) ⟨hx, hb, hml, hown, hts⟩ (metX10_isFar lG D dA px (by first | assumption | omega)) (va_cwS 1 hts (lw_S q1059 q1060 q80 q1061) rfl rfl rfl (by decide +kernel) ⟨Nat.le_of_ble_eq_true rfl, Nat.le_of_ble_eq_true rfl⟩) (hP.sub [] rfl) hK rfl hl.1 rfl (Nat.le_of_ble_eq_true rfl) dX10_point_19 ⟨Nat.zero_le _, Nat.zero_le _⟩ ?_
    refine zb_if_ne (tgt := 32) hx hb dX10_point_22 (by decide) (fun hq1 => ?_) (fun hq1 => ?_)
    · skip
      exfalso; rw [hn1] at hq1; cases hq1
    · skip
      refine lv_iload_n hx hb dX10_point_25 rfl (lv_at hl 3 rfl) ?_
      refine zc_roS (v := .int (bI (!wiZ py (-500000000) 500000000))) (rest := []) ⟨hx, hb, hml, hown, hts⟩ (metX10_isFar lG D dA py (by first | assumption | omega)) (va_cwS 1 hts (lw_S q1059 q1060 q80 q1061) rfl rfl rfl (by decide +kernel) ⟨Nat.le_of_ble_eq_true rfl, Nat.le_of_ble_eq_true rfl⟩) (hP.sub [] rfl) hK rfl hl.1 rfl (Nat.le_of_ble_eq_true rfl) dX10_point_26 ⟨Nat.zero_le _, Nat.zero_le _⟩ ?_
      refine zb_if_eq (tgt := 38) hx hb dX10_point_29 (by decide) (fun hq2 => ?_) (fun hq2 => ?_)
      · skip
        refine lv_aload_n hx hb dX10_point_38 rfl (lv_at hl 0 rfl) ?_
        refine va_get (D := D) (ci := 9) (v := .ref pa) (C := RX10) (T := TX10) (N := 21) hx hb hts in_X10 hown hK.1 hP 0 rfl rfl 3 (Nat.le_of_ble_eq_true rfl) (hts _ q972) (fun _ h9 => h9) rfl dX10_point_39 ?_
        refine lv_iload_n hx hb dX10_point_42 rfl (lv_at hl 1 rfl) ?_
        refine zn_iaload (f := PN) (i := w) hx hb hK.1 hP 4 0 rfl rfl (by omega) (by decide) dX10_point_43 ?_
        refine zn_if_eq (tgt := 59) hx hb (by omega) dX10_point_44 (by decide) (fun c_2 => ?_) (fun c_2 => ?_)
        · skip
          exfalso; omega
        · skip
          refine lv_aload_n hx hb dX10_point_47 rfl (lv_at hl 0 rfl) ?_
          refine va_get (D := D) (ci := 9) (v := .ref pt) (C := RX10) (T := TX10) (N := 21) hx hb hts in_X10 hown hK.1 hP 0 rfl rfl 2 (Nat.le_of_ble_eq_true rfl) (hts _ q971) (fun _ h9 => h9) rfl dX10_point_48 ?_
          refine lv_iload_n hx hb dX10_point_51 rfl (lv_at hl 1 rfl) ?_
          refine zn_iaload (f := PT) (i := w) hx hb hK.1 hP 3 0 rfl rfl (by omega) (by decide) dX10_point_52 ?_
          refine lv_sipush (v := nI 2048) hx hb dX10_point_53 (by decide) ?_
          refine zn_icmp_ne (tgt := 65) hx hb (by omega) (by decide) dX10_point_56 (by decide) (fun c_3 => ?_) (fun c_3 => ?_)
          · skip
            refine lv_aload_n hx hb dX10_point_65 rfl (lv_at hl 0 rfl) ?_
            refine va_get (D := D) (ci := 9) (v := .ref xs_) (C := RX10) (T := TX10) (N := 21) hx hb hts in_X10 hown hK.1 hP 0 rfl rfl 5 (Nat.le_of_ble_eq_true rfl) (hts _ q974) (fun _ h9 => h9) rfl dX10_point_66 ?_
            refine lv_sipush (v := nI 2048) hx hb dX10_point_69 (by decide) ?_
            refine lv_iload_n hx hb dX10_point_72 rfl (lv_at hl 1 rfl) ?_
            refine zn_imul hx hb dX10_point_73 ?_
            refine lv_aload_n hx hb dX10_point_74 rfl (lv_at hl 0 rfl) ?_
            refine va_get (D := D) (ci := 9) (v := .ref pt) (C := RX10) (T := TX10) (N := 21) hx hb hts in_X10 hown hK.1 hP 0 rfl rfl 2 (Nat.le_of_ble_eq_true rfl) (hts _ q971) (fun _ h9 => h9) rfl dX10_point_75 ?_
            refine lv_iload_n hx hb dX10_point_78 rfl (lv_at hl 1 rfl) ?_
            refine zn_iaload (f := PT) (i := w) hx hb hK.1 hP 3 0 rfl rfl (by omega) (by decide) dX10_point_79 ?_
            refine zn_iadd hx hb dX10_point_80 ?_
            refine lv_iload_n hx hb dX10_point_81 rfl (lv_at hl 2 rfl) ?_
            refine zz_iastore (f := XS) (i := (2048 * w) + (PT w)) (x := px) hx hb hK.1 hP hD hS 1 0 rfl rfl (by omega) (by decide) dX10_point_82 (fun H locs hP hD hS => ?_)
            have hP : va_P D zCl [(m0, .inr (9, [.int (nI 0), .ref kn, .ref pt, .ref pa, .ref bg, .ref xs_, .ref ys_, .int (nI sgm), .ref fr_, .ref tw, .ref wo_, .ref mt, .ref ha_, .long (lZ x0), .long (lZ y0), .long (lZ dx), .long (lZ dy), .ref zz, .int (nI ct), .ref ov, .ref un])), (xs_, .inl (dA 0, 4096, .inl fun j => iZ ((updZ XS ((2048 * w) + (PT w)) px) j))), (ys_, .inl (dA 0, 4096, .inl fun j => iZ (YS j))), (pt, .inl (dA 0, 2, .inl fun j => nI (PT j))), (pa, .inl (dA 0, 2, .inl fun j => nI (PN j)))] H := hP
            have hD : va_D A [(m0, .inr (9, [.int (nI 0), .ref kn, .ref pt, .ref pa, .ref bg, .ref xs_, .ref ys_, .int (nI sgm), .ref fr_, .ref tw, .ref wo_, .ref mt, .ref ha_, .long (lZ x0), .long (lZ y0), .long (lZ dx), .long (lZ dy), .ref zz, .int (nI ct), .ref ov, .ref un])), (xs_, .inl (dA 0, 4096, .inl fun j => iZ ((updZ XS ((2048 * w) + (PT w)) px) j))), (ys_, .inl (dA 0, 4096, .inl fun j => iZ (YS j))), (pt, .inl (dA 0, 2, .inl fun j => nI (PT j))), (pa, .inl (dA 0, 2, .inl fun j => nI (PN j)))] := hD
            refine lv_aload_n hx hb dX10_point_83 rfl (lv_at hl 0 rfl) ?_
            refine va_get (D := D) (ci := 9) (v := .ref ys_) (C := RX10) (T := TX10) (N := 21) hx hb hts in_X10 hown hK.1 hP 0 rfl rfl 6 (Nat.le_of_ble_eq_true rfl) (hts _ q975) (fun _ h9 => h9) rfl dX10_point_84 ?_
            refine lv_sipush (v := nI 2048) hx hb dX10_point_87 (by decide) ?_
            refine lv_iload_n hx hb dX10_point_90 rfl (lv_at hl 1 rfl) ?_
            refine zn_imul hx hb dX10_point_91 ?_
            refine lv_aload_n hx hb dX10_point_92 rfl (lv_at hl 0 rfl) ?_
            refine va_get (D := D) (ci := 9) (v := .ref pt) (C := RX10) (T := TX10) (N := 21) hx hb hts in_X10 hown hK.1 hP 0 rfl rfl 2 (Nat.le_of_ble_eq_true rfl) (hts _ q971) (fun _ h9 => h9) rfl dX10_point_93 ?_
            refine lv_iload_n hx hb dX10_point_96 rfl (lv_at hl 1 rfl) ?_
            refine zn_iaload (f := PT) (i := w) hx hb hK.1 hP 3 0 rfl rfl (by omega) (by decide) dX10_point_97 ?_
            refine zn_iadd hx hb dX10_point_98 ?_
            refine lv_iload_n hx hb dX10_point_99 rfl (lv_at hl 3 rfl) ?_
            refine zz_iastore (f := YS) (i := (2048 * w) + (PT w)) (x := py) hx hb hK.1 hP hD hS 2 0 rfl rfl (by omega) (by decide) dX10_point_100 (fun H locs hP hD hS => ?_)
            have hP : va_P D zCl [(m0, .inr (9, [.int (nI 0), .ref kn, .ref pt, .ref pa, .ref bg, .ref xs_, .ref ys_, .int (nI sgm), .ref fr_, .ref tw, .ref wo_, .ref mt, .ref ha_, .long (lZ x0), .long (lZ y0), .long (lZ dx), .long (lZ dy), .ref zz, .int (nI ct), .ref ov, .ref un])), (xs_, .inl (dA 0, 4096, .inl fun j => iZ ((updZ XS ((2048 * w) + (PT w)) px) j))), (ys_, .inl (dA 0, 4096, .inl fun j => iZ ((updZ YS ((2048 * w) + (PT w)) py) j))), (pt, .inl (dA 0, 2, .inl fun j => nI (PT j))), (pa, .inl (dA 0, 2, .inl fun j => nI (PN j)))] H := hP
            have hD : va_D A [(m0, .inr (9, [.int (nI 0), .ref kn, .ref pt, .ref pa, .ref bg, .ref xs_, .ref ys_, .int (nI sgm), .ref fr_, .ref tw, .ref wo_, .ref mt, .ref ha_, .long (lZ x0), .long (lZ y0), .long (lZ dx), .long (lZ dy), .ref zz, .int (nI ct), .ref ov, .ref un])), (xs_, .inl (dA 0, 4096, .inl fun j => iZ ((updZ XS ((2048 * w) + (PT w)) px) j))), (ys_, .inl (dA 0, 4096, .inl fun j => iZ ((updZ YS ((2048 * w) + (PT w)) py) j))), (pt, .inl (dA 0, 2, .inl fun j => nI (PT j))), (pa, .inl (dA 0, 2, .inl fun j => nI (PN j)))] := hD
            refine lv_aload_n hx hb dX10_point_101 rfl (lv_at hl 0 rfl) ?_
            refine va_get (D := D) (ci := 9) (v := .ref pt) (C := RX10) (T := TX10) (N := 21) hx hb hts in_X10 hown hK.1 hP 0 rfl rfl 2 (Nat.le_of_ble_eq_true rfl) (hts _ q971) (fun _ h9 => h9) rfl dX10_point_102 ?_
            refine lv_iload_n hx hb dX10_point_105 rfl (lv_at hl 1 rfl) ?_
            refine lv_dup2_11 hx hb dX10_point_106 rfl rfl ?_
            refine zn_iaload (f := PT) (i := w) hx hb hK.1 hP 3 0 rfl rfl (by omega) (by decide) dX10_point_107 ?_
            refine lv_iconst (v := nI 1) hx hb dX10_point_108 (by decide) ?_
            refine zn_iadd hx hb dX10_point_109 ?_
            refine zn_iastore (f := PT) (i := w) (x := (PT w) + 1) hx hb hK.1 hP hD hS 3 0 rfl rfl (by omega) (by decide) dX10_point_110 (fun H locs hP hD hS => ?_)
            have hP : va_P D zCl [(m0, .inr (9, [.int (nI 0), .ref kn, .ref pt, .ref pa, .ref bg, .ref xs_, .ref ys_, .int (nI sgm), .ref fr_, .ref tw, .ref wo_, .ref mt, .ref ha_, .long (lZ x0), .long (lZ y0), .long (lZ dx), .long (lZ dy), .ref zz, .int (nI ct), .ref ov, .ref un])), (xs_, .inl (dA 0, 4096, .inl fun j => iZ ((updZ XS ((2048 * w) + (PT w)) px) j))), (ys_, .inl (dA 0, 4096, .inl fun j => iZ ((updZ YS ((2048 * w) + (PT w)) py) j))), (pt, .inl (dA 0, 2, .inl fun j => nI ((updZ PT w ((PT w) + 1)) j))), (pa, .inl (dA 0, 2, .inl fun j => nI (PN j)))] H := hP
            have hD : va_D A [(m0, .inr (9, [.int (nI 0), .ref kn, .ref pt, .ref pa, .ref bg, .ref xs_, .ref ys_, .int (nI sgm), .ref fr_, .ref tw, .ref wo_, .ref mt, .ref ha_, .long (lZ x0), .long (lZ y0), .long (lZ dx), .long (lZ dy), .ref zz, .int (nI ct), .ref ov, .ref un])), (xs_, .inl (dA 0, 4096, .inl fun j => iZ ((updZ XS ((2048 * w) + (PT w)) px) j))), (ys_, .inl (dA 0, 4096, .inl fun j => iZ ((updZ YS ((2048 * w) + (PT w)) py) j))), (pt, .inl (dA 0, 2, .inl fun j => nI ((updZ PT w ((PT w) + 1)) j))), (pa, .inl (dA 0, 2, .inl fun j => nI (PN j)))] := hD
            refine lv_aload_n hx hb dX10_point_111 rfl (lv_at hl 0 rfl) ?_
            refine va_get (D := D) (ci := 9) (v := .ref pt) (C := RX10) (T := TX10) (N := 21) hx hb hts in_X10 hown hK.1 hP 0 rfl rfl 2 (Nat.le_of_ble_eq_true rfl) (hts _ q971) (fun _ h9 => h9) rfl dX10_point_112 ?_
            refine lv_iload_n hx hb dX10_point_115 rfl (lv_at hl 1 rfl) ?_
            refine zn_iaload (f := updZ PT w ((PT w) + 1)) (i := w) hx hb hK.1 hP 3 0 rfl rfl (by omega) (by decide) dX10_point_116 ?_
            exact zr_wrI (u := ()) (congrArg (fun z => some (Value.int (nI z))) updZ_s) trivial (hP.sub [0, 1, 2, 3, 4] rfl) (hD.sub [0, 1, 2, 3, 4] (by decide) rfl) hS hx hb hr hlocks dX10_point_117
          · skip
            exfalso; omega
      · skip
        exfalso; rw [hn2] at hq2; cases hq2
  · skip
    exfalso; contradiction
set_option maxHeartbeats 4000000 in
set_option maxRecDepth 100000 in
theorem metX10_locate_bad1 (lG : Launch) (D : va_G) (dA : Nat → ClassId) (m0 : Nat) (thr : Nat) (kn : Nat) (pt : Nat) (pa : Nat) (bg : Nat) (xs_ : Nat) (ys_ : Nat) (sgm : Nat) (fr_ : Nat) (tw : Nat) (wo_ : Nat) (mt : Nat) (ha_ : Nat) (x0 : Int) (y0 : Int) (dx : Int) (dy : Int) (zz : Nat) (ct : Nat) (ov : Nat) (un : Nat) (sz_ : Int) (px : Int) (py : Int) (hs0 : inI sz_) (hb1 : wiZ sz_ 0 1 = false) : Wr lG yX10_locate (ws_ yX10_locate cX10_locate 4 (some .int)) 2 42 D dA [.ref m0, .int (iZ sz_), .int (iZ px), .int (iZ py)] [(m0, .inr (9, [.int (nI thr), .ref kn, .ref pt, .ref pa, .ref bg, .ref xs_, .ref ys_, .int (nI sgm), .ref fr_, .ref tw, .ref wo_, .ref mt, .ref ha_, .long (lZ x0), .long (lZ y0), .long (lZ dx), .long (lZ dy), .ref zz, .int (nI ct), .ref ov, .ref un]))] 0 0 (fun (_u : Unit) => True) (fun (_u : Unit) => some (.int (nI 0))) (fun (_u : Unit) => [(m0, .inr (9, [.int (nI 1), .ref kn, .ref pt, .ref pa, .ref bg, .ref xs_, .ref ys_, .int (nI sgm), .ref fr_, .ref tw, .ref wo_, .ref mt, .ref ha_, .long (lZ x0), .long (lZ y0), .long (lZ dx), .long (lZ dy), .ref zz, .int (nI ct), .ref ov, .ref un]))]) := by
  refine Wr.of (by decide) (Nat.le_of_ble_eq_true rfl) ?_
  intro pG eG sG mG bG tG cG ls A hx hb hr hml hown hts hlocks hnm hP hK hD hS hA hl
  have hK1 := hK.1
  have hown : sG.vm.findClass RX10 = some mG.cls := hown
  have hl : lv_has ls 4 [(0, .ref m0), (1, .int (iZ sz_)), (2, .int (iZ px)), (3, .int (iZ py))] := hl
  refine lv_aload_n hx hb dX10_locate_0 rfl (lv_at hl 0 rfl) ?_
  refine lv_iconst (v := nI 0) hx hb dX10_locate_1 (by decide) ?_
  refine va_put (D := D) (ci := 9) (v := .int (nI 0)) (ty := .int) (C := RX10) (T := TX10) (N := 21) hx hb hts in_X10 tyX10 tyX10_ok nmX10 hown hK.1 hP hD hS 0 rfl rfl 0 (Nat.le_of_ble_eq_true rfl) (hts _ q969) (fun _ h9 => h9) rfl (by decide +kernel) rfl rfl (Nat.le_of_ble_eq_true rfl) dX10_locate_2 (fun H locs hP hD hS => ?_)
  have hP : va_P D zCl [(m0, .inr (9, [.int (nI 0), .ref kn, .ref pt, .ref pa, .ref bg, .ref xs_, .ref ys_, .int (nI sgm), .ref fr_, .ref tw, .ref wo_, .ref mt, .ref ha_, .long (lZ x0), .long (lZ y0), .long (lZ dx), .long (lZ dy), .ref zz, .int (nI ct), .ref ov, .ref un]))] H := hP
  have hD : va_D A [(m0, .inr (9, [.int (nI 0), .ref kn, .ref pt, .ref pa, .ref bg, .ref xs_, .ref ys_, .int (nI sgm), .ref fr_, .ref tw, .ref wo_, .ref mt, .ref ha_, .long (lZ x0), .long (lZ y0), .long (lZ dx), .long (lZ dy), .ref zz, .int (nI ct), .ref ov, .ref un]))] := hD
  refine lv_iload_n hx hb dX10_locate_5 rfl (lv_at hl 1 rfl) ?_
  refine zc_roS (v := .int (bI (wiZ sz_ 0 1))) (rest := []) ⟨hx, hb, hml, hown, hts⟩ (metX10_isShape lG D dA sz_ (by first | assumption | omega)) (va_cwS 1 hts (lw_S q1041 q1042 q80 q1043) rfl rfl rfl (by decide +kernel) ⟨Nat.le_of_ble_eq_true rfl, Nat.le_of_ble_eq_true rfl⟩) (hP.sub [] rfl) hK rfl hl.1 rfl (Nat.le_of_ble_eq_true rfl) dX10_locate_6 ⟨Nat.zero_le _, Nat.zero_le _⟩ ?_
  refine zb_if_ne (tgt := 18) hx hb dX10_locate_9 (by decide) (fun hq1 => ?_) (fun hq1 => ?_)
  · skip
    exfalso; rw [hb1] at hq1; cases hq1
  · skip
    refine lv_aload_n hx hb dX10_locate_12 rfl (lv_at hl 0 rfl) ?_
    refine lv_iconst (v := nI 1) hx hb dX10_locate_13 (by decide) ?_
    refine zc_wrV (rest := []) (wr := []) ⟨hx, hb, hml, hown, hts⟩ (metX10_fail lG D dA m0 0 kn pt pa bg xs_ ys_ sgm fr_ tw wo_ mt ha_ x0 y0 dx dy zz ct ov un 1 ) (cwV 1 hts (lw_V q1047 q1049 qs29 q80 q1050) rfl rfl rfl (by decide +kernel) ⟨Nat.le_of_ble_eq_true rfl, Nat.le_of_ble_eq_true rfl⟩) (va_recv hK.1 hP (ci := 9) (q0 := 0) rfl rfl) hP hK hD hS hA [0] [] rfl rfl (by decide) (by decide) (by decide) rfl hl.1 rfl (Nat.le_of_ble_eq_true rfl) dX10_locate_14 ⟨Nat.zero_le _, Nat.zero_le _⟩ (fun u H locs hp_1 hP hD hS => ?_)
    have hP : va_P D zCl [(m0, .inr (9, [.int (nI 1), .ref kn, .ref pt, .ref pa, .ref bg, .ref xs_, .ref ys_, .int (nI sgm), .ref fr_, .ref tw, .ref wo_, .ref mt, .ref ha_, .long (lZ x0), .long (lZ y0), .long (lZ dx), .long (lZ dy), .ref zz, .int (nI ct), .ref ov, .ref un]))] H := hP
    have hD : va_D A [(m0, .inr (9, [.int (nI 1), .ref kn, .ref pt, .ref pa, .ref bg, .ref xs_, .ref ys_, .int (nI sgm), .ref fr_, .ref tw, .ref wo_, .ref mt, .ref ha_, .long (lZ x0), .long (lZ y0), .long (lZ dx), .long (lZ dy), .ref zz, .int (nI ct), .ref ov, .ref un]))] := hD
    show W _ _ _ _ _ _ _ _ _ _ _ _ 0 0 _ (F0 mG 17 ls [.int (nI 0)])
    exact zr_wrI (u := ()) rfl trivial (hP.sub [0] rfl) (hD.sub [0] (by decide) rfl) hS hx hb hr hlocks dX10_locate_17
set_option maxHeartbeats 4000000 in
set_option maxRecDepth 100000 in
theorem metX10_locate_ok (lG : Launch) (D : va_G) (dA : Nat → ClassId) (m0 : Nat) (thr : Nat) (kn : Nat) (pt : Nat) (pa : Nat) (bg : Nat) (xs_ : Nat) (ys_ : Nat) (sgm : Nat) (fr_ : Nat) (tw : Nat) (wo_ : Nat) (mt : Nat) (ha_ : Nat) (x0 : Int) (y0 : Int) (dx : Int) (dy : Int) (zz : Nat) (ct : Nat) (ov : Nat) (un : Nat) (ZZ : Nat → Int) (XS : Nat → Int) (YS : Nat → Int) (FM : Nat → Nat) (TM : Nat → Nat) (WO : Nat → Nat) (KD : Nat → Nat) (PT : Nat → Nat) (PN : Nat → Nat) (BG : Nat → Nat) (w : Nat) (px : Int) (py : Int) (hXS : ∀ k, cB (XS k)) (hYS : ∀ k, cB (YS k)) (hKD : ∀ s, s < 2 → KD s < 4) (hPT : ∀ s, s < 2 → PT s ≤ 2048) (hPN : ∀ s, s < 2 → PN s ≤ 1024) (hBG : ∀ s p, s < 2 → p < PN s → BG (1025 * s + p) ≤ PT s) (hOL : ∀ s, s < 2 → olOK (fun p => BG (1025 * s + p)) (PN s) (PT s)) (hlim : PT 0 + PT 1 ≤ 64) (hw : w < 2) (hpx : cB px) (hpy : cB py) (hn1 : wiZ px (-500000000) 500000000 = true) (hn2 : wiZ py (-500000000) 500000000 = true) : Wr lG yX10_locate (ws_ yX10_locate cX10_locate 4 (some .int)) 7 169 D dA [.ref m0, .int (nI w), .int (iZ px), .int (iZ py)] [(m0, .inr (9, [.int (nI thr), .ref kn, .ref pt, .ref pa, .ref bg, .ref xs_, .ref ys_, .int (nI sgm), .ref fr_, .ref tw, .ref wo_, .ref mt, .ref ha_, .long (lZ x0), .long (lZ y0), .long (lZ dx), .long (lZ dy), .ref zz, .int (nI ct), .ref ov, .ref un])), (zz, .inl (dA 1, 192, .inr (.inl fun j => lZ (ZZ j)))), (xs_, .inl (dA 0, 4096, .inl fun j => iZ (XS j))), (ys_, .inl (dA 0, 4096, .inl fun j => iZ (YS j))), (fr_, .inl (dA 0, 4096, .inl fun j => nI (FM j))), (tw, .inl (dA 0, 4096, .inl fun j => nI (TM j))), (wo_, .inl (dA 0, 4096, .inl fun j => nI (WO j))), (kn, .inl (dA 0, 2, .inl fun j => nI (KD j))), (pt, .inl (dA 0, 2, .inl fun j => nI (PT j))), (pa, .inl (dA 0, 2, .inl fun j => nI (PN j))), (bg, .inl (dA 0, 2050, .inl fun j => nI (BG j)))] 0 0 (fun (u : Nat × (Nat → Nat) × (Nat → Nat) × (Nat → Nat) × (Nat → Int)) => let sgq := u.1; let FMq := u.2.1; let TMq := u.2.2.1; let WOq := u.2.2.2.1; let ZZ2 := u.2.2.2.2; plist (sgM XS YS FMq TMq WOq) sgq = (List.range 2).flatMap (mAll XS YS KD PT PN BG)) (fun (u : Nat × (Nat → Nat) × (Nat → Nat) × (Nat → Nat) × (Nat → Int)) => let sgq := u.1; let FMq := u.2.1; let TMq := u.2.2.1; let WOq := u.2.2.2.1; let ZZ2 := u.2.2.2.2; some (.int (nI (whM px py 0 0 0 1 XS YS FMq TMq WOq KD PT PN BG sgq w)))) (fun (u : Nat × (Nat → Nat) × (Nat → Nat) × (Nat → Nat) × (Nat → Int)) => let sgq := u.1; let FMq := u.2.1; let TMq := u.2.2.1; let WOq := u.2.2.2.1; let ZZ2 := u.2.2.2.2; [(m0, .inr (9, [.int (nI 0), .ref kn, .ref pt, .ref pa, .ref bg, .ref xs_, .ref ys_, .int (nI sgq), .ref fr_, .ref tw, .ref wo_, .ref mt, .ref ha_, .long (lZ px), .long (lZ py), .long (lZ 0), .long (lZ 0), .ref zz, .int (nI ct), .ref ov, .ref un])), (zz, .inl (dA 1, 192, .inr (.inl fun j => lZ (ZZ2 j)))), (xs_, .inl (dA 0, 4096, .inl fun j => iZ (XS j))), (ys_, .inl (dA 0, 4096, .inl fun j => iZ (YS j))), (fr_, .inl (dA 0, 4096, .inl fun j => nI (FMq j))), (tw, .inl (dA 0, 4096, .inl fun j => nI (TMq j))), (wo_, .inl (dA 0, 4096, .inl fun j => nI (WOq j))), (kn, .inl (dA 0, 2, .inl fun j => nI (KD j))), (pt, .inl (dA 0, 2, .inl fun j => nI (PT j))), (pa, .inl (dA 0, 2, .inl fun j => nI (PN j))), (bg, .inl (dA 0, 2050, .inl fun j => nI (BG j)))]) := by
  refine Wr.of (by decide) (Nat.le_of_ble_eq_true rfl) ?_
  intro pG eG sG mG bG tG cG ls A hx hb hr hml hown hts hlocks hnm hP hK hD hS hA hl
  have hK1 := hK.1
  have hown : sG.vm.findClass RX10 = some mG.cls := hown
  have hl : lv_has ls 4 [(0, .ref m0), (1, .int (nI w)), (2, .int (iZ px)), (3, .int (iZ py))] := hl
  refine lv_aload_n hx hb dX10_locate_0 rfl (lv_at hl 0 rfl) ?_
  refine lv_iconst (v := nI 0) hx hb dX10_locate_1 (by decide) ?_
  refine va_put (D := D) (ci := 9) (v := .int (nI 0)) (ty := .int) (C := RX10) (T := TX10) (N := 21) hx hb hts in_X10 tyX10 tyX10_ok nmX10 hown hK.1 hP hD hS 0 rfl rfl 0 (Nat.le_of_ble_eq_true rfl) (hts _ q969) (fun _ h9 => h9) rfl (by decide +kernel) rfl rfl (Nat.le_of_ble_eq_true rfl) dX10_locate_2 (fun H locs hP hD hS => ?_)
  have hP : va_P D zCl [(m0, .inr (9, [.int (nI 0), .ref kn, .ref pt, .ref pa, .ref bg, .ref xs_, .ref ys_, .int (nI sgm), .ref fr_, .ref tw, .ref wo_, .ref mt, .ref ha_, .long (lZ x0), .long (lZ y0), .long (lZ dx), .long (lZ dy), .ref zz, .int (nI ct), .ref ov, .ref un])), (zz, .inl (dA 1, 192, .inr (.inl fun j => lZ (ZZ j)))), (xs_, .inl (dA 0, 4096, .inl fun j => iZ (XS j))), (ys_, .inl (dA 0, 4096, .inl fun j => iZ (YS j))), (fr_, .inl (dA 0, 4096, .inl fun j => nI (FM j))), (tw, .inl (dA 0, 4096, .inl fun j => nI (TM j))), (wo_, .inl (dA 0, 4096, .inl fun j => nI (WO j))), (kn, .inl (dA 0, 2, .inl fun j => nI (KD j))), (pt, .inl (dA 0, 2, .inl fun j => nI (PT j))), (pa, .inl (dA 0, 2, .inl fun j => nI (PN j))), (bg, .inl (dA 0, 2050, .inl fun j => nI (BG j)))] H := hP
  have hD : va_D A [(m0, .inr (9, [.int (nI 0), .ref kn, .ref pt, .ref pa, .ref bg, .ref xs_, .ref ys_, .int (nI sgm), .ref fr_, .ref tw, .ref wo_, .ref mt, .ref ha_, .long (lZ x0), .long (lZ y0), .long (lZ dx), .long (lZ dy), .ref zz, .int (nI ct), .ref ov, .ref un])), (zz, .inl (dA 1, 192, .inr (.inl fun j => lZ (ZZ j)))), (xs_, .inl (dA 0, 4096, .inl fun j => iZ (XS j))), (ys_, .inl (dA 0, 4096, .inl fun j => iZ (YS j))), (fr_, .inl (dA 0, 4096, .inl fun j => nI (FM j))), (tw, .inl (dA 0, 4096, .inl fun j => nI (TM j))), (wo_, .inl (dA 0, 4096, .inl fun j => nI (WO j))), (kn, .inl (dA 0, 2, .inl fun j => nI (KD j))), (pt, .inl (dA 0, 2, .inl fun j => nI (PT j))), (pa, .inl (dA 0, 2, .inl fun j => nI (PN j))), (bg, .inl (dA 0, 2050, .inl fun j => nI (BG j)))] := hD
  refine lv_iload_n hx hb dX10_locate_5 rfl (lv_at hl 1 rfl) ?_
  refine zc_roS (v := .int (bI true)) (rest := []) ⟨hx, hb, hml, hown, hts⟩ (metX10_isShape_n lG D dA w (by first | assumption | omega)) (va_cwS 1 hts (lw_S q1041 q1042 q80 q1043) rfl rfl rfl (by decide +kernel) ⟨Nat.le_of_ble_eq_true rfl, Nat.le_of_ble_eq_true rfl⟩) (hP.sub [] rfl) hK rfl hl.1 rfl (Nat.le_of_ble_eq_true rfl) dX10_locate_6 ⟨Nat.zero_le _, Nat.zero_le _⟩ ?_
  refine zb_if_ne (tgt := 18) hx hb dX10_locate_9 (by decide) (fun c_1 => ?_) (fun c_1 => ?_)
  · skip
    refine lv_iload_n hx hb dX10_locate_18 rfl (lv_at hl 2 rfl) ?_
    refine zc_roS (v := .int (bI (!wiZ px (-500000000) 500000000))) (rest := []) ⟨hx, hb, hml, hown, hts⟩ (metX10_isFar lG D dA px (hpx.i)) (va_cwS 1 hts (lw_S q1059 q1060 q80 q1061) rfl rfl rfl (by decide +kernel) ⟨Nat.le_of_ble_eq_true rfl, Nat.le_of_ble_eq_true rfl⟩) (hP.sub [] rfl) hK rfl hl.1 rfl (Nat.le_of_ble_eq_true rfl) dX10_locate_19 ⟨Nat.zero_le _, Nat.zero_le _⟩ ?_
    refine zb_if_ne (tgt := 32) hx hb dX10_locate_22 (by decide) (fun hq1 => ?_) (fun hq1 => ?_)
    · skip
      exfalso; rw [hn1] at hq1; cases hq1
    · skip
      refine lv_iload_n hx hb dX10_locate_25 rfl (lv_at hl 3 rfl) ?_
      refine zc_roS (v := .int (bI (!wiZ py (-500000000) 500000000))) (rest := []) ⟨hx, hb, hml, hown, hts⟩ (metX10_isFar lG D dA py (hpy.i)) (va_cwS 1 hts (lw_S q1059 q1060 q80 q1061) rfl rfl rfl (by decide +kernel) ⟨Nat.le_of_ble_eq_true rfl, Nat.le_of_ble_eq_true rfl⟩) (hP.sub [] rfl) hK rfl hl.1 rfl (Nat.le_of_ble_eq_true rfl) dX10_locate_26 ⟨Nat.zero_le _, Nat.zero_le _⟩ ?_
      refine zb_if_eq (tgt := 38) hx hb dX10_locate_29 (by decide) (fun hq2 => ?_) (fun hq2 => ?_)
      · skip
        refine lv_aload_n hx hb dX10_locate_38 rfl (lv_at hl 0 rfl) ?_
        refine zc_wrV (rest := []) (wr := [(zz, .inl (dA 1, 192, .inr (.inl fun j => lZ (ZZ j))))]) ⟨hx, hb, hml, hown, hts⟩ (metX10_gather lG D dA m0 0 kn pt pa bg xs_ ys_ sgm fr_ tw wo_ mt ha_ x0 y0 dx dy zz ct ov un XS YS FM TM WO KD PT PN BG (by first | assumption | omega) (by first | assumption | omega) (by first | assumption | omega) (by first | assumption | omega) (by first | assumption | omega) (by first | assumption | omega) (by first | assumption | omega) (by first | assumption | omega)) (cwV 0 hts (lw_V q1068 q1070 qs30 q80 q1071) rfl rfl rfl (by decide +kernel) ⟨Nat.le_of_ble_eq_true rfl, Nat.le_of_ble_eq_true rfl⟩) (va_recv hK.1 hP (ci := 9) (q0 := 0) rfl rfl) hP hK hD hS hA [0, 2, 3, 4, 5, 6, 7, 8, 9, 10] [1] rfl rfl (by decide) (by decide) (by decide) rfl hl.1 rfl (Nat.le_of_ble_eq_true rfl) dX10_locate_39 ⟨Nat.zero_le _, Nat.zero_le _⟩ (fun u H locs hg9 hP hD hS => ?_)
        obtain ⟨sgq, FMq, TMq, WOq⟩ := u
        have hP : va_P D zCl [(zz, .inl (dA 1, 192, .inr (.inl fun j => lZ (ZZ j)))), (m0, .inr (9, [.int (nI 0), .ref kn, .ref pt, .ref pa, .ref bg, .ref xs_, .ref ys_, .int (nI sgq), .ref fr_, .ref tw, .ref wo_, .ref mt, .ref ha_, .long (lZ x0), .long (lZ y0), .long (lZ dx), .long (lZ dy), .ref zz, .int (nI ct), .ref ov, .ref un])), (xs_, .inl (dA 0, 4096, .inl fun j => iZ (XS j))), (ys_, .inl (dA 0, 4096, .inl fun j => iZ (YS j))), (fr_, .inl (dA 0, 4096, .inl fun j => nI (FMq j))), (tw, .inl (dA 0, 4096, .inl fun j => nI (TMq j))), (wo_, .inl (dA 0, 4096, .inl fun j => nI (WOq j))), (kn, .inl (dA 0, 2, .inl fun j => nI (KD j))), (pt, .inl (dA 0, 2, .inl fun j => nI (PT j))), (pa, .inl (dA 0, 2, .inl fun j => nI (PN j))), (bg, .inl (dA 0, 2050, .inl fun j => nI (BG j)))] H := hP
        have hD : va_D A [(zz, .inl (dA 1, 192, .inr (.inl fun j => lZ (ZZ j)))), (m0, .inr (9, [.int (nI 0), .ref kn, .ref pt, .ref pa, .ref bg, .ref xs_, .ref ys_, .int (nI sgq), .ref fr_, .ref tw, .ref wo_, .ref mt, .ref ha_, .long (lZ x0), .long (lZ y0), .long (lZ dx), .long (lZ dy), .ref zz, .int (nI ct), .ref ov, .ref un])), (xs_, .inl (dA 0, 4096, .inl fun j => iZ (XS j))), (ys_, .inl (dA 0, 4096, .inl fun j => iZ (YS j))), (fr_, .inl (dA 0, 4096, .inl fun j => nI (FMq j))), (tw, .inl (dA 0, 4096, .inl fun j => nI (TMq j))), (wo_, .inl (dA 0, 4096, .inl fun j => nI (WOq j))), (kn, .inl (dA 0, 2, .inl fun j => nI (KD j))), (pt, .inl (dA 0, 2, .inl fun j => nI (PT j))), (pa, .inl (dA 0, 2, .inl fun j => nI (PN j))), (bg, .inl (dA 0, 2050, .inl fun j => nI (BG j)))] := hD
        have hg9 : plist (sgM XS YS FMq TMq WOq) sgq = (List.range 2).flatMap (mAll XS YS KD PT PN BG) ∧ (∀ k, k < sgq → FMq k < 4096) ∧ (∀ k, k < sgq → TMq k < 4096) ∧ (∀ k, k < sgq → WOq k < 2) ∧ sgq ≤ PT 0 + PT 1 := hg9
        show W _ _ _ _ _ _ _ _ _ _ _ _ 0 0 _ (F0 mG 42 ls [])
        obtain ⟨g1_, g2_, g3_, g4_, g5_⟩ := hg9
        refine lv_aload_n hx hb dX10_locate_42 rfl (lv_at hl 0 rfl) ?_
        refine lv_iload_n hx hb dX10_locate_43 rfl (lv_at hl 2 rfl) ?_
        refine zz_i2l hx hb hpx.i dX10_locate_44 ?_
        refine lv_iload_n hx hb dX10_locate_45 rfl (lv_at hl 3 rfl) ?_
        refine zz_i2l hx hb hpy.i dX10_locate_46 ?_
        refine zz_lconst hx hb 0 dX10_locate_47 rfl ?_
        refine zz_lconst hx hb 0 dX10_locate_48 rfl ?_
        refine zc_wrV (rest := []) (wr := [(zz, .inl (dA 1, 192, .inr (.inl fun j => lZ (ZZ j)))), (xs_, .inl (dA 0, 4096, .inl fun j => iZ (XS j))), (ys_, .inl (dA 0, 4096, .inl fun j => iZ (YS j))), (fr_, .inl (dA 0, 4096, .inl fun j => nI (FMq j))), (tw, .inl (dA 0, 4096, .inl fun j => nI (TMq j))), (wo_, .inl (dA 0, 4096, .inl fun j => nI (WOq j))), (kn, .inl (dA 0, 2, .inl fun j => nI (KD j))), (pt, .inl (dA 0, 2, .inl fun j => nI (PT j))), (pa, .inl (dA 0, 2, .inl fun j => nI (PN j))), (bg, .inl (dA 0, 2050, .inl fun j => nI (BG j)))]) ⟨hx, hb, hml, hown, hts⟩ (metX10_stand lG D dA m0 0 kn pt pa bg xs_ ys_ sgq fr_ tw wo_ mt ha_ x0 y0 dx dy zz ct ov un px py 0 0 ) (cwV 4 hts (lw_V q1088 q1090 qs35 q80 q1091) rfl rfl rfl (by decide +kernel) ⟨Nat.le_of_ble_eq_true rfl, Nat.le_of_ble_eq_true rfl⟩) (va_recv hK.1 hP (ci := 9) (q0 := 1) rfl rfl) hP hK hD hS hA [1] [0, 2, 3, 4, 5, 6, 7, 8, 9, 10] rfl rfl (by decide) (by decide) (by decide) rfl hl.1 rfl (Nat.le_of_ble_eq_true rfl) dX10_locate_49 ⟨Nat.zero_le _, Nat.zero_le _⟩ (fun u H locs hp_2 hP hD hS => ?_)
        have hP : va_P D zCl [(zz, .inl (dA 1, 192, .inr (.inl fun j => lZ (ZZ j)))), (xs_, .inl (dA 0, 4096, .inl fun j => iZ (XS j))), (ys_, .inl (dA 0, 4096, .inl fun j => iZ (YS j))), (fr_, .inl (dA 0, 4096, .inl fun j => nI (FMq j))), (tw, .inl (dA 0, 4096, .inl fun j => nI (TMq j))), (wo_, .inl (dA 0, 4096, .inl fun j => nI (WOq j))), (kn, .inl (dA 0, 2, .inl fun j => nI (KD j))), (pt, .inl (dA 0, 2, .inl fun j => nI (PT j))), (pa, .inl (dA 0, 2, .inl fun j => nI (PN j))), (bg, .inl (dA 0, 2050, .inl fun j => nI (BG j))), (m0, .inr (9, [.int (nI 0), .ref kn, .ref pt, .ref pa, .ref bg, .ref xs_, .ref ys_, .int (nI sgq), .ref fr_, .ref tw, .ref wo_, .ref mt, .ref ha_, .long (lZ px), .long (lZ py), .long (lZ 0), .long (lZ 0), .ref zz, .int (nI ct), .ref ov, .ref un]))] H := hP
        have hD : va_D A [(zz, .inl (dA 1, 192, .inr (.inl fun j => lZ (ZZ j)))), (xs_, .inl (dA 0, 4096, .inl fun j => iZ (XS j))), (ys_, .inl (dA 0, 4096, .inl fun j => iZ (YS j))), (fr_, .inl (dA 0, 4096, .inl fun j => nI (FMq j))), (tw, .inl (dA 0, 4096, .inl fun j => nI (TMq j))), (wo_, .inl (dA 0, 4096, .inl fun j => nI (WOq j))), (kn, .inl (dA 0, 2, .inl fun j => nI (KD j))), (pt, .inl (dA 0, 2, .inl fun j => nI (PT j))), (pa, .inl (dA 0, 2, .inl fun j => nI (PN j))), (bg, .inl (dA 0, 2050, .inl fun j => nI (BG j))), (m0, .inr (9, [.int (nI 0), .ref kn, .ref pt, .ref pa, .ref bg, .ref xs_, .ref ys_, .int (nI sgq), .ref fr_, .ref tw, .ref wo_, .ref mt, .ref ha_, .long (lZ px), .long (lZ py), .long (lZ 0), .long (lZ 0), .ref zz, .int (nI ct), .ref ov, .ref un]))] := hD
        show W _ _ _ _ _ _ _ _ _ _ _ _ 0 0 _ (F0 mG 52 ls [])
        refine lv_aload_n hx hb dX10_locate_52 rfl (lv_at hl 0 rfl) ?_
        refine zz_lconst hx hb 0 dX10_locate_53 rfl ?_
        refine zz_lconst hx hb 1 dX10_locate_54 rfl ?_
        refine zc_wrV (rest := []) (wr := [(xs_, .inl (dA 0, 4096, .inl fun j => iZ (XS j))), (ys_, .inl (dA 0, 4096, .inl fun j => iZ (YS j))), (fr_, .inl (dA 0, 4096, .inl fun j => nI (FMq j))), (tw, .inl (dA 0, 4096, .inl fun j => nI (TMq j))), (wo_, .inl (dA 0, 4096, .inl fun j => nI (WOq j))), (kn, .inl (dA 0, 2, .inl fun j => nI (KD j))), (pt, .inl (dA 0, 2, .inl fun j => nI (PT j))), (pa, .inl (dA 0, 2, .inl fun j => nI (PN j))), (bg, .inl (dA 0, 2050, .inl fun j => nI (BG j)))]) ⟨hx, hb, hml, hown, hts⟩ (metX10_at lG D dA m0 0 kn pt pa bg xs_ ys_ sgq fr_ tw wo_ mt ha_ px py 0 0 zz ct ov un ZZ 0 1 (⟨by decide, by decide⟩) (⟨by decide, by decide⟩)) (cwV 2 hts (lw_V q1092 q1094 qs36 q80 q1095) rfl rfl rfl (by decide +kernel) ⟨Nat.le_of_ble_eq_true rfl, Nat.le_of_ble_eq_true rfl⟩) (va_recv hK.1 hP (ci := 9) (q0 := 10) rfl rfl) hP hK hD hS hA [10, 0] [1, 2, 3, 4, 5, 6, 7, 8, 9] rfl rfl (by decide) (by decide) (by decide) rfl hl.1 rfl (Nat.le_of_ble_eq_true rfl) dX10_locate_55 ⟨Nat.zero_le _, Nat.zero_le _⟩ (fun u H locs hz9 hP hD hS => ?_)
        obtain ⟨ZZ2_3, rfl⟩ : ∃ z, z = u := ⟨_, rfl⟩
        have hP : va_P D zCl [(xs_, .inl (dA 0, 4096, .inl fun j => iZ (XS j))), (ys_, .inl (dA 0, 4096, .inl fun j => iZ (YS j))), (fr_, .inl (dA 0, 4096, .inl fun j => nI (FMq j))), (tw, .inl (dA 0, 4096, .inl fun j => nI (TMq j))), (wo_, .inl (dA 0, 4096, .inl fun j => nI (WOq j))), (kn, .inl (dA 0, 2, .inl fun j => nI (KD j))), (pt, .inl (dA 0, 2, .inl fun j => nI (PT j))), (pa, .inl (dA 0, 2, .inl fun j => nI (PN j))), (bg, .inl (dA 0, 2050, .inl fun j => nI (BG j))), (m0, .inr (9, [.int (nI 0), .ref kn, .ref pt, .ref pa, .ref bg, .ref xs_, .ref ys_, .int (nI sgq), .ref fr_, .ref tw, .ref wo_, .ref mt, .ref ha_, .long (lZ px), .long (lZ py), .long (lZ 0), .long (lZ 0), .ref zz, .int (nI ct), .ref ov, .ref un])), (zz, .inl (dA 1, 192, .inr (.inl fun j => lZ (ZZ2_3 j))))] H := hP
        have hD : va_D A [(xs_, .inl (dA 0, 4096, .inl fun j => iZ (XS j))), (ys_, .inl (dA 0, 4096, .inl fun j => iZ (YS j))), (fr_, .inl (dA 0, 4096, .inl fun j => nI (FMq j))), (tw, .inl (dA 0, 4096, .inl fun j => nI (TMq j))), (wo_, .inl (dA 0, 4096, .inl fun j => nI (WOq j))), (kn, .inl (dA 0, 2, .inl fun j => nI (KD j))), (pt, .inl (dA 0, 2, .inl fun j => nI (PT j))), (pa, .inl (dA 0, 2, .inl fun j => nI (PN j))), (bg, .inl (dA 0, 2050, .inl fun j => nI (BG j))), (m0, .inr (9, [.int (nI 0), .ref kn, .ref pt, .ref pa, .ref bg, .ref xs_, .ref ys_, .int (nI sgq), .ref fr_, .ref tw, .ref wo_, .ref mt, .ref ha_, .long (lZ px), .long (lZ py), .long (lZ 0), .long (lZ 0), .ref zz, .int (nI ct), .ref ov, .ref un])), (zz, .inl (dA 1, 192, .inr (.inl fun j => lZ (ZZ2_3 j))))] := hD
        have hz9 : ptOK ZZ2_3 0 1 := hz9
        show W _ _ _ _ _ _ _ _ _ _ _ _ 0 0 _ (F0 mG 58 ls [])
        refine lv_aload_n hx hb dX10_locate_58 rfl (lv_at hl 0 rfl) ?_
        refine lv_iload_n hx hb dX10_locate_59 rfl (lv_at hl 1 rfl) ?_
        refine zc_wrV (rest := []) (wr := []) ⟨hx, hb, hml, hown, hts⟩ (metX10_where lG D dA m0 0 kn pt pa bg xs_ ys_ sgq fr_ tw wo_ mt ha_ px py 0 0 zz ct ov un ZZ2_3 0 1 XS YS FMq TMq WOq KD PT PN BG w (by first | assumption | omega) hpx hpy dB_0 dB_0 (by first | assumption | omega) (by first | assumption | omega) (by first | assumption | omega) (by first | assumption | omega) (by first | assumption | omega) (by first | assumption | omega) (by first | assumption | omega) (by first | assumption | omega) (by first | assumption | omega) (by first | assumption | omega) (by first | assumption | omega)) (cwV 1 hts (lw_V q1110 q1112 qs40 q80 q1113) rfl rfl rfl (by decide +kernel) ⟨Nat.le_of_ble_eq_true rfl, Nat.le_of_ble_eq_true rfl⟩) (va_recv hK.1 hP (ci := 9) (q0 := 9) rfl rfl) hP hK hD hS hA [9, 10, 0, 1, 2, 3, 4, 5, 6, 7, 8] [] rfl rfl (by decide) (by decide) (by decide) rfl hl.1 rfl (Nat.le_of_ble_eq_true rfl) dX10_locate_60 ⟨Nat.zero_le _, Nat.zero_le _⟩ (fun u H locs hp_5 hP hD hS => ?_)
        obtain ⟨ZZ2_4, rfl⟩ : ∃ z, z = u := ⟨_, rfl⟩
        have hP : va_P D zCl [(m0, .inr (9, [.int (nI 0), .ref kn, .ref pt, .ref pa, .ref bg, .ref xs_, .ref ys_, .int (nI sgq), .ref fr_, .ref tw, .ref wo_, .ref mt, .ref ha_, .long (lZ px), .long (lZ py), .long (lZ 0), .long (lZ 0), .ref zz, .int (nI ct), .ref ov, .ref un])), (zz, .inl (dA 1, 192, .inr (.inl fun j => lZ (ZZ2_4 j)))), (xs_, .inl (dA 0, 4096, .inl fun j => iZ (XS j))), (ys_, .inl (dA 0, 4096, .inl fun j => iZ (YS j))), (fr_, .inl (dA 0, 4096, .inl fun j => nI (FMq j))), (tw, .inl (dA 0, 4096, .inl fun j => nI (TMq j))), (wo_, .inl (dA 0, 4096, .inl fun j => nI (WOq j))), (kn, .inl (dA 0, 2, .inl fun j => nI (KD j))), (pt, .inl (dA 0, 2, .inl fun j => nI (PT j))), (pa, .inl (dA 0, 2, .inl fun j => nI (PN j))), (bg, .inl (dA 0, 2050, .inl fun j => nI (BG j)))] H := hP
        have hD : va_D A [(m0, .inr (9, [.int (nI 0), .ref kn, .ref pt, .ref pa, .ref bg, .ref xs_, .ref ys_, .int (nI sgq), .ref fr_, .ref tw, .ref wo_, .ref mt, .ref ha_, .long (lZ px), .long (lZ py), .long (lZ 0), .long (lZ 0), .ref zz, .int (nI ct), .ref ov, .ref un])), (zz, .inl (dA 1, 192, .inr (.inl fun j => lZ (ZZ2_4 j)))), (xs_, .inl (dA 0, 4096, .inl fun j => iZ (XS j))), (ys_, .inl (dA 0, 4096, .inl fun j => iZ (YS j))), (fr_, .inl (dA 0, 4096, .inl fun j => nI (FMq j))), (tw, .inl (dA 0, 4096, .inl fun j => nI (TMq j))), (wo_, .inl (dA 0, 4096, .inl fun j => nI (WOq j))), (kn, .inl (dA 0, 2, .inl fun j => nI (KD j))), (pt, .inl (dA 0, 2, .inl fun j => nI (PT j))), (pa, .inl (dA 0, 2, .inl fun j => nI (PN j))), (bg, .inl (dA 0, 2050, .inl fun j => nI (BG j)))] := hD
        have hp_5 : ptOK ZZ2_4 0 1 := hp_5
        show W _ _ _ _ _ _ _ _ _ _ _ _ 0 0 _ (F0 mG 63 ls [.int (nI (whM px py 0 0 0 1 XS YS FMq TMq WOq KD PT PN BG sgq w))])
        exact zr_wrI (u := (sgq, FMq, TMq, WOq, ZZ2_4)) rfl (show plist (sgM XS YS FMq TMq WOq) sgq = (List.range 2).flatMap (mAll XS YS KD PT PN BG) from g1_) (hP.sub [0, 1, 2, 3, 4, 5, 6, 7, 8, 9, 10] rfl) (hD.sub [0, 1, 2, 3, 4, 5, 6, 7, 8, 9, 10] (by decide) rfl) hS hx hb hr hlocks dX10_locate_63
      · skip
        exfalso; rw [hn2] at hq2; cases hq2
  · skip
    exfalso; contradiction
set_option maxHeartbeats 4000000 in
set_option maxRecDepth 100000 in
theorem metX10_relate (lG : Launch) (D : va_G) (dA : Nat → ClassId) (m0 : Nat) (thr : Nat) (kn : Nat) (pt : Nat) (pa : Nat) (bg : Nat) (xs_ : Nat) (ys_ : Nat) (sgm : Nat) (fr_ : Nat) (tw : Nat) (wo_ : Nat) (mt : Nat) (ha_ : Nat) (x0 : Int) (y0 : Int) (dx : Int) (dy : Int) (zz : Nat) (ct : Nat) (ov : Nat) (un : Nat) (ZZ : Nat → Int) (XS : Nat → Int) (YS : Nat → Int) (FM : Nat → Nat) (TM : Nat → Nat) (WO : Nat → Nat) (KD : Nat → Nat) (PT : Nat → Nat) (PN : Nat → Nat) (BG : Nat → Nat) (OV : Nat → Int) (UN : Nat → Int) (MX : Nat → Int) (HA : Nat → Bool) (hXS : ∀ k, cB (XS k)) (hYS : ∀ k, cB (YS k)) (hKD : ∀ s, s < 2 → KD s < 4) (hPT : ∀ s, s < 2 → PT s ≤ 2048) (hPN : ∀ s, s < 2 → PN s ≤ 1024) (hBG : ∀ s p, s < 2 → p < PN s → BG (1025 * s + p) ≤ PT s) (hOL : ∀ s, s < 2 → olOK (fun p => BG (1025 * s + p)) (PN s) (PT s)) (hlim : PT 0 + PT 1 ≤ 64) (hM : mxB MX) : Wr lG yX10_relate (ws_ yX10_relate cX10_relate 3 (some .int)) 9 214 D dA [.ref m0] [(m0, .inr (9, [.int (nI thr), .ref kn, .ref pt, .ref pa, .ref bg, .ref xs_, .ref ys_, .int (nI sgm), .ref fr_, .ref tw, .ref wo_, .ref mt, .ref ha_, .long (lZ x0), .long (lZ y0), .long (lZ dx), .long (lZ dy), .ref zz, .int (nI ct), .ref ov, .ref un])), (zz, .inl (dA 1, 192, .inr (.inl fun j => lZ (ZZ j)))), (xs_, .inl (dA 0, 4096, .inl fun j => iZ (XS j))), (ys_, .inl (dA 0, 4096, .inl fun j => iZ (YS j))), (fr_, .inl (dA 0, 4096, .inl fun j => nI (FM j))), (tw, .inl (dA 0, 4096, .inl fun j => nI (TM j))), (wo_, .inl (dA 0, 4096, .inl fun j => nI (WO j))), (kn, .inl (dA 0, 2, .inl fun j => nI (KD j))), (pt, .inl (dA 0, 2, .inl fun j => nI (PT j))), (pa, .inl (dA 0, 2, .inl fun j => nI (PN j))), (bg, .inl (dA 0, 2050, .inl fun j => nI (BG j))), (ov, .inl (dA 1, 12400, .inr (.inl fun j => lZ (OV j)))), (un, .inl (dA 1, 12400, .inr (.inl fun j => lZ (UN j)))), (mt, .inl (dA 0, 9, .inl fun j => iZ (MX j))), (ha_, .inl (dA 2, 2, .inl fun j => bI (HA j)))] 0 0 (fun (u : Nat × (Nat → Nat) × (Nat → Nat) × (Nat → Nat) × Nat × (Nat → Int) × (Nat → Int) × (Nat → Int) × (Nat → Bool) × (Nat → Int) × Int × Int × Int × Int) => let sgq := u.1; let FMq := u.2.1; let TMq := u.2.2.1; let WOq := u.2.2.2.1; let ct2 := u.2.2.2.2.1; let OV2 := u.2.2.2.2.2.1; let UN2 := u.2.2.2.2.2.2.1; let MX2 := u.2.2.2.2.2.2.2.1; let HA2 := u.2.2.2.2.2.2.2.2.1; let ZZ2 := u.2.2.2.2.2.2.2.2.2.1; let xa2 := u.2.2.2.2.2.2.2.2.2.2.1; let xb2 := u.2.2.2.2.2.2.2.2.2.2.2.1; let xc2 := u.2.2.2.2.2.2.2.2.2.2.2.2.1; let xd2 := u.2.2.2.2.2.2.2.2.2.2.2.2.2; plist (sgM XS YS FMq TMq WOq) sgq = (List.range 2).flatMap (mAll XS YS KD PT PN BG) ∧ mdOK XS YS FMq TMq WOq KD PT PN BG sgq MX2 HA2 ∧ mxB MX2) (fun (u : Nat × (Nat → Nat) × (Nat → Nat) × (Nat → Nat) × Nat × (Nat → Int) × (Nat → Int) × (Nat → Int) × (Nat → Bool) × (Nat → Int) × Int × Int × Int × Int) => let sgq := u.1; let FMq := u.2.1; let TMq := u.2.2.1; let WOq := u.2.2.2.1; let ct2 := u.2.2.2.2.1; let OV2 := u.2.2.2.2.2.1; let UN2 := u.2.2.2.2.2.2.1; let MX2 := u.2.2.2.2.2.2.2.1; let HA2 := u.2.2.2.2.2.2.2.2.1; let ZZ2 := u.2.2.2.2.2.2.2.2.2.1; let xa2 := u.2.2.2.2.2.2.2.2.2.2.1; let xb2 := u.2.2.2.2.2.2.2.2.2.2.2.1; let xc2 := u.2.2.2.2.2.2.2.2.2.2.2.2.1; let xd2 := u.2.2.2.2.2.2.2.2.2.2.2.2.2; some (.int (iZ (relF MX2 9)))) (fun (u : Nat × (Nat → Nat) × (Nat → Nat) × (Nat → Nat) × Nat × (Nat → Int) × (Nat → Int) × (Nat → Int) × (Nat → Bool) × (Nat → Int) × Int × Int × Int × Int) => let sgq := u.1; let FMq := u.2.1; let TMq := u.2.2.1; let WOq := u.2.2.2.1; let ct2 := u.2.2.2.2.1; let OV2 := u.2.2.2.2.2.1; let UN2 := u.2.2.2.2.2.2.1; let MX2 := u.2.2.2.2.2.2.2.1; let HA2 := u.2.2.2.2.2.2.2.2.1; let ZZ2 := u.2.2.2.2.2.2.2.2.2.1; let xa2 := u.2.2.2.2.2.2.2.2.2.2.1; let xb2 := u.2.2.2.2.2.2.2.2.2.2.2.1; let xc2 := u.2.2.2.2.2.2.2.2.2.2.2.2.1; let xd2 := u.2.2.2.2.2.2.2.2.2.2.2.2.2; [(m0, .inr (9, [.int (nI 0), .ref kn, .ref pt, .ref pa, .ref bg, .ref xs_, .ref ys_, .int (nI sgq), .ref fr_, .ref tw, .ref wo_, .ref mt, .ref ha_, .long (lZ xa2), .long (lZ xb2), .long (lZ xc2), .long (lZ xd2), .ref zz, .int (nI ct2), .ref ov, .ref un])), (zz, .inl (dA 1, 192, .inr (.inl fun j => lZ (ZZ2 j)))), (xs_, .inl (dA 0, 4096, .inl fun j => iZ (XS j))), (ys_, .inl (dA 0, 4096, .inl fun j => iZ (YS j))), (fr_, .inl (dA 0, 4096, .inl fun j => nI (FMq j))), (tw, .inl (dA 0, 4096, .inl fun j => nI (TMq j))), (wo_, .inl (dA 0, 4096, .inl fun j => nI (WOq j))), (kn, .inl (dA 0, 2, .inl fun j => nI (KD j))), (pt, .inl (dA 0, 2, .inl fun j => nI (PT j))), (pa, .inl (dA 0, 2, .inl fun j => nI (PN j))), (bg, .inl (dA 0, 2050, .inl fun j => nI (BG j))), (ov, .inl (dA 1, 12400, .inr (.inl fun j => lZ (OV2 j)))), (un, .inl (dA 1, 12400, .inr (.inl fun j => lZ (UN2 j)))), (mt, .inl (dA 0, 9, .inl fun j => iZ (MX2 j))), (ha_, .inl (dA 2, 2, .inl fun j => bI (HA2 j)))]) := by
  refine Wr.of (by decide) (Nat.le_of_ble_eq_true rfl) ?_
  intro pG eG sG mG bG tG cG ls A hx hb hr hml hown hts hlocks hnm hP hK hD hS hA hl
  have hK1 := hK.1
  have hown : sG.vm.findClass RX10 = some mG.cls := hown
  have hl : lv_has ls 3 [(0, .ref m0)] := hl
  refine lv_aload_n hx hb dX10_relate_0 rfl (lv_at hl 0 rfl) ?_
  refine lv_iconst (v := nI 0) hx hb dX10_relate_1 (by decide) ?_
  refine va_put (D := D) (ci := 9) (v := .int (nI 0)) (ty := .int) (C := RX10) (T := TX10) (N := 21) hx hb hts in_X10 tyX10 tyX10_ok nmX10 hown hK.1 hP hD hS 0 rfl rfl 0 (Nat.le_of_ble_eq_true rfl) (hts _ q969) (fun _ h9 => h9) rfl (by decide +kernel) rfl rfl (Nat.le_of_ble_eq_true rfl) dX10_relate_2 (fun H locs hP hD hS => ?_)
  have hP : va_P D zCl [(m0, .inr (9, [.int (nI 0), .ref kn, .ref pt, .ref pa, .ref bg, .ref xs_, .ref ys_, .int (nI sgm), .ref fr_, .ref tw, .ref wo_, .ref mt, .ref ha_, .long (lZ x0), .long (lZ y0), .long (lZ dx), .long (lZ dy), .ref zz, .int (nI ct), .ref ov, .ref un])), (zz, .inl (dA 1, 192, .inr (.inl fun j => lZ (ZZ j)))), (xs_, .inl (dA 0, 4096, .inl fun j => iZ (XS j))), (ys_, .inl (dA 0, 4096, .inl fun j => iZ (YS j))), (fr_, .inl (dA 0, 4096, .inl fun j => nI (FM j))), (tw, .inl (dA 0, 4096, .inl fun j => nI (TM j))), (wo_, .inl (dA 0, 4096, .inl fun j => nI (WO j))), (kn, .inl (dA 0, 2, .inl fun j => nI (KD j))), (pt, .inl (dA 0, 2, .inl fun j => nI (PT j))), (pa, .inl (dA 0, 2, .inl fun j => nI (PN j))), (bg, .inl (dA 0, 2050, .inl fun j => nI (BG j))), (ov, .inl (dA 1, 12400, .inr (.inl fun j => lZ (OV j)))), (un, .inl (dA 1, 12400, .inr (.inl fun j => lZ (UN j)))), (mt, .inl (dA 0, 9, .inl fun j => iZ (MX j))), (ha_, .inl (dA 2, 2, .inl fun j => bI (HA j)))] H := hP
  have hD : va_D A [(m0, .inr (9, [.int (nI 0), .ref kn, .ref pt, .ref pa, .ref bg, .ref xs_, .ref ys_, .int (nI sgm), .ref fr_, .ref tw, .ref wo_, .ref mt, .ref ha_, .long (lZ x0), .long (lZ y0), .long (lZ dx), .long (lZ dy), .ref zz, .int (nI ct), .ref ov, .ref un])), (zz, .inl (dA 1, 192, .inr (.inl fun j => lZ (ZZ j)))), (xs_, .inl (dA 0, 4096, .inl fun j => iZ (XS j))), (ys_, .inl (dA 0, 4096, .inl fun j => iZ (YS j))), (fr_, .inl (dA 0, 4096, .inl fun j => nI (FM j))), (tw, .inl (dA 0, 4096, .inl fun j => nI (TM j))), (wo_, .inl (dA 0, 4096, .inl fun j => nI (WO j))), (kn, .inl (dA 0, 2, .inl fun j => nI (KD j))), (pt, .inl (dA 0, 2, .inl fun j => nI (PT j))), (pa, .inl (dA 0, 2, .inl fun j => nI (PN j))), (bg, .inl (dA 0, 2050, .inl fun j => nI (BG j))), (ov, .inl (dA 1, 12400, .inr (.inl fun j => lZ (OV j)))), (un, .inl (dA 1, 12400, .inr (.inl fun j => lZ (UN j)))), (mt, .inl (dA 0, 9, .inl fun j => iZ (MX j))), (ha_, .inl (dA 2, 2, .inl fun j => bI (HA j)))] := hD
  refine lv_aload_n hx hb dX10_relate_5 rfl (lv_at hl 0 rfl) ?_
  refine zc_wrV (rest := []) (wr := []) ⟨hx, hb, hml, hown, hts⟩ (metX10_look lG D dA m0 0 kn pt pa bg xs_ ys_ sgm fr_ tw wo_ mt ha_ x0 y0 dx dy zz ct ov un ZZ XS YS FM TM WO KD PT PN BG OV UN MX HA (by first | assumption | omega) (by first | assumption | omega) (by first | assumption | omega) (by first | assumption | omega) (by first | assumption | omega) (by first | assumption | omega) (by first | assumption | omega) (by first | assumption | omega) (by first | assumption | omega)) (cwV 0 hts (lw_V q1170 q1172 qs54 q80 q1173) rfl rfl rfl (by decide +kernel) ⟨Nat.le_of_ble_eq_true rfl, Nat.le_of_ble_eq_true rfl⟩) (va_recv hK.1 hP (ci := 9) (q0 := 0) rfl rfl) hP hK hD hS hA [0, 1, 2, 3, 4, 5, 6, 7, 8, 9, 10, 11, 12, 13, 14] [] rfl rfl (by decide) (by decide) (by decide) rfl hl.1 rfl (Nat.le_of_ble_eq_true rfl) dX10_relate_6 ⟨Nat.zero_le _, Nat.zero_le _⟩ (fun u H locs hl9 hP hD hS => ?_)
  obtain ⟨sgq, FMq, TMq, WOq, ct2, OV2, UN2, MX2, HA2, ZZ2, xa2, xb2, xc2, xd2⟩ := u
  have hP : va_P D zCl [(m0, .inr (9, [.int (nI 0), .ref kn, .ref pt, .ref pa, .ref bg, .ref xs_, .ref ys_, .int (nI sgq), .ref fr_, .ref tw, .ref wo_, .ref mt, .ref ha_, .long (lZ xa2), .long (lZ xb2), .long (lZ xc2), .long (lZ xd2), .ref zz, .int (nI ct2), .ref ov, .ref un])), (zz, .inl (dA 1, 192, .inr (.inl fun j => lZ (ZZ2 j)))), (xs_, .inl (dA 0, 4096, .inl fun j => iZ (XS j))), (ys_, .inl (dA 0, 4096, .inl fun j => iZ (YS j))), (fr_, .inl (dA 0, 4096, .inl fun j => nI (FMq j))), (tw, .inl (dA 0, 4096, .inl fun j => nI (TMq j))), (wo_, .inl (dA 0, 4096, .inl fun j => nI (WOq j))), (kn, .inl (dA 0, 2, .inl fun j => nI (KD j))), (pt, .inl (dA 0, 2, .inl fun j => nI (PT j))), (pa, .inl (dA 0, 2, .inl fun j => nI (PN j))), (bg, .inl (dA 0, 2050, .inl fun j => nI (BG j))), (ov, .inl (dA 1, 12400, .inr (.inl fun j => lZ (OV2 j)))), (un, .inl (dA 1, 12400, .inr (.inl fun j => lZ (UN2 j)))), (mt, .inl (dA 0, 9, .inl fun j => iZ (MX2 j))), (ha_, .inl (dA 2, 2, .inl fun j => bI (HA2 j)))] H := hP
  have hD : va_D A [(m0, .inr (9, [.int (nI 0), .ref kn, .ref pt, .ref pa, .ref bg, .ref xs_, .ref ys_, .int (nI sgq), .ref fr_, .ref tw, .ref wo_, .ref mt, .ref ha_, .long (lZ xa2), .long (lZ xb2), .long (lZ xc2), .long (lZ xd2), .ref zz, .int (nI ct2), .ref ov, .ref un])), (zz, .inl (dA 1, 192, .inr (.inl fun j => lZ (ZZ2 j)))), (xs_, .inl (dA 0, 4096, .inl fun j => iZ (XS j))), (ys_, .inl (dA 0, 4096, .inl fun j => iZ (YS j))), (fr_, .inl (dA 0, 4096, .inl fun j => nI (FMq j))), (tw, .inl (dA 0, 4096, .inl fun j => nI (TMq j))), (wo_, .inl (dA 0, 4096, .inl fun j => nI (WOq j))), (kn, .inl (dA 0, 2, .inl fun j => nI (KD j))), (pt, .inl (dA 0, 2, .inl fun j => nI (PT j))), (pa, .inl (dA 0, 2, .inl fun j => nI (PN j))), (bg, .inl (dA 0, 2050, .inl fun j => nI (BG j))), (ov, .inl (dA 1, 12400, .inr (.inl fun j => lZ (OV2 j)))), (un, .inl (dA 1, 12400, .inr (.inl fun j => lZ (UN2 j)))), (mt, .inl (dA 0, 9, .inl fun j => iZ (MX2 j))), (ha_, .inl (dA 2, 2, .inl fun j => bI (HA2 j)))] := hD
  have hl9 : plist (sgM XS YS FMq TMq WOq) sgq = (List.range 2).flatMap (mAll XS YS KD PT PN BG) ∧ sgq ≤ PT 0 + PT 1 ∧ mdOK XS YS FMq TMq WOq KD PT PN BG sgq MX2 HA2 ∧ mxB MX2 ∧ (∀ k, k < sgq → WOq k < 2) := hl9
  show W _ _ _ _ _ _ _ _ _ _ _ _ 0 0 _ (F0 mG 9 ls [])
  obtain ⟨l1_, l2_, l3_, l4_, l5_⟩ := hl9
  refine lv_iconst (v := iZ 0) hx hb dX10_relate_9 (by decide) ?_
  refine lv_istore_n (lv' := [(1, .int (iZ 0)), (0, .ref m0)]) hx hb dX10_relate_10 rfl hl (by decide) rfl (fun ls hl => ?_)
  refine lv_iconst (v := nI 0) hx hb dX10_relate_11 (by decide) ?_
  refine lv_istore_n (lv' := [(2, .int (nI 0)), (1, .int (iZ 0)), (0, .ref m0)]) hx hb dX10_relate_12 rfl hl (by decide) rfl (fun ls hl => ?_)
  have loop13 : ∀ (n13 : Nat) (k : Nat) (v : Int), (k ≤ 9) → (v = relF MX2 k) → 9 - k < n13 → ∀ (H : Heap) (locs : List Loc), va_P D zCl [(m0, .inr (9, [.int (nI 0), .ref kn, .ref pt, .ref pa, .ref bg, .ref xs_, .ref ys_, .int (nI sgq), .ref fr_, .ref tw, .ref wo_, .ref mt, .ref ha_, .long (lZ xa2), .long (lZ xb2), .long (lZ xc2), .long (lZ xd2), .ref zz, .int (nI ct2), .ref ov, .ref un])), (zz, .inl (dA 1, 192, .inr (.inl fun j => lZ (ZZ2 j)))), (xs_, .inl (dA 0, 4096, .inl fun j => iZ (XS j))), (ys_, .inl (dA 0, 4096, .inl fun j => iZ (YS j))), (fr_, .inl (dA 0, 4096, .inl fun j => nI (FMq j))), (tw, .inl (dA 0, 4096, .inl fun j => nI (TMq j))), (wo_, .inl (dA 0, 4096, .inl fun j => nI (WOq j))), (kn, .inl (dA 0, 2, .inl fun j => nI (KD j))), (pt, .inl (dA 0, 2, .inl fun j => nI (PT j))), (pa, .inl (dA 0, 2, .inl fun j => nI (PN j))), (bg, .inl (dA 0, 2050, .inl fun j => nI (BG j))), (ov, .inl (dA 1, 12400, .inr (.inl fun j => lZ (OV2 j)))), (un, .inl (dA 1, 12400, .inr (.inl fun j => lZ (UN2 j)))), (mt, .inl (dA 0, 9, .inl fun j => iZ (MX2 j))), (ha_, .inl (dA 2, 2, .inl fun j => bI (HA2 j)))] H → va_D A [(m0, .inr (9, [.int (nI 0), .ref kn, .ref pt, .ref pa, .ref bg, .ref xs_, .ref ys_, .int (nI sgq), .ref fr_, .ref tw, .ref wo_, .ref mt, .ref ha_, .long (lZ xa2), .long (lZ xb2), .long (lZ xc2), .long (lZ xd2), .ref zz, .int (nI ct2), .ref ov, .ref un])), (zz, .inl (dA 1, 192, .inr (.inl fun j => lZ (ZZ2 j)))), (xs_, .inl (dA 0, 4096, .inl fun j => iZ (XS j))), (ys_, .inl (dA 0, 4096, .inl fun j => iZ (YS j))), (fr_, .inl (dA 0, 4096, .inl fun j => nI (FMq j))), (tw, .inl (dA 0, 4096, .inl fun j => nI (TMq j))), (wo_, .inl (dA 0, 4096, .inl fun j => nI (WOq j))), (kn, .inl (dA 0, 2, .inl fun j => nI (KD j))), (pt, .inl (dA 0, 2, .inl fun j => nI (PT j))), (pa, .inl (dA 0, 2, .inl fun j => nI (PN j))), (bg, .inl (dA 0, 2050, .inl fun j => nI (BG j))), (ov, .inl (dA 1, 12400, .inr (.inl fun j => lZ (OV2 j)))), (un, .inl (dA 1, 12400, .inr (.inl fun j => lZ (UN2 j)))), (mt, .inl (dA 0, 9, .inl fun j => iZ (MX2 j))), (ha_, .inl (dA 2, 2, .inl fun j => bI (HA2 j)))] → va_S A sG.heap H locs → ∀ (ls : Array Slot), lv_has ls 3 [(2, .int (nI k)), (1, .int (iZ v)), (0, .ref m0)] → W pG lG eG (zRoom 9 0 0 214) sG mG [.ref m0].toArray bG tG cG H locs 0 0 (MQ bG (wrQ D (fun (u : Nat × (Nat → Nat) × (Nat → Nat) × (Nat → Nat) × Nat × (Nat → Int) × (Nat → Int) × (Nat → Int) × (Nat → Bool) × (Nat → Int) × Int × Int × Int × Int) => let sgq := u.1; let FMq := u.2.1; let TMq := u.2.2.1; let WOq := u.2.2.2.1; let ct2 := u.2.2.2.2.1; let OV2 := u.2.2.2.2.2.1; let UN2 := u.2.2.2.2.2.2.1; let MX2 := u.2.2.2.2.2.2.2.1; let HA2 := u.2.2.2.2.2.2.2.2.1; let ZZ2 := u.2.2.2.2.2.2.2.2.2.1; let xa2 := u.2.2.2.2.2.2.2.2.2.2.1; let xb2 := u.2.2.2.2.2.2.2.2.2.2.2.1; let xc2 := u.2.2.2.2.2.2.2.2.2.2.2.2.1; let xd2 := u.2.2.2.2.2.2.2.2.2.2.2.2.2; plist (sgM XS YS FMq TMq WOq) sgq = (List.range 2).flatMap (mAll XS YS KD PT PN BG) ∧ mdOK XS YS FMq TMq WOq KD PT PN BG sgq MX2 HA2 ∧ mxB MX2) (fun (u : Nat × (Nat → Nat) × (Nat → Nat) × (Nat → Nat) × Nat × (Nat → Int) × (Nat → Int) × (Nat → Int) × (Nat → Bool) × (Nat → Int) × Int × Int × Int × Int) => let sgq := u.1; let FMq := u.2.1; let TMq := u.2.2.1; let WOq := u.2.2.2.1; let ct2 := u.2.2.2.2.1; let OV2 := u.2.2.2.2.2.1; let UN2 := u.2.2.2.2.2.2.1; let MX2 := u.2.2.2.2.2.2.2.1; let HA2 := u.2.2.2.2.2.2.2.2.1; let ZZ2 := u.2.2.2.2.2.2.2.2.2.1; let xa2 := u.2.2.2.2.2.2.2.2.2.2.1; let xb2 := u.2.2.2.2.2.2.2.2.2.2.2.1; let xc2 := u.2.2.2.2.2.2.2.2.2.2.2.2.1; let xd2 := u.2.2.2.2.2.2.2.2.2.2.2.2.2; some (.int (iZ (relF MX2 9)))) (fun (u : Nat × (Nat → Nat) × (Nat → Nat) × (Nat → Nat) × Nat × (Nat → Int) × (Nat → Int) × (Nat → Int) × (Nat → Bool) × (Nat → Int) × Int × Int × Int × Int) => let sgq := u.1; let FMq := u.2.1; let TMq := u.2.2.1; let WOq := u.2.2.2.1; let ct2 := u.2.2.2.2.1; let OV2 := u.2.2.2.2.2.1; let UN2 := u.2.2.2.2.2.2.1; let MX2 := u.2.2.2.2.2.2.2.1; let HA2 := u.2.2.2.2.2.2.2.2.1; let ZZ2 := u.2.2.2.2.2.2.2.2.2.1; let xa2 := u.2.2.2.2.2.2.2.2.2.2.1; let xb2 := u.2.2.2.2.2.2.2.2.2.2.2.1; let xc2 := u.2.2.2.2.2.2.2.2.2.2.2.2.1; let xd2 := u.2.2.2.2.2.2.2.2.2.2.2.2.2; [(m0, .inr (9, [.int (nI 0), .ref kn, .ref pt, .ref pa, .ref bg, .ref xs_, .ref ys_, .int (nI sgq), .ref fr_, .ref tw, .ref wo_, .ref mt, .ref ha_, .long (lZ xa2), .long (lZ xb2), .long (lZ xc2), .long (lZ xd2), .ref zz, .int (nI ct2), .ref ov, .ref un])), (zz, .inl (dA 1, 192, .inr (.inl fun j => lZ (ZZ2 j)))), (xs_, .inl (dA 0, 4096, .inl fun j => iZ (XS j))), (ys_, .inl (dA 0, 4096, .inl fun j => iZ (YS j))), (fr_, .inl (dA 0, 4096, .inl fun j => nI (FMq j))), (tw, .inl (dA 0, 4096, .inl fun j => nI (TMq j))), (wo_, .inl (dA 0, 4096, .inl fun j => nI (WOq j))), (kn, .inl (dA 0, 2, .inl fun j => nI (KD j))), (pt, .inl (dA 0, 2, .inl fun j => nI (PT j))), (pa, .inl (dA 0, 2, .inl fun j => nI (PN j))), (bg, .inl (dA 0, 2050, .inl fun j => nI (BG j))), (ov, .inl (dA 1, 12400, .inr (.inl fun j => lZ (OV2 j)))), (un, .inl (dA 1, 12400, .inr (.inl fun j => lZ (UN2 j)))), (mt, .inl (dA 0, 9, .inl fun j => iZ (MX2 j))), (ha_, .inl (dA 2, 2, .inl fun j => bI (HA2 j)))]) A) [.ref m0].toArray sG 0 0 A) (F0 mG 13 ls []) := by
    intro n13
    induction n13 with
    | zero => intro k v i1 i2 hm; exact absurd hm (Nat.not_lt_zero _)
    | succ n13 ih13 =>
      intro k v i1 i2 hm13 H locs hP hD hS ls hl
      refine lv_iload_n hx hb dX10_relate_13 rfl (lv_at hl 0 rfl) ?_
      refine lv_bipush (v := nI 9) hx hb dX10_relate_14 (by decide) ?_
      refine zn_icmp_ge (tgt := 38) hx hb (by omega) (by decide) dX10_relate_16 (by decide) (fun c_1 => ?_) (fun c_1 => ?_)
      · skip
        refine lv_iload_n hx hb dX10_relate_38 rfl (lv_at hl 1 rfl) ?_
        exact zr_wrI (u := (sgq, FMq, TMq, WOq, ct2, OV2, UN2, MX2, HA2, ZZ2, xa2, xb2, xc2, xd2)) (congrArg (fun z => some (Value.int (iZ z))) (by rw [i2, show k = 9 by omega])) (show plist (sgM XS YS FMq TMq WOq) sgq = (List.range 2).flatMap (mAll XS YS KD PT PN BG) ∧ mdOK XS YS FMq TMq WOq KD PT PN BG sgq MX2 HA2 ∧ mxB MX2 from ⟨l1_, l3_, l4_⟩) (hP.sub [0, 1, 2, 3, 4, 5, 6, 7, 8, 9, 10, 11, 12, 13, 14] rfl) (hD.sub [0, 1, 2, 3, 4, 5, 6, 7, 8, 9, 10, 11, 12, 13, 14] (by decide) rfl) hS hx hb hr hlocks dX10_relate_39
      · skip
        refine lv_iconst (v := nI 4) hx hb dX10_relate_19 (by decide) ?_
        refine lv_iload_n hx hb dX10_relate_20 rfl (lv_at hl 1 rfl) ?_
        refine zt_n2z1 ?_
        refine zz_imul hx hb dX10_relate_21 ?_
        refine lv_aload_n hx hb dX10_relate_22 rfl (lv_at hl 2 rfl) ?_
        refine va_get (D := D) (ci := 9) (v := .ref mt) (C := RX10) (T := TX10) (N := 21) hx hb hts in_X10 hown hK.1 hP 0 rfl rfl 11 (Nat.le_of_ble_eq_true rfl) (hts _ q980) (fun _ h9 => h9) rfl dX10_relate_23 ?_
        refine lv_iload_n hx hb dX10_relate_26 rfl (lv_at hl 0 rfl) ?_
        refine zz_iaload (f := MX2) (i := k) hx hb hK.1 hP 13 0 rfl rfl (by omega) (by decide) dX10_relate_27 ?_
        refine zz_iadd hx hb dX10_relate_28 ?_
        refine lv_iconst (v := nI 1) hx hb dX10_relate_29 (by decide) ?_
        refine zt_n2z ?_
        refine zz_iadd hx hb dX10_relate_30 ?_
        refine lv_istore_n (lv' := [(1, .int (iZ ((((((4 : Nat) : Int)) * v) + (MX2 k)) + (((1 : Nat) : Int))))), (2, .int (nI k)), (0, .ref m0)]) hx hb dX10_relate_31 rfl hl (by decide) rfl (fun ls hl => ?_)
        refine lv_iinc (v := nI (k + 1)) (lv' := [(2, .int (nI (k + 1))), (1, .int (iZ ((((((4 : Nat) : Int)) * v) + (MX2 k)) + (((1 : Nat) : Int))))), (0, .ref m0)]) hx hb dX10_relate_32 hl (k := 1) rfl (nI_add _ _) (by decide) rfl (fun ls hl => ?_)
        refine lv_goto (tgt := 13) hx hb dX10_relate_35 (by decide) ?_
        exact ih13 (k + 1) ((((((4 : Nat) : Int)) * v) + (MX2 k)) + (((1 : Nat) : Int))) (by first | assumption | omega) (by rw [i2]; rfl) (by omega) _ _ (hP.sub [0, 1, 2, 3, 4, 5, 6, 7, 8, 9, 10, 11, 12, 13, 14] rfl) (hD.sub [0, 1, 2, 3, 4, 5, 6, 7, 8, 9, 10, 11, 12, 13, 14] (by decide) rfl) hS _ (lv_sub hl [0, 1, 2] rfl)
  exact loop13 (9 - 0 + 1) 0 0 (by first | assumption | omega) rfl (Nat.lt_succ_self _) _ _ (hP.sub [0, 1, 2, 3, 4, 5, 6, 7, 8, 9, 10, 11, 12, 13, 14] rfl) (hD.sub [0, 1, 2, 3, 4, 5, 6, 7, 8, 9, 10, 11, 12, 13, 14] (by decide) rfl) hS _ (lv_sub hl [0, 1, 2] rfl)
set_option maxHeartbeats 4000000 in
set_option maxRecDepth 100000 in
theorem metX10_entry_bad (lG : Launch) (D : va_G) (dA : Nat → ClassId) (m0 : Nat) (thr : Nat) (kn : Nat) (pt : Nat) (pa : Nat) (bg : Nat) (xs_ : Nat) (ys_ : Nat) (sgm : Nat) (fr_ : Nat) (tw : Nat) (wo_ : Nat) (mt : Nat) (ha_ : Nat) (x0 : Int) (y0 : Int) (dx : Int) (dy : Int) (zz : Nat) (ct : Nat) (ov : Nat) (un : Nat) (sz_ : Int) (tz : Int) (hs0 : inI sz_) (ht0 : inI tz) (hb1 : (wiZ sz_ 0 2 && wiZ tz 0 2) = false) : Wr lG yX10_entry (ws_ yX10_entry cX10_entry 3 (some .int)) 1 22 D dA [.ref m0, .int (iZ sz_), .int (iZ tz)] [(m0, .inr (9, [.int (nI thr), .ref kn, .ref pt, .ref pa, .ref bg, .ref xs_, .ref ys_, .int (nI sgm), .ref fr_, .ref tw, .ref wo_, .ref mt, .ref ha_, .long (lZ x0), .long (lZ y0), .long (lZ dx), .long (lZ dy), .ref zz, .int (nI ct), .ref ov, .ref un]))] 0 0 (fun (_u : Unit) => True) (fun (_u : Unit) => some (.int (nI 0))) (fun (_u : Unit) => [(m0, .inr (9, [.int (nI 1), .ref kn, .ref pt, .ref pa, .ref bg, .ref xs_, .ref ys_, .int (nI sgm), .ref fr_, .ref tw, .ref wo_, .ref mt, .ref ha_, .long (lZ x0), .long (lZ y0), .long (lZ dx), .long (lZ dy), .ref zz, .int (nI ct), .ref ov, .ref un]))]) := by
  refine Wr.of (by decide) (Nat.le_of_ble_eq_true rfl) ?_
  intro pG eG sG mG bG tG cG ls A hx hb hr hml hown hts hlocks hnm hP hK hD hS hA hl
  have hK1 := hK.1
  have hown : sG.vm.findClass RX10 = some mG.cls := hown
  have hl : lv_has ls 3 [(0, .ref m0), (1, .int (iZ sz_)), (2, .int (iZ tz))] := hl
  refine lv_aload_n hx hb dX10_entry_0 rfl (lv_at hl 0 rfl) ?_
  refine lv_iconst (v := nI 0) hx hb dX10_entry_1 (by decide) ?_
  refine va_put (D := D) (ci := 9) (v := .int (nI 0)) (ty := .int) (C := RX10) (T := TX10) (N := 21) hx hb hts in_X10 tyX10 tyX10_ok nmX10 hown hK.1 hP hD hS 0 rfl rfl 0 (Nat.le_of_ble_eq_true rfl) (hts _ q969) (fun _ h9 => h9) rfl (by decide +kernel) rfl rfl (Nat.le_of_ble_eq_true rfl) dX10_entry_2 (fun H locs hP hD hS => ?_)
  have hP : va_P D zCl [(m0, .inr (9, [.int (nI 0), .ref kn, .ref pt, .ref pa, .ref bg, .ref xs_, .ref ys_, .int (nI sgm), .ref fr_, .ref tw, .ref wo_, .ref mt, .ref ha_, .long (lZ x0), .long (lZ y0), .long (lZ dx), .long (lZ dy), .ref zz, .int (nI ct), .ref ov, .ref un]))] H := hP
  have hD : va_D A [(m0, .inr (9, [.int (nI 0), .ref kn, .ref pt, .ref pa, .ref bg, .ref xs_, .ref ys_, .int (nI sgm), .ref fr_, .ref tw, .ref wo_, .ref mt, .ref ha_, .long (lZ x0), .long (lZ y0), .long (lZ dx), .long (lZ dy), .ref zz, .int (nI ct), .ref ov, .ref un]))] := hD
  refine lv_iload_n hx hb dX10_entry_5 rfl (lv_at hl 1 rfl) ?_
  refine lv_iconst (v := iZ 0) hx hb dX10_entry_6 (by decide) ?_
  refine lv_iconst (v := iZ 2) hx hb dX10_entry_7 (by decide) ?_
  refine zc_roS (v := .int (bI (wiZ sz_ 0 2))) (rest := []) ⟨hx, hb, hml, hown, hts⟩ (metX10_within lG D dA sz_ 0 2 (by first | assumption | omega) (⟨by decide, by decide⟩) (⟨by decide, by decide⟩)) (va_cwS 3 hts (lw_S q1044 q1045 q80 q1046) rfl rfl rfl (by decide +kernel) ⟨Nat.le_of_ble_eq_true rfl, Nat.le_of_ble_eq_true rfl⟩) (hP.sub [] rfl) hK rfl hl.1 rfl (Nat.le_of_ble_eq_true rfl) dX10_entry_8 ⟨Nat.zero_le _, Nat.zero_le _⟩ ?_
  refine zb_if_eq (tgt := 23) hx hb dX10_entry_11 (by decide) (fun hq1 => ?_) (fun hq1 => ?_)
  · skip
    refine lv_aload_n hx hb dX10_entry_23 rfl (lv_at hl 0 rfl) ?_
    refine lv_iconst (v := nI 1) hx hb dX10_entry_24 (by decide) ?_
    refine zc_wrV (rest := []) (wr := []) ⟨hx, hb, hml, hown, hts⟩ (metX10_fail lG D dA m0 0 kn pt pa bg xs_ ys_ sgm fr_ tw wo_ mt ha_ x0 y0 dx dy zz ct ov un 1 ) (cwV 1 hts (lw_V q1047 q1049 qs29 q80 q1050) rfl rfl rfl (by decide +kernel) ⟨Nat.le_of_ble_eq_true rfl, Nat.le_of_ble_eq_true rfl⟩) (va_recv hK.1 hP (ci := 9) (q0 := 0) rfl rfl) hP hK hD hS hA [0] [] rfl rfl (by decide) (by decide) (by decide) rfl hl.1 rfl (Nat.le_of_ble_eq_true rfl) dX10_entry_25 ⟨Nat.zero_le _, Nat.zero_le _⟩ (fun u H locs hp_1 hP hD hS => ?_)
    have hP : va_P D zCl [(m0, .inr (9, [.int (nI 1), .ref kn, .ref pt, .ref pa, .ref bg, .ref xs_, .ref ys_, .int (nI sgm), .ref fr_, .ref tw, .ref wo_, .ref mt, .ref ha_, .long (lZ x0), .long (lZ y0), .long (lZ dx), .long (lZ dy), .ref zz, .int (nI ct), .ref ov, .ref un]))] H := hP
    have hD : va_D A [(m0, .inr (9, [.int (nI 1), .ref kn, .ref pt, .ref pa, .ref bg, .ref xs_, .ref ys_, .int (nI sgm), .ref fr_, .ref tw, .ref wo_, .ref mt, .ref ha_, .long (lZ x0), .long (lZ y0), .long (lZ dx), .long (lZ dy), .ref zz, .int (nI ct), .ref ov, .ref un]))] := hD
    show W _ _ _ _ _ _ _ _ _ _ _ _ 0 0 _ (F0 mG 28 ls [.int (nI 0)])
    exact zr_wrI (u := ()) rfl trivial (hP.sub [0] rfl) (hD.sub [0] (by decide) rfl) hS hx hb hr hlocks dX10_entry_28
  · skip
    refine lv_iload_n hx hb dX10_entry_14 rfl (lv_at hl 2 rfl) ?_
    refine lv_iconst (v := iZ 0) hx hb dX10_entry_15 (by decide) ?_
    refine lv_iconst (v := iZ 2) hx hb dX10_entry_16 (by decide) ?_
    refine zc_roS (v := .int (bI (wiZ tz 0 2))) (rest := []) ⟨hx, hb, hml, hown, hts⟩ (metX10_within lG D dA tz 0 2 (by first | assumption | omega) (⟨by decide, by decide⟩) (⟨by decide, by decide⟩)) (va_cwS 3 hts (lw_S q1044 q1045 q80 q1046) rfl rfl rfl (by decide +kernel) ⟨Nat.le_of_ble_eq_true rfl, Nat.le_of_ble_eq_true rfl⟩) (hP.sub [] rfl) hK rfl hl.1 rfl (Nat.le_of_ble_eq_true rfl) dX10_entry_17 ⟨Nat.zero_le _, Nat.zero_le _⟩ ?_
    refine zb_if_ne (tgt := 29) hx hb dX10_entry_20 (by decide) (fun hq2 => ?_) (fun hq2 => ?_)
    · skip
      exfalso; rw [hq1, hq2] at hb1; cases hb1
    · skip
      refine lv_aload_n hx hb dX10_entry_23 rfl (lv_at hl 0 rfl) ?_
      refine lv_iconst (v := nI 1) hx hb dX10_entry_24 (by decide) ?_
      refine zc_wrV (rest := []) (wr := []) ⟨hx, hb, hml, hown, hts⟩ (metX10_fail lG D dA m0 0 kn pt pa bg xs_ ys_ sgm fr_ tw wo_ mt ha_ x0 y0 dx dy zz ct ov un 1 ) (cwV 1 hts (lw_V q1047 q1049 qs29 q80 q1050) rfl rfl rfl (by decide +kernel) ⟨Nat.le_of_ble_eq_true rfl, Nat.le_of_ble_eq_true rfl⟩) (va_recv hK.1 hP (ci := 9) (q0 := 0) rfl rfl) hP hK hD hS hA [0] [] rfl rfl (by decide) (by decide) (by decide) rfl hl.1 rfl (Nat.le_of_ble_eq_true rfl) dX10_entry_25 ⟨Nat.zero_le _, Nat.zero_le _⟩ (fun u H locs hp_2 hP hD hS => ?_)
      have hP : va_P D zCl [(m0, .inr (9, [.int (nI 1), .ref kn, .ref pt, .ref pa, .ref bg, .ref xs_, .ref ys_, .int (nI sgm), .ref fr_, .ref tw, .ref wo_, .ref mt, .ref ha_, .long (lZ x0), .long (lZ y0), .long (lZ dx), .long (lZ dy), .ref zz, .int (nI ct), .ref ov, .ref un]))] H := hP
      have hD : va_D A [(m0, .inr (9, [.int (nI 1), .ref kn, .ref pt, .ref pa, .ref bg, .ref xs_, .ref ys_, .int (nI sgm), .ref fr_, .ref tw, .ref wo_, .ref mt, .ref ha_, .long (lZ x0), .long (lZ y0), .long (lZ dx), .long (lZ dy), .ref zz, .int (nI ct), .ref ov, .ref un]))] := hD
      show W _ _ _ _ _ _ _ _ _ _ _ _ 0 0 _ (F0 mG 28 ls [.int (nI 0)])
      exact zr_wrI (u := ()) rfl trivial (hP.sub [0] rfl) (hD.sub [0] (by decide) rfl) hS hx hb hr hlocks dX10_entry_28
set_option maxHeartbeats 4000000 in
set_option maxRecDepth 100000 in
theorem metX10_entry_ok (lG : Launch) (D : va_G) (dA : Nat → ClassId) (m0 : Nat) (thr : Nat) (kn : Nat) (pt : Nat) (pa : Nat) (bg : Nat) (xs_ : Nat) (ys_ : Nat) (sgm : Nat) (fr_ : Nat) (tw : Nat) (wo_ : Nat) (mt : Nat) (ha_ : Nat) (x0 : Int) (y0 : Int) (dx : Int) (dy : Int) (zz : Nat) (ct : Nat) (ov : Nat) (un : Nat) (ZZ : Nat → Int) (XS : Nat → Int) (YS : Nat → Int) (FM : Nat → Nat) (TM : Nat → Nat) (WO : Nat → Nat) (KD : Nat → Nat) (PT : Nat → Nat) (PN : Nat → Nat) (BG : Nat → Nat) (OV : Nat → Int) (UN : Nat → Int) (MX : Nat → Int) (HA : Nat → Bool) (ii : Nat) (jj : Nat) (hXS : ∀ k, cB (XS k)) (hYS : ∀ k, cB (YS k)) (hKD : ∀ s, s < 2 → KD s < 4) (hPT : ∀ s, s < 2 → PT s ≤ 2048) (hPN : ∀ s, s < 2 → PN s ≤ 1024) (hBG : ∀ s p, s < 2 → p < PN s → BG (1025 * s + p) ≤ PT s) (hOL : ∀ s, s < 2 → olOK (fun p => BG (1025 * s + p)) (PN s) (PT s)) (hlim : PT 0 + PT 1 ≤ 64) (hM : mxB MX) (hi : ii < 3) (hj : jj < 3) : Wr lG yX10_entry (ws_ yX10_entry cX10_entry 3 (some .int)) 9 214 D dA [.ref m0, .int (nI ii), .int (nI jj)] [(m0, .inr (9, [.int (nI thr), .ref kn, .ref pt, .ref pa, .ref bg, .ref xs_, .ref ys_, .int (nI sgm), .ref fr_, .ref tw, .ref wo_, .ref mt, .ref ha_, .long (lZ x0), .long (lZ y0), .long (lZ dx), .long (lZ dy), .ref zz, .int (nI ct), .ref ov, .ref un])), (zz, .inl (dA 1, 192, .inr (.inl fun j => lZ (ZZ j)))), (xs_, .inl (dA 0, 4096, .inl fun j => iZ (XS j))), (ys_, .inl (dA 0, 4096, .inl fun j => iZ (YS j))), (fr_, .inl (dA 0, 4096, .inl fun j => nI (FM j))), (tw, .inl (dA 0, 4096, .inl fun j => nI (TM j))), (wo_, .inl (dA 0, 4096, .inl fun j => nI (WO j))), (kn, .inl (dA 0, 2, .inl fun j => nI (KD j))), (pt, .inl (dA 0, 2, .inl fun j => nI (PT j))), (pa, .inl (dA 0, 2, .inl fun j => nI (PN j))), (bg, .inl (dA 0, 2050, .inl fun j => nI (BG j))), (ov, .inl (dA 1, 12400, .inr (.inl fun j => lZ (OV j)))), (un, .inl (dA 1, 12400, .inr (.inl fun j => lZ (UN j)))), (mt, .inl (dA 0, 9, .inl fun j => iZ (MX j))), (ha_, .inl (dA 2, 2, .inl fun j => bI (HA j)))] 0 0 (fun (u : Nat × (Nat → Nat) × (Nat → Nat) × (Nat → Nat) × Nat × (Nat → Int) × (Nat → Int) × (Nat → Int) × (Nat → Bool) × (Nat → Int) × Int × Int × Int × Int) => let sgq := u.1; let FMq := u.2.1; let TMq := u.2.2.1; let WOq := u.2.2.2.1; let ct2 := u.2.2.2.2.1; let OV2 := u.2.2.2.2.2.1; let UN2 := u.2.2.2.2.2.2.1; let MX2 := u.2.2.2.2.2.2.2.1; let HA2 := u.2.2.2.2.2.2.2.2.1; let ZZ2 := u.2.2.2.2.2.2.2.2.2.1; let xa2 := u.2.2.2.2.2.2.2.2.2.2.1; let xb2 := u.2.2.2.2.2.2.2.2.2.2.2.1; let xc2 := u.2.2.2.2.2.2.2.2.2.2.2.2.1; let xd2 := u.2.2.2.2.2.2.2.2.2.2.2.2.2; plist (sgM XS YS FMq TMq WOq) sgq = (List.range 2).flatMap (mAll XS YS KD PT PN BG) ∧ mdOK XS YS FMq TMq WOq KD PT PN BG sgq MX2 HA2 ∧ mxB MX2) (fun (u : Nat × (Nat → Nat) × (Nat → Nat) × (Nat → Nat) × Nat × (Nat → Int) × (Nat → Int) × (Nat → Int) × (Nat → Bool) × (Nat → Int) × Int × Int × Int × Int) => let sgq := u.1; let FMq := u.2.1; let TMq := u.2.2.1; let WOq := u.2.2.2.1; let ct2 := u.2.2.2.2.1; let OV2 := u.2.2.2.2.2.1; let UN2 := u.2.2.2.2.2.2.1; let MX2 := u.2.2.2.2.2.2.2.1; let HA2 := u.2.2.2.2.2.2.2.2.1; let ZZ2 := u.2.2.2.2.2.2.2.2.2.1; let xa2 := u.2.2.2.2.2.2.2.2.2.2.1; let xb2 := u.2.2.2.2.2.2.2.2.2.2.2.1; let xc2 := u.2.2.2.2.2.2.2.2.2.2.2.2.1; let xd2 := u.2.2.2.2.2.2.2.2.2.2.2.2.2; some (.int (iZ (MX2 (3 * ii + jj))))) (fun (u : Nat × (Nat → Nat) × (Nat → Nat) × (Nat → Nat) × Nat × (Nat → Int) × (Nat → Int) × (Nat → Int) × (Nat → Bool) × (Nat → Int) × Int × Int × Int × Int) => let sgq := u.1; let FMq := u.2.1; let TMq := u.2.2.1; let WOq := u.2.2.2.1; let ct2 := u.2.2.2.2.1; let OV2 := u.2.2.2.2.2.1; let UN2 := u.2.2.2.2.2.2.1; let MX2 := u.2.2.2.2.2.2.2.1; let HA2 := u.2.2.2.2.2.2.2.2.1; let ZZ2 := u.2.2.2.2.2.2.2.2.2.1; let xa2 := u.2.2.2.2.2.2.2.2.2.2.1; let xb2 := u.2.2.2.2.2.2.2.2.2.2.2.1; let xc2 := u.2.2.2.2.2.2.2.2.2.2.2.2.1; let xd2 := u.2.2.2.2.2.2.2.2.2.2.2.2.2; [(m0, .inr (9, [.int (nI 0), .ref kn, .ref pt, .ref pa, .ref bg, .ref xs_, .ref ys_, .int (nI sgq), .ref fr_, .ref tw, .ref wo_, .ref mt, .ref ha_, .long (lZ xa2), .long (lZ xb2), .long (lZ xc2), .long (lZ xd2), .ref zz, .int (nI ct2), .ref ov, .ref un])), (zz, .inl (dA 1, 192, .inr (.inl fun j => lZ (ZZ2 j)))), (xs_, .inl (dA 0, 4096, .inl fun j => iZ (XS j))), (ys_, .inl (dA 0, 4096, .inl fun j => iZ (YS j))), (fr_, .inl (dA 0, 4096, .inl fun j => nI (FMq j))), (tw, .inl (dA 0, 4096, .inl fun j => nI (TMq j))), (wo_, .inl (dA 0, 4096, .inl fun j => nI (WOq j))), (kn, .inl (dA 0, 2, .inl fun j => nI (KD j))), (pt, .inl (dA 0, 2, .inl fun j => nI (PT j))), (pa, .inl (dA 0, 2, .inl fun j => nI (PN j))), (bg, .inl (dA 0, 2050, .inl fun j => nI (BG j))), (ov, .inl (dA 1, 12400, .inr (.inl fun j => lZ (OV2 j)))), (un, .inl (dA 1, 12400, .inr (.inl fun j => lZ (UN2 j)))), (mt, .inl (dA 0, 9, .inl fun j => iZ (MX2 j))), (ha_, .inl (dA 2, 2, .inl fun j => bI (HA2 j)))]) := by
  refine Wr.of (by decide) (Nat.le_of_ble_eq_true rfl) ?_
  intro pG eG sG mG bG tG cG ls A hx hb hr hml hown hts hlocks hnm hP hK hD hS hA hl
  have hK1 := hK.1
  have hown : sG.vm.findClass RX10 = some mG.cls := hown
  have hl : lv_has ls 3 [(0, .ref m0), (1, .int (nI ii)), (2, .int (nI jj))] := hl
  refine lv_aload_n hx hb dX10_entry_0 rfl (lv_at hl 0 rfl) ?_
  refine lv_iconst (v := nI 0) hx hb dX10_entry_1 (by decide) ?_
  refine va_put (D := D) (ci := 9) (v := .int (nI 0)) (ty := .int) (C := RX10) (T := TX10) (N := 21) hx hb hts in_X10 tyX10 tyX10_ok nmX10 hown hK.1 hP hD hS 0 rfl rfl 0 (Nat.le_of_ble_eq_true rfl) (hts _ q969) (fun _ h9 => h9) rfl (by decide +kernel) rfl rfl (Nat.le_of_ble_eq_true rfl) dX10_entry_2 (fun H locs hP hD hS => ?_)
  have hP : va_P D zCl [(m0, .inr (9, [.int (nI 0), .ref kn, .ref pt, .ref pa, .ref bg, .ref xs_, .ref ys_, .int (nI sgm), .ref fr_, .ref tw, .ref wo_, .ref mt, .ref ha_, .long (lZ x0), .long (lZ y0), .long (lZ dx), .long (lZ dy), .ref zz, .int (nI ct), .ref ov, .ref un])), (zz, .inl (dA 1, 192, .inr (.inl fun j => lZ (ZZ j)))), (xs_, .inl (dA 0, 4096, .inl fun j => iZ (XS j))), (ys_, .inl (dA 0, 4096, .inl fun j => iZ (YS j))), (fr_, .inl (dA 0, 4096, .inl fun j => nI (FM j))), (tw, .inl (dA 0, 4096, .inl fun j => nI (TM j))), (wo_, .inl (dA 0, 4096, .inl fun j => nI (WO j))), (kn, .inl (dA 0, 2, .inl fun j => nI (KD j))), (pt, .inl (dA 0, 2, .inl fun j => nI (PT j))), (pa, .inl (dA 0, 2, .inl fun j => nI (PN j))), (bg, .inl (dA 0, 2050, .inl fun j => nI (BG j))), (ov, .inl (dA 1, 12400, .inr (.inl fun j => lZ (OV j)))), (un, .inl (dA 1, 12400, .inr (.inl fun j => lZ (UN j)))), (mt, .inl (dA 0, 9, .inl fun j => iZ (MX j))), (ha_, .inl (dA 2, 2, .inl fun j => bI (HA j)))] H := hP
  have hD : va_D A [(m0, .inr (9, [.int (nI 0), .ref kn, .ref pt, .ref pa, .ref bg, .ref xs_, .ref ys_, .int (nI sgm), .ref fr_, .ref tw, .ref wo_, .ref mt, .ref ha_, .long (lZ x0), .long (lZ y0), .long (lZ dx), .long (lZ dy), .ref zz, .int (nI ct), .ref ov, .ref un])), (zz, .inl (dA 1, 192, .inr (.inl fun j => lZ (ZZ j)))), (xs_, .inl (dA 0, 4096, .inl fun j => iZ (XS j))), (ys_, .inl (dA 0, 4096, .inl fun j => iZ (YS j))), (fr_, .inl (dA 0, 4096, .inl fun j => nI (FM j))), (tw, .inl (dA 0, 4096, .inl fun j => nI (TM j))), (wo_, .inl (dA 0, 4096, .inl fun j => nI (WO j))), (kn, .inl (dA 0, 2, .inl fun j => nI (KD j))), (pt, .inl (dA 0, 2, .inl fun j => nI (PT j))), (pa, .inl (dA 0, 2, .inl fun j => nI (PN j))), (bg, .inl (dA 0, 2050, .inl fun j => nI (BG j))), (ov, .inl (dA 1, 12400, .inr (.inl fun j => lZ (OV j)))), (un, .inl (dA 1, 12400, .inr (.inl fun j => lZ (UN j)))), (mt, .inl (dA 0, 9, .inl fun j => iZ (MX j))), (ha_, .inl (dA 2, 2, .inl fun j => bI (HA j)))] := hD
  refine lv_iload_n hx hb dX10_entry_5 rfl (lv_at hl 1 rfl) ?_
  refine lv_iconst (v := nI 0) hx hb dX10_entry_6 (by decide) ?_
  refine lv_iconst (v := nI 2) hx hb dX10_entry_7 (by decide) ?_
  refine zc_roS (v := .int (bI ((decide (0 ≤ ii) && decide (ii ≤ 2))))) (rest := []) ⟨hx, hb, hml, hown, hts⟩ (metX10_within_n lG D dA ii 0 2 (by first | assumption | omega) (by first | assumption | omega) (by first | assumption | omega)) (va_cwS 3 hts (lw_S q1044 q1045 q80 q1046) rfl rfl rfl (by decide +kernel) ⟨Nat.le_of_ble_eq_true rfl, Nat.le_of_ble_eq_true rfl⟩) (hP.sub [] rfl) hK rfl hl.1 rfl (Nat.le_of_ble_eq_true rfl) dX10_entry_8 ⟨Nat.zero_le _, Nat.zero_le _⟩ ?_
  refine zb_if_eq (tgt := 23) hx hb dX10_entry_11 (by decide) (fun hq1 => ?_) (fun hq1 => ?_)
  · skip
    exfalso; rw [decide_eq_true (show 0 ≤ ii by omega), decide_eq_true (show ii ≤ 2 by omega)] at hq1; cases hq1
  · skip
    refine lv_iload_n hx hb dX10_entry_14 rfl (lv_at hl 2 rfl) ?_
    refine lv_iconst (v := nI 0) hx hb dX10_entry_15 (by decide) ?_
    refine lv_iconst (v := nI 2) hx hb dX10_entry_16 (by decide) ?_
    refine zc_roS (v := .int (bI ((decide (0 ≤ jj) && decide (jj ≤ 2))))) (rest := []) ⟨hx, hb, hml, hown, hts⟩ (metX10_within_n lG D dA jj 0 2 (by first | assumption | omega) (by first | assumption | omega) (by first | assumption | omega)) (va_cwS 3 hts (lw_S q1044 q1045 q80 q1046) rfl rfl rfl (by decide +kernel) ⟨Nat.le_of_ble_eq_true rfl, Nat.le_of_ble_eq_true rfl⟩) (hP.sub [] rfl) hK rfl hl.1 rfl (Nat.le_of_ble_eq_true rfl) dX10_entry_17 ⟨Nat.zero_le _, Nat.zero_le _⟩ ?_
    refine zb_if_ne (tgt := 29) hx hb dX10_entry_20 (by decide) (fun hq2 => ?_) (fun hq2 => ?_)
    · skip
      refine lv_aload_n hx hb dX10_entry_29 rfl (lv_at hl 0 rfl) ?_
      refine zc_wrV (rest := []) (wr := []) ⟨hx, hb, hml, hown, hts⟩ (metX10_look lG D dA m0 0 kn pt pa bg xs_ ys_ sgm fr_ tw wo_ mt ha_ x0 y0 dx dy zz ct ov un ZZ XS YS FM TM WO KD PT PN BG OV UN MX HA (by first | assumption | omega) (by first | assumption | omega) (by first | assumption | omega) (by first | assumption | omega) (by first | assumption | omega) (by first | assumption | omega) (by first | assumption | omega) (by first | assumption | omega) (by first | assumption | omega)) (cwV 0 hts (lw_V q1170 q1172 qs54 q80 q1173) rfl rfl rfl (by decide +kernel) ⟨Nat.le_of_ble_eq_true rfl, Nat.le_of_ble_eq_true rfl⟩) (va_recv hK.1 hP (ci := 9) (q0 := 0) rfl rfl) hP hK hD hS hA [0, 1, 2, 3, 4, 5, 6, 7, 8, 9, 10, 11, 12, 13, 14] [] rfl rfl (by decide) (by decide) (by decide) rfl hl.1 rfl (Nat.le_of_ble_eq_true rfl) dX10_entry_30 ⟨Nat.zero_le _, Nat.zero_le _⟩ (fun u H locs hl9 hP hD hS => ?_)
      obtain ⟨sgq, FMq, TMq, WOq, ct2, OV2, UN2, MX2, HA2, ZZ2, xa2, xb2, xc2, xd2⟩ := u
      have hP : va_P D zCl [(m0, .inr (9, [.int (nI 0), .ref kn, .ref pt, .ref pa, .ref bg, .ref xs_, .ref ys_, .int (nI sgq), .ref fr_, .ref tw, .ref wo_, .ref mt, .ref ha_, .long (lZ xa2), .long (lZ xb2), .long (lZ xc2), .long (lZ xd2), .ref zz, .int (nI ct2), .ref ov, .ref un])), (zz, .inl (dA 1, 192, .inr (.inl fun j => lZ (ZZ2 j)))), (xs_, .inl (dA 0, 4096, .inl fun j => iZ (XS j))), (ys_, .inl (dA 0, 4096, .inl fun j => iZ (YS j))), (fr_, .inl (dA 0, 4096, .inl fun j => nI (FMq j))), (tw, .inl (dA 0, 4096, .inl fun j => nI (TMq j))), (wo_, .inl (dA 0, 4096, .inl fun j => nI (WOq j))), (kn, .inl (dA 0, 2, .inl fun j => nI (KD j))), (pt, .inl (dA 0, 2, .inl fun j => nI (PT j))), (pa, .inl (dA 0, 2, .inl fun j => nI (PN j))), (bg, .inl (dA 0, 2050, .inl fun j => nI (BG j))), (ov, .inl (dA 1, 12400, .inr (.inl fun j => lZ (OV2 j)))), (un, .inl (dA 1, 12400, .inr (.inl fun j => lZ (UN2 j)))), (mt, .inl (dA 0, 9, .inl fun j => iZ (MX2 j))), (ha_, .inl (dA 2, 2, .inl fun j => bI (HA2 j)))] H := hP
      have hD : va_D A [(m0, .inr (9, [.int (nI 0), .ref kn, .ref pt, .ref pa, .ref bg, .ref xs_, .ref ys_, .int (nI sgq), .ref fr_, .ref tw, .ref wo_, .ref mt, .ref ha_, .long (lZ xa2), .long (lZ xb2), .long (lZ xc2), .long (lZ xd2), .ref zz, .int (nI ct2), .ref ov, .ref un])), (zz, .inl (dA 1, 192, .inr (.inl fun j => lZ (ZZ2 j)))), (xs_, .inl (dA 0, 4096, .inl fun j => iZ (XS j))), (ys_, .inl (dA 0, 4096, .inl fun j => iZ (YS j))), (fr_, .inl (dA 0, 4096, .inl fun j => nI (FMq j))), (tw, .inl (dA 0, 4096, .inl fun j => nI (TMq j))), (wo_, .inl (dA 0, 4096, .inl fun j => nI (WOq j))), (kn, .inl (dA 0, 2, .inl fun j => nI (KD j))), (pt, .inl (dA 0, 2, .inl fun j => nI (PT j))), (pa, .inl (dA 0, 2, .inl fun j => nI (PN j))), (bg, .inl (dA 0, 2050, .inl fun j => nI (BG j))), (ov, .inl (dA 1, 12400, .inr (.inl fun j => lZ (OV2 j)))), (un, .inl (dA 1, 12400, .inr (.inl fun j => lZ (UN2 j)))), (mt, .inl (dA 0, 9, .inl fun j => iZ (MX2 j))), (ha_, .inl (dA 2, 2, .inl fun j => bI (HA2 j)))] := hD
      have hl9 : plist (sgM XS YS FMq TMq WOq) sgq = (List.range 2).flatMap (mAll XS YS KD PT PN BG) ∧ sgq ≤ PT 0 + PT 1 ∧ mdOK XS YS FMq TMq WOq KD PT PN BG sgq MX2 HA2 ∧ mxB MX2 ∧ (∀ k, k < sgq → WOq k < 2) := hl9
      show W _ _ _ _ _ _ _ _ _ _ _ _ 0 0 _ (F0 mG 33 ls [])
      obtain ⟨l1_, l2_, l3_, l4_, l5_⟩ := hl9
      refine lv_aload_n hx hb dX10_entry_33 rfl (lv_at hl 0 rfl) ?_
      refine va_get (D := D) (ci := 9) (v := .ref mt) (C := RX10) (T := TX10) (N := 21) hx hb hts in_X10 hown hK.1 hP 0 rfl rfl 11 (Nat.le_of_ble_eq_true rfl) (hts _ q980) (fun _ h9 => h9) rfl dX10_entry_34 ?_
      refine lv_iconst (v := nI 3) hx hb dX10_entry_37 (by decide) ?_
      refine lv_iload_n hx hb dX10_entry_38 rfl (lv_at hl 1 rfl) ?_
      refine zn_imul hx hb dX10_entry_39 ?_
      refine lv_iload_n hx hb dX10_entry_40 rfl (lv_at hl 2 rfl) ?_
      refine zn_iadd hx hb dX10_entry_41 ?_
      refine zz_iaload (f := MX2) (i := (3 * ii) + jj) hx hb hK.1 hP 13 0 rfl rfl (by omega) (by decide) dX10_entry_42 ?_
      exact zr_wrI (u := (sgq, FMq, TMq, WOq, ct2, OV2, UN2, MX2, HA2, ZZ2, xa2, xb2, xc2, xd2)) rfl (show plist (sgM XS YS FMq TMq WOq) sgq = (List.range 2).flatMap (mAll XS YS KD PT PN BG) ∧ mdOK XS YS FMq TMq WOq KD PT PN BG sgq MX2 HA2 ∧ mxB MX2 from ⟨l1_, l3_, l4_⟩) (hP.sub [0, 1, 2, 3, 4, 5, 6, 7, 8, 9, 10, 11, 12, 13, 14] rfl) (hD.sub [0, 1, 2, 3, 4, 5, 6, 7, 8, 9, 10, 11, 12, 13, 14] (by decide) rfl) hS hx hb hr hlocks dX10_entry_43
    · skip
      exfalso; rw [decide_eq_true (show 0 ≤ jj by omega), decide_eq_true (show jj ≤ 2 by omega)] at hq2; cases hq2
set_option maxHeartbeats 4000000 in
set_option maxRecDepth 100000 in
theorem metX10_dimension_bad1 (lG : Launch) (D : va_G) (dA : Nat → ClassId) (m0 : Nat) (thr : Nat) (kn : Nat) (pt : Nat) (pa : Nat) (bg : Nat) (xs_ : Nat) (ys_ : Nat) (sgm : Nat) (fr_ : Nat) (tw : Nat) (wo_ : Nat) (mt : Nat) (ha_ : Nat) (x0 : Int) (y0 : Int) (dx : Int) (dy : Int) (zz : Nat) (ct : Nat) (ov : Nat) (un : Nat) (sz_ : Int) (hs0 : inI sz_) (hb1 : wiZ sz_ 0 1 = false) : Wr lG yX10_dimension (ws_ yX10_dimension cX10_dimension 3 (some .int)) 2 42 D dA [.ref m0, .int (iZ sz_)] [(m0, .inr (9, [.int (nI thr), .ref kn, .ref pt, .ref pa, .ref bg, .ref xs_, .ref ys_, .int (nI sgm), .ref fr_, .ref tw, .ref wo_, .ref mt, .ref ha_, .long (lZ x0), .long (lZ y0), .long (lZ dx), .long (lZ dy), .ref zz, .int (nI ct), .ref ov, .ref un]))] 0 0 (fun (_u : Unit) => True) (fun (_u : Unit) => some (.int (nI 0))) (fun (_u : Unit) => [(m0, .inr (9, [.int (nI 1), .ref kn, .ref pt, .ref pa, .ref bg, .ref xs_, .ref ys_, .int (nI sgm), .ref fr_, .ref tw, .ref wo_, .ref mt, .ref ha_, .long (lZ x0), .long (lZ y0), .long (lZ dx), .long (lZ dy), .ref zz, .int (nI ct), .ref ov, .ref un]))]) := by
  refine Wr.of (by decide) (Nat.le_of_ble_eq_true rfl) ?_
  intro pG eG sG mG bG tG cG ls A hx hb hr hml hown hts hlocks hnm hP hK hD hS hA hl
  have hK1 := hK.1
  have hown : sG.vm.findClass RX10 = some mG.cls := hown
  have hl : lv_has ls 3 [(0, .ref m0), (1, .int (iZ sz_))] := hl
  refine lv_aload_n hx hb dX10_dimension_0 rfl (lv_at hl 0 rfl) ?_
  refine lv_iconst (v := nI 0) hx hb dX10_dimension_1 (by decide) ?_
  refine va_put (D := D) (ci := 9) (v := .int (nI 0)) (ty := .int) (C := RX10) (T := TX10) (N := 21) hx hb hts in_X10 tyX10 tyX10_ok nmX10 hown hK.1 hP hD hS 0 rfl rfl 0 (Nat.le_of_ble_eq_true rfl) (hts _ q969) (fun _ h9 => h9) rfl (by decide +kernel) rfl rfl (Nat.le_of_ble_eq_true rfl) dX10_dimension_2 (fun H locs hP hD hS => ?_)
  have hP : va_P D zCl [(m0, .inr (9, [.int (nI 0), .ref kn, .ref pt, .ref pa, .ref bg, .ref xs_, .ref ys_, .int (nI sgm), .ref fr_, .ref tw, .ref wo_, .ref mt, .ref ha_, .long (lZ x0), .long (lZ y0), .long (lZ dx), .long (lZ dy), .ref zz, .int (nI ct), .ref ov, .ref un]))] H := hP
  have hD : va_D A [(m0, .inr (9, [.int (nI 0), .ref kn, .ref pt, .ref pa, .ref bg, .ref xs_, .ref ys_, .int (nI sgm), .ref fr_, .ref tw, .ref wo_, .ref mt, .ref ha_, .long (lZ x0), .long (lZ y0), .long (lZ dx), .long (lZ dy), .ref zz, .int (nI ct), .ref ov, .ref un]))] := hD
  refine lv_iload_n hx hb dX10_dimension_5 rfl (lv_at hl 1 rfl) ?_
  refine zc_roS (v := .int (bI (wiZ sz_ 0 1))) (rest := []) ⟨hx, hb, hml, hown, hts⟩ (metX10_isShape lG D dA sz_ (by first | assumption | omega)) (va_cwS 1 hts (lw_S q1041 q1042 q80 q1043) rfl rfl rfl (by decide +kernel) ⟨Nat.le_of_ble_eq_true rfl, Nat.le_of_ble_eq_true rfl⟩) (hP.sub [] rfl) hK rfl hl.1 rfl (Nat.le_of_ble_eq_true rfl) dX10_dimension_6 ⟨Nat.zero_le _, Nat.zero_le _⟩ ?_
  refine zb_if_ne (tgt := 18) hx hb dX10_dimension_9 (by decide) (fun hq1 => ?_) (fun hq1 => ?_)
  · skip
    exfalso; rw [hb1] at hq1; cases hq1
  · skip
    refine lv_aload_n hx hb dX10_dimension_12 rfl (lv_at hl 0 rfl) ?_
    refine lv_iconst (v := nI 1) hx hb dX10_dimension_13 (by decide) ?_
    refine zc_wrV (rest := []) (wr := []) ⟨hx, hb, hml, hown, hts⟩ (metX10_fail lG D dA m0 0 kn pt pa bg xs_ ys_ sgm fr_ tw wo_ mt ha_ x0 y0 dx dy zz ct ov un 1 ) (cwV 1 hts (lw_V q1047 q1049 qs29 q80 q1050) rfl rfl rfl (by decide +kernel) ⟨Nat.le_of_ble_eq_true rfl, Nat.le_of_ble_eq_true rfl⟩) (va_recv hK.1 hP (ci := 9) (q0 := 0) rfl rfl) hP hK hD hS hA [0] [] rfl rfl (by decide) (by decide) (by decide) rfl hl.1 rfl (Nat.le_of_ble_eq_true rfl) dX10_dimension_14 ⟨Nat.zero_le _, Nat.zero_le _⟩ (fun u H locs hp_1 hP hD hS => ?_)
    have hP : va_P D zCl [(m0, .inr (9, [.int (nI 1), .ref kn, .ref pt, .ref pa, .ref bg, .ref xs_, .ref ys_, .int (nI sgm), .ref fr_, .ref tw, .ref wo_, .ref mt, .ref ha_, .long (lZ x0), .long (lZ y0), .long (lZ dx), .long (lZ dy), .ref zz, .int (nI ct), .ref ov, .ref un]))] H := hP
    have hD : va_D A [(m0, .inr (9, [.int (nI 1), .ref kn, .ref pt, .ref pa, .ref bg, .ref xs_, .ref ys_, .int (nI sgm), .ref fr_, .ref tw, .ref wo_, .ref mt, .ref ha_, .long (lZ x0), .long (lZ y0), .long (lZ dx), .long (lZ dy), .ref zz, .int (nI ct), .ref ov, .ref un]))] := hD
    show W _ _ _ _ _ _ _ _ _ _ _ _ 0 0 _ (F0 mG 17 ls [.int (nI 0)])
    exact zr_wrI (u := ()) rfl trivial (hP.sub [0] rfl) (hD.sub [0] (by decide) rfl) hS hx hb hr hlocks dX10_dimension_17
set_option maxHeartbeats 4000000 in
set_option maxRecDepth 100000 in
theorem metX10_dimension_ok (lG : Launch) (D : va_G) (dA : Nat → ClassId) (m0 : Nat) (thr : Nat) (kn : Nat) (pt : Nat) (pa : Nat) (bg : Nat) (xs_ : Nat) (ys_ : Nat) (sgm : Nat) (fr_ : Nat) (tw : Nat) (wo_ : Nat) (mt : Nat) (ha_ : Nat) (x0 : Int) (y0 : Int) (dx : Int) (dy : Int) (zz : Nat) (ct : Nat) (ov : Nat) (un : Nat) (ZZ : Nat → Int) (XS : Nat → Int) (YS : Nat → Int) (FM : Nat → Nat) (TM : Nat → Nat) (WO : Nat → Nat) (KD : Nat → Nat) (PT : Nat → Nat) (PN : Nat → Nat) (BG : Nat → Nat) (OV : Nat → Int) (UN : Nat → Int) (MX : Nat → Int) (HA : Nat → Bool) (w : Nat) (hXS : ∀ k, cB (XS k)) (hYS : ∀ k, cB (YS k)) (hKD : ∀ s, s < 2 → KD s < 4) (hPT : ∀ s, s < 2 → PT s ≤ 2048) (hPN : ∀ s, s < 2 → PN s ≤ 1024) (hBG : ∀ s p, s < 2 → p < PN s → BG (1025 * s + p) ≤ PT s) (hOL : ∀ s, s < 2 → olOK (fun p => BG (1025 * s + p)) (PN s) (PT s)) (hlim : PT 0 + PT 1 ≤ 64) (hM : mxB MX) (hw : w < 2) : Wr lG yX10_dimension (ws_ yX10_dimension cX10_dimension 3 (some .int)) 9 214 D dA [.ref m0, .int (nI w)] [(m0, .inr (9, [.int (nI thr), .ref kn, .ref pt, .ref pa, .ref bg, .ref xs_, .ref ys_, .int (nI sgm), .ref fr_, .ref tw, .ref wo_, .ref mt, .ref ha_, .long (lZ x0), .long (lZ y0), .long (lZ dx), .long (lZ dy), .ref zz, .int (nI ct), .ref ov, .ref un])), (zz, .inl (dA 1, 192, .inr (.inl fun j => lZ (ZZ j)))), (xs_, .inl (dA 0, 4096, .inl fun j => iZ (XS j))), (ys_, .inl (dA 0, 4096, .inl fun j => iZ (YS j))), (fr_, .inl (dA 0, 4096, .inl fun j => nI (FM j))), (tw, .inl (dA 0, 4096, .inl fun j => nI (TM j))), (wo_, .inl (dA 0, 4096, .inl fun j => nI (WO j))), (kn, .inl (dA 0, 2, .inl fun j => nI (KD j))), (pt, .inl (dA 0, 2, .inl fun j => nI (PT j))), (pa, .inl (dA 0, 2, .inl fun j => nI (PN j))), (bg, .inl (dA 0, 2050, .inl fun j => nI (BG j))), (ov, .inl (dA 1, 12400, .inr (.inl fun j => lZ (OV j)))), (un, .inl (dA 1, 12400, .inr (.inl fun j => lZ (UN j)))), (mt, .inl (dA 0, 9, .inl fun j => iZ (MX j))), (ha_, .inl (dA 2, 2, .inl fun j => bI (HA j)))] 0 0 (fun (u : Nat × (Nat → Nat) × (Nat → Nat) × (Nat → Nat) × Nat × (Nat → Int) × (Nat → Int) × (Nat → Int) × (Nat → Bool) × (Nat → Int) × Int × Int × Int × Int) => let sgq := u.1; let FMq := u.2.1; let TMq := u.2.2.1; let WOq := u.2.2.2.1; let ct2 := u.2.2.2.2.1; let OV2 := u.2.2.2.2.2.1; let UN2 := u.2.2.2.2.2.2.1; let MX2 := u.2.2.2.2.2.2.2.1; let HA2 := u.2.2.2.2.2.2.2.2.1; let ZZ2 := u.2.2.2.2.2.2.2.2.2.1; let xa2 := u.2.2.2.2.2.2.2.2.2.2.1; let xb2 := u.2.2.2.2.2.2.2.2.2.2.2.1; let xc2 := u.2.2.2.2.2.2.2.2.2.2.2.2.1; let xd2 := u.2.2.2.2.2.2.2.2.2.2.2.2.2; plist (sgM XS YS FMq TMq WOq) sgq = (List.range 2).flatMap (mAll XS YS KD PT PN BG) ∧ mdOK XS YS FMq TMq WOq KD PT PN BG sgq MX2 HA2 ∧ mxB MX2) (fun (u : Nat × (Nat → Nat) × (Nat → Nat) × (Nat → Nat) × Nat × (Nat → Int) × (Nat → Int) × (Nat → Int) × (Nat → Bool) × (Nat → Int) × Int × Int × Int × Int) => let sgq := u.1; let FMq := u.2.1; let TMq := u.2.2.1; let WOq := u.2.2.2.1; let ct2 := u.2.2.2.2.1; let OV2 := u.2.2.2.2.2.1; let UN2 := u.2.2.2.2.2.2.1; let MX2 := u.2.2.2.2.2.2.2.1; let HA2 := u.2.2.2.2.2.2.2.2.1; let ZZ2 := u.2.2.2.2.2.2.2.2.2.1; let xa2 := u.2.2.2.2.2.2.2.2.2.2.1; let xb2 := u.2.2.2.2.2.2.2.2.2.2.2.1; let xc2 := u.2.2.2.2.2.2.2.2.2.2.2.2.1; let xd2 := u.2.2.2.2.2.2.2.2.2.2.2.2.2; some (.int (iZ (dimM KD PT WOq HA2 sgq w)))) (fun (u : Nat × (Nat → Nat) × (Nat → Nat) × (Nat → Nat) × Nat × (Nat → Int) × (Nat → Int) × (Nat → Int) × (Nat → Bool) × (Nat → Int) × Int × Int × Int × Int) => let sgq := u.1; let FMq := u.2.1; let TMq := u.2.2.1; let WOq := u.2.2.2.1; let ct2 := u.2.2.2.2.1; let OV2 := u.2.2.2.2.2.1; let UN2 := u.2.2.2.2.2.2.1; let MX2 := u.2.2.2.2.2.2.2.1; let HA2 := u.2.2.2.2.2.2.2.2.1; let ZZ2 := u.2.2.2.2.2.2.2.2.2.1; let xa2 := u.2.2.2.2.2.2.2.2.2.2.1; let xb2 := u.2.2.2.2.2.2.2.2.2.2.2.1; let xc2 := u.2.2.2.2.2.2.2.2.2.2.2.2.1; let xd2 := u.2.2.2.2.2.2.2.2.2.2.2.2.2; [(m0, .inr (9, [.int (nI 0), .ref kn, .ref pt, .ref pa, .ref bg, .ref xs_, .ref ys_, .int (nI sgq), .ref fr_, .ref tw, .ref wo_, .ref mt, .ref ha_, .long (lZ xa2), .long (lZ xb2), .long (lZ xc2), .long (lZ xd2), .ref zz, .int (nI ct2), .ref ov, .ref un])), (zz, .inl (dA 1, 192, .inr (.inl fun j => lZ (ZZ2 j)))), (xs_, .inl (dA 0, 4096, .inl fun j => iZ (XS j))), (ys_, .inl (dA 0, 4096, .inl fun j => iZ (YS j))), (fr_, .inl (dA 0, 4096, .inl fun j => nI (FMq j))), (tw, .inl (dA 0, 4096, .inl fun j => nI (TMq j))), (wo_, .inl (dA 0, 4096, .inl fun j => nI (WOq j))), (kn, .inl (dA 0, 2, .inl fun j => nI (KD j))), (pt, .inl (dA 0, 2, .inl fun j => nI (PT j))), (pa, .inl (dA 0, 2, .inl fun j => nI (PN j))), (bg, .inl (dA 0, 2050, .inl fun j => nI (BG j))), (ov, .inl (dA 1, 12400, .inr (.inl fun j => lZ (OV2 j)))), (un, .inl (dA 1, 12400, .inr (.inl fun j => lZ (UN2 j)))), (mt, .inl (dA 0, 9, .inl fun j => iZ (MX2 j))), (ha_, .inl (dA 2, 2, .inl fun j => bI (HA2 j)))]) := by
  refine Wr.of (by decide) (Nat.le_of_ble_eq_true rfl) ?_
  intro pG eG sG mG bG tG cG ls A hx hb hr hml hown hts hlocks hnm hP hK hD hS hA hl
  have hK1 := hK.1
  have hown : sG.vm.findClass RX10 = some mG.cls := hown
  have hl : lv_has ls 3 [(0, .ref m0), (1, .int (nI w))] := hl
  refine lv_aload_n hx hb dX10_dimension_0 rfl (lv_at hl 0 rfl) ?_
  refine lv_iconst (v := nI 0) hx hb dX10_dimension_1 (by decide) ?_
  refine va_put (D := D) (ci := 9) (v := .int (nI 0)) (ty := .int) (C := RX10) (T := TX10) (N := 21) hx hb hts in_X10 tyX10 tyX10_ok nmX10 hown hK.1 hP hD hS 0 rfl rfl 0 (Nat.le_of_ble_eq_true rfl) (hts _ q969) (fun _ h9 => h9) rfl (by decide +kernel) rfl rfl (Nat.le_of_ble_eq_true rfl) dX10_dimension_2 (fun H locs hP hD hS => ?_)
  have hP : va_P D zCl [(m0, .inr (9, [.int (nI 0), .ref kn, .ref pt, .ref pa, .ref bg, .ref xs_, .ref ys_, .int (nI sgm), .ref fr_, .ref tw, .ref wo_, .ref mt, .ref ha_, .long (lZ x0), .long (lZ y0), .long (lZ dx), .long (lZ dy), .ref zz, .int (nI ct), .ref ov, .ref un])), (zz, .inl (dA 1, 192, .inr (.inl fun j => lZ (ZZ j)))), (xs_, .inl (dA 0, 4096, .inl fun j => iZ (XS j))), (ys_, .inl (dA 0, 4096, .inl fun j => iZ (YS j))), (fr_, .inl (dA 0, 4096, .inl fun j => nI (FM j))), (tw, .inl (dA 0, 4096, .inl fun j => nI (TM j))), (wo_, .inl (dA 0, 4096, .inl fun j => nI (WO j))), (kn, .inl (dA 0, 2, .inl fun j => nI (KD j))), (pt, .inl (dA 0, 2, .inl fun j => nI (PT j))), (pa, .inl (dA 0, 2, .inl fun j => nI (PN j))), (bg, .inl (dA 0, 2050, .inl fun j => nI (BG j))), (ov, .inl (dA 1, 12400, .inr (.inl fun j => lZ (OV j)))), (un, .inl (dA 1, 12400, .inr (.inl fun j => lZ (UN j)))), (mt, .inl (dA 0, 9, .inl fun j => iZ (MX j))), (ha_, .inl (dA 2, 2, .inl fun j => bI (HA j)))] H := hP
  have hD : va_D A [(m0, .inr (9, [.int (nI 0), .ref kn, .ref pt, .ref pa, .ref bg, .ref xs_, .ref ys_, .int (nI sgm), .ref fr_, .ref tw, .ref wo_, .ref mt, .ref ha_, .long (lZ x0), .long (lZ y0), .long (lZ dx), .long (lZ dy), .ref zz, .int (nI ct), .ref ov, .ref un])), (zz, .inl (dA 1, 192, .inr (.inl fun j => lZ (ZZ j)))), (xs_, .inl (dA 0, 4096, .inl fun j => iZ (XS j))), (ys_, .inl (dA 0, 4096, .inl fun j => iZ (YS j))), (fr_, .inl (dA 0, 4096, .inl fun j => nI (FM j))), (tw, .inl (dA 0, 4096, .inl fun j => nI (TM j))), (wo_, .inl (dA 0, 4096, .inl fun j => nI (WO j))), (kn, .inl (dA 0, 2, .inl fun j => nI (KD j))), (pt, .inl (dA 0, 2, .inl fun j => nI (PT j))), (pa, .inl (dA 0, 2, .inl fun j => nI (PN j))), (bg, .inl (dA 0, 2050, .inl fun j => nI (BG j))), (ov, .inl (dA 1, 12400, .inr (.inl fun j => lZ (OV j)))), (un, .inl (dA 1, 12400, .inr (.inl fun j => lZ (UN j)))), (mt, .inl (dA 0, 9, .inl fun j => iZ (MX j))), (ha_, .inl (dA 2, 2, .inl fun j => bI (HA j)))] := hD
  refine lv_iload_n hx hb dX10_dimension_5 rfl (lv_at hl 1 rfl) ?_
  refine zc_roS (v := .int (bI true)) (rest := []) ⟨hx, hb, hml, hown, hts⟩ (metX10_isShape_n lG D dA w (by first | assumption | omega)) (va_cwS 1 hts (lw_S q1041 q1042 q80 q1043) rfl rfl rfl (by decide +kernel) ⟨Nat.le_of_ble_eq_true rfl, Nat.le_of_ble_eq_true rfl⟩) (hP.sub [] rfl) hK rfl hl.1 rfl (Nat.le_of_ble_eq_true rfl) dX10_dimension_6 ⟨Nat.zero_le _, Nat.zero_le _⟩ ?_
  refine zb_if_ne (tgt := 18) hx hb dX10_dimension_9 (by decide) (fun c_1 => ?_) (fun c_1 => ?_)
  · skip
    refine lv_aload_n hx hb dX10_dimension_18 rfl (lv_at hl 0 rfl) ?_
    refine zc_wrV (rest := []) (wr := []) ⟨hx, hb, hml, hown, hts⟩ (metX10_look lG D dA m0 0 kn pt pa bg xs_ ys_ sgm fr_ tw wo_ mt ha_ x0 y0 dx dy zz ct ov un ZZ XS YS FM TM WO KD PT PN BG OV UN MX HA (by first | assumption | omega) (by first | assumption | omega) (by first | assumption | omega) (by first | assumption | omega) (by first | assumption | omega) (by first | assumption | omega) (by first | assumption | omega) (by first | assumption | omega) (by first | assumption | omega)) (cwV 0 hts (lw_V q1170 q1172 qs54 q80 q1173) rfl rfl rfl (by decide +kernel) ⟨Nat.le_of_ble_eq_true rfl, Nat.le_of_ble_eq_true rfl⟩) (va_recv hK.1 hP (ci := 9) (q0 := 0) rfl rfl) hP hK hD hS hA [0, 1, 2, 3, 4, 5, 6, 7, 8, 9, 10, 11, 12, 13, 14] [] rfl rfl (by decide) (by decide) (by decide) rfl hl.1 rfl (Nat.le_of_ble_eq_true rfl) dX10_dimension_19 ⟨Nat.zero_le _, Nat.zero_le _⟩ (fun u H locs hl9 hP hD hS => ?_)
    obtain ⟨sgq, FMq, TMq, WOq, ct2, OV2, UN2, MX2, HA2, ZZ2, xa2, xb2, xc2, xd2⟩ := u
    have hP : va_P D zCl [(m0, .inr (9, [.int (nI 0), .ref kn, .ref pt, .ref pa, .ref bg, .ref xs_, .ref ys_, .int (nI sgq), .ref fr_, .ref tw, .ref wo_, .ref mt, .ref ha_, .long (lZ xa2), .long (lZ xb2), .long (lZ xc2), .long (lZ xd2), .ref zz, .int (nI ct2), .ref ov, .ref un])), (zz, .inl (dA 1, 192, .inr (.inl fun j => lZ (ZZ2 j)))), (xs_, .inl (dA 0, 4096, .inl fun j => iZ (XS j))), (ys_, .inl (dA 0, 4096, .inl fun j => iZ (YS j))), (fr_, .inl (dA 0, 4096, .inl fun j => nI (FMq j))), (tw, .inl (dA 0, 4096, .inl fun j => nI (TMq j))), (wo_, .inl (dA 0, 4096, .inl fun j => nI (WOq j))), (kn, .inl (dA 0, 2, .inl fun j => nI (KD j))), (pt, .inl (dA 0, 2, .inl fun j => nI (PT j))), (pa, .inl (dA 0, 2, .inl fun j => nI (PN j))), (bg, .inl (dA 0, 2050, .inl fun j => nI (BG j))), (ov, .inl (dA 1, 12400, .inr (.inl fun j => lZ (OV2 j)))), (un, .inl (dA 1, 12400, .inr (.inl fun j => lZ (UN2 j)))), (mt, .inl (dA 0, 9, .inl fun j => iZ (MX2 j))), (ha_, .inl (dA 2, 2, .inl fun j => bI (HA2 j)))] H := hP
    have hD : va_D A [(m0, .inr (9, [.int (nI 0), .ref kn, .ref pt, .ref pa, .ref bg, .ref xs_, .ref ys_, .int (nI sgq), .ref fr_, .ref tw, .ref wo_, .ref mt, .ref ha_, .long (lZ xa2), .long (lZ xb2), .long (lZ xc2), .long (lZ xd2), .ref zz, .int (nI ct2), .ref ov, .ref un])), (zz, .inl (dA 1, 192, .inr (.inl fun j => lZ (ZZ2 j)))), (xs_, .inl (dA 0, 4096, .inl fun j => iZ (XS j))), (ys_, .inl (dA 0, 4096, .inl fun j => iZ (YS j))), (fr_, .inl (dA 0, 4096, .inl fun j => nI (FMq j))), (tw, .inl (dA 0, 4096, .inl fun j => nI (TMq j))), (wo_, .inl (dA 0, 4096, .inl fun j => nI (WOq j))), (kn, .inl (dA 0, 2, .inl fun j => nI (KD j))), (pt, .inl (dA 0, 2, .inl fun j => nI (PT j))), (pa, .inl (dA 0, 2, .inl fun j => nI (PN j))), (bg, .inl (dA 0, 2050, .inl fun j => nI (BG j))), (ov, .inl (dA 1, 12400, .inr (.inl fun j => lZ (OV2 j)))), (un, .inl (dA 1, 12400, .inr (.inl fun j => lZ (UN2 j)))), (mt, .inl (dA 0, 9, .inl fun j => iZ (MX2 j))), (ha_, .inl (dA 2, 2, .inl fun j => bI (HA2 j)))] := hD
    have hl9 : plist (sgM XS YS FMq TMq WOq) sgq = (List.range 2).flatMap (mAll XS YS KD PT PN BG) ∧ sgq ≤ PT 0 + PT 1 ∧ mdOK XS YS FMq TMq WOq KD PT PN BG sgq MX2 HA2 ∧ mxB MX2 ∧ (∀ k, k < sgq → WOq k < 2) := hl9
    show W _ _ _ _ _ _ _ _ _ _ _ _ 0 0 _ (F0 mG 22 ls [])
    obtain ⟨l1_, l2_, l3_, l4_, l5_⟩ := hl9
    refine lv_aload_n hx hb dX10_dimension_22 rfl (lv_at hl 0 rfl) ?_
    refine lv_iload_n hx hb dX10_dimension_23 rfl (lv_at hl 1 rfl) ?_
    refine zc_roV (v := .int (iZ (inM KD PT WOq HA2 sgq w))) (rest := []) ⟨hx, hb, hml, hown, hts⟩ (metX10_insideOf lG D dA m0 0 kn pt pa bg xs_ ys_ sgq fr_ tw wo_ mt ha_ xa2 xb2 xc2 xd2 zz ct2 ov un KD PT WOq HA2 w (by first | assumption | omega) (by first | assumption | omega) (by first | assumption | omega) (by first | assumption | omega) (by first | assumption | omega)) (cwV 1 hts (lw_V q1221 q1223 qs64 q80 q1224) rfl rfl rfl (by decide +kernel) ⟨Nat.le_of_ble_eq_true rfl, Nat.le_of_ble_eq_true rfl⟩) (va_recv hK.1 hP (ci := 9) (q0 := 0) rfl rfl) (hP.sub [0, 7, 8, 6, 14] rfl) hK rfl hl.1 rfl (Nat.le_of_ble_eq_true rfl) dX10_dimension_24 ⟨Nat.zero_le _, Nat.zero_le _⟩ ?_
    refine lv_istore_n (lv' := [(2, .int (iZ (inM KD PT WOq HA2 sgq w))), (0, .ref m0), (1, .int (nI w))]) hx hb dX10_dimension_27 rfl hl (by decide) rfl (fun ls hl => ?_)
    refine lv_iload_n hx hb dX10_dimension_28 rfl (lv_at hl 0 rfl) ?_
    refine zz_if_ge (tgt := 44) hx hb (by have := inM_B (KD := KD) (PT := PT) (WO := WOq) (HA := HA2) (n := sgq) (s := w); exact ⟨by omega, by omega⟩) dX10_dimension_29 (by decide) (fun c_2 => ?_) (fun c_2 => ?_)
    · skip
      refine lv_iload_n hx hb dX10_dimension_44 rfl (lv_at hl 0 rfl) ?_
      exact zr_wrI (u := (sgq, FMq, TMq, WOq, ct2, OV2, UN2, MX2, HA2, ZZ2, xa2, xb2, xc2, xd2)) (congrArg (fun z => some (Value.int (iZ z))) (by first | exact dim_t (by assumption) (by assumption) | exact dim_a (by assumption) | exact dim_b (by assumption))) (show plist (sgM XS YS FMq TMq WOq) sgq = (List.range 2).flatMap (mAll XS YS KD PT PN BG) ∧ mdOK XS YS FMq TMq WOq KD PT PN BG sgq MX2 HA2 ∧ mxB MX2 from ⟨l1_, l3_, l4_⟩) (hP.sub [0, 1, 2, 3, 4, 5, 6, 7, 8, 9, 10, 11, 12, 13, 14] rfl) (hD.sub [0, 1, 2, 3, 4, 5, 6, 7, 8, 9, 10, 11, 12, 13, 14] (by decide) rfl) hS hx hb hr hlocks dX10_dimension_45
    · skip
      refine lv_aload_n hx hb dX10_dimension_32 rfl (lv_at hl 1 rfl) ?_
      refine lv_iload_n hx hb dX10_dimension_33 rfl (lv_at hl 2 rfl) ?_
      refine zc_roV (v := .int (bI (hsM WOq sgq w))) (rest := []) ⟨hx, hb, hml, hown, hts⟩ (metX10_hasSegments lG D dA m0 0 kn pt pa bg xs_ ys_ sgq fr_ tw wo_ mt ha_ xa2 xb2 xc2 xd2 zz ct2 ov un WOq w (by first | assumption | omega) (by first | assumption | omega) (by first | assumption | omega)) (cwV 1 hts (lw_V q1225 q1227 qs65 q80 q1228) rfl rfl rfl (by decide +kernel) ⟨Nat.le_of_ble_eq_true rfl, Nat.le_of_ble_eq_true rfl⟩) (va_recv hK.1 hP (ci := 9) (q0 := 0) rfl rfl) (hP.sub [0, 6] rfl) hK rfl hl.1 rfl (Nat.le_of_ble_eq_true rfl) dX10_dimension_34 ⟨Nat.zero_le _, Nat.zero_le _⟩ ?_
      refine zb_if_eq (tgt := 44) hx hb dX10_dimension_37 (by decide) (fun c_3 => ?_) (fun c_3 => ?_)
      · skip
        refine lv_iload_n hx hb dX10_dimension_44 rfl (lv_at hl 0 rfl) ?_
        exact zr_wrI (u := (sgq, FMq, TMq, WOq, ct2, OV2, UN2, MX2, HA2, ZZ2, xa2, xb2, xc2, xd2)) (congrArg (fun z => some (Value.int (iZ z))) (by first | exact dim_t (by assumption) (by assumption) | exact dim_a (by assumption) | exact dim_b (by assumption))) (show plist (sgM XS YS FMq TMq WOq) sgq = (List.range 2).flatMap (mAll XS YS KD PT PN BG) ∧ mdOK XS YS FMq TMq WOq KD PT PN BG sgq MX2 HA2 ∧ mxB MX2 from ⟨l1_, l3_, l4_⟩) (hP.sub [0, 1, 2, 3, 4, 5, 6, 7, 8, 9, 10, 11, 12, 13, 14] rfl) (hD.sub [0, 1, 2, 3, 4, 5, 6, 7, 8, 9, 10, 11, 12, 13, 14] (by decide) rfl) hS hx hb hr hlocks dX10_dimension_45
      · skip
        refine lv_iconst (v := iZ 1) hx hb dX10_dimension_40 (by decide) ?_
        refine lv_goto (tgt := 45) hx hb dX10_dimension_41 (by decide) ?_
        exact zr_wrI (u := (sgq, FMq, TMq, WOq, ct2, OV2, UN2, MX2, HA2, ZZ2, xa2, xb2, xc2, xd2)) (congrArg (fun z => some (Value.int (iZ z))) (by first | exact dim_t (by assumption) (by assumption) | exact dim_a (by assumption) | exact dim_b (by assumption))) (show plist (sgM XS YS FMq TMq WOq) sgq = (List.range 2).flatMap (mAll XS YS KD PT PN BG) ∧ mdOK XS YS FMq TMq WOq KD PT PN BG sgq MX2 HA2 ∧ mxB MX2 from ⟨l1_, l3_, l4_⟩) (hP.sub [0, 1, 2, 3, 4, 5, 6, 7, 8, 9, 10, 11, 12, 13, 14] rfl) (hD.sub [0, 1, 2, 3, 4, 5, 6, 7, 8, 9, 10, 11, 12, 13, 14] (by decide) rfl) hS hx hb hr hlocks dX10_dimension_45
  · skip
    exfalso; contradiction
set_option maxHeartbeats 4000000 in
set_option maxRecDepth 100000 in
theorem metX10_count_bad (lG : Launch) (D : va_G) (dA : Nat → ClassId) (m0 : Nat) (thr : Nat) (kn : Nat) (pt : Nat) (pa : Nat) (bg : Nat) (xs_ : Nat) (ys_ : Nat) (sgm : Nat) (fr_ : Nat) (tw : Nat) (wo_ : Nat) (mt : Nat) (ha_ : Nat) (x0 : Int) (y0 : Int) (dx : Int) (dy : Int) (zz : Nat) (ct : Nat) (ov : Nat) (un : Nat) (sz_ : Int) (tz : Int) (hs0 : inI sz_) (ht0 : inI tz) (hb1 : (wiZ sz_ 0 1 && wiZ tz 0 2) = false) : Wr lG yX10_count (ws_ yX10_count cX10_count 3 (some .int)) 2 42 D dA [.ref m0, .int (iZ sz_), .int (iZ tz)] [(m0, .inr (9, [.int (nI thr), .ref kn, .ref pt, .ref pa, .ref bg, .ref xs_, .ref ys_, .int (nI sgm), .ref fr_, .ref tw, .ref wo_, .ref mt, .ref ha_, .long (lZ x0), .long (lZ y0), .long (lZ dx), .long (lZ dy), .ref zz, .int (nI ct), .ref ov, .ref un]))] 0 0 (fun (_u : Unit) => True) (fun (_u : Unit) => some (.int (nI 0))) (fun (_u : Unit) => [(m0, .inr (9, [.int (nI 1), .ref kn, .ref pt, .ref pa, .ref bg, .ref xs_, .ref ys_, .int (nI sgm), .ref fr_, .ref tw, .ref wo_, .ref mt, .ref ha_, .long (lZ x0), .long (lZ y0), .long (lZ dx), .long (lZ dy), .ref zz, .int (nI ct), .ref ov, .ref un]))]) := by
  refine Wr.of (by decide) (Nat.le_of_ble_eq_true rfl) ?_
  intro pG eG sG mG bG tG cG ls A hx hb hr hml hown hts hlocks hnm hP hK hD hS hA hl
  have hK1 := hK.1
  have hown : sG.vm.findClass RX10 = some mG.cls := hown
  have hl : lv_has ls 3 [(0, .ref m0), (1, .int (iZ sz_)), (2, .int (iZ tz))] := hl
  refine lv_aload_n hx hb dX10_count_0 rfl (lv_at hl 0 rfl) ?_
  refine lv_iconst (v := nI 0) hx hb dX10_count_1 (by decide) ?_
  refine va_put (D := D) (ci := 9) (v := .int (nI 0)) (ty := .int) (C := RX10) (T := TX10) (N := 21) hx hb hts in_X10 tyX10 tyX10_ok nmX10 hown hK.1 hP hD hS 0 rfl rfl 0 (Nat.le_of_ble_eq_true rfl) (hts _ q969) (fun _ h9 => h9) rfl (by decide +kernel) rfl rfl (Nat.le_of_ble_eq_true rfl) dX10_count_2 (fun H locs hP hD hS => ?_)
  have hP : va_P D zCl [(m0, .inr (9, [.int (nI 0), .ref kn, .ref pt, .ref pa, .ref bg, .ref xs_, .ref ys_, .int (nI sgm), .ref fr_, .ref tw, .ref wo_, .ref mt, .ref ha_, .long (lZ x0), .long (lZ y0), .long (lZ dx), .long (lZ dy), .ref zz, .int (nI ct), .ref ov, .ref un]))] H := hP
  have hD : va_D A [(m0, .inr (9, [.int (nI 0), .ref kn, .ref pt, .ref pa, .ref bg, .ref xs_, .ref ys_, .int (nI sgm), .ref fr_, .ref tw, .ref wo_, .ref mt, .ref ha_, .long (lZ x0), .long (lZ y0), .long (lZ dx), .long (lZ dy), .ref zz, .int (nI ct), .ref ov, .ref un]))] := hD
  refine lv_iload_n hx hb dX10_count_5 rfl (lv_at hl 1 rfl) ?_
  refine zc_roS (v := .int (bI (wiZ sz_ 0 1))) (rest := []) ⟨hx, hb, hml, hown, hts⟩ (metX10_isShape lG D dA sz_ (by first | assumption | omega)) (va_cwS 1 hts (lw_S q1041 q1042 q80 q1043) rfl rfl rfl (by decide +kernel) ⟨Nat.le_of_ble_eq_true rfl, Nat.le_of_ble_eq_true rfl⟩) (hP.sub [] rfl) hK rfl hl.1 rfl (Nat.le_of_ble_eq_true rfl) dX10_count_6 ⟨Nat.zero_le _, Nat.zero_le _⟩ ?_
  refine zb_if_eq (tgt := 21) hx hb dX10_count_9 (by decide) (fun hq1 => ?_) (fun hq1 => ?_)
  · skip
    refine lv_aload_n hx hb dX10_count_21 rfl (lv_at hl 0 rfl) ?_
    refine lv_iconst (v := nI 1) hx hb dX10_count_22 (by decide) ?_
    refine zc_wrV (rest := []) (wr := []) ⟨hx, hb, hml, hown, hts⟩ (metX10_fail lG D dA m0 0 kn pt pa bg xs_ ys_ sgm fr_ tw wo_ mt ha_ x0 y0 dx dy zz ct ov un 1 ) (cwV 1 hts (lw_V q1047 q1049 qs29 q80 q1050) rfl rfl rfl (by decide +kernel) ⟨Nat.le_of_ble_eq_true rfl, Nat.le_of_ble_eq_true rfl⟩) (va_recv hK.1 hP (ci := 9) (q0 := 0) rfl rfl) hP hK hD hS hA [0] [] rfl rfl (by decide) (by decide) (by decide) rfl hl.1 rfl (Nat.le_of_ble_eq_true rfl) dX10_count_23 ⟨Nat.zero_le _, Nat.zero_le _⟩ (fun u H locs hp_1 hP hD hS => ?_)
    have hP : va_P D zCl [(m0, .inr (9, [.int (nI 1), .ref kn, .ref pt, .ref pa, .ref bg, .ref xs_, .ref ys_, .int (nI sgm), .ref fr_, .ref tw, .ref wo_, .ref mt, .ref ha_, .long (lZ x0), .long (lZ y0), .long (lZ dx), .long (lZ dy), .ref zz, .int (nI ct), .ref ov, .ref un]))] H := hP
    have hD : va_D A [(m0, .inr (9, [.int (nI 1), .ref kn, .ref pt, .ref pa, .ref bg, .ref xs_, .ref ys_, .int (nI sgm), .ref fr_, .ref tw, .ref wo_, .ref mt, .ref ha_, .long (lZ x0), .long (lZ y0), .long (lZ dx), .long (lZ dy), .ref zz, .int (nI ct), .ref ov, .ref un]))] := hD
    show W _ _ _ _ _ _ _ _ _ _ _ _ 0 0 _ (F0 mG 26 ls [.int (nI 0)])
    exact zr_wrI (u := ()) rfl trivial (hP.sub [0] rfl) (hD.sub [0] (by decide) rfl) hS hx hb hr hlocks dX10_count_26
  · skip
    refine lv_iload_n hx hb dX10_count_12 rfl (lv_at hl 2 rfl) ?_
    refine lv_iconst (v := iZ 0) hx hb dX10_count_13 (by decide) ?_
    refine lv_iconst (v := iZ 2) hx hb dX10_count_14 (by decide) ?_
    refine zc_roS (v := .int (bI (wiZ tz 0 2))) (rest := []) ⟨hx, hb, hml, hown, hts⟩ (metX10_within lG D dA tz 0 2 (by first | assumption | omega) (⟨by decide, by decide⟩) (⟨by decide, by decide⟩)) (va_cwS 3 hts (lw_S q1044 q1045 q80 q1046) rfl rfl rfl (by decide +kernel) ⟨Nat.le_of_ble_eq_true rfl, Nat.le_of_ble_eq_true rfl⟩) (hP.sub [] rfl) hK rfl hl.1 rfl (Nat.le_of_ble_eq_true rfl) dX10_count_15 ⟨Nat.zero_le _, Nat.zero_le _⟩ ?_
    refine zb_if_ne (tgt := 27) hx hb dX10_count_18 (by decide) (fun hq2 => ?_) (fun hq2 => ?_)
    · skip
      exfalso; rw [hq1, hq2] at hb1; cases hb1
    · skip
      refine lv_aload_n hx hb dX10_count_21 rfl (lv_at hl 0 rfl) ?_
      refine lv_iconst (v := nI 1) hx hb dX10_count_22 (by decide) ?_
      refine zc_wrV (rest := []) (wr := []) ⟨hx, hb, hml, hown, hts⟩ (metX10_fail lG D dA m0 0 kn pt pa bg xs_ ys_ sgm fr_ tw wo_ mt ha_ x0 y0 dx dy zz ct ov un 1 ) (cwV 1 hts (lw_V q1047 q1049 qs29 q80 q1050) rfl rfl rfl (by decide +kernel) ⟨Nat.le_of_ble_eq_true rfl, Nat.le_of_ble_eq_true rfl⟩) (va_recv hK.1 hP (ci := 9) (q0 := 0) rfl rfl) hP hK hD hS hA [0] [] rfl rfl (by decide) (by decide) (by decide) rfl hl.1 rfl (Nat.le_of_ble_eq_true rfl) dX10_count_23 ⟨Nat.zero_le _, Nat.zero_le _⟩ (fun u H locs hp_2 hP hD hS => ?_)
      have hP : va_P D zCl [(m0, .inr (9, [.int (nI 1), .ref kn, .ref pt, .ref pa, .ref bg, .ref xs_, .ref ys_, .int (nI sgm), .ref fr_, .ref tw, .ref wo_, .ref mt, .ref ha_, .long (lZ x0), .long (lZ y0), .long (lZ dx), .long (lZ dy), .ref zz, .int (nI ct), .ref ov, .ref un]))] H := hP
      have hD : va_D A [(m0, .inr (9, [.int (nI 1), .ref kn, .ref pt, .ref pa, .ref bg, .ref xs_, .ref ys_, .int (nI sgm), .ref fr_, .ref tw, .ref wo_, .ref mt, .ref ha_, .long (lZ x0), .long (lZ y0), .long (lZ dx), .long (lZ dy), .ref zz, .int (nI ct), .ref ov, .ref un]))] := hD
      show W _ _ _ _ _ _ _ _ _ _ _ _ 0 0 _ (F0 mG 26 ls [.int (nI 0)])
      exact zr_wrI (u := ()) rfl trivial (hP.sub [0] rfl) (hD.sub [0] (by decide) rfl) hS hx hb hr hlocks dX10_count_26
set_option maxHeartbeats 4000000 in
set_option maxRecDepth 100000 in
theorem metX10_count_ok (lG : Launch) (D : va_G) (dA : Nat → ClassId) (m0 : Nat) (thr : Nat) (kn : Nat) (pt : Nat) (pa : Nat) (bg : Nat) (xs_ : Nat) (ys_ : Nat) (sgm : Nat) (fr_ : Nat) (tw : Nat) (wo_ : Nat) (mt : Nat) (ha_ : Nat) (x0 : Int) (y0 : Int) (dx : Int) (dy : Int) (zz : Nat) (ct : Nat) (ov : Nat) (un : Nat) (KD : Nat → Nat) (PT : Nat → Nat) (PN : Nat → Nat) (w : Nat) (t_ : Nat) (hw : w < 2) (ht : t_ < 3) : Wr lG yX10_count (ws_ yX10_count cX10_count 3 (some .int)) 2 42 D dA [.ref m0, .int (nI w), .int (nI t_)] [(m0, .inr (9, [.int (nI thr), .ref kn, .ref pt, .ref pa, .ref bg, .ref xs_, .ref ys_, .int (nI sgm), .ref fr_, .ref tw, .ref wo_, .ref mt, .ref ha_, .long (lZ x0), .long (lZ y0), .long (lZ dx), .long (lZ dy), .ref zz, .int (nI ct), .ref ov, .ref un])), (kn, .inl (dA 0, 2, .inl fun j => nI (KD j))), (pt, .inl (dA 0, 2, .inl fun j => nI (PT j))), (pa, .inl (dA 0, 2, .inl fun j => nI (PN j)))] 0 0 (fun (_u : Unit) => True) (fun (_u : Unit) => some (.int (nI ((if t_ = 0 then KD w else if t_ = 1 then PN w else PT w))))) (fun (_u : Unit) => [(m0, .inr (9, [.int (nI 0), .ref kn, .ref pt, .ref pa, .ref bg, .ref xs_, .ref ys_, .int (nI sgm), .ref fr_, .ref tw, .ref wo_, .ref mt, .ref ha_, .long (lZ x0), .long (lZ y0), .long (lZ dx), .long (lZ dy), .ref zz, .int (nI ct), .ref ov, .ref un])), (kn, .inl (dA 0, 2, .inl fun j => nI (KD j))), (pt, .inl (dA 0, 2, .inl fun j => nI (PT j))), (pa, .inl (dA 0, 2, .inl fun j => nI (PN j)))]) := by
  refine Wr.of (by decide) (Nat.le_of_ble_eq_true rfl) ?_
  intro pG eG sG mG bG tG cG ls A hx hb hr hml hown hts hlocks hnm hP hK hD hS hA hl
  have hK1 := hK.1
  have hown : sG.vm.findClass RX10 = some mG.cls := hown
  have hl : lv_has ls 3 [(0, .ref m0), (1, .int (nI w)), (2, .int (nI t_))] := hl
  refine lv_aload_n hx hb dX10_count_0 rfl (lv_at hl 0 rfl) ?_
  refine lv_iconst (v := nI 0) hx hb dX10_count_1 (by decide) ?_
  refine va_put (D := D) (ci := 9) (v := .int (nI 0)) (ty := .int) (C := RX10) (T := TX10) (N := 21) hx hb hts in_X10 tyX10 tyX10_ok nmX10 hown hK.1 hP hD hS 0 rfl rfl 0 (Nat.le_of_ble_eq_true rfl) (hts _ q969) (fun _ h9 => h9) rfl (by decide +kernel) rfl rfl (Nat.le_of_ble_eq_true rfl) dX10_count_2 (fun H locs hP hD hS => ?_)
  have hP : va_P D zCl [(m0, .inr (9, [.int (nI 0), .ref kn, .ref pt, .ref pa, .ref bg, .ref xs_, .ref ys_, .int (nI sgm), .ref fr_, .ref tw, .ref wo_, .ref mt, .ref ha_, .long (lZ x0), .long (lZ y0), .long (lZ dx), .long (lZ dy), .ref zz, .int (nI ct), .ref ov, .ref un])), (kn, .inl (dA 0, 2, .inl fun j => nI (KD j))), (pt, .inl (dA 0, 2, .inl fun j => nI (PT j))), (pa, .inl (dA 0, 2, .inl fun j => nI (PN j)))] H := hP
  have hD : va_D A [(m0, .inr (9, [.int (nI 0), .ref kn, .ref pt, .ref pa, .ref bg, .ref xs_, .ref ys_, .int (nI sgm), .ref fr_, .ref tw, .ref wo_, .ref mt, .ref ha_, .long (lZ x0), .long (lZ y0), .long (lZ dx), .long (lZ dy), .ref zz, .int (nI ct), .ref ov, .ref un])), (kn, .inl (dA 0, 2, .inl fun j => nI (KD j))), (pt, .inl (dA 0, 2, .inl fun j => nI (PT j))), (pa, .inl (dA 0, 2, .inl fun j => nI (PN j)))] := hD
  refine lv_iload_n hx hb dX10_count_5 rfl (lv_at hl 1 rfl) ?_
  refine zc_roS (v := .int (bI true)) (rest := []) ⟨hx, hb, hml, hown, hts⟩ (metX10_isShape_n lG D dA w (by first | assumption | omega)) (va_cwS 1 hts (lw_S q1041 q1042 q80 q1043) rfl rfl rfl (by decide +kernel) ⟨Nat.le_of_ble_eq_true rfl, Nat.le_of_ble_eq_true rfl⟩) (hP.sub [] rfl) hK rfl hl.1 rfl (Nat.le_of_ble_eq_true rfl) dX10_count_6 ⟨Nat.zero_le _, Nat.zero_le _⟩ ?_
  refine zb_if_eq (tgt := 21) hx hb dX10_count_9 (by decide) (fun c_1 => ?_) (fun c_1 => ?_)
  · skip
    exfalso; contradiction
  · skip
    refine lv_iload_n hx hb dX10_count_12 rfl (lv_at hl 2 rfl) ?_
    refine lv_iconst (v := nI 0) hx hb dX10_count_13 (by decide) ?_
    refine lv_iconst (v := nI 2) hx hb dX10_count_14 (by decide) ?_
    refine zc_roS (v := .int (bI ((decide (0 ≤ t_) && decide (t_ ≤ 2))))) (rest := []) ⟨hx, hb, hml, hown, hts⟩ (metX10_within_n lG D dA t_ 0 2 (by first | assumption | omega) (by first | assumption | omega) (by first | assumption | omega)) (va_cwS 3 hts (lw_S q1044 q1045 q80 q1046) rfl rfl rfl (by decide +kernel) ⟨Nat.le_of_ble_eq_true rfl, Nat.le_of_ble_eq_true rfl⟩) (hP.sub [] rfl) hK rfl hl.1 rfl (Nat.le_of_ble_eq_true rfl) dX10_count_15 ⟨Nat.zero_le _, Nat.zero_le _⟩ ?_
    refine zb_if_ne (tgt := 27) hx hb dX10_count_18 (by decide) (fun hq2 => ?_) (fun hq2 => ?_)
    · skip
      refine lv_iload_n hx hb dX10_count_27 rfl (lv_at hl 2 rfl) ?_
      refine zn_if_ne (tgt := 40) hx hb (by omega) dX10_count_28 (by decide) (fun c_2 => ?_) (fun c_2 => ?_)
      · skip
        refine lv_iload_n hx hb dX10_count_40 rfl (lv_at hl 2 rfl) ?_
        refine lv_iconst (v := nI 1) hx hb dX10_count_41 (by decide) ?_
        refine zn_icmp_ne (tgt := 54) hx hb (by omega) (by decide) dX10_count_42 (by decide) (fun c_3 => ?_) (fun c_3 => ?_)
        · skip
          refine lv_aload_n hx hb dX10_count_54 rfl (lv_at hl 0 rfl) ?_
          refine va_get (D := D) (ci := 9) (v := .ref pt) (C := RX10) (T := TX10) (N := 21) hx hb hts in_X10 hown hK.1 hP 0 rfl rfl 2 (Nat.le_of_ble_eq_true rfl) (hts _ q971) (fun _ h9 => h9) rfl dX10_count_55 ?_
          refine lv_iload_n hx hb dX10_count_58 rfl (lv_at hl 1 rfl) ?_
          refine zn_iaload (f := PT) (i := w) hx hb hK.1 hP 2 0 rfl rfl (by omega) (by decide) dX10_count_59 ?_
          exact zr_wrI (u := ()) (congrArg (fun z => some (Value.int (nI z))) (by first | (rw [if_pos (by assumption)]; done) | (rw [if_neg (by assumption), if_pos (by assumption)]; done) | (rw [if_neg (by assumption), if_neg (by assumption)]; done))) trivial (hP.sub [0, 1, 2, 3] rfl) (hD.sub [0, 1, 2, 3] (by decide) rfl) hS hx hb hr hlocks dX10_count_60
        · skip
          refine lv_aload_n hx hb dX10_count_45 rfl (lv_at hl 0 rfl) ?_
          refine va_get (D := D) (ci := 9) (v := .ref pa) (C := RX10) (T := TX10) (N := 21) hx hb hts in_X10 hown hK.1 hP 0 rfl rfl 3 (Nat.le_of_ble_eq_true rfl) (hts _ q972) (fun _ h9 => h9) rfl dX10_count_46 ?_
          refine lv_iload_n hx hb dX10_count_49 rfl (lv_at hl 1 rfl) ?_
          refine zn_iaload (f := PN) (i := w) hx hb hK.1 hP 3 0 rfl rfl (by omega) (by decide) dX10_count_50 ?_
          refine lv_goto (tgt := 60) hx hb dX10_count_51 (by decide) ?_
          exact zr_wrI (u := ()) (congrArg (fun z => some (Value.int (nI z))) (by first | (rw [if_pos (by assumption)]; done) | (rw [if_neg (by assumption), if_pos (by assumption)]; done) | (rw [if_neg (by assumption), if_neg (by assumption)]; done))) trivial (hP.sub [0, 1, 2, 3] rfl) (hD.sub [0, 1, 2, 3] (by decide) rfl) hS hx hb hr hlocks dX10_count_60
      · skip
        refine lv_aload_n hx hb dX10_count_31 rfl (lv_at hl 0 rfl) ?_
        refine va_get (D := D) (ci := 9) (v := .ref kn) (C := RX10) (T := TX10) (N := 21) hx hb hts in_X10 hown hK.1 hP 0 rfl rfl 1 (Nat.le_of_ble_eq_true rfl) (hts _ q970) (fun _ h9 => h9) rfl dX10_count_32 ?_
        refine lv_iload_n hx hb dX10_count_35 rfl (lv_at hl 1 rfl) ?_
        refine zn_iaload (f := KD) (i := w) hx hb hK.1 hP 1 0 rfl rfl (by omega) (by decide) dX10_count_36 ?_
        refine lv_goto (tgt := 60) hx hb dX10_count_37 (by decide) ?_
        exact zr_wrI (u := ()) (congrArg (fun z => some (Value.int (nI z))) (by first | (rw [if_pos (by assumption)]; done) | (rw [if_neg (by assumption), if_pos (by assumption)]; done) | (rw [if_neg (by assumption), if_neg (by assumption)]; done))) trivial (hP.sub [0, 1, 2, 3] rfl) (hD.sub [0, 1, 2, 3] (by decide) rfl) hS hx hb hr hlocks dX10_count_60
    · skip
      exfalso; rw [decide_eq_true (show 0 ≤ t_ by omega), decide_eq_true (show t_ ≤ 2 by omega)] at hq2; cases hq2
set_option maxHeartbeats 4000000 in
set_option maxRecDepth 100000 in
theorem metX10_is_bad (lG : Launch) (D : va_G) (dA : Nat → ClassId) (m0 : Nat) (thr : Nat) (kn : Nat) (pt : Nat) (pa : Nat) (bg : Nat) (xs_ : Nat) (ys_ : Nat) (sgm : Nat) (fr_ : Nat) (tw : Nat) (wo_ : Nat) (mt : Nat) (ha_ : Nat) (x0 : Int) (y0 : Int) (dx : Int) (dy : Int) (zz : Nat) (ct : Nat) (ov : Nat) (un : Nat) (sz_ : Int) (hs0 : inI sz_) (hb1 : wiZ sz_ 0 8 = false) : Wr lG yX10_is (ws_ yX10_is cX10_is 4 (some .boolean)) 1 22 D dA [.ref m0, .int (iZ sz_)] [(m0, .inr (9, [.int (nI thr), .ref kn, .ref pt, .ref pa, .ref bg, .ref xs_, .ref ys_, .int (nI sgm), .ref fr_, .ref tw, .ref wo_, .ref mt, .ref ha_, .long (lZ x0), .long (lZ y0), .long (lZ dx), .long (lZ dy), .ref zz, .int (nI ct), .ref ov, .ref un]))] 0 0 (fun (_u : Unit) => True) (fun (_u : Unit) => some (.int (bI false))) (fun (_u : Unit) => [(m0, .inr (9, [.int (nI 1), .ref kn, .ref pt, .ref pa, .ref bg, .ref xs_, .ref ys_, .int (nI sgm), .ref fr_, .ref tw, .ref wo_, .ref mt, .ref ha_, .long (lZ x0), .long (lZ y0), .long (lZ dx), .long (lZ dy), .ref zz, .int (nI ct), .ref ov, .ref un]))]) := by
  refine Wr.of (by decide) (Nat.le_of_ble_eq_true rfl) ?_
  intro pG eG sG mG bG tG cG ls A hx hb hr hml hown hts hlocks hnm hP hK hD hS hA hl
  have hK1 := hK.1
  have hown : sG.vm.findClass RX10 = some mG.cls := hown
  have hl : lv_has ls 4 [(0, .ref m0), (1, .int (iZ sz_))] := hl
  refine lv_aload_n hx hb dX10_is_0 rfl (lv_at hl 0 rfl) ?_
  refine lv_iconst (v := nI 0) hx hb dX10_is_1 (by decide) ?_
  refine va_put (D := D) (ci := 9) (v := .int (nI 0)) (ty := .int) (C := RX10) (T := TX10) (N := 21) hx hb hts in_X10 tyX10 tyX10_ok nmX10 hown hK.1 hP hD hS 0 rfl rfl 0 (Nat.le_of_ble_eq_true rfl) (hts _ q969) (fun _ h9 => h9) rfl (by decide +kernel) rfl rfl (Nat.le_of_ble_eq_true rfl) dX10_is_2 (fun H locs hP hD hS => ?_)
  have hP : va_P D zCl [(m0, .inr (9, [.int (nI 0), .ref kn, .ref pt, .ref pa, .ref bg, .ref xs_, .ref ys_, .int (nI sgm), .ref fr_, .ref tw, .ref wo_, .ref mt, .ref ha_, .long (lZ x0), .long (lZ y0), .long (lZ dx), .long (lZ dy), .ref zz, .int (nI ct), .ref ov, .ref un]))] H := hP
  have hD : va_D A [(m0, .inr (9, [.int (nI 0), .ref kn, .ref pt, .ref pa, .ref bg, .ref xs_, .ref ys_, .int (nI sgm), .ref fr_, .ref tw, .ref wo_, .ref mt, .ref ha_, .long (lZ x0), .long (lZ y0), .long (lZ dx), .long (lZ dy), .ref zz, .int (nI ct), .ref ov, .ref un]))] := hD
  refine lv_iload_n hx hb dX10_is_5 rfl (lv_at hl 1 rfl) ?_
  refine lv_iconst (v := iZ 0) hx hb dX10_is_6 (by decide) ?_
  refine lv_bipush (v := iZ 8) hx hb dX10_is_7 (by decide) ?_
  refine zc_roS (v := .int (bI (wiZ sz_ 0 8))) (rest := []) ⟨hx, hb, hml, hown, hts⟩ (metX10_within lG D dA sz_ 0 8 (by first | assumption | omega) (⟨by decide, by decide⟩) (⟨by decide, by decide⟩)) (va_cwS 3 hts (lw_S q1044 q1045 q80 q1046) rfl rfl rfl (by decide +kernel) ⟨Nat.le_of_ble_eq_true rfl, Nat.le_of_ble_eq_true rfl⟩) (hP.sub [] rfl) hK rfl hl.1 rfl (Nat.le_of_ble_eq_true rfl) dX10_is_9 ⟨Nat.zero_le _, Nat.zero_le _⟩ ?_
  refine zb_if_ne (tgt := 29) hx hb dX10_is_12 (by decide) (fun hq1 => ?_) (fun hq1 => ?_)
  · skip
    exfalso; rw [hb1] at hq1; cases hq1
  · skip
    refine lv_aload_n hx hb dX10_is_15 rfl (lv_at hl 0 rfl) ?_
    refine lv_iconst (v := nI 1) hx hb dX10_is_16 (by decide) ?_
    refine zc_wrV (rest := []) (wr := []) ⟨hx, hb, hml, hown, hts⟩ (metX10_fail lG D dA m0 0 kn pt pa bg xs_ ys_ sgm fr_ tw wo_ mt ha_ x0 y0 dx dy zz ct ov un 1 ) (cwV 1 hts (lw_V q1047 q1049 qs29 q80 q1050) rfl rfl rfl (by decide +kernel) ⟨Nat.le_of_ble_eq_true rfl, Nat.le_of_ble_eq_true rfl⟩) (va_recv hK.1 hP (ci := 9) (q0 := 0) rfl rfl) hP hK hD hS hA [0] [] rfl rfl (by decide) (by decide) (by decide) rfl hl.1 rfl (Nat.le_of_ble_eq_true rfl) dX10_is_17 ⟨Nat.zero_le _, Nat.zero_le _⟩ (fun u H locs hp_1 hP hD hS => ?_)
    have hP : va_P D zCl [(m0, .inr (9, [.int (nI 1), .ref kn, .ref pt, .ref pa, .ref bg, .ref xs_, .ref ys_, .int (nI sgm), .ref fr_, .ref tw, .ref wo_, .ref mt, .ref ha_, .long (lZ x0), .long (lZ y0), .long (lZ dx), .long (lZ dy), .ref zz, .int (nI ct), .ref ov, .ref un]))] H := hP
    have hD : va_D A [(m0, .inr (9, [.int (nI 1), .ref kn, .ref pt, .ref pa, .ref bg, .ref xs_, .ref ys_, .int (nI sgm), .ref fr_, .ref tw, .ref wo_, .ref mt, .ref ha_, .long (lZ x0), .long (lZ y0), .long (lZ dx), .long (lZ dy), .ref zz, .int (nI ct), .ref ov, .ref un]))] := hD
    show W _ _ _ _ _ _ _ _ _ _ _ _ 0 0 _ (F0 mG 20 ls [.int (nI 0)])
    refine zn_if_le (tgt := 27) hx hb (by decide) dX10_is_20 (by decide) (fun c_2 => ?_) (fun c_2 => ?_)
    · skip
      refine lv_iconst (v := bI false) hx hb dX10_is_27 (by decide) ?_
      exact zr_wrB (u := ()) rfl trivial (hP.sub [0] rfl) (hD.sub [0] (by decide) rfl) hS hx hb hr hlocks dX10_is_28
    · skip
      exfalso; omega
