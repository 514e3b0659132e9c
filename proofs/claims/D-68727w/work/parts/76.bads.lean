/-! ShapeRelator: the calls that throw (printed by wip gen/c76.py) -/
set_option maxHeartbeats 4000000 in
set_option maxRecDepth 100000 in
theorem metX1_isPlace (lG : Launch) (D : va_G) (dA : Nat → ClassId) (v : Int) (hvI : inI v) : Ro lG yX1_isPlace (ws_ yX1_isPlace cX1_isPlace 1 (some .boolean)) 0 0 D dA [.int (iZ v)] [] (some (.int (bI (wiZ v (-500000000) 500000000)))) := by
  refine Ro.of (by decide) (Nat.le_of_ble_eq_true rfl) ?_
  intro pG eG sG mG bG tG cG ls hx hb hr hml hown hts hlocks hP hK hl
  have hown : sG.vm.findClass RX1 = some mG.cls := hown
  have hl : lv_has ls 1 [(0, .int (iZ v))] := hl
  refine lv_iload_n hx hb dX1_isPlace_0 rfl (lv_at hl 0 rfl) ?_
  refine lv_ldc (v := (-500000000 : Int32)) hx hb hown (hts _ q877) dX1_isPlace_1 ?_
  refine zt_i (iZ (-500000000)) (by decide) ?_
  refine zz_icmp_lt (tgt := 16) hx hb hvI ⟨by decide, by decide⟩ dX1_isPlace_3 (by decide) (fun c_1 => ?_) (fun c_1 => ?_)
  · skip
    refine lv_iconst (v := nI 0) hx hb dX1_isPlace_16 (by decide) ?_
    exact zr_roB (by first | (rw [wi_t (by omega) (by omega)]; rfl) | (rw [wi_f (by omega)]; rfl)) hx hb hr hlocks dX1_isPlace_17
  · skip
    refine lv_iload_n hx hb dX1_isPlace_6 rfl (lv_at hl 0 rfl) ?_
    refine lv_ldc (v := iZ 500000000) hx hb hown (hts _ q878) dX1_isPlace_7 ?_
    refine zz_icmp_gt (tgt := 16) hx hb hvI ⟨by decide, by decide⟩ dX1_isPlace_9 (by decide) (fun c_2 => ?_) (fun c_2 => ?_)
    · skip
      refine lv_iconst (v := nI 0) hx hb dX1_isPlace_16 (by decide) ?_
      exact zr_roB (by first | (rw [wi_t (by omega) (by omega)]; rfl) | (rw [wi_f (by omega)]; rfl)) hx hb hr hlocks dX1_isPlace_17
    · skip
      refine lv_iconst (v := nI 1) hx hb dX1_isPlace_12 (by decide) ?_
      refine lv_goto (tgt := 17) hx hb dX1_isPlace_13 (by decide) ?_
      exact zr_roB (by first | (rw [wi_t (by omega) (by omega)]; rfl) | (rw [wi_f (by omega)]; rfl)) hx hb hr hlocks dX1_isPlace_17
set_option maxHeartbeats 4000000 in
set_option maxRecDepth 100000 in
theorem metX1_shape_badw (lG : Launch) (D : va_G) (dA : Nat → ClassId) (s0 : Nat) (r0 : Nat) (sh : Nat) (sg : Nat) (tk : Bool) (bx : Nat) (th : Nat) (tr : Nat) (ev : Nat) (stp : Nat) (mx : Nat) (rl : Bool) (wa : Nat) (la : Nat) (ra : Nat) (ti : Nat) (o0a : Nat) (o0b : Nat) (v : Int) (kk : Int) (hfl : lG.flags = pinnedFlags ++ [noTraceFlag]) (hv : v ≠ 0) (hv1 : v ≠ 1) (hvI : inI v) : Th lG yX1_shape (ws_ yX1_shape cX1_shape 5 (some .int)) 8 131 D dA [.ref s0, .int (iZ v), .int (iZ kk)] [(s0, .inr (0, [.ref r0])), (r0, .inr (1, [.ref sh, .ref sg, .int (bI tk), .ref bx, .ref th, .ref tr, .ref ev, .ref stp, .ref mx, .int (bI rl), .ref wa, .ref la, .ref ra, .ref ti])), (sh, .inl (dA 3, 2, .inr (.inr (.inr (.inr (sh2 o0a o0b))))))] "java/lang/IndexOutOfBoundsException" := by
  refine Th.of (by decide) (Nat.le_of_ble_eq_true rfl) ?_
  intro pG eG sG mG bG tG cG ls hx hb hml hown hts hlocks hout hP hK hE hl
  have hown : sG.vm.findClass RX1 = some mG.cls := hown
  have hl : lv_has ls 5 [(0, .ref s0), (1, .int (iZ v)), (2, .int (iZ kk))] := hl
  refine lv_aload_n hx hb dX1_shape_0 rfl (lv_at hl 0 rfl) ?_
  refine lv_iload_n hx hb dX1_shape_1 rfl (lv_at hl 1 rfl) ?_
  exact zx_passV (rest := []) ⟨hx, hb, hml, hown, hts⟩ (metX1_known_bad lG D dA s0 r0 sh sg tk bx th tr ev stp mx rl wa la ra ti o0a o0b v (by first | assumption | omega) (by first | assumption | omega) (by first | assumption | omega) (by first | assumption | omega)) (cwV 1 hts (lw_V q778 q780 qs28 q71 q781) rfl rfl rfl (by decide +kernel) ⟨Nat.le_of_ble_eq_true rfl, Nat.le_of_ble_eq_true rfl⟩) (va_recv hK.1 hP (ci := 0) (q0 := 0) rfl rfl) (hP.sub [0, 1, 2] rfl) hK hE rfl hl.1 rfl (Nat.le_of_ble_eq_true rfl) dX1_shape_2 ⟨Nat.le_of_ble_eq_true rfl, Nat.le_of_ble_eq_true rfl⟩ hout hlocks
set_option maxHeartbeats 4000000 in
set_option maxRecDepth 100000 in
theorem metX1_part_badw (lG : Launch) (D : va_G) (dA : Nat → ClassId) (s0 : Nat) (r0 : Nat) (sh : Nat) (sg : Nat) (tk : Bool) (bx : Nat) (th : Nat) (tr : Nat) (ev : Nat) (stp : Nat) (mx : Nat) (rl : Bool) (wa : Nat) (la : Nat) (ra : Nat) (ti : Nat) (o0a : Nat) (o0b : Nat) (v : Int) (hfl : lG.flags = pinnedFlags ++ [noTraceFlag]) (hv : v ≠ 0) (hv1 : v ≠ 1) (hvI : inI v) : Th lG yX1_part (ws_ yX1_part cX1_part 3 (some .int)) 8 131 D dA [.ref s0, .int (iZ v)] [(s0, .inr (0, [.ref r0])), (r0, .inr (1, [.ref sh, .ref sg, .int (bI tk), .ref bx, .ref th, .ref tr, .ref ev, .ref stp, .ref mx, .int (bI rl), .ref wa, .ref la, .ref ra, .ref ti])), (sh, .inl (dA 3, 2, .inr (.inr (.inr (.inr (sh2 o0a o0b))))))] "java/lang/IndexOutOfBoundsException" := by
  refine Th.of (by decide) (Nat.le_of_ble_eq_true rfl) ?_
  intro pG eG sG mG bG tG cG ls hx hb hml hown hts hlocks hout hP hK hE hl
  have hown : sG.vm.findClass RX1 = some mG.cls := hown
  have hl : lv_has ls 3 [(0, .ref s0), (1, .int (iZ v))] := hl
  refine lv_aload_n hx hb dX1_part_0 rfl (lv_at hl 0 rfl) ?_
  refine lv_iload_n hx hb dX1_part_1 rfl (lv_at hl 1 rfl) ?_
  exact zx_passV (rest := []) ⟨hx, hb, hml, hown, hts⟩ (metX1_known_bad lG D dA s0 r0 sh sg tk bx th tr ev stp mx rl wa la ra ti o0a o0b v (by first | assumption | omega) (by first | assumption | omega) (by first | assumption | omega) (by first | assumption | omega)) (cwV 1 hts (lw_V q778 q780 qs28 q71 q781) rfl rfl rfl (by decide +kernel) ⟨Nat.le_of_ble_eq_true rfl, Nat.le_of_ble_eq_true rfl⟩) (va_recv hK.1 hP (ci := 0) (q0 := 0) rfl rfl) (hP.sub [0, 1, 2] rfl) hK hE rfl hl.1 rfl (Nat.le_of_ble_eq_true rfl) dX1_part_2 ⟨Nat.le_of_ble_eq_true rfl, Nat.le_of_ble_eq_true rfl⟩ hout hlocks
set_option maxHeartbeats 4000000 in
set_option maxRecDepth 100000 in
theorem metX1_point_badw (lG : Launch) (D : va_G) (dA : Nat → ClassId) (s0 : Nat) (r0 : Nat) (sh : Nat) (sg : Nat) (tk : Bool) (bx : Nat) (th : Nat) (tr : Nat) (ev : Nat) (stp : Nat) (mx : Nat) (rl : Bool) (wa : Nat) (la : Nat) (ra : Nat) (ti : Nat) (o0a : Nat) (o0b : Nat) (v : Int) (x : Int) (y : Int) (hfl : lG.flags = pinnedFlags ++ [noTraceFlag]) (hv : v ≠ 0) (hv1 : v ≠ 1) (hvI : inI v) : Th lG yX1_point (ws_ yX1_point cX1_point 5 (some .int)) 8 131 D dA [.ref s0, .int (iZ v), .int (iZ x), .int (iZ y)] [(s0, .inr (0, [.ref r0])), (r0, .inr (1, [.ref sh, .ref sg, .int (bI tk), .ref bx, .ref th, .ref tr, .ref ev, .ref stp, .ref mx, .int (bI rl), .ref wa, .ref la, .ref ra, .ref ti])), (sh, .inl (dA 3, 2, .inr (.inr (.inr (.inr (sh2 o0a o0b))))))] "java/lang/IndexOutOfBoundsException" := by
  refine Th.of (by decide) (Nat.le_of_ble_eq_true rfl) ?_
  intro pG eG sG mG bG tG cG ls hx hb hml hown hts hlocks hout hP hK hE hl
  have hown : sG.vm.findClass RX1 = some mG.cls := hown
  have hl : lv_has ls 5 [(0, .ref s0), (1, .int (iZ v)), (2, .int (iZ x)), (3, .int (iZ y))] := hl
  refine lv_aload_n hx hb dX1_point_0 rfl (lv_at hl 0 rfl) ?_
  refine lv_iload_n hx hb dX1_point_1 rfl (lv_at hl 1 rfl) ?_
  exact zx_passV (rest := []) ⟨hx, hb, hml, hown, hts⟩ (metX1_known_bad lG D dA s0 r0 sh sg tk bx th tr ev stp mx rl wa la ra ti o0a o0b v (by first | assumption | omega) (by first | assumption | omega) (by first | assumption | omega) (by first | assumption | omega)) (cwV 1 hts (lw_V q778 q780 qs28 q71 q781) rfl rfl rfl (by decide +kernel) ⟨Nat.le_of_ble_eq_true rfl, Nat.le_of_ble_eq_true rfl⟩) (va_recv hK.1 hP (ci := 0) (q0 := 0) rfl rfl) (hP.sub [0, 1, 2] rfl) hK hE rfl hl.1 rfl (Nat.le_of_ble_eq_true rfl) dX1_point_2 ⟨Nat.le_of_ble_eq_true rfl, Nat.le_of_ble_eq_true rfl⟩ hout hlocks
set_option maxHeartbeats 4000000 in
set_option maxRecDepth 100000 in
theorem metX1_locate_badw (lG : Launch) (D : va_G) (dA : Nat → ClassId) (s0 : Nat) (r0 : Nat) (sh : Nat) (sg : Nat) (tk : Bool) (bx : Nat) (th : Nat) (tr : Nat) (ev : Nat) (stp : Nat) (mx : Nat) (rl : Bool) (wa : Nat) (la : Nat) (ra : Nat) (ti : Nat) (o0a : Nat) (o0b : Nat) (v : Int) (x : Int) (y : Int) (hfl : lG.flags = pinnedFlags ++ [noTraceFlag]) (hv : v ≠ 0) (hv1 : v ≠ 1) (hvI : inI v) : Th lG yX1_locate (ws_ yX1_locate cX1_locate 4 (some .int)) 8 131 D dA [.ref s0, .int (iZ v), .int (iZ x), .int (iZ y)] [(s0, .inr (0, [.ref r0])), (r0, .inr (1, [.ref sh, .ref sg, .int (bI tk), .ref bx, .ref th, .ref tr, .ref ev, .ref stp, .ref mx, .int (bI rl), .ref wa, .ref la, .ref ra, .ref ti])), (sh, .inl (dA 3, 2, .inr (.inr (.inr (.inr (sh2 o0a o0b))))))] "java/lang/IndexOutOfBoundsException" := by
  refine Th.of (by decide) (Nat.le_of_ble_eq_true rfl) ?_
  intro pG eG sG mG bG tG cG ls hx hb hml hown hts hlocks hout hP hK hE hl
  have hown : sG.vm.findClass RX1 = some mG.cls := hown
  have hl : lv_has ls 4 [(0, .ref s0), (1, .int (iZ v)), (2, .int (iZ x)), (3, .int (iZ y))] := hl
  refine lv_aload_n hx hb dX1_locate_0 rfl (lv_at hl 0 rfl) ?_
  refine lv_iload_n hx hb dX1_locate_1 rfl (lv_at hl 1 rfl) ?_
  exact zx_passV (rest := []) ⟨hx, hb, hml, hown, hts⟩ (metX1_known_bad lG D dA s0 r0 sh sg tk bx th tr ev stp mx rl wa la ra ti o0a o0b v (by first | assumption | omega) (by first | assumption | omega) (by first | assumption | omega) (by first | assumption | omega)) (cwV 1 hts (lw_V q778 q780 qs28 q71 q781) rfl rfl rfl (by decide +kernel) ⟨Nat.le_of_ble_eq_true rfl, Nat.le_of_ble_eq_true rfl⟩) (va_recv hK.1 hP (ci := 0) (q0 := 0) rfl rfl) (hP.sub [0, 1, 2] rfl) hK hE rfl hl.1 rfl (Nat.le_of_ble_eq_true rfl) dX1_locate_2 ⟨Nat.le_of_ble_eq_true rfl, Nat.le_of_ble_eq_true rfl⟩ hout hlocks
set_option maxHeartbeats 4000000 in
set_option maxRecDepth 100000 in
theorem metX1_dimension_badw (lG : Launch) (D : va_G) (dA : Nat → ClassId) (s0 : Nat) (r0 : Nat) (sh : Nat) (sg : Nat) (tk : Bool) (bx : Nat) (th : Nat) (tr : Nat) (ev : Nat) (stp : Nat) (mx : Nat) (rl : Bool) (wa : Nat) (la : Nat) (ra : Nat) (ti : Nat) (o0a : Nat) (o0b : Nat) (v : Int) (hfl : lG.flags = pinnedFlags ++ [noTraceFlag]) (hv : v ≠ 0) (hv1 : v ≠ 1) (hvI : inI v) : Th lG yX1_dimension (ws_ yX1_dimension cX1_dimension 2 (some .int)) 8 131 D dA [.ref s0, .int (iZ v)] [(s0, .inr (0, [.ref r0])), (r0, .inr (1, [.ref sh, .ref sg, .int (bI tk), .ref bx, .ref th, .ref tr, .ref ev, .ref stp, .ref mx, .int (bI rl), .ref wa, .ref la, .ref ra, .ref ti])), (sh, .inl (dA 3, 2, .inr (.inr (.inr (.inr (sh2 o0a o0b))))))] "java/lang/IndexOutOfBoundsException" := by
  refine Th.of (by decide) (Nat.le_of_ble_eq_true rfl) ?_
  intro pG eG sG mG bG tG cG ls hx hb hml hown hts hlocks hout hP hK hE hl
  have hown : sG.vm.findClass RX1 = some mG.cls := hown
  have hl : lv_has ls 2 [(0, .ref s0), (1, .int (iZ v))] := hl
  refine lv_aload_n hx hb dX1_dimension_0 rfl (lv_at hl 0 rfl) ?_
  refine lv_iload_n hx hb dX1_dimension_1 rfl (lv_at hl 1 rfl) ?_
  exact zx_passV (rest := []) ⟨hx, hb, hml, hown, hts⟩ (metX1_known_bad lG D dA s0 r0 sh sg tk bx th tr ev stp mx rl wa la ra ti o0a o0b v (by first | assumption | omega) (by first | assumption | omega) (by first | assumption | omega) (by first | assumption | omega)) (cwV 1 hts (lw_V q778 q780 qs28 q71 q781) rfl rfl rfl (by decide +kernel) ⟨Nat.le_of_ble_eq_true rfl, Nat.le_of_ble_eq_true rfl⟩) (va_recv hK.1 hP (ci := 0) (q0 := 0) rfl rfl) (hP.sub [0, 1, 2] rfl) hK hE rfl hl.1 rfl (Nat.le_of_ble_eq_true rfl) dX1_dimension_2 ⟨Nat.le_of_ble_eq_true rfl, Nat.le_of_ble_eq_true rfl⟩ hout hlocks
set_option maxHeartbeats 4000000 in
set_option maxRecDepth 100000 in
theorem metX1_count_badw (lG : Launch) (D : va_G) (dA : Nat → ClassId) (s0 : Nat) (r0 : Nat) (sh : Nat) (sg : Nat) (tk : Bool) (bx : Nat) (th : Nat) (tr : Nat) (ev : Nat) (stp : Nat) (mx : Nat) (rl : Bool) (wa : Nat) (la : Nat) (ra : Nat) (ti : Nat) (o0a : Nat) (o0b : Nat) (v : Int) (kk : Int) (hfl : lG.flags = pinnedFlags ++ [noTraceFlag]) (hv : v ≠ 0) (hv1 : v ≠ 1) (hvI : inI v) : Th lG yX1_count (ws_ yX1_count cX1_count 4 (some .int)) 8 131 D dA [.ref s0, .int (iZ v), .int (iZ kk)] [(s0, .inr (0, [.ref r0])), (r0, .inr (1, [.ref sh, .ref sg, .int (bI tk), .ref bx, .ref th, .ref tr, .ref ev, .ref stp, .ref mx, .int (bI rl), .ref wa, .ref la, .ref ra, .ref ti])), (sh, .inl (dA 3, 2, .inr (.inr (.inr (.inr (sh2 o0a o0b))))))] "java/lang/IndexOutOfBoundsException" := by
  refine Th.of (by decide) (Nat.le_of_ble_eq_true rfl) ?_
  intro pG eG sG mG bG tG cG ls hx hb hml hown hts hlocks hout hP hK hE hl
  have hown : sG.vm.findClass RX1 = some mG.cls := hown
  have hl : lv_has ls 4 [(0, .ref s0), (1, .int (iZ v)), (2, .int (iZ kk))] := hl
  refine lv_aload_n hx hb dX1_count_0 rfl (lv_at hl 0 rfl) ?_
  refine lv_iload_n hx hb dX1_count_1 rfl (lv_at hl 1 rfl) ?_
  exact zx_passV (rest := []) ⟨hx, hb, hml, hown, hts⟩ (metX1_known_bad lG D dA s0 r0 sh sg tk bx th tr ev stp mx rl wa la ra ti o0a o0b v (by first | assumption | omega) (by first | assumption | omega) (by first | assumption | omega) (by first | assumption | omega)) (cwV 1 hts (lw_V q778 q780 qs28 q71 q781) rfl rfl rfl (by decide +kernel) ⟨Nat.le_of_ble_eq_true rfl, Nat.le_of_ble_eq_true rfl⟩) (va_recv hK.1 hP (ci := 0) (q0 := 0) rfl rfl) (hP.sub [0, 1, 2] rfl) hK hE rfl hl.1 rfl (Nat.le_of_ble_eq_true rfl) dX1_count_2 ⟨Nat.le_of_ble_eq_true rfl, Nat.le_of_ble_eq_true rfl⟩ hout hlocks
set_option maxHeartbeats 4000000 in
set_option maxRecDepth 100000 in
theorem metX1_shape_badk0 (lG : Launch) (D : va_G) (dA : Nat → ClassId) (s0 : Nat) (r0 : Nat) (sh : Nat) (sg : Nat) (tk : Bool) (bx : Nat) (th : Nat) (tr : Nat) (ev : Nat) (stp : Nat) (mx : Nat) (rl : Bool) (wa : Nat) (la : Nat) (ra : Nat) (ti : Nat) (o0a : Nat) (o0b : Nat) (kk : Int) (hfl : lG.flags = pinnedFlags ++ [noTraceFlag]) (hk : kk < 1 ∨ 3 < kk) (hkI : inI kk) : Th lG yX1_shape (ws_ yX1_shape cX1_shape 5 (some .int)) 7 110 D dA [.ref s0, .int (nI 0), .int (iZ kk)] [(s0, .inr (0, [.ref r0])), (r0, .inr (1, [.ref sh, .ref sg, .int (bI tk), .ref bx, .ref th, .ref tr, .ref ev, .ref stp, .ref mx, .int (bI rl), .ref wa, .ref la, .ref ra, .ref ti])), (sh, .inl (dA 3, 2, .inr (.inr (.inr (.inr (sh2 o0a o0b))))))] "java/lang/IllegalArgumentException" := by
  refine Th.of (by decide) (Nat.le_of_ble_eq_true rfl) ?_
  intro pG eG sG mG bG tG cG ls hx hb hml hown hts hlocks hout hP hK hE hl
  have hown : sG.vm.findClass RX1 = some mG.cls := hown
  have hl : lv_has ls 5 [(0, .ref s0), (1, .int (nI 0)), (2, .int (iZ kk))] := hl
  refine lv_aload_n hx hb dX1_shape_0 rfl (lv_at hl 0 rfl) ?_
  refine lv_iload_n hx hb dX1_shape_1 rfl (lv_at hl 1 rfl) ?_
  refine zc_roV (v := .ref o0a) (rest := []) ⟨hx, hb, hml, hown, hts⟩ (metX1_known_0 lG D dA s0 r0 sh sg tk bx th tr ev stp mx rl wa la ra ti o0a o0b ) (cwV 1 hts (lw_V q778 q780 qs28 q71 q781) rfl rfl rfl (by decide +kernel) ⟨Nat.le_of_ble_eq_true rfl, Nat.le_of_ble_eq_true rfl⟩) (va_recv hK.1 hP (ci := 0) (q0 := 0) rfl rfl) (hP.sub [0, 1, 2] rfl) hK rfl hl.1 rfl (Nat.le_of_ble_eq_true rfl) dX1_shape_2 ⟨Nat.zero_le _, Nat.zero_le _⟩ ?_
  refine lv_astore_n (lv' := [(3, .ref o0a), (0, .ref s0), (1, .int (nI 0)), (2, .int (iZ kk))]) hx hb dX1_shape_5 rfl hl (by decide) rfl (fun ls hl => ?_)
  refine lv_iload_n hx hb dX1_shape_6 rfl (lv_at hl 3 rfl) ?_
  refine lv_iconst (v := iZ 1) hx hb dX1_shape_7 (by decide) ?_
  refine zz_icmp_lt (tgt := 20) hx hb hkI ⟨by decide, by decide⟩ dX1_shape_8 (by decide) (fun c_1 => ?_) (fun c_1 => ?_)
  · skip
    refine lv_iconst (v := bI false) hx hb dX1_shape_20 (by decide) ?_
    exact zx_passS (rest := []) ⟨hx, hb, hml, hown, hts⟩ (metX1_right_bad lG D dA (by first | assumption | omega)) (va_cwS 1 hts (lw_S q810 q811 q71 q812) rfl rfl rfl (by decide +kernel) ⟨Nat.le_of_ble_eq_true rfl, Nat.le_of_ble_eq_true rfl⟩) (hP.sub [] rfl) hK hE rfl hl.1 rfl (Nat.le_of_ble_eq_true rfl) dX1_shape_21 ⟨Nat.le_of_ble_eq_true rfl, Nat.le_of_ble_eq_true rfl⟩ hout hlocks
  · skip
    refine lv_iload_n hx hb dX1_shape_11 rfl (lv_at hl 3 rfl) ?_
    refine lv_iconst (v := iZ 3) hx hb dX1_shape_12 (by decide) ?_
    refine zz_icmp_gt (tgt := 20) hx hb hkI ⟨by decide, by decide⟩ dX1_shape_13 (by decide) (fun c_2 => ?_) (fun c_2 => ?_)
    · skip
      refine lv_iconst (v := bI false) hx hb dX1_shape_20 (by decide) ?_
      exact zx_passS (rest := []) ⟨hx, hb, hml, hown, hts⟩ (metX1_right_bad lG D dA (by first | assumption | omega)) (va_cwS 1 hts (lw_S q810 q811 q71 q812) rfl rfl rfl (by decide +kernel) ⟨Nat.le_of_ble_eq_true rfl, Nat.le_of_ble_eq_true rfl⟩) (hP.sub [] rfl) hK hE rfl hl.1 rfl (Nat.le_of_ble_eq_true rfl) dX1_shape_21 ⟨Nat.le_of_ble_eq_true rfl, Nat.le_of_ble_eq_true rfl⟩ hout hlocks
    · skip
      exfalso; omega
set_option maxHeartbeats 4000000 in
set_option maxRecDepth 100000 in
theorem metX1_point_badp0 (lG : Launch) (D : va_G) (dA : Nat → ClassId) (s0 : Nat) (r0 : Nat) (sh : Nat) (sg : Nat) (tk : Bool) (bx : Nat) (th : Nat) (tr : Nat) (ev : Nat) (stp : Nat) (mx : Nat) (rl : Bool) (wa : Nat) (la : Nat) (ra : Nat) (ti : Nat) (o0a : Nat) (o0b : Nat) (x : Int) (y : Int) (hfl : lG.flags = pinnedFlags ++ [noTraceFlag]) (hxy : (wiZ x (-500000000) 500000000 && wiZ y (-500000000) 500000000) = false) (hxI : inI x) (hyI : inI y) : Th lG yX1_point (ws_ yX1_point cX1_point 5 (some .int)) 7 110 D dA [.ref s0, .int (nI 0), .int (iZ x), .int (iZ y)] [(s0, .inr (0, [.ref r0])), (r0, .inr (1, [.ref sh, .ref sg, .int (bI tk), .ref bx, .ref th, .ref tr, .ref ev, .ref stp, .ref mx, .int (bI rl), .ref wa, .ref la, .ref ra, .ref ti])), (sh, .inl (dA 3, 2, .inr (.inr (.inr (.inr (sh2 o0a o0b))))))] "java/lang/IllegalArgumentException" := by
  refine Th.of (by decide) (Nat.le_of_ble_eq_true rfl) ?_
  intro pG eG sG mG bG tG cG ls hx hb hml hown hts hlocks hout hP hK hE hl
  have hown : sG.vm.findClass RX1 = some mG.cls := hown
  have hl : lv_has ls 5 [(0, .ref s0), (1, .int (nI 0)), (2, .int (iZ x)), (3, .int (iZ y))] := hl
  refine lv_aload_n hx hb dX1_point_0 rfl (lv_at hl 0 rfl) ?_
  refine lv_iload_n hx hb dX1_point_1 rfl (lv_at hl 1 rfl) ?_
  refine zc_roV (v := .ref o0a) (rest := []) ⟨hx, hb, hml, hown, hts⟩ (metX1_known_0 lG D dA s0 r0 sh sg tk bx th tr ev stp mx rl wa la ra ti o0a o0b ) (cwV 1 hts (lw_V q778 q780 qs28 q71 q781) rfl rfl rfl (by decide +kernel) ⟨Nat.le_of_ble_eq_true rfl, Nat.le_of_ble_eq_true rfl⟩) (va_recv hK.1 hP (ci := 0) (q0 := 0) rfl rfl) (hP.sub [0, 1, 2] rfl) hK rfl hl.1 rfl (Nat.le_of_ble_eq_true rfl) dX1_point_2 ⟨Nat.zero_le _, Nat.zero_le _⟩ ?_
  refine lv_astore (lv' := [(4, .ref o0a), (0, .ref s0), (1, .int (nI 0)), (2, .int (iZ x)), (3, .int (iZ y))]) hx hb dX1_point_5 hl (by decide) rfl (fun ls hl => ?_)
  refine lv_iload_n hx hb dX1_point_7 rfl (lv_at hl 3 rfl) ?_
  refine zc_roS (v := .int (bI (wiZ x (-500000000) 500000000))) (rest := []) ⟨hx, hb, hml, hown, hts⟩ (metX1_isPlace lG D dA x (by first | assumption | omega)) (va_cwS 1 hts (lw_S q874 q875 q71 q876) rfl rfl rfl (by decide +kernel) ⟨Nat.le_of_ble_eq_true rfl, Nat.le_of_ble_eq_true rfl⟩) (hP.sub [] rfl) hK rfl hl.1 rfl (Nat.le_of_ble_eq_true rfl) dX1_point_8 ⟨Nat.zero_le _, Nat.zero_le _⟩ ?_
  refine zb_if_eq (tgt := 25) hx hb dX1_point_11 (by decide) (fun hq1 => ?_) (fun hq1 => ?_)
  · skip
    refine lv_iconst (v := bI false) hx hb dX1_point_25 (by decide) ?_
    exact zx_passS (rest := []) ⟨hx, hb, hml, hown, hts⟩ (metX1_right_bad lG D dA (by first | assumption | omega)) (va_cwS 1 hts (lw_S q810 q811 q71 q812) rfl rfl rfl (by decide +kernel) ⟨Nat.le_of_ble_eq_true rfl, Nat.le_of_ble_eq_true rfl⟩) (hP.sub [] rfl) hK hE rfl hl.1 rfl (Nat.le_of_ble_eq_true rfl) dX1_point_26 ⟨Nat.le_of_ble_eq_true rfl, Nat.le_of_ble_eq_true rfl⟩ hout hlocks
  · skip
    refine lv_iload_n hx hb dX1_point_14 rfl (lv_at hl 4 rfl) ?_
    refine zc_roS (v := .int (bI (wiZ y (-500000000) 500000000))) (rest := []) ⟨hx, hb, hml, hown, hts⟩ (metX1_isPlace lG D dA y (by first | assumption | omega)) (va_cwS 1 hts (lw_S q874 q875 q71 q876) rfl rfl rfl (by decide +kernel) ⟨Nat.le_of_ble_eq_true rfl, Nat.le_of_ble_eq_true rfl⟩) (hP.sub [] rfl) hK rfl hl.1 rfl (Nat.le_of_ble_eq_true rfl) dX1_point_15 ⟨Nat.zero_le _, Nat.zero_le _⟩ ?_
    refine zb_if_eq (tgt := 25) hx hb dX1_point_18 (by decide) (fun hq2 => ?_) (fun hq2 => ?_)
    · skip
      refine lv_iconst (v := bI false) hx hb dX1_point_25 (by decide) ?_
      exact zx_passS (rest := []) ⟨hx, hb, hml, hown, hts⟩ (metX1_right_bad lG D dA (by first | assumption | omega)) (va_cwS 1 hts (lw_S q810 q811 q71 q812) rfl rfl rfl (by decide +kernel) ⟨Nat.le_of_ble_eq_true rfl, Nat.le_of_ble_eq_true rfl⟩) (hP.sub [] rfl) hK hE rfl hl.1 rfl (Nat.le_of_ble_eq_true rfl) dX1_point_26 ⟨Nat.le_of_ble_eq_true rfl, Nat.le_of_ble_eq_true rfl⟩ hout hlocks
    · skip
      exfalso; rw [hq1, hq2] at hxy; cases hxy
set_option maxHeartbeats 4000000 in
set_option maxRecDepth 100000 in
theorem metX1_locate_badp0 (lG : Launch) (D : va_G) (dA : Nat → ClassId) (s0 : Nat) (r0 : Nat) (sh : Nat) (sg : Nat) (tk : Bool) (bx : Nat) (th : Nat) (tr : Nat) (ev : Nat) (stp : Nat) (mx : Nat) (rl : Bool) (wa : Nat) (la : Nat) (ra : Nat) (ti : Nat) (o0a : Nat) (o0b : Nat) (x : Int) (y : Int) (hfl : lG.flags = pinnedFlags ++ [noTraceFlag]) (hxy : (wiZ x (-500000000) 500000000 && wiZ y (-500000000) 500000000) = false) (hxI : inI x) (hyI : inI y) : Th lG yX1_locate (ws_ yX1_locate cX1_locate 4 (some .int)) 7 110 D dA [.ref s0, .int (nI 0), .int (iZ x), .int (iZ y)] [(s0, .inr (0, [.ref r0])), (r0, .inr (1, [.ref sh, .ref sg, .int (bI tk), .ref bx, .ref th, .ref tr, .ref ev, .ref stp, .ref mx, .int (bI rl), .ref wa, .ref la, .ref ra, .ref ti])), (sh, .inl (dA 3, 2, .inr (.inr (.inr (.inr (sh2 o0a o0b))))))] "java/lang/IllegalArgumentException" := by
  refine Th.of (by decide) (Nat.le_of_ble_eq_true rfl) ?_
  intro pG eG sG mG bG tG cG ls hx hb hml hown hts hlocks hout hP hK hE hl
  have hown : sG.vm.findClass RX1 = some mG.cls := hown
  have hl : lv_has ls 4 [(0, .ref s0), (1, .int (nI 0)), (2, .int (iZ x)), (3, .int (iZ y))] := hl
  refine lv_aload_n hx hb dX1_locate_0 rfl (lv_at hl 0 rfl) ?_
  refine lv_iload_n hx hb dX1_locate_1 rfl (lv_at hl 1 rfl) ?_
  refine zc_roV (v := .ref o0a) (rest := []) ⟨hx, hb, hml, hown, hts⟩ (metX1_known_0 lG D dA s0 r0 sh sg tk bx th tr ev stp mx rl wa la ra ti o0a o0b ) (cwV 1 hts (lw_V q778 q780 qs28 q71 q781) rfl rfl rfl (by decide +kernel) ⟨Nat.le_of_ble_eq_true rfl, Nat.le_of_ble_eq_true rfl⟩) (va_recv hK.1 hP (ci := 0) (q0 := 0) rfl rfl) (hP.sub [0, 1, 2] rfl) hK rfl hl.1 rfl (Nat.le_of_ble_eq_true rfl) dX1_locate_2 ⟨Nat.zero_le _, Nat.zero_le _⟩ ?_
  refine lv_pop hx hb dX1_locate_5 rfl ?_
  refine lv_iload_n hx hb dX1_locate_6 rfl (lv_at hl 2 rfl) ?_
  refine zc_roS (v := .int (bI (wiZ x (-500000000) 500000000))) (rest := []) ⟨hx, hb, hml, hown, hts⟩ (metX1_isPlace lG D dA x (by first | assumption | omega)) (va_cwS 1 hts (lw_S q874 q875 q71 q876) rfl rfl rfl (by decide +kernel) ⟨Nat.le_of_ble_eq_true rfl, Nat.le_of_ble_eq_true rfl⟩) (hP.sub [] rfl) hK rfl hl.1 rfl (Nat.le_of_ble_eq_true rfl) dX1_locate_7 ⟨Nat.zero_le _, Nat.zero_le _⟩ ?_
  refine zb_if_eq (tgt := 24) hx hb dX1_locate_10 (by decide) (fun hq1 => ?_) (fun hq1 => ?_)
  · skip
    refine lv_iconst (v := bI false) hx hb dX1_locate_24 (by decide) ?_
    exact zx_passS (rest := []) ⟨hx, hb, hml, hown, hts⟩ (metX1_right_bad lG D dA (by first | assumption | omega)) (va_cwS 1 hts (lw_S q810 q811 q71 q812) rfl rfl rfl (by decide +kernel) ⟨Nat.le_of_ble_eq_true rfl, Nat.le_of_ble_eq_true rfl⟩) (hP.sub [] rfl) hK hE rfl hl.1 rfl (Nat.le_of_ble_eq_true rfl) dX1_locate_25 ⟨Nat.le_of_ble_eq_true rfl, Nat.le_of_ble_eq_true rfl⟩ hout hlocks
  · skip
    refine lv_iload_n hx hb dX1_locate_13 rfl (lv_at hl 3 rfl) ?_
    refine zc_roS (v := .int (bI (wiZ y (-500000000) 500000000))) (rest := []) ⟨hx, hb, hml, hown, hts⟩ (metX1_isPlace lG D dA y (by first | assumption | omega)) (va_cwS 1 hts (lw_S q874 q875 q71 q876) rfl rfl rfl (by decide +kernel) ⟨Nat.le_of_ble_eq_true rfl, Nat.le_of_ble_eq_true rfl⟩) (hP.sub [] rfl) hK rfl hl.1 rfl (Nat.le_of_ble_eq_true rfl) dX1_locate_14 ⟨Nat.zero_le _, Nat.zero_le _⟩ ?_
    refine zb_if_eq (tgt := 24) hx hb dX1_locate_17 (by decide) (fun hq2 => ?_) (fun hq2 => ?_)
    · skip
      refine lv_iconst (v := bI false) hx hb dX1_locate_24 (by decide) ?_
      exact zx_passS (rest := []) ⟨hx, hb, hml, hown, hts⟩ (metX1_right_bad lG D dA (by first | assumption | omega)) (va_cwS 1 hts (lw_S q810 q811 q71 q812) rfl rfl rfl (by decide +kernel) ⟨Nat.le_of_ble_eq_true rfl, Nat.le_of_ble_eq_true rfl⟩) (hP.sub [] rfl) hK hE rfl hl.1 rfl (Nat.le_of_ble_eq_true rfl) dX1_locate_25 ⟨Nat.le_of_ble_eq_true rfl, Nat.le_of_ble_eq_true rfl⟩ hout hlocks
    · skip
      exfalso; rw [hq1, hq2] at hxy; cases hxy
set_option maxHeartbeats 4000000 in
set_option maxRecDepth 100000 in
theorem metX1_point_bads0 (lG : Launch) (D : va_G) (dA : Nat → ClassId) (s0 : Nat) (r0 : Nat) (sh : Nat) (sg : Nat) (tk : Bool) (bx : Nat) (th : Nat) (tr : Nat) (ev : Nat) (stp : Nat) (mx : Nat) (rl : Bool) (wa : Nat) (la : Nat) (ra : Nat) (ti : Nat) (o0a : Nat) (o0b : Nat) (kda : Nat) (c1a : Nat) (npa : Nat) (c2a : Nat) (c3a : Nat) (nqa : Nat) (nsa : Nat) (nxa : Nat) (STa : Nat → Nat) (Xa : Nat → Int) (Ya : Nat → Int) (x : Int) (y : Int) (hfl : lG.flags = pinnedFlags ++ [noTraceFlag]) (hxy : wiZ x (-500000000) 500000000 = true ∧ wiZ y (-500000000) 500000000 = true) (hxI : inI x) (hyI : inI y) (hnp0 : npa = 0) : Th lG yX1_point (ws_ yX1_point cX1_point 5 (some .int)) 7 110 D dA [.ref s0, .int (nI 0), .int (iZ x), .int (iZ y)] [(s0, .inr (0, [.ref r0])), (r0, .inr (1, [.ref sh, .ref sg, .int (bI tk), .ref bx, .ref th, .ref tr, .ref ev, .ref stp, .ref mx, .int (bI rl), .ref wa, .ref la, .ref ra, .ref ti])), (sh, .inl (dA 3, 2, .inr (.inr (.inr (.inr (sh2 o0a o0b)))))), (o0a, .inr (2, [.int (nI kda), .ref c1a, .int (nI npa), .ref c2a, .ref c3a, .int (nI nqa)])), (c1a, .inl (dA 0, nsa, .inl fun j => nI (STa j))), (c2a, .inl (dA 0, nxa, .inl fun j => iZ (Xa j))), (c3a, .inl (dA 0, nxa, .inl fun j => iZ (Ya j)))] "java/lang/IllegalStateException" := by
  refine Th.of (by decide) (Nat.le_of_ble_eq_true rfl) ?_
  intro pG eG sG mG bG tG cG ls hx hb hml hown hts hlocks hout hP hK hE hl
  have hown : sG.vm.findClass RX1 = some mG.cls := hown
  have hl : lv_has ls 5 [(0, .ref s0), (1, .int (nI 0)), (2, .int (iZ x)), (3, .int (iZ y))] := hl
  refine lv_aload_n hx hb dX1_point_0 rfl (lv_at hl 0 rfl) ?_
  refine lv_iload_n hx hb dX1_point_1 rfl (lv_at hl 1 rfl) ?_
  refine zc_roV (v := .ref o0a) (rest := []) ⟨hx, hb, hml, hown, hts⟩ (metX1_known_0 lG D dA s0 r0 sh sg tk bx th tr ev stp mx rl wa la ra ti o0a o0b ) (cwV 1 hts (lw_V q778 q780 qs28 q71 q781) rfl rfl rfl (by decide +kernel) ⟨Nat.le_of_ble_eq_true rfl, Nat.le_of_ble_eq_true rfl⟩) (va_recv hK.1 hP (ci := 0) (q0 := 0) rfl rfl) (hP.sub [0, 1, 2] rfl) hK rfl hl.1 rfl (Nat.le_of_ble_eq_true rfl) dX1_point_2 ⟨Nat.zero_le _, Nat.zero_le _⟩ ?_
  refine lv_astore (lv' := [(4, .ref o0a), (0, .ref s0), (1, .int (nI 0)), (2, .int (iZ x)), (3, .int (iZ y))]) hx hb dX1_point_5 hl (by decide) rfl (fun ls hl => ?_)
  refine lv_iload_n hx hb dX1_point_7 rfl (lv_at hl 3 rfl) ?_
  refine zc_roS (v := .int (bI (wiZ x (-500000000) 500000000))) (rest := []) ⟨hx, hb, hml, hown, hts⟩ (metX1_isPlace lG D dA x (by first | assumption | omega)) (va_cwS 1 hts (lw_S q874 q875 q71 q876) rfl rfl rfl (by decide +kernel) ⟨Nat.le_of_ble_eq_true rfl, Nat.le_of_ble_eq_true rfl⟩) (hP.sub [] rfl) hK rfl hl.1 rfl (Nat.le_of_ble_eq_true rfl) dX1_point_8 ⟨Nat.zero_le _, Nat.zero_le _⟩ ?_
  refine zb_if_eq (tgt := 25) hx hb dX1_point_11 (by decide) (fun hq1 => ?_) (fun hq1 => ?_)
  · skip
    exfalso; rw [hxy.1] at hq1; cases hq1
  · skip
    refine lv_iload_n hx hb dX1_point_14 rfl (lv_at hl 4 rfl) ?_
    refine zc_roS (v := .int (bI (wiZ y (-500000000) 500000000))) (rest := []) ⟨hx, hb, hml, hown, hts⟩ (metX1_isPlace lG D dA y (by first | assumption | omega)) (va_cwS 1 hts (lw_S q874 q875 q71 q876) rfl rfl rfl (by decide +kernel) ⟨Nat.le_of_ble_eq_true rfl, Nat.le_of_ble_eq_true rfl⟩) (hP.sub [] rfl) hK rfl hl.1 rfl (Nat.le_of_ble_eq_true rfl) dX1_point_15 ⟨Nat.zero_le _, Nat.zero_le _⟩ ?_
    refine zb_if_eq (tgt := 25) hx hb dX1_point_18 (by decide) (fun hq2 => ?_) (fun hq2 => ?_)
    · skip
      exfalso; rw [hxy.2] at hq2; cases hq2
    · skip
      refine lv_iconst (v := bI true) hx hb dX1_point_21 (by decide) ?_
      refine lv_goto (tgt := 26) hx hb dX1_point_22 (by decide) ?_
      refine zc_roSv (rest := []) ⟨hx, hb, hml, hown, hts⟩ (metX1_right_ok lG D dA ) (va_cwS 1 hts (lw_S q810 q811 q71 q812) rfl rfl rfl (by decide +kernel) ⟨Nat.le_of_ble_eq_true rfl, Nat.le_of_ble_eq_true rfl⟩) (hP.sub [] rfl) hK rfl hl.1 rfl (Nat.le_of_ble_eq_true rfl) dX1_point_26 ⟨Nat.zero_le _, Nat.zero_le _⟩ ?_
      refine lv_aload hx hb dX1_point_29 (lv_at hl 0 rfl) ?_
      refine va_getN (D := D) (ci := 2) (v := .int (nI npa)) (C := RX3) (T := TX3) (N := 6) hx hb hts in_X3 hown hK.1 hP 3 rfl rfl 2 (Nat.le_of_ble_eq_true rfl) (hK.use zq121) (fun _ h9 => h9) rfl dX1_point_31 ?_
      refine zn_if_le (tgt := 52) hx hb (by omega) dX1_point_34 (by decide) (fun c_1 => ?_) (fun c_1 => ?_)
      · skip
        refine lv_iconst (v := bI false) hx hb dX1_point_52 (by decide) ?_
        exact zx_passS (rest := []) ⟨hx, hb, hml, hown, hts⟩ (metX1_can_bad lG D dA (by first | assumption | omega)) (va_cwS 1 hts (lw_S q844 q845 q71 q846) rfl rfl rfl (by decide +kernel) ⟨Nat.le_of_ble_eq_true rfl, Nat.le_of_ble_eq_true rfl⟩) (hP.sub [] rfl) hK hE rfl hl.1 rfl (Nat.le_of_ble_eq_true rfl) dX1_point_53 ⟨Nat.le_of_ble_eq_true rfl, Nat.le_of_ble_eq_true rfl⟩ hout hlocks
      · skip
        exfalso; omega
set_option maxHeartbeats 4000000 in
set_option maxRecDepth 100000 in
theorem metX1_count_badk0 (lG : Launch) (D : va_G) (dA : Nat → ClassId) (s0 : Nat) (r0 : Nat) (sh : Nat) (sg : Nat) (tk : Bool) (bx : Nat) (th : Nat) (tr : Nat) (ev : Nat) (stp : Nat) (mx : Nat) (rl : Bool) (wa : Nat) (la : Nat) (ra : Nat) (ti : Nat) (o0a : Nat) (o0b : Nat) (kk : Int) (hfl : lG.flags = pinnedFlags ++ [noTraceFlag]) (hk : kk < 0 ∨ 3 ≤ kk) (hkI : inI kk) : Th lG yX1_count (ws_ yX1_count cX1_count 4 (some .int)) 7 110 D dA [.ref s0, .int (nI 0), .int (iZ kk)] [(s0, .inr (0, [.ref r0])), (r0, .inr (1, [.ref sh, .ref sg, .int (bI tk), .ref bx, .ref th, .ref tr, .ref ev, .ref stp, .ref mx, .int (bI rl), .ref wa, .ref la, .ref ra, .ref ti])), (sh, .inl (dA 3, 2, .inr (.inr (.inr (.inr (sh2 o0a o0b))))))] "java/lang/IndexOutOfBoundsException" := by
  refine Th.of (by decide) (Nat.le_of_ble_eq_true rfl) ?_
  intro pG eG sG mG bG tG cG ls hx hb hml hown hts hlocks hout hP hK hE hl
  have hown : sG.vm.findClass RX1 = some mG.cls := hown
  have hl : lv_has ls 4 [(0, .ref s0), (1, .int (nI 0)), (2, .int (iZ kk))] := hl
  refine lv_aload_n hx hb dX1_count_0 rfl (lv_at hl 0 rfl) ?_
  refine lv_iload_n hx hb dX1_count_1 rfl (lv_at hl 1 rfl) ?_
  refine zc_roV (v := .ref o0a) (rest := []) ⟨hx, hb, hml, hown, hts⟩ (metX1_known_0 lG D dA s0 r0 sh sg tk bx th tr ev stp mx rl wa la ra ti o0a o0b ) (cwV 1 hts (lw_V q778 q780 qs28 q71 q781) rfl rfl rfl (by decide +kernel) ⟨Nat.le_of_ble_eq_true rfl, Nat.le_of_ble_eq_true rfl⟩) (va_recv hK.1 hP (ci := 0) (q0 := 0) rfl rfl) (hP.sub [0, 1, 2] rfl) hK rfl hl.1 rfl (Nat.le_of_ble_eq_true rfl) dX1_count_2 ⟨Nat.zero_le _, Nat.zero_le _⟩ ?_
  refine lv_astore_n (lv' := [(3, .ref o0a), (0, .ref s0), (1, .int (nI 0)), (2, .int (iZ kk))]) hx hb dX1_count_5 rfl hl (by decide) rfl (fun ls hl => ?_)
  refine lv_iload_n hx hb dX1_count_6 rfl (lv_at hl 3 rfl) ?_
  refine zz_if_lt (tgt := 19) hx hb hkI dX1_count_7 (by decide) (fun c_1 => ?_) (fun c_1 => ?_)
  · skip
    refine lv_iconst (v := bI false) hx hb dX1_count_19 (by decide) ?_
    exact zx_passS (rest := []) ⟨hx, hb, hml, hown, hts⟩ (metX1_there_bad lG D dA (by first | assumption | omega)) (va_cwS 1 hts (lw_S q782 q783 q71 q784) rfl rfl rfl (by decide +kernel) ⟨Nat.le_of_ble_eq_true rfl, Nat.le_of_ble_eq_true rfl⟩) (hP.sub [] rfl) hK hE rfl hl.1 rfl (Nat.le_of_ble_eq_true rfl) dX1_count_20 ⟨Nat.le_of_ble_eq_true rfl, Nat.le_of_ble_eq_true rfl⟩ hout hlocks
  · skip
    refine lv_iload_n hx hb dX1_count_10 rfl (lv_at hl 3 rfl) ?_
    refine lv_iconst (v := iZ 3) hx hb dX1_count_11 (by decide) ?_
    refine zz_icmp_ge (tgt := 19) hx hb hkI ⟨by decide, by decide⟩ dX1_count_12 (by decide) (fun c_2 => ?_) (fun c_2 => ?_)
    · skip
      refine lv_iconst (v := bI false) hx hb dX1_count_19 (by decide) ?_
      exact zx_passS (rest := []) ⟨hx, hb, hml, hown, hts⟩ (metX1_there_bad lG D dA (by first | assumption | omega)) (va_cwS 1 hts (lw_S q782 q783 q71 q784) rfl rfl rfl (by decide +kernel) ⟨Nat.le_of_ble_eq_true rfl, Nat.le_of_ble_eq_true rfl⟩) (hP.sub [] rfl) hK hE rfl hl.1 rfl (Nat.le_of_ble_eq_true rfl) dX1_count_20 ⟨Nat.le_of_ble_eq_true rfl, Nat.le_of_ble_eq_true rfl⟩ hout hlocks
    · skip
      exfalso; omega
set_option maxHeartbeats 4000000 in
set_option maxRecDepth 100000 in
theorem metX1_shape_badk1 (lG : Launch) (D : va_G) (dA : Nat → ClassId) (s0 : Nat) (r0 : Nat) (sh : Nat) (sg : Nat) (tk : Bool) (bx : Nat) (th : Nat) (tr : Nat) (ev : Nat) (stp : Nat) (mx : Nat) (rl : Bool) (wa : Nat) (la : Nat) (ra : Nat) (ti : Nat) (o0a : Nat) (o0b : Nat) (kk : Int) (hfl : lG.flags = pinnedFlags ++ [noTraceFlag]) (hk : kk < 1 ∨ 3 < kk) (hkI : inI kk) : Th lG yX1_shape (ws_ yX1_shape cX1_shape 5 (some .int)) 7 110 D dA [.ref s0, .int (nI 1), .int (iZ kk)] [(s0, .inr (0, [.ref r0])), (r0, .inr (1, [.ref sh, .ref sg, .int (bI tk), .ref bx, .ref th, .ref tr, .ref ev, .ref stp, .ref mx, .int (bI rl), .ref wa, .ref la, .ref ra, .ref ti])), (sh, .inl (dA 3, 2, .inr (.inr (.inr (.inr (sh2 o0a o0b))))))] "java/lang/IllegalArgumentException" := by
  refine Th.of (by decide) (Nat.le_of_ble_eq_true rfl) ?_
  intro pG eG sG mG bG tG cG ls hx hb hml hown hts hlocks hout hP hK hE hl
  have hown : sG.vm.findClass RX1 = some mG.cls := hown
  have hl : lv_has ls 5 [(0, .ref s0), (1, .int (nI 1)), (2, .int (iZ kk))] := hl
  refine lv_aload_n hx hb dX1_shape_0 rfl (lv_at hl 0 rfl) ?_
  refine lv_iload_n hx hb dX1_shape_1 rfl (lv_at hl 1 rfl) ?_
  refine zc_roV (v := .ref o0b) (rest := []) ⟨hx, hb, hml, hown, hts⟩ (metX1_known_1 lG D dA s0 r0 sh sg tk bx th tr ev stp mx rl wa la ra ti o0a o0b ) (cwV 1 hts (lw_V q778 q780 qs28 q71 q781) rfl rfl rfl (by decide +kernel) ⟨Nat.le_of_ble_eq_true rfl, Nat.le_of_ble_eq_true rfl⟩) (va_recv hK.1 hP (ci := 0) (q0 := 0) rfl rfl) (hP.sub [0, 1, 2] rfl) hK rfl hl.1 rfl (Nat.le_of_ble_eq_true rfl) dX1_shape_2 ⟨Nat.zero_le _, Nat.zero_le _⟩ ?_
  refine lv_astore_n (lv' := [(3, .ref o0b), (0, .ref s0), (1, .int (nI 1)), (2, .int (iZ kk))]) hx hb dX1_shape_5 rfl hl (by decide) rfl (fun ls hl => ?_)
  refine lv_iload_n hx hb dX1_shape_6 rfl (lv_at hl 3 rfl) ?_
  refine lv_iconst (v := iZ 1) hx hb dX1_shape_7 (by decide) ?_
  refine zz_icmp_lt (tgt := 20) hx hb hkI ⟨by decide, by decide⟩ dX1_shape_8 (by decide) (fun c_1 => ?_) (fun c_1 => ?_)
  · skip
    refine lv_iconst (v := bI false) hx hb dX1_shape_20 (by decide) ?_
    exact zx_passS (rest := []) ⟨hx, hb, hml, hown, hts⟩ (metX1_right_bad lG D dA (by first | assumption | omega)) (va_cwS 1 hts (lw_S q810 q811 q71 q812) rfl rfl rfl (by decide +kernel) ⟨Nat.le_of_ble_eq_true rfl, Nat.le_of_ble_eq_true rfl⟩) (hP.sub [] rfl) hK hE rfl hl.1 rfl (Nat.le_of_ble_eq_true rfl) dX1_shape_21 ⟨Nat.le_of_ble_eq_true rfl, Nat.le_of_ble_eq_true rfl⟩ hout hlocks
  · skip
    refine lv_iload_n hx hb dX1_shape_11 rfl (lv_at hl 3 rfl) ?_
    refine lv_iconst (v := iZ 3) hx hb dX1_shape_12 (by decide) ?_
    refine zz_icmp_gt (tgt := 20) hx hb hkI ⟨by decide, by decide⟩ dX1_shape_13 (by decide) (fun c_2 => ?_) (fun c_2 => ?_)
    · skip
      refine lv_iconst (v := bI false) hx hb dX1_shape_20 (by decide) ?_
      exact zx_passS (rest := []) ⟨hx, hb, hml, hown, hts⟩ (metX1_right_bad lG D dA (by first | assumption | omega)) (va_cwS 1 hts (lw_S q810 q811 q71 q812) rfl rfl rfl (by decide +kernel) ⟨Nat.le_of_ble_eq_true rfl, Nat.le_of_ble_eq_true rfl⟩) (hP.sub [] rfl) hK hE rfl hl.1 rfl (Nat.le_of_ble_eq_true rfl) dX1_shape_21 ⟨Nat.le_of_ble_eq_true rfl, Nat.le_of_ble_eq_true rfl⟩ hout hlocks
    · skip
      exfalso; omega
set_option maxHeartbeats 4000000 in
set_option maxRecDepth 100000 in
theorem metX1_point_badp1 (lG : Launch) (D : va_G) (dA : Nat → ClassId) (s0 : Nat) (r0 : Nat) (sh : Nat) (sg : Nat) (tk : Bool) (bx : Nat) (th : Nat) (tr : Nat) (ev : Nat) (stp : Nat) (mx : Nat) (rl : Bool) (wa : Nat) (la : Nat) (ra : Nat) (ti : Nat) (o0a : Nat) (o0b : Nat) (x : Int) (y : Int) (hfl : lG.flags = pinnedFlags ++ [noTraceFlag]) (hxy : (wiZ x (-500000000) 500000000 && wiZ y (-500000000) 500000000) = false) (hxI : inI x) (hyI : inI y) : Th lG yX1_point (ws_ yX1_point cX1_point 5 (some .int)) 7 110 D dA [.ref s0, .int (nI 1), .int (iZ x), .int (iZ y)] [(s0, .inr (0, [.ref r0])), (r0, .inr (1, [.ref sh, .ref sg, .int (bI tk), .ref bx, .ref th, .ref tr, .ref ev, .ref stp, .ref mx, .int (bI rl), .ref wa, .ref la, .ref ra, .ref ti])), (sh, .inl (dA 3, 2, .inr (.inr (.inr (.inr (sh2 o0a o0b))))))] "java/lang/IllegalArgumentException" := by
  refine Th.of (by decide) (Nat.le_of_ble_eq_true rfl) ?_
  intro pG eG sG mG bG tG cG ls hx hb hml hown hts hlocks hout hP hK hE hl
  have hown : sG.vm.findClass RX1 = some mG.cls := hown
  have hl : lv_has ls 5 [(0, .ref s0), (1, .int (nI 1)), (2, .int (iZ x)), (3, .int (iZ y))] := hl
  refine lv_aload_n hx hb dX1_point_0 rfl (lv_at hl 0 rfl) ?_
  refine lv_iload_n hx hb dX1_point_1 rfl (lv_at hl 1 rfl) ?_
  refine zc_roV (v := .ref o0b) (rest := []) ⟨hx, hb, hml, hown, hts⟩ (metX1_known_1 lG D dA s0 r0 sh sg tk bx th tr ev stp mx rl wa la ra ti o0a o0b ) (cwV 1 hts (lw_V q778 q780 qs28 q71 q781) rfl rfl rfl (by decide +kernel) ⟨Nat.le_of_ble_eq_true rfl, Nat.le_of_ble_eq_true rfl⟩) (va_recv hK.1 hP (ci := 0) (q0 := 0) rfl rfl) (hP.sub [0, 1, 2] rfl) hK rfl hl.1 rfl (Nat.le_of_ble_eq_true rfl) dX1_point_2 ⟨Nat.zero_le _, Nat.zero_le _⟩ ?_
  refine lv_astore (lv' := [(4, .ref o0b), (0, .ref s0), (1, .int (nI 1)), (2, .int (iZ x)), (3, .int (iZ y))]) hx hb dX1_point_5 hl (by decide) rfl (fun ls hl => ?_)
  refine lv_iload_n hx hb dX1_point_7 rfl (lv_at hl 3 rfl) ?_
  refine zc_roS (v := .int (bI (wiZ x (-500000000) 500000000))) (rest := []) ⟨hx, hb, hml, hown, hts⟩ (metX1_isPlace lG D dA x (by first | assumption | omega)) (va_cwS 1 hts (lw_S q874 q875 q71 q876) rfl rfl rfl (by decide +kernel) ⟨Nat.le_of_ble_eq_true rfl, Nat.le_of_ble_eq_true rfl⟩) (hP.sub [] rfl) hK rfl hl.1 rfl (Nat.le_of_ble_eq_true rfl) dX1_point_8 ⟨Nat.zero_le _, Nat.zero_le _⟩ ?_
  refine zb_if_eq (tgt := 25) hx hb dX1_point_11 (by decide) (fun hq1 => ?_) (fun hq1 => ?_)
  · skip
    refine lv_iconst (v := bI false) hx hb dX1_point_25 (by decide) ?_
    exact zx_passS (rest := []) ⟨hx, hb, hml, hown, hts⟩ (metX1_right_bad lG D dA (by first | assumption | omega)) (va_cwS 1 hts (lw_S q810 q811 q71 q812) rfl rfl rfl (by decide +kernel) ⟨Nat.le_of_ble_eq_true rfl, Nat.le_of_ble_eq_true rfl⟩) (hP.sub [] rfl) hK hE rfl hl.1 rfl (Nat.le_of_ble_eq_true rfl) dX1_point_26 ⟨Nat.le_of_ble_eq_true rfl, Nat.le_of_ble_eq_true rfl⟩ hout hlocks
  · skip
    refine lv_iload_n hx hb dX1_point_14 rfl (lv_at hl 4 rfl) ?_
    refine zc_roS (v := .int (bI (wiZ y (-500000000) 500000000))) (rest := []) ⟨hx, hb, hml, hown, hts⟩ (metX1_isPlace lG D dA y (by first | assumption | omega)) (va_cwS 1 hts (lw_S q874 q875 q71 q876) rfl rfl rfl (by decide +kernel) ⟨Nat.le_of_ble_eq_true rfl, Nat.le_of_ble_eq_true rfl⟩) (hP.sub [] rfl) hK rfl hl.1 rfl (Nat.le_of_ble_eq_true rfl) dX1_point_15 ⟨Nat.zero_le _, Nat.zero_le _⟩ ?_
    refine zb_if_eq (tgt := 25) hx hb dX1_point_18 (by decide) (fun hq2 => ?_) (fun hq2 => ?_)
    · skip
      refine lv_iconst (v := bI false) hx hb dX1_point_25 (by decide) ?_
      exact zx_passS (rest := []) ⟨hx, hb, hml, hown, hts⟩ (metX1_right_bad lG D dA (by first | assumption | omega)) (va_cwS 1 hts (lw_S q810 q811 q71 q812) rfl rfl rfl (by decide +kernel) ⟨Nat.le_of_ble_eq_true rfl, Nat.le_of_ble_eq_true rfl⟩) (hP.sub [] rfl) hK hE rfl hl.1 rfl (Nat.le_of_ble_eq_true rfl) dX1_point_26 ⟨Nat.le_of_ble_eq_true rfl, Nat.le_of_ble_eq_true rfl⟩ hout hlocks
    · skip
      exfalso; rw [hq1, hq2] at hxy; cases hxy
set_option maxHeartbeats 4000000 in
set_option maxRecDepth 100000 in
theorem metX1_locate_badp1 (lG : Launch) (D : va_G) (dA : Nat → ClassId) (s0 : Nat) (r0 : Nat) (sh : Nat) (sg : Nat) (tk : Bool) (bx : Nat) (th : Nat) (tr : Nat) (ev : Nat) (stp : Nat) (mx : Nat) (rl : Bool) (wa : Nat) (la : Nat) (ra : Nat) (ti : Nat) (o0a : Nat) (o0b : Nat) (x : Int) (y : Int) (hfl : lG.flags = pinnedFlags ++ [noTraceFlag]) (hxy : (wiZ x (-500000000) 500000000 && wiZ y (-500000000) 500000000) = false) (hxI : inI x) (hyI : inI y) : Th lG yX1_locate (ws_ yX1_locate cX1_locate 4 (some .int)) 7 110 D dA [.ref s0, .int (nI 1), .int (iZ x), .int (iZ y)] [(s0, .inr (0, [.ref r0])), (r0, .inr (1, [.ref sh, .ref sg, .int (bI tk), .ref bx, .ref th, .ref tr, .ref ev, .ref stp, .ref mx, .int (bI rl), .ref wa, .ref la, .ref ra, .ref ti])), (sh, .inl (dA 3, 2, .inr (.inr (.inr (.inr (sh2 o0a o0b))))))] "java/lang/IllegalArgumentException" := by
  refine Th.of (by decide) (Nat.le_of_ble_eq_true rfl) ?_
  intro pG eG sG mG bG tG cG ls hx hb hml hown hts hlocks hout hP hK hE hl
  have hown : sG.vm.findClass RX1 = some mG.cls := hown
  have hl : lv_has ls 4 [(0, .ref s0), (1, .int (nI 1)), (2, .int (iZ x)), (3, .int (iZ y))] := hl
  refine lv_aload_n hx hb dX1_locate_0 rfl (lv_at hl 0 rfl) ?_
  refine lv_iload_n hx hb dX1_locate_1 rfl (lv_at hl 1 rfl) ?_
  refine zc_roV (v := .ref o0b) (rest := []) ⟨hx, hb, hml, hown, hts⟩ (metX1_known_1 lG D dA s0 r0 sh sg tk bx th tr ev stp mx rl wa la ra ti o0a o0b ) (cwV 1 hts (lw_V q778 q780 qs28 q71 q781) rfl rfl rfl (by decide +kernel) ⟨Nat.le_of_ble_eq_true rfl, Nat.le_of_ble_eq_true rfl⟩) (va_recv hK.1 hP (ci := 0) (q0 := 0) rfl rfl) (hP.sub [0, 1, 2] rfl) hK rfl hl.1 rfl (Nat.le_of_ble_eq_true rfl) dX1_locate_2 ⟨Nat.zero_le _, Nat.zero_le _⟩ ?_
  refine lv_pop hx hb dX1_locate_5 rfl ?_
  refine lv_iload_n hx hb dX1_locate_6 rfl (lv_at hl 2 rfl) ?_
  refine zc_roS (v := .int (bI (wiZ x (-500000000) 500000000))) (rest := []) ⟨hx, hb, hml, hown, hts⟩ (metX1_isPlace lG D dA x (by first | assumption | omega)) (va_cwS 1 hts (lw_S q874 q875 q71 q876) rfl rfl rfl (by decide +kernel) ⟨Nat.le_of_ble_eq_true rfl, Nat.le_of_ble_eq_true rfl⟩) (hP.sub [] rfl) hK rfl hl.1 rfl (Nat.le_of_ble_eq_true rfl) dX1_locate_7 ⟨Nat.zero_le _, Nat.zero_le _⟩ ?_
  refine zb_if_eq (tgt := 24) hx hb dX1_locate_10 (by decide) (fun hq1 => ?_) (fun hq1 => ?_)
  · skip
    refine lv_iconst (v := bI false) hx hb dX1_locate_24 (by decide) ?_
    exact zx_passS (rest := []) ⟨hx, hb, hml, hown, hts⟩ (metX1_right_bad lG D dA (by first | assumption | omega)) (va_cwS 1 hts (lw_S q810 q811 q71 q812) rfl rfl rfl (by decide +kernel) ⟨Nat.le_of_ble_eq_true rfl, Nat.le_of_ble_eq_true rfl⟩) (hP.sub [] rfl) hK hE rfl hl.1 rfl (Nat.le_of_ble_eq_true rfl) dX1_locate_25 ⟨Nat.le_of_ble_eq_true rfl, Nat.le_of_ble_eq_true rfl⟩ hout hlocks
  · skip
    refine lv_iload_n hx hb dX1_locate_13 rfl (lv_at hl 3 rfl) ?_
    refine zc_roS (v := .int (bI (wiZ y (-500000000) 500000000))) (rest := []) ⟨hx, hb, hml, hown, hts⟩ (metX1_isPlace lG D dA y (by first | assumption | omega)) (va_cwS 1 hts (lw_S q874 q875 q71 q876) rfl rfl rfl (by decide +kernel) ⟨Nat.le_of_ble_eq_true rfl, Nat.le_of_ble_eq_true rfl⟩) (hP.sub [] rfl) hK rfl hl.1 rfl (Nat.le_of_ble_eq_true rfl) dX1_locate_14 ⟨Nat.zero_le _, Nat.zero_le _⟩ ?_
    refine zb_if_eq (tgt := 24) hx hb dX1_locate_17 (by decide) (fun hq2 => ?_) (fun hq2 => ?_)
    · skip
      refine lv_iconst (v := bI false) hx hb dX1_locate_24 (by decide) ?_
      exact zx_passS (rest := []) ⟨hx, hb, hml, hown, hts⟩ (metX1_right_bad lG D dA (by first | assumption | omega)) (va_cwS 1 hts (lw_S q810 q811 q71 q812) rfl rfl rfl (by decide +kernel) ⟨Nat.le_of_ble_eq_true rfl, Nat.le_of_ble_eq_true rfl⟩) (hP.sub [] rfl) hK hE rfl hl.1 rfl (Nat.le_of_ble_eq_true rfl) dX1_locate_25 ⟨Nat.le_of_ble_eq_true rfl, Nat.le_of_ble_eq_true rfl⟩ hout hlocks
    · skip
      exfalso; rw [hq1, hq2] at hxy; cases hxy
set_option maxHeartbeats 4000000 in
set_option maxRecDepth 100000 in
theorem metX1_point_bads1 (lG : Launch) (D : va_G) (dA : Nat → ClassId) (s0 : Nat) (r0 : Nat) (sh : Nat) (sg : Nat) (tk : Bool) (bx : Nat) (th : Nat) (tr : Nat) (ev : Nat) (stp : Nat) (mx : Nat) (rl : Bool) (wa : Nat) (la : Nat) (ra : Nat) (ti : Nat) (o0a : Nat) (o0b : Nat) (kdb : Nat) (c1b : Nat) (npb : Nat) (c2b : Nat) (c3b : Nat) (nqb : Nat) (nsb : Nat) (nxb : Nat) (STb : Nat → Nat) (Xb : Nat → Int) (Yb : Nat → Int) (x : Int) (y : Int) (hfl : lG.flags = pinnedFlags ++ [noTraceFlag]) (hxy : wiZ x (-500000000) 500000000 = true ∧ wiZ y (-500000000) 500000000 = true) (hxI : inI x) (hyI : inI y) (hnp0 : npb = 0) : Th lG yX1_point (ws_ yX1_point cX1_point 5 (some .int)) 7 110 D dA [.ref s0, .int (nI 1), .int (iZ x), .int (iZ y)] [(s0, .inr (0, [.ref r0])), (r0, .inr (1, [.ref sh, .ref sg, .int (bI tk), .ref bx, .ref th, .ref tr, .ref ev, .ref stp, .ref mx, .int (bI rl), .ref wa, .ref la, .ref ra, .ref ti])), (sh, .inl (dA 3, 2, .inr (.inr (.inr (.inr (sh2 o0a o0b)))))), (o0b, .inr (2, [.int (nI kdb), .ref c1b, .int (nI npb), .ref c2b, .ref c3b, .int (nI nqb)])), (c1b, .inl (dA 0, nsb, .inl fun j => nI (STb j))), (c2b, .inl (dA 0, nxb, .inl fun j => iZ (Xb j))), (c3b, .inl (dA 0, nxb, .inl fun j => iZ (Yb j)))] "java/lang/IllegalStateException" := by
  refine Th.of (by decide) (Nat.le_of_ble_eq_true rfl) ?_
  intro pG eG sG mG bG tG cG ls hx hb hml hown hts hlocks hout hP hK hE hl
  have hown : sG.vm.findClass RX1 = some mG.cls := hown
  have hl : lv_has ls 5 [(0, .ref s0), (1, .int (nI 1)), (2, .int (iZ x)), (3, .int (iZ y))] := hl
  refine lv_aload_n hx hb dX1_point_0 rfl (lv_at hl 0 rfl) ?_
  refine lv_iload_n hx hb dX1_point_1 rfl (lv_at hl 1 rfl) ?_
  refine zc_roV (v := .ref o0b) (rest := []) ⟨hx, hb, hml, hown, hts⟩ (metX1_known_1 lG D dA s0 r0 sh sg tk bx th tr ev stp mx rl wa la ra ti o0a o0b ) (cwV 1 hts (lw_V q778 q780 qs28 q71 q781) rfl rfl rfl (by decide +kernel) ⟨Nat.le_of_ble_eq_true rfl, Nat.le_of_ble_eq_true rfl⟩) (va_recv hK.1 hP (ci := 0) (q0 := 0) rfl rfl) (hP.sub [0, 1, 2] rfl) hK rfl hl.1 rfl (Nat.le_of_ble_eq_true rfl) dX1_point_2 ⟨Nat.zero_le _, Nat.zero_le _⟩ ?_
  refine lv_astore (lv' := [(4, .ref o0b), (0, .ref s0), (1, .int (nI 1)), (2, .int (iZ x)), (3, .int (iZ y))]) hx hb dX1_point_5 hl (by decide) rfl (fun ls hl => ?_)
  refine lv_iload_n hx hb dX1_point_7 rfl (lv_at hl 3 rfl) ?_
  refine zc_roS (v := .int (bI (wiZ x (-500000000) 500000000))) (rest := []) ⟨hx, hb, hml, hown, hts⟩ (metX1_isPlace lG D dA x (by first | assumption | omega)) (va_cwS 1 hts (lw_S q874 q875 q71 q876) rfl rfl rfl (by decide +kernel) ⟨Nat.le_of_ble_eq_true rfl, Nat.le_of_ble_eq_true rfl⟩) (hP.sub [] rfl) hK rfl hl.1 rfl (Nat.le_of_ble_eq_true rfl) dX1_point_8 ⟨Nat.zero_le _, Nat.zero_le _⟩ ?_
  refine zb_if_eq (tgt := 25) hx hb dX1_point_11 (by decide) (fun hq1 => ?_) (fun hq1 => ?_)
  · skip
    exfalso; rw [hxy.1] at hq1; cases hq1
  · skip
    refine lv_iload_n hx hb dX1_point_14 rfl (lv_at hl 4 rfl) ?_
    refine zc_roS (v := .int (bI (wiZ y (-500000000) 500000000))) (rest := []) ⟨hx, hb, hml, hown, hts⟩ (metX1_isPlace lG D dA y (by first | assumption | omega)) (va_cwS 1 hts (lw_S q874 q875 q71 q876) rfl rfl rfl (by decide +kernel) ⟨Nat.le_of_ble_eq_true rfl, Nat.le_of_ble_eq_true rfl⟩) (hP.sub [] rfl) hK rfl hl.1 rfl (Nat.le_of_ble_eq_true rfl) dX1_point_15 ⟨Nat.zero_le _, Nat.zero_le _⟩ ?_
    refine zb_if_eq (tgt := 25) hx hb dX1_point_18 (by decide) (fun hq2 => ?_) (fun hq2 => ?_)
    · skip
      exfalso; rw [hxy.2] at hq2; cases hq2
    · skip
      refine lv_iconst (v := bI true) hx hb dX1_point_21 (by decide) ?_
      refine lv_goto (tgt := 26) hx hb dX1_point_22 (by decide) ?_
      refine zc_roSv (rest := []) ⟨hx, hb, hml, hown, hts⟩ (metX1_right_ok lG D dA ) (va_cwS 1 hts (lw_S q810 q811 q71 q812) rfl rfl rfl (by decide +kernel) ⟨Nat.le_of_ble_eq_true rfl, Nat.le_of_ble_eq_true rfl⟩) (hP.sub [] rfl) hK rfl hl.1 rfl (Nat.le_of_ble_eq_true rfl) dX1_point_26 ⟨Nat.zero_le _, Nat.zero_le _⟩ ?_
      refine lv_aload hx hb dX1_point_29 (lv_at hl 0 rfl) ?_
      refine va_getN (D := D) (ci := 2) (v := .int (nI npb)) (C := RX3) (T := TX3) (N := 6) hx hb hts in_X3 hown hK.1 hP 3 rfl rfl 2 (Nat.le_of_ble_eq_true rfl) (hK.use zq121) (fun _ h9 => h9) rfl dX1_point_31 ?_
      refine zn_if_le (tgt := 52) hx hb (by omega) dX1_point_34 (by decide) (fun c_1 => ?_) (fun c_1 => ?_)
      · skip
        refine lv_iconst (v := bI false) hx hb dX1_point_52 (by decide) ?_
        exact zx_passS (rest := []) ⟨hx, hb, hml, hown, hts⟩ (metX1_can_bad lG D dA (by first | assumption | omega)) (va_cwS 1 hts (lw_S q844 q845 q71 q846) rfl rfl rfl (by decide +kernel) ⟨Nat.le_of_ble_eq_true rfl, Nat.le_of_ble_eq_true rfl⟩) (hP.sub [] rfl) hK hE rfl hl.1 rfl (Nat.le_of_ble_eq_true rfl) dX1_point_53 ⟨Nat.le_of_ble_eq_true rfl, Nat.le_of_ble_eq_true rfl⟩ hout hlocks
      · skip
        exfalso; omega
set_option maxHeartbeats 4000000 in
set_option maxRecDepth 100000 in
theorem metX1_count_badk1 (lG : Launch) (D : va_G) (dA : Nat → ClassId) (s0 : Nat) (r0 : Nat) (sh : Nat) (sg : Nat) (tk : Bool) (bx : Nat) (th : Nat) (tr : Nat) (ev : Nat) (stp : Nat) (mx : Nat) (rl : Bool) (wa : Nat) (la : Nat) (ra : Nat) (ti : Nat) (o0a : Nat) (o0b : Nat) (kk : Int) (hfl : lG.flags = pinnedFlags ++ [noTraceFlag]) (hk : kk < 0 ∨ 3 ≤ kk) (hkI : inI kk) : Th lG yX1_count (ws_ yX1_count cX1_count 4 (some .int)) 7 110 D dA [.ref s0, .int (nI 1), .int (iZ kk)] [(s0, .inr (0, [.ref r0])), (r0, .inr (1, [.ref sh, .ref sg, .int (bI tk), .ref bx, .ref th, .ref tr, .ref ev, .ref stp, .ref mx, .int (bI rl), .ref wa, .ref la, .ref ra, .ref ti])), (sh, .inl (dA 3, 2, .inr (.inr (.inr (.inr (sh2 o0a o0b))))))] "java/lang/IndexOutOfBoundsException" := by
  refine Th.of (by decide) (Nat.le_of_ble_eq_true rfl) ?_
  intro pG eG sG mG bG tG cG ls hx hb hml hown hts hlocks hout hP hK hE hl
  have hown : sG.vm.findClass RX1 = some mG.cls := hown
  have hl : lv_has ls 4 [(0, .ref s0), (1, .int (nI 1)), (2, .int (iZ kk))] := hl
  refine lv_aload_n hx hb dX1_count_0 rfl (lv_at hl 0 rfl) ?_
  refine lv_iload_n hx hb dX1_count_1 rfl (lv_at hl 1 rfl) ?_
  refine zc_roV (v := .ref o0b) (rest := []) ⟨hx, hb, hml, hown, hts⟩ (metX1_known_1 lG D dA s0 r0 sh sg tk bx th tr ev stp mx rl wa la ra ti o0a o0b ) (cwV 1 hts (lw_V q778 q780 qs28 q71 q781) rfl rfl rfl (by decide +kernel) ⟨Nat.le_of_ble_eq_true rfl, Nat.le_of_ble_eq_true rfl⟩) (va_recv hK.1 hP (ci := 0) (q0 := 0) rfl rfl) (hP.sub [0, 1, 2] rfl) hK rfl hl.1 rfl (Nat.le_of_ble_eq_true rfl) dX1_count_2 ⟨Nat.zero_le _, Nat.zero_le _⟩ ?_
  refine lv_astore_n (lv' := [(3, .ref o0b), (0, .ref s0), (1, .int (nI 1)), (2, .int (iZ kk))]) hx hb dX1_count_5 rfl hl (by decide) rfl (fun ls hl => ?_)
  refine lv_iload_n hx hb dX1_count_6 rfl (lv_at hl 3 rfl) ?_
  refine zz_if_lt (tgt := 19) hx hb hkI dX1_count_7 (by decide) (fun c_1 => ?_) (fun c_1 => ?_)
  · skip
    refine lv_iconst (v := bI false) hx hb dX1_count_19 (by decide) ?_
    exact zx_passS (rest := []) ⟨hx, hb, hml, hown, hts⟩ (metX1_there_bad lG D dA (by first | assumption | omega)) (va_cwS 1 hts (lw_S q782 q783 q71 q784) rfl rfl rfl (by decide +kernel) ⟨Nat.le_of_ble_eq_true rfl, Nat.le_of_ble_eq_true rfl⟩) (hP.sub [] rfl) hK hE rfl hl.1 rfl (Nat.le_of_ble_eq_true rfl) dX1_count_20 ⟨Nat.le_of_ble_eq_true rfl, Nat.le_of_ble_eq_true rfl⟩ hout hlocks
  · skip
    refine lv_iload_n hx hb dX1_count_10 rfl (lv_at hl 3 rfl) ?_
    refine lv_iconst (v := iZ 3) hx hb dX1_count_11 (by decide) ?_
    refine zz_icmp_ge (tgt := 19) hx hb hkI ⟨by decide, by decide⟩ dX1_count_12 (by decide) (fun c_2 => ?_) (fun c_2 => ?_)
    · skip
      refine lv_iconst (v := bI false) hx hb dX1_count_19 (by decide) ?_
      exact zx_passS (rest := []) ⟨hx, hb, hml, hown, hts⟩ (metX1_there_bad lG D dA (by first | assumption | omega)) (va_cwS 1 hts (lw_S q782 q783 q71 q784) rfl rfl rfl (by decide +kernel) ⟨Nat.le_of_ble_eq_true rfl, Nat.le_of_ble_eq_true rfl⟩) (hP.sub [] rfl) hK hE rfl hl.1 rfl (Nat.le_of_ble_eq_true rfl) dX1_count_20 ⟨Nat.le_of_ble_eq_true rfl, Nat.le_of_ble_eq_true rfl⟩ hout hlocks
    · skip
      exfalso; omega
set_option maxHeartbeats 4000000 in
set_option maxRecDepth 100000 in
theorem metX1_entry_bad (lG : Launch) (D : va_G) (dA : Nat → ClassId) (s0 : Nat) (r0 : Nat) (sh : Nat) (sg : Nat) (tk : Bool) (bx : Nat) (th : Nat) (tr : Nat) (ev : Nat) (stp : Nat) (mx : Nat) (rl : Bool) (wa : Nat) (la : Nat) (ra : Nat) (ti : Nat) (o0a : Nat) (o0b : Nat) (x : Int) (y : Int) (hfl : lG.flags = pinnedFlags ++ [noTraceFlag]) (hk : x < 0 ∨ 3 ≤ x ∨ y < 0 ∨ 3 ≤ y) (hxI : inI x) (hyI : inI y) : Th lG yX1_entry (ws_ yX1_entry cX1_entry 3 (some .int)) 7 110 D dA [.ref s0, .int (iZ x), .int (iZ y)] [] "java/lang/IndexOutOfBoundsException" := by
  refine Th.of (by decide) (Nat.le_of_ble_eq_true rfl) ?_
  intro pG eG sG mG bG tG cG ls hx hb hml hown hts hlocks hout hP hK hE hl
  have hown : sG.vm.findClass RX1 = some mG.cls := hown
  have hl : lv_has ls 3 [(0, .ref s0), (1, .int (iZ x)), (2, .int (iZ y))] := hl
  refine lv_iload_n hx hb dX1_entry_0 rfl (lv_at hl 1 rfl) ?_
  refine zz_if_lt (tgt := 22) hx hb hxI dX1_entry_1 (by decide) (fun c_1 => ?_) (fun c_1 => ?_)
  · skip
    refine lv_iconst (v := bI false) hx hb dX1_entry_22 (by decide) ?_
    exact zx_passS (rest := []) ⟨hx, hb, hml, hown, hts⟩ (metX1_there_bad lG D dA (by first | assumption | omega)) (va_cwS 1 hts (lw_S q782 q783 q71 q784) rfl rfl rfl (by decide +kernel) ⟨Nat.le_of_ble_eq_true rfl, Nat.le_of_ble_eq_true rfl⟩) (hP.sub [] rfl) hK hE rfl hl.1 rfl (Nat.le_of_ble_eq_true rfl) dX1_entry_23 ⟨Nat.le_of_ble_eq_true rfl, Nat.le_of_ble_eq_true rfl⟩ hout hlocks
  · skip
    refine lv_iload_n hx hb dX1_entry_4 rfl (lv_at hl 1 rfl) ?_
    refine lv_iconst (v := iZ 3) hx hb dX1_entry_5 (by decide) ?_
    refine zz_icmp_ge (tgt := 22) hx hb hxI ⟨by decide, by decide⟩ dX1_entry_6 (by decide) (fun c_2 => ?_) (fun c_2 => ?_)
    · skip
      refine lv_iconst (v := bI false) hx hb dX1_entry_22 (by decide) ?_
      exact zx_passS (rest := []) ⟨hx, hb, hml, hown, hts⟩ (metX1_there_bad lG D dA (by first | assumption | omega)) (va_cwS 1 hts (lw_S q782 q783 q71 q784) rfl rfl rfl (by decide +kernel) ⟨Nat.le_of_ble_eq_true rfl, Nat.le_of_ble_eq_true rfl⟩) (hP.sub [] rfl) hK hE rfl hl.1 rfl (Nat.le_of_ble_eq_true rfl) dX1_entry_23 ⟨Nat.le_of_ble_eq_true rfl, Nat.le_of_ble_eq_true rfl⟩ hout hlocks
    · skip
      refine lv_iload_n hx hb dX1_entry_9 rfl (lv_at hl 2 rfl) ?_
      refine zz_if_lt (tgt := 22) hx hb hyI dX1_entry_10 (by decide) (fun c_3 => ?_) (fun c_3 => ?_)
      · skip
        refine lv_iconst (v := bI false) hx hb dX1_entry_22 (by decide) ?_
        exact zx_passS (rest := []) ⟨hx, hb, hml, hown, hts⟩ (metX1_there_bad lG D dA (by first | assumption | omega)) (va_cwS 1 hts (lw_S q782 q783 q71 q784) rfl rfl rfl (by decide +kernel) ⟨Nat.le_of_ble_eq_true rfl, Nat.le_of_ble_eq_true rfl⟩) (hP.sub [] rfl) hK hE rfl hl.1 rfl (Nat.le_of_ble_eq_true rfl) dX1_entry_23 ⟨Nat.le_of_ble_eq_true rfl, Nat.le_of_ble_eq_true rfl⟩ hout hlocks
      · skip
        refine lv_iload_n hx hb dX1_entry_13 rfl (lv_at hl 2 rfl) ?_
        refine lv_iconst (v := iZ 3) hx hb dX1_entry_14 (by decide) ?_
        refine zz_icmp_ge (tgt := 22) hx hb hyI ⟨by decide, by decide⟩ dX1_entry_15 (by decide) (fun c_4 => ?_) (fun c_4 => ?_)
        · skip
          refine lv_iconst (v := bI false) hx hb dX1_entry_22 (by decide) ?_
          exact zx_passS (rest := []) ⟨hx, hb, hml, hown, hts⟩ (metX1_there_bad lG D dA (by first | assumption | omega)) (va_cwS 1 hts (lw_S q782 q783 q71 q784) rfl rfl rfl (by decide +kernel) ⟨Nat.le_of_ble_eq_true rfl, Nat.le_of_ble_eq_true rfl⟩) (hP.sub [] rfl) hK hE rfl hl.1 rfl (Nat.le_of_ble_eq_true rfl) dX1_entry_23 ⟨Nat.le_of_ble_eq_true rfl, Nat.le_of_ble_eq_true rfl⟩ hout hlocks
        · skip
          exfalso; omega
set_option maxHeartbeats 4000000 in
set_option maxRecDepth 100000 in
theorem metX1_is_bad (lG : Launch) (D : va_G) (dA : Nat → ClassId) (s0 : Nat) (r0 : Nat) (sh : Nat) (sg : Nat) (tk : Bool) (bx : Nat) (th : Nat) (tr : Nat) (ev : Nat) (stp : Nat) (mx : Nat) (rl : Bool) (wa : Nat) (la : Nat) (ra : Nat) (ti : Nat) (o0a : Nat) (o0b : Nat) (v : Int) (hfl : lG.flags = pinnedFlags ++ [noTraceFlag]) (hk : v < 0 ∨ 9 ≤ v) (hvI : inI v) : Th lG yX1_is (ws_ yX1_is cX1_is 3 (some .boolean)) 7 110 D dA [.ref s0, .int (iZ v)] [] "java/lang/IndexOutOfBoundsException" := by
  refine Th.of (by decide) (Nat.le_of_ble_eq_true rfl) ?_
  intro pG eG sG mG bG tG cG ls hx hb hml hown hts hlocks hout hP hK hE hl
  have hown : sG.vm.findClass RX1 = some mG.cls := hown
  have hl : lv_has ls 3 [(0, .ref s0), (1, .int (iZ v))] := hl
  refine lv_iload_n hx hb dX1_is_0 rfl (lv_at hl 1 rfl) ?_
  refine zz_if_lt (tgt := 14) hx hb hvI dX1_is_1 (by decide) (fun c_1 => ?_) (fun c_1 => ?_)
  · skip
    refine lv_iconst (v := bI false) hx hb dX1_is_14 (by decide) ?_
    exact zx_passS (rest := []) ⟨hx, hb, hml, hown, hts⟩ (metX1_there_bad lG D dA (by first | assumption | omega)) (va_cwS 1 hts (lw_S q782 q783 q71 q784) rfl rfl rfl (by decide +kernel) ⟨Nat.le_of_ble_eq_true rfl, Nat.le_of_ble_eq_true rfl⟩) (hP.sub [] rfl) hK hE rfl hl.1 rfl (Nat.le_of_ble_eq_true rfl) dX1_is_15 ⟨Nat.le_of_ble_eq_true rfl, Nat.le_of_ble_eq_true rfl⟩ hout hlocks
  · skip
    refine lv_iload_n hx hb dX1_is_4 rfl (lv_at hl 1 rfl) ?_
    refine lv_bipush (v := iZ 9) hx hb dX1_is_5 (by decide) ?_
    refine zz_icmp_ge (tgt := 14) hx hb hvI ⟨by decide, by decide⟩ dX1_is_7 (by decide) (fun c_2 => ?_) (fun c_2 => ?_)
    · skip
      refine lv_iconst (v := bI false) hx hb dX1_is_14 (by decide) ?_
      exact zx_passS (rest := []) ⟨hx, hb, hml, hown, hts⟩ (metX1_there_bad lG D dA (by first | assumption | omega)) (va_cwS 1 hts (lw_S q782 q783 q71 q784) rfl rfl rfl (by decide +kernel) ⟨Nat.le_of_ble_eq_true rfl, Nat.le_of_ble_eq_true rfl⟩) (hP.sub [] rfl) hK hE rfl hl.1 rfl (Nat.le_of_ble_eq_true rfl) dX1_is_15 ⟨Nat.le_of_ble_eq_true rfl, Nat.le_of_ble_eq_true rfl⟩ hout hlocks
    · skip
      exfalso; omega
