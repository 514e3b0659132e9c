/-! ShapeRelator: guards and known (printed by wip gen/c75.py) -/
section ZV
variable {p : Program} {l : Launch} {e : Env} {R : Room} {s : State} {m : MethodId} {args : Array Value} {below : List Frame} {meth : Method} {c : Code} {H : Heap} {locs : List Loc} {cells slots : Nat} {Q : State → Prop}
variable {cc : ByteArray} {pc nL fr lo n index maxL : Nat} {ls : Array Slot} {rest st0 As : List Value} {D : va_G} {dA : Nat → ClassId} {w : va_W} {own : String} {y : MethodName} {bytes : ByteArray} {ret : Option FieldType} {yw Ts : List Cond}
theorem zr_roV (hx : p.tables.exec = Jvm.exec) (hb : c.code = cc) (hr : meth.sig.returnType = none) (hlocks : meth.locks = false) (hdg : decode cc pc = .ok (.return_, 1)) : W p l e R s m args below meth c s.heap [] 0 0 (MQ below (roQ none s.heap) args s 0 0 (fun _ => False)) (F0 m pc ls []) :=
  W.vret hx hb hr (fun t ht hW => ⟨rfl, ht⟩) (fun q h => by cases h) hdg hlocks
theorem zc_roSv (S : CallFix p m c cc nL s args Ts own) (hM : Ro l y yw fr lo D dA As w none) (cw : CallB R s args own index y bytes maxL ret yw (zRoom fr 0 0 lo) 0 0 n ∧ (Cond.static y).before args s = true) (hP : va_P D zCl w H) (hK : zK D dA s) (hn : As.length = n) (hsize : ls.size = nL) (hst : st0 = As.reverse ++ rest) (hW : (rest.map fun v => v.category).sum ≤ 8) (hdg : decode cc pc = .ok (.invokestatic index, 3)) (hc : cells ≤ R.cells ∧ slots ≤ R.slots) (k : W p l e R s m args below meth c H locs cells slots Q (F0 m (pc + 3) ls rest)) : W p l e R s m args below meth c H locs cells slots Q (F0 m pc ls st0) := by
  have hr := va_runS (locs := locs) (e := e) (below := below) (meth := meth) (g := F0 m pc ls st0) (rest := rest) S (hM H) cw (zp_ro hP hK) rfl hn hsize hst (lv_room hW) hdg hc
  intro T hT X
  obtain ⟨v', st₀, t, T', L, h0, X', hL, e1, e2, ⟨hv, hh⟩, st⟩ := hr T hT X
  cases hv
  have hL0 : L = [] := by
    cases L with
    | nil => rfl
    | cons x z => exact (hL x List.mem_cons_self).elim
  subst hL0
  rw [List.append_nil] at X'
  obtain ⟨t2, a1, b1⟩ := k T' (e1.trans hh) X'
  exact ⟨t2, st t2 a1, b1⟩
end ZV
set_option maxHeartbeats 4000000 in
set_option maxRecDepth 100000 in
theorem metX1_there_ok (lG : Launch) (D : va_G) (dA : Nat → ClassId)  : Ro lG yX1_there (ws_ yX1_there cX1_there 1 none) 0 0 D dA [.int (bI true)] [] none := by
  refine Ro.of (by decide) (Nat.le_of_ble_eq_true rfl) ?_
  intro pG eG sG mG bG tG cG ls hx hb hr hml hown hts hlocks hP hK hl
  have hown : sG.vm.findClass RX1 = some mG.cls := hown
  have hl : lv_has ls 1 [(0, .int (bI true))] := hl
  refine lv_iload_n hx hb dX1_there_0 rfl (lv_at hl 0 rfl) ?_
  refine zb_if_ne (tgt := 12) hx hb dX1_there_1 (by decide) (fun c_1 => ?_) (fun c_1 => ?_)
  · skip
    exact zr_roV hx hb hr hlocks dX1_there_12
  · skip
    exfalso; contradiction
set_option maxHeartbeats 4000000 in
set_option maxRecDepth 100000 in
theorem metX1_there_bad (lG : Launch) (D : va_G) (dA : Nat → ClassId) (hfl : lG.flags = pinnedFlags ++ [noTraceFlag]) : Th lG yX1_there (ws_ yX1_there cX1_there 1 none) 6 90 D dA [.int (bI false)] [] "java/lang/IndexOutOfBoundsException" := by
  refine Th.of (by decide) (Nat.le_of_ble_eq_true rfl) ?_
  intro pG eG sG mG bG tG cG ls hx hb hml hown hts hlocks hout hP hK hE hl
  have hown : sG.vm.findClass RX1 = some mG.cls := hown
  have hl : lv_has ls 1 [(0, .int (bI false))] := hl
  refine lv_iload_n hx hb dX1_there_0 rfl (lv_at hl 0 rfl) ?_
  refine zb_if_ne (tgt := 12) hx hb dX1_there_1 (by decide) (fun c_1 => ?_) (fun c_1 => ?_)
  · skip
    exfalso; contradiction
  · skip
    exact zx_leaf (X := "java/lang/IndexOutOfBoundsException") (ik := 16) (ic := 18) hx hb hfl hown (hts _ q785) (hts _ q84) (fun a ha => (ex_atI a ha).elim (fun h => hE a h _) (fun h => hts a h)) (by decide +kernel) hout hlocks (hl.1.trans hml.symm) dX1_there_4 dX1_there_7 dX1_there_8 dX1_there_11 ⟨Nat.le_of_ble_eq_true rfl, Nat.le_of_ble_eq_true rfl, Nat.le_of_ble_eq_true rfl, Nat.le_of_ble_eq_true rfl⟩
set_option maxHeartbeats 4000000 in
set_option maxRecDepth 100000 in
theorem metX1_right_ok (lG : Launch) (D : va_G) (dA : Nat → ClassId)  : Ro lG yX1_right (ws_ yX1_right cX1_right 1 none) 0 0 D dA [.int (bI true)] [] none := by
  refine Ro.of (by decide) (Nat.le_of_ble_eq_true rfl) ?_
  intro pG eG sG mG bG tG cG ls hx hb hr hml hown hts hlocks hP hK hl
  have hown : sG.vm.findClass RX1 = some mG.cls := hown
  have hl : lv_has ls 1 [(0, .int (bI true))] := hl
  refine lv_iload_n hx hb dX1_right_0 rfl (lv_at hl 0 rfl) ?_
  refine zb_if_ne (tgt := 12) hx hb dX1_right_1 (by decide) (fun c_1 => ?_) (fun c_1 => ?_)
  · skip
    exact zr_roV hx hb hr hlocks dX1_right_12
  · skip
    exfalso; contradiction
set_option maxHeartbeats 4000000 in
set_option maxRecDepth 100000 in
theorem metX1_right_bad (lG : Launch) (D : va_G) (dA : Nat → ClassId) (hfl : lG.flags = pinnedFlags ++ [noTraceFlag]) : Th lG yX1_right (ws_ yX1_right cX1_right 1 none) 6 90 D dA [.int (bI false)] [] "java/lang/IllegalArgumentException" := by
  refine Th.of (by decide) (Nat.le_of_ble_eq_true rfl) ?_
  intro pG eG sG mG bG tG cG ls hx hb hml hown hts hlocks hout hP hK hE hl
  have hown : sG.vm.findClass RX1 = some mG.cls := hown
  have hl : lv_has ls 1 [(0, .int (bI false))] := hl
  refine lv_iload_n hx hb dX1_right_0 rfl (lv_at hl 0 rfl) ?_
  refine zb_if_ne (tgt := 12) hx hb dX1_right_1 (by decide) (fun c_1 => ?_) (fun c_1 => ?_)
  · skip
    exfalso; contradiction
  · skip
    exact zx_leaf (X := "java/lang/IllegalArgumentException") (ik := 19) (ic := 21) hx hb hfl hown (hts _ q813) (hts _ q87) (fun a ha => (ex_atA a ha).elim (fun h => hE a h _) (fun h => hts a h)) (by decide +kernel) hout hlocks (hl.1.trans hml.symm) dX1_right_4 dX1_right_7 dX1_right_8 dX1_right_11 ⟨Nat.le_of_ble_eq_true rfl, Nat.le_of_ble_eq_true rfl, Nat.le_of_ble_eq_true rfl, Nat.le_of_ble_eq_true rfl⟩
set_option maxHeartbeats 4000000 in
set_option maxRecDepth 100000 in
theorem metX1_can_ok (lG : Launch) (D : va_G) (dA : Nat → ClassId)  : Ro lG yX1_can (ws_ yX1_can cX1_can 1 none) 0 0 D dA [.int (bI true)] [] none := by
  refine Ro.of (by decide) (Nat.le_of_ble_eq_true rfl) ?_
  intro pG eG sG mG bG tG cG ls hx hb hr hml hown hts hlocks hP hK hl
  have hown : sG.vm.findClass RX1 = some mG.cls := hown
  have hl : lv_has ls 1 [(0, .int (bI true))] := hl
  refine lv_iload_n hx hb dX1_can_0 rfl (lv_at hl 0 rfl) ?_
  refine zb_if_ne (tgt := 12) hx hb dX1_can_1 (by decide) (fun c_1 => ?_) (fun c_1 => ?_)
  · skip
    exact zr_roV hx hb hr hlocks dX1_can_12
  · skip
    exfalso; contradiction
set_option maxHeartbeats 4000000 in
set_option maxRecDepth 100000 in
theorem metX1_can_bad (lG : Launch) (D : va_G) (dA : Nat → ClassId) (hfl : lG.flags = pinnedFlags ++ [noTraceFlag]) : Th lG yX1_can (ws_ yX1_can cX1_can 1 none) 6 90 D dA [.int (bI false)] [] "java/lang/IllegalStateException" := by
  refine Th.of (by decide) (Nat.le_of_ble_eq_true rfl) ?_
  intro pG eG sG mG bG tG cG ls hx hb hml hown hts hlocks hout hP hK hE hl
  have hown : sG.vm.findClass RX1 = some mG.cls := hown
  have hl : lv_has ls 1 [(0, .int (bI false))] := hl
  refine lv_iload_n hx hb dX1_can_0 rfl (lv_at hl 0 rfl) ?_
  refine zb_if_ne (tgt := 12) hx hb dX1_can_1 (by decide) (fun c_1 => ?_) (fun c_1 => ?_)
  · skip
    exfalso; contradiction
  · skip
    exact zx_leaf (X := "java/lang/IllegalStateException") (ik := 22) (ic := 24) hx hb hfl hown (hts _ q847) (hts _ q88) (fun a ha => (ex_atS a ha).elim (fun h => hE a h _) (fun h => hts a h)) (by decide +kernel) hout hlocks (hl.1.trans hml.symm) dX1_can_4 dX1_can_7 dX1_can_8 dX1_can_11 ⟨Nat.le_of_ble_eq_true rfl, Nat.le_of_ble_eq_true rfl, Nat.le_of_ble_eq_true rfl, Nat.le_of_ble_eq_true rfl⟩
set_option maxHeartbeats 4000000 in
set_option maxRecDepth 100000 in
theorem metX1_known_0 (lG : Launch) (D : va_G) (dA : Nat → ClassId) (s0 : Nat) (r0 : Nat) (sh : Nat) (sg : Nat) (tk : Bool) (bx : Nat) (th : Nat) (tr : Nat) (ev : Nat) (stp : Nat) (mx : Nat) (rl : Bool) (wa : Nat) (la : Nat) (ra : Nat) (ti : Nat) (o0a : Nat) (o0b : Nat)  : Ro lG yX1_known (ws_ yX1_known cX1_known 2 (some (.object "ShapeRelator$Outline"))) 1 21 D dA [.ref s0, .int (nI 0)] [(s0, .inr (0, [.ref r0])), (r0, .inr (1, [.ref sh, .ref sg, .int (bI tk), .ref bx, .ref th, .ref tr, .ref ev, .ref stp, .ref mx, .int (bI rl), .ref wa, .ref la, .ref ra, .ref ti])), (sh, .inl (dA 3, 2, .inr (.inr (.inr (.inr (sh2 o0a o0b))))))] (some (.ref o0a)) := by
  refine Ro.of (by decide) (Nat.le_of_ble_eq_true rfl) ?_
  intro pG eG sG mG bG tG cG ls hx hb hr hml hown hts hlocks hP hK hl
  have hown : sG.vm.findClass RX1 = some mG.cls := hown
  have hl : lv_has ls 2 [(0, .ref s0), (1, .int (nI 0))] := hl
  refine lv_iload_n hx hb dX1_known_0 rfl (lv_at hl 1 rfl) ?_
  refine zn_if_eq (tgt := 9) hx hb (by decide) dX1_known_1 (by decide) (fun c_1 => ?_) (fun c_1 => ?_)
  · skip
    refine lv_iconst (v := bI true) hx hb dX1_known_9 (by decide) ?_
    refine lv_goto (tgt := 14) hx hb dX1_known_10 (by decide) ?_
    refine zc_roSv (rest := []) ⟨hx, hb, hml, hown, hts⟩ (metX1_there_ok lG D dA ) (va_cwS 1 hts (lw_S q782 q783 q71 q784) rfl rfl rfl (by decide +kernel) ⟨Nat.le_of_ble_eq_true rfl, Nat.le_of_ble_eq_true rfl⟩) (hP.sub [] rfl) hK rfl hl.1 rfl (Nat.le_of_ble_eq_true rfl) dX1_known_14 ⟨Nat.zero_le _, Nat.zero_le _⟩ ?_
    refine lv_aload_n hx hb dX1_known_17 rfl (lv_at hl 0 rfl) ?_
    refine va_get (D := D) (ci := 0) (v := .ref r0) (C := RX1) (T := TX1) (N := 1) hx hb hts in_X1 hown hK.1 hP 0 rfl rfl 0 (Nat.le_of_ble_eq_true rfl) (hts _ q358) (fun _ h9 => h9) rfl dX1_known_18 ?_
    refine lv_iload_n hx hb dX1_known_21 rfl (lv_at hl 1 rfl) ?_
    refine zc_roV (v := .ref o0a) (rest := []) ⟨hx, hb, hml, hown, hts⟩ (metX2_shape_0 lG D dA r0 sh sg tk bx th tr ev stp mx rl wa la ra ti o0a o0b ) (cwV 1 hts (lw_V q806 q807 q808 q72 q809) rfl rfl rfl (by decide +kernel) ⟨Nat.le_of_ble_eq_true rfl, Nat.le_of_ble_eq_true rfl⟩) (va_recv hK.1 hP (ci := 1) (q0 := 1) rfl rfl) (hP.sub [1, 2] rfl) hK rfl hl.1 rfl (Nat.le_of_ble_eq_true rfl) dX1_known_22 ⟨Nat.zero_le _, Nat.zero_le _⟩ ?_
    exact zr_roA (by first | exact Or.inl ⟨_, rfl⟩ | exact Or.inr ⟨_, rfl⟩) hx hb hr hlocks dX1_known_25
  · skip
    exfalso; omega
set_option maxHeartbeats 4000000 in
set_option maxRecDepth 100000 in
theorem metX1_known_1 (lG : Launch) (D : va_G) (dA : Nat → ClassId) (s0 : Nat) (r0 : Nat) (sh : Nat) (sg : Nat) (tk : Bool) (bx : Nat) (th : Nat) (tr : Nat) (ev : Nat) (stp : Nat) (mx : Nat) (rl : Bool) (wa : Nat) (la : Nat) (ra : Nat) (ti : Nat) (o0a : Nat) (o0b : Nat)  : Ro lG yX1_known (ws_ yX1_known cX1_known 2 (some (.object "ShapeRelator$Outline"))) 1 21 D dA [.ref s0, .int (nI 1)] [(s0, .inr (0, [.ref r0])), (r0, .inr (1, [.ref sh, .ref sg, .int (bI tk), .ref bx, .ref th, .ref tr, .ref ev, .ref stp, .ref mx, .int (bI rl), .ref wa, .ref la, .ref ra, .ref ti])), (sh, .inl (dA 3, 2, .inr (.inr (.inr (.inr (sh2 o0a o0b))))))] (some (.ref o0b)) := by
  refine Ro.of (by decide) (Nat.le_of_ble_eq_true rfl) ?_
  intro pG eG sG mG bG tG cG ls hx hb hr hml hown hts hlocks hP hK hl
  have hown : sG.vm.findClass RX1 = some mG.cls := hown
  have hl : lv_has ls 2 [(0, .ref s0), (1, .int (nI 1))] := hl
  refine lv_iload_n hx hb dX1_known_0 rfl (lv_at hl 1 rfl) ?_
  refine zn_if_eq (tgt := 9) hx hb (by decide) dX1_known_1 (by decide) (fun c_1 => ?_) (fun c_1 => ?_)
  · skip
    exfalso; omega
  · skip
    refine lv_iload_n hx hb dX1_known_4 rfl (lv_at hl 1 rfl) ?_
    refine lv_iconst (v := nI 1) hx hb dX1_known_5 (by decide) ?_
    refine zn_icmp_ne (tgt := 13) hx hb (by decide) (by decide) dX1_known_6 (by decide) (fun c_2 => ?_) (fun c_2 => ?_)
    · skip
      exfalso; omega
    · skip
      refine lv_iconst (v := bI true) hx hb dX1_known_9 (by decide) ?_
      refine lv_goto (tgt := 14) hx hb dX1_known_10 (by decide) ?_
      refine zc_roSv (rest := []) ⟨hx, hb, hml, hown, hts⟩ (metX1_there_ok lG D dA ) (va_cwS 1 hts (lw_S q782 q783 q71 q784) rfl rfl rfl (by decide +kernel) ⟨Nat.le_of_ble_eq_true rfl, Nat.le_of_ble_eq_true rfl⟩) (hP.sub [] rfl) hK rfl hl.1 rfl (Nat.le_of_ble_eq_true rfl) dX1_known_14 ⟨Nat.zero_le _, Nat.zero_le _⟩ ?_
      refine lv_aload_n hx hb dX1_known_17 rfl (lv_at hl 0 rfl) ?_
      refine va_get (D := D) (ci := 0) (v := .ref r0) (C := RX1) (T := TX1) (N := 1) hx hb hts in_X1 hown hK.1 hP 0 rfl rfl 0 (Nat.le_of_ble_eq_true rfl) (hts _ q358) (fun _ h9 => h9) rfl dX1_known_18 ?_
      refine lv_iload_n hx hb dX1_known_21 rfl (lv_at hl 1 rfl) ?_
      refine zc_roV (v := .ref o0b) (rest := []) ⟨hx, hb, hml, hown, hts⟩ (metX2_shape_1 lG D dA r0 sh sg tk bx th tr ev stp mx rl wa la ra ti o0a o0b ) (cwV 1 hts (lw_V q806 q807 q808 q72 q809) rfl rfl rfl (by decide +kernel) ⟨Nat.le_of_ble_eq_true rfl, Nat.le_of_ble_eq_true rfl⟩) (va_recv hK.1 hP (ci := 1) (q0 := 1) rfl rfl) (hP.sub [1, 2] rfl) hK rfl hl.1 rfl (Nat.le_of_ble_eq_true rfl) dX1_known_22 ⟨Nat.zero_le _, Nat.zero_le _⟩ ?_
      exact zr_roA (by first | exact Or.inl ⟨_, rfl⟩ | exact Or.inr ⟨_, rfl⟩) hx hb hr hlocks dX1_known_25
set_option maxHeartbeats 4000000 in
set_option maxRecDepth 100000 in
theorem metX1_known_bad (lG : Launch) (D : va_G) (dA : Nat → ClassId) (s0 : Nat) (r0 : Nat) (sh : Nat) (sg : Nat) (tk : Bool) (bx : Nat) (th : Nat) (tr : Nat) (ev : Nat) (stp : Nat) (mx : Nat) (rl : Bool) (wa : Nat) (la : Nat) (ra : Nat) (ti : Nat) (o0a : Nat) (o0b : Nat) (v : Int) (hfl : lG.flags = pinnedFlags ++ [noTraceFlag]) (hv : v ≠ 0) (hv1 : v ≠ 1) (hvI : inI v) : Th lG yX1_known (ws_ yX1_known cX1_known 2 (some (.object "ShapeRelator$Outline"))) 7 110 D dA [.ref s0, .int (iZ v)] [(s0, .inr (0, [.ref r0])), (r0, .inr (1, [.ref sh, .ref sg, .int (bI tk), .ref bx, .ref th, .ref tr, .ref ev, .ref stp, .ref mx, .int (bI rl), .ref wa, .ref la, .ref ra, .ref ti])), (sh, .inl (dA 3, 2, .inr (.inr (.inr (.inr (sh2 o0a o0b))))))] "java/lang/IndexOutOfBoundsException" := by
  refine Th.of (by decide) (Nat.le_of_ble_eq_true rfl) ?_
  intro pG eG sG mG bG tG cG ls hx hb hml hown hts hlocks hout hP hK hE hl
  have hown : sG.vm.findClass RX1 = some mG.cls := hown
  have hl : lv_has ls 2 [(0, .ref s0), (1, .int (iZ v))] := hl
  refine lv_iload_n hx hb dX1_known_0 rfl (lv_at hl 1 rfl) ?_
  refine zz_if_eq (tgt := 9) hx hb hvI dX1_known_1 (by decide) (fun c_1 => ?_) (fun c_1 => ?_)
  · skip
    exfalso; exact absurd (by assumption) hv
  · skip
    refine lv_iload_n hx hb dX1_known_4 rfl (lv_at hl 1 rfl) ?_
    refine lv_iconst (v := nI 1) hx hb dX1_known_5 (by decide) ?_
    refine zt_n2z ?_
    refine zz_icmp_ne (tgt := 13) hx hb hvI ⟨by omega, by omega⟩ dX1_known_6 (by decide) (fun c_2 => ?_) (fun c_2 => ?_)
    · skip
      refine lv_iconst (v := bI false) hx hb dX1_known_13 (by decide) ?_
      exact zx_passS (rest := []) ⟨hx, hb, hml, hown, hts⟩ (metX1_there_bad lG D dA (by first | assumption | omega)) (va_cwS 1 hts (lw_S q782 q783 q71 q784) rfl rfl rfl (by decide +kernel) ⟨Nat.le_of_ble_eq_true rfl, Nat.le_of_ble_eq_true rfl⟩) (hP.sub [] rfl) hK hE rfl hl.1 rfl (Nat.le_of_ble_eq_true rfl) dX1_known_14 ⟨Nat.le_of_ble_eq_true rfl, Nat.le_of_ble_eq_true rfl⟩ hout hlocks
    · skip
      exfalso; omega
