/-! Model: small methods and questions (printed by wip gen/c68.py) -/
def wiZ (v a b : Int) : Bool := decide (a ≤ v) && decide (v ≤ b)
theorem wi_t {v a b : Int} (h1 : a ≤ v) (h2 : v ≤ b) : wiZ v a b = true := by unfold wiZ; rw [decide_eq_true h1, decide_eq_true h2]; rfl
theorem wi_f {v a b : Int} (h : v < a ∨ b < v) : wiZ v a b = false := by
  unfold wiZ
  rcases h with q | q
  · rw [decide_eq_false (by omega)]; rfl
  · rw [decide_eq_false (show ¬ v ≤ b by omega), Bool.and_false]
def mNo (MX : Nat → Int) (a b : Nat) : Bool := decide (MX a < 0) && decide (MX b < 0)
def hsM (WO : Nat → Nat) (n s : Nat) : Bool := exR (fun k => decide (WO k = s)) 0 n
/-- the dimension of the inside of a shape, as the Model has it -/
def inM (KD PT WO : Nat → Nat) (HA : Nat → Bool) (n s : Nat) : Int := if KD s = 1 then (if 0 < PT s then 0 else -1) else if KD s = 2 then (if hsM WO n s then 1 else -1) else (if HA s then 2 else -1)
theorem inM_B {KD PT WO : Nat → Nat} {HA : Nat → Bool} {n s : Nat} : -1 ≤ inM KD PT WO HA n s ∧ inM KD PT WO HA n s ≤ 2 := by
  unfold inM; split
  · split <;> omega
  · split
    · split <;> omega
    · split <;> omega
def mCross (MX : Nat → Int) (d e : Int) : Bool := if d < e then (mxH MX 0 0 && mxH MX 0 2) else if e < d then (mxH MX 0 0 && mxH MX 2 0) else (decide (d = 1) && decide (MX 0 = 0))
/-- the Model's answers -/
def mIs (MX : Nat → Int) (d e : Int) (k : Nat) : Bool :=
  if k = 0 then ((decide (d < 0) && decide (e < 0)) || (mxH MX 0 0 && (mNo MX 2 5 && mNo MX 6 7)))
  else if k = 1 then !qMeets MX
  else if k = 2 then (!mxH MX 0 0 && qMeets MX)
  else if k = 3 then mCross MX d e
  else if k = 4 then (mxH MX 0 0 && mNo MX 2 5)
  else if k = 5 then (mxH MX 0 0 && mNo MX 6 7)
  else if k = 6 then (decide (d = e) && (decide (0 ≤ d) && (decide (MX 0 = d) && (mxH MX 0 2 && mxH MX 2 0))))
  else if k = 7 then (qMeets MX && mNo MX 2 5)
  else (qMeets MX && mNo MX 6 7)
theorem wi_n {v a b : Nat} : (a ≤ v ∧ v ≤ b) ∨ ¬ (a ≤ v ∧ v ≤ b) := Decidable.em _
set_option maxHeartbeats 4000000 in
set_option maxRecDepth 100000 in
theorem metX10_within (lG : Launch) (D : va_G) (dA : Nat → ClassId) (v : Int) (a : Int) (b : Int) (hv : inI v) (ha : inI a) (hb0 : inI b) : Ro lG yX10_within (ws_ yX10_within cX10_within 3 (some .boolean)) 0 0 D dA [.int (iZ v), .int (iZ a), .int (iZ b)] [] (some (.int (bI (wiZ v a b)))) := by
  refine Ro.of (by decide) (Nat.le_of_ble_eq_true rfl) ?_
  intro pG eG sG mG bG tG cG ls hx hb hr hml hown hts hlocks hP hK hl
  have hown : sG.vm.findClass RX10 = some mG.cls := hown
  have hl : lv_has ls 3 [(0, .int (iZ v)), (1, .int (iZ a)), (2, .int (iZ b))] := hl
  refine lv_iload_n hx hb dX10_within_0 rfl (lv_at hl 0 rfl) ?_
  refine lv_iload_n hx hb dX10_within_1 rfl (lv_at hl 1 rfl) ?_
  refine zz_icmp_lt (tgt := 14) hx hb hv ha dX10_within_2 (by decide) (fun c_1 => ?_) (fun c_1 => ?_)
  · skip
    refine lv_iconst (v := nI 0) hx hb dX10_within_14 (by decide) ?_
    exact zr_roB (by first | (rw [wi_t (by omega) (by omega)]; rfl) | (rw [wi_f (by omega)]; rfl)) hx hb hr hlocks dX10_within_15
  · skip
    refine lv_iload_n hx hb dX10_within_5 rfl (lv_at hl 0 rfl) ?_
    refine lv_iload_n hx hb dX10_within_6 rfl (lv_at hl 2 rfl) ?_
    refine zz_icmp_gt (tgt := 14) hx hb hv hb0 dX10_within_7 (by decide) (fun c_2 => ?_) (fun c_2 => ?_)
    · skip
      refine lv_iconst (v := nI 0) hx hb dX10_within_14 (by decide) ?_
      exact zr_roB (by first | (rw [wi_t (by omega) (by omega)]; rfl) | (rw [wi_f (by omega)]; rfl)) hx hb hr hlocks dX10_within_15
    · skip
      refine lv_iconst (v := nI 1) hx hb dX10_within_10 (by decide) ?_
      refine lv_goto (tgt := 15) hx hb dX10_within_11 (by decide) ?_
      exact zr_roB (by first | (rw [wi_t (by omega) (by omega)]; rfl) | (rw [wi_f (by omega)]; rfl)) hx hb hr hlocks dX10_within_15
set_option maxHeartbeats 4000000 in
set_option maxRecDepth 100000 in
theorem metX10_within_n (lG : Launch) (D : va_G) (dA : Nat → ClassId) (v : Nat) (a : Nat) (b : Nat) (hv : v < 4096) (ha : a < 4096) (hb0 : b < 4096) : Ro lG yX10_within (ws_ yX10_within cX10_within 3 (some .boolean)) 0 0 D dA [.int (nI v), .int (nI a), .int (nI b)] [] (some (.int (bI ((decide (a ≤ v) && decide (v ≤ b)))))) := by
  refine Ro.of (by decide) (Nat.le_of_ble_eq_true rfl) ?_
  intro pG eG sG mG bG tG cG ls hx hb hr hml hown hts hlocks hP hK hl
  have hown : sG.vm.findClass RX10 = some mG.cls := hown
  have hl : lv_has ls 3 [(0, .int (nI v)), (1, .int (nI a)), (2, .int (nI b))] := hl
  refine lv_iload_n hx hb dX10_within_0 rfl (lv_at hl 0 rfl) ?_
  refine lv_iload_n hx hb dX10_within_1 rfl (lv_at hl 1 rfl) ?_
  refine zn_icmp_lt (tgt := 14) hx hb (by omega) (by omega) dX10_within_2 (by decide) (fun c_1 => ?_) (fun c_1 => ?_)
  · skip
    refine lv_iconst (v := nI 0) hx hb dX10_within_14 (by decide) ?_
    exact zr_roB (by first | (rw [decide_eq_true (show a ≤ v by omega), decide_eq_true (show v ≤ b by omega)]; rfl) | (rw [decide_eq_false (show ¬ a ≤ v by omega)]; rfl) | (rw [decide_eq_true (show a ≤ v by omega), decide_eq_false (show ¬ v ≤ b by omega)]; rfl)) hx hb hr hlocks dX10_within_15
  · skip
    refine lv_iload_n hx hb dX10_within_5 rfl (lv_at hl 0 rfl) ?_
    refine lv_iload_n hx hb dX10_within_6 rfl (lv_at hl 2 rfl) ?_
    refine zn_icmp_gt (tgt := 14) hx hb (by omega) (by omega) dX10_within_7 (by decide) (fun c_2 => ?_) (fun c_2 => ?_)
    · skip
      refine lv_iconst (v := nI 0) hx hb dX10_within_14 (by decide) ?_
      exact zr_roB (by first | (rw [decide_eq_true (show a ≤ v by omega), decide_eq_true (show v ≤ b by omega)]; rfl) | (rw [decide_eq_false (show ¬ a ≤ v by omega)]; rfl) | (rw [decide_eq_true (show a ≤ v by omega), decide_eq_false (show ¬ v ≤ b by omega)]; rfl)) hx hb hr hlocks dX10_within_15
    · skip
      refine lv_iconst (v := nI 1) hx hb dX10_within_10 (by decide) ?_
      refine lv_goto (tgt := 15) hx hb dX10_within_11 (by decide) ?_
      exact zr_roB (by first | (rw [decide_eq_true (show a ≤ v by omega), decide_eq_true (show v ≤ b by omega)]; rfl) | (rw [decide_eq_false (show ¬ a ≤ v by omega)]; rfl) | (rw [decide_eq_true (show a ≤ v by omega), decide_eq_false (show ¬ v ≤ b by omega)]; rfl)) hx hb hr hlocks dX10_within_15
set_option maxHeartbeats 4000000 in
set_option maxRecDepth 100000 in
theorem metX10_isFar (lG : Launch) (D : va_G) (dA : Nat → ClassId) (v : Int) (hv : inI v) : Ro lG yX10_isFar (ws_ yX10_isFar cX10_isFar 1 (some .boolean)) 1 22 D dA [.int (iZ v)] [] (some (.int (bI (!wiZ v (-500000000) 500000000)))) := by
  refine Ro.of (by decide) (Nat.le_of_ble_eq_true rfl) ?_
  intro pG eG sG mG bG tG cG ls hx hb hr hml hown hts hlocks hP hK hl
  have hown : sG.vm.findClass RX10 = some mG.cls := hown
  have hl : lv_has ls 1 [(0, .int (iZ v))] := hl
  refine lv_iload_n hx hb dX10_isFar_0 rfl (lv_at hl 0 rfl) ?_
  refine lv_ldc (v := (-500000000 : Int32)) hx hb hown (hts _ q1062) dX10_isFar_1 ?_
  refine zt_i (iZ (-500000000)) (by decide) ?_
  refine lv_ldc (v := iZ 500000000) hx hb hown (hts _ q1063) dX10_isFar_3 ?_
  refine zc_roS (v := .int (bI (wiZ v (-500000000) 500000000))) (rest := []) ⟨hx, hb, hml, hown, hts⟩ (metX10_within lG D dA v (-500000000) 500000000 (by first | assumption | omega) (⟨by decide, by decide⟩) (⟨by decide, by decide⟩)) (va_cwS 3 hts (lw_S q1044 q1045 q80 q1046) rfl rfl rfl (by decide +kernel) ⟨Nat.le_of_ble_eq_true rfl, Nat.le_of_ble_eq_true rfl⟩) (hP.sub [] rfl) hK rfl hl.1 rfl (Nat.le_of_ble_eq_true rfl) dX10_isFar_5 ⟨Nat.zero_le _, Nat.zero_le _⟩ ?_
  refine zb_if_ne (tgt := 15) hx hb dX10_isFar_8 (by decide) (fun c_1 => ?_) (fun c_1 => ?_)
  · skip
    refine lv_iconst (v := nI 0) hx hb dX10_isFar_15 (by decide) ?_
    exact zr_roB (by rw [show wiZ v (-500000000) 500000000 = _ from (by assumption)]; rfl) hx hb hr hlocks dX10_isFar_16
  · skip
    refine lv_iconst (v := nI 1) hx hb dX10_isFar_11 (by decide) ?_
    refine lv_goto (tgt := 16) hx hb dX10_isFar_12 (by decide) ?_
    exact zr_roB (by rw [show wiZ v (-500000000) 500000000 = _ from (by assumption)]; rfl) hx hb hr hlocks dX10_isFar_16
set_option maxHeartbeats 4000000 in
set_option maxRecDepth 100000 in
theorem metX10_isShape (lG : Launch) (D : va_G) (dA : Nat → ClassId) (v : Int) (hv : inI v) : Ro lG yX10_isShape (ws_ yX10_isShape cX10_isShape 1 (some .boolean)) 1 22 D dA [.int (iZ v)] [] (some (.int (bI (wiZ v 0 1)))) := by
  refine Ro.of (by decide) (Nat.le_of_ble_eq_true rfl) ?_
  intro pG eG sG mG bG tG cG ls hx hb hr hml hown hts hlocks hP hK hl
  have hown : sG.vm.findClass RX10 = some mG.cls := hown
  have hl : lv_has ls 1 [(0, .int (iZ v))] := hl
  refine lv_iload_n hx hb dX10_isShape_0 rfl (lv_at hl 0 rfl) ?_
  refine lv_iconst (v := iZ 0) hx hb dX10_isShape_1 (by decide) ?_
  refine lv_iconst (v := iZ 1) hx hb dX10_isShape_2 (by decide) ?_
  refine zc_roS (v := .int (bI (wiZ v 0 1))) (rest := []) ⟨hx, hb, hml, hown, hts⟩ (metX10_within lG D dA v 0 1 (by first | assumption | omega) (⟨by decide, by decide⟩) (⟨by decide, by decide⟩)) (va_cwS 3 hts (lw_S q1044 q1045 q80 q1046) rfl rfl rfl (by decide +kernel) ⟨Nat.le_of_ble_eq_true rfl, Nat.le_of_ble_eq_true rfl⟩) (hP.sub [] rfl) hK rfl hl.1 rfl (Nat.le_of_ble_eq_true rfl) dX10_isShape_3 ⟨Nat.zero_le _, Nat.zero_le _⟩ ?_
  exact zr_roB rfl hx hb hr hlocks dX10_isShape_6
set_option maxHeartbeats 4000000 in
set_option maxRecDepth 100000 in
theorem metX10_isShape_n (lG : Launch) (D : va_G) (dA : Nat → ClassId) (v : Nat) (hv : v < 2) : Ro lG yX10_isShape (ws_ yX10_isShape cX10_isShape 1 (some .boolean)) 1 22 D dA [.int (nI v)] [] (some (.int (bI true))) := by
  refine Ro.of (by decide) (Nat.le_of_ble_eq_true rfl) ?_
  intro pG eG sG mG bG tG cG ls hx hb hr hml hown hts hlocks hP hK hl
  have hown : sG.vm.findClass RX10 = some mG.cls := hown
  have hl : lv_has ls 1 [(0, .int (nI v))] := hl
  refine lv_iload_n hx hb dX10_isShape_0 rfl (lv_at hl 0 rfl) ?_
  refine lv_iconst (v := nI 0) hx hb dX10_isShape_1 (by decide) ?_
  refine lv_iconst (v := nI 1) hx hb dX10_isShape_2 (by decide) ?_
  refine zc_roS (v := .int (bI ((decide (0 ≤ v) && decide (v ≤ 1))))) (rest := []) ⟨hx, hb, hml, hown, hts⟩ (metX10_within_n lG D dA v 0 1 (by first | assumption | omega) (by first | assumption | omega) (by first | assumption | omega)) (va_cwS 3 hts (lw_S q1044 q1045 q80 q1046) rfl rfl rfl (by decide +kernel) ⟨Nat.le_of_ble_eq_true rfl, Nat.le_of_ble_eq_true rfl⟩) (hP.sub [] rfl) hK rfl hl.1 rfl (Nat.le_of_ble_eq_true rfl) dX10_isShape_3 ⟨Nat.zero_le _, Nat.zero_le _⟩ ?_
  exact zr_roB (by rw [decide_eq_true (show 0 ≤ v by omega), decide_eq_true (show v ≤ 1 by omega)]; rfl) hx hb hr hlocks dX10_isShape_6
set_option maxHeartbeats 4000000 in
set_option maxRecDepth 100000 in
theorem metX10_fail (lG : Launch) (D : va_G) (dA : Nat → ClassId) (m0 : Nat) (thr : Nat) (kn : Nat) (pt : Nat) (pa : Nat) (bg : Nat) (xs_ : Nat) (ys_ : Nat) (sgm : Nat) (fr_ : Nat) (tw : Nat) (wo_ : Nat) (mt : Nat) (ha_ : Nat) (x0 : Int) (y0 : Int) (dx : Int) (dy : Int) (zz : Nat) (ct : Nat) (ov : Nat) (un : Nat) (e : Nat)  : Wr lG yX10_fail (ws_ yX10_fail cX10_fail 2 (some .int)) 0 0 D dA [.ref m0, .int (nI e)] [(m0, .inr (9, [.int (nI thr), .ref kn, .ref pt, .ref pa, .ref bg, .ref xs_, .ref ys_, .int (nI sgm), .ref fr_, .ref tw, .ref wo_, .ref mt, .ref ha_, .long (lZ x0), .long (lZ y0), .long (lZ dx), .long (lZ dy), .ref zz, .int (nI ct), .ref ov, .ref un]))] 0 0 (fun (_u : Unit) => True) (fun (_u : Unit) => some (.int (nI 0))) (fun (_u : Unit) => [(m0, .inr (9, [.int (nI e), .ref kn, .ref pt, .ref pa, .ref bg, .ref xs_, .ref ys_, .int (nI sgm), .ref fr_, .ref tw, .ref wo_, .ref mt, .ref ha_, .long (lZ x0), .long (lZ y0), .long (lZ dx), .long (lZ dy), .ref zz, .int (nI ct), .ref ov, .ref un]))]) := by
  refine Wr.of (by decide) (Nat.le_of_ble_eq_true rfl) ?_
  intro pG eG sG mG bG tG cG ls A hx hb hr hml hown hts hlocks hnm hP hK hD hS hA hl
  have hK1 := hK.1
  have hown : sG.vm.findClass RX10 = some mG.cls := hown
  have hl : lv_has ls 2 [(0, .ref m0), (1, .int (nI e))] := hl
  refine lv_aload_n hx hb dX10_fail_0 rfl (lv_at hl 0 rfl) ?_
  refine lv_iload_n hx hb dX10_fail_1 rfl (lv_at hl 1 rfl) ?_
  refine va_put (D := D) (ci := 9) (v := .int (nI e)) (ty := .int) (C := RX10) (T := TX10) (N := 21) hx hb hts in_X10 tyX10 tyX10_ok nmX10 hown hK.1 hP hD hS 0 rfl rfl 0 (Nat.le_of_ble_eq_true rfl) (hts _ q969) (fun _ h9 => h9) rfl (by decide +kernel) rfl rfl (Nat.le_of_ble_eq_true rfl) dX10_fail_2 (fun H locs hP hD hS => ?_)
  have hP : va_P D zCl [(m0, .inr (9, [.int (nI e), .ref kn, .ref pt, .ref pa, .ref bg, .ref xs_, .ref ys_, .int (nI sgm), .ref fr_, .ref tw, .ref wo_, .ref mt, .ref ha_, .long (lZ x0), .long (lZ y0), .long (lZ dx), .long (lZ dy), .ref zz, .int (nI ct), .ref ov, .ref un]))] H := hP
  have hD : va_D A [(m0, .inr (9, [.int (nI e), .ref kn, .ref pt, .ref pa, .ref bg, .ref xs_, .ref ys_, .int (nI sgm), .ref fr_, .ref tw, .ref wo_, .ref mt, .ref ha_, .long (lZ x0), .long (lZ y0), .long (lZ dx), .long (lZ dy), .ref zz, .int (nI ct), .ref ov, .ref un]))] := hD
  refine lv_iconst (v := nI 0) hx hb dX10_fail_5 (by decide) ?_
  exact zr_wrI (u := ()) rfl trivial (hP.sub [0] rfl) (hD.sub [0] (by decide) rfl) hS hx hb hr hlocks dX10_fail_6
set_option maxHeartbeats 4000000 in
set_option maxRecDepth 100000 in
theorem metX10_thrown (lG : Launch) (D : va_G) (dA : Nat → ClassId) (m0 : Nat) (thr : Nat) (kn : Nat) (pt : Nat) (pa : Nat) (bg : Nat) (xs_ : Nat) (ys_ : Nat) (sgm : Nat) (fr_ : Nat) (tw : Nat) (wo_ : Nat) (mt : Nat) (ha_ : Nat) (x0 : Int) (y0 : Int) (dx : Int) (dy : Int) (zz : Nat) (ct : Nat) (ov : Nat) (un : Nat)  : Ro lG yX10_thrown (ws_ yX10_thrown cX10_thrown 1 (some .int)) 0 0 D dA [.ref m0] [(m0, .inr (9, [.int (nI thr), .ref kn, .ref pt, .ref pa, .ref bg, .ref xs_, .ref ys_, .int (nI sgm), .ref fr_, .ref tw, .ref wo_, .ref mt, .ref ha_, .long (lZ x0), .long (lZ y0), .long (lZ dx), .long (lZ dy), .ref zz, .int (nI ct), .ref ov, .ref un]))] (some (.int (nI thr))) := by
  refine Ro.of (by decide) (Nat.le_of_ble_eq_true rfl) ?_
  intro pG eG sG mG bG tG cG ls hx hb hr hml hown hts hlocks hP hK hl
  have hown : sG.vm.findClass RX10 = some mG.cls := hown
  have hl : lv_has ls 1 [(0, .ref m0)] := hl
  refine lv_aload_n hx hb dX10_thrown_0 rfl (lv_at hl 0 rfl) ?_
  refine va_get (D := D) (ci := 9) (v := .int (nI thr)) (C := RX10) (T := TX10) (N := 21) hx hb hts in_X10 hown hK.1 hP 0 rfl rfl 0 (Nat.le_of_ble_eq_true rfl) (hts _ q969) (fun _ h9 => h9) rfl dX10_thrown_1 ?_
  exact zr_roI rfl hx hb hr hlocks dX10_thrown_4
set_option maxHeartbeats 4000000 in
set_option maxRecDepth 100000 in
theorem metX10_hasSegments (lG : Launch) (D : va_G) (dA : Nat → ClassId) (m0 : Nat) (thr : Nat) (kn : Nat) (pt : Nat) (pa : Nat) (bg : Nat) (xs_ : Nat) (ys_ : Nat) (sgm : Nat) (fr_ : Nat) (tw : Nat) (wo_ : Nat) (mt : Nat) (ha_ : Nat) (x0 : Int) (y0 : Int) (dx : Int) (dy : Int) (zz : Nat) (ct : Nat) (ov : Nat) (un : Nat) (WO : Nat → Nat) (s_ : Nat) (hs : s_ < 2) (hsgm : sgm ≤ 4096) (hWO : ∀ k, k < sgm → WO k < 2) : Ro lG yX10_hasSegments (ws_ yX10_hasSegments cX10_hasSegments 4 (some .boolean)) 0 0 D dA [.ref m0, .int (nI s_)] [(m0, .inr (9, [.int (nI thr), .ref kn, .ref pt, .ref pa, .ref bg, .ref xs_, .ref ys_, .int (nI sgm), .ref fr_, .ref tw, .ref wo_, .ref mt, .ref ha_, .long (lZ x0), .long (lZ y0), .long (lZ dx), .long (lZ dy), .ref zz, .int (nI ct), .ref ov, .ref un])), (wo_, .inl (dA 0, 4096, .inl fun j => nI (WO j)))] (some (.int (bI (hsM WO sgm s_)))) := by
  refine Ro.of (by decide) (Nat.le_of_ble_eq_true rfl) ?_
  intro pG eG sG mG bG tG cG ls hx hb hr hml hown hts hlocks hP hK hl
  have hown : sG.vm.findClass RX10 = some mG.cls := hown
  have hl : lv_has ls 4 [(0, .ref m0), (1, .int (nI s_))] := hl
  refine lv_iconst (v := bI false) hx hb dX10_hasSegments_0 (by decide) ?_
  refine lv_istore_n (lv' := [(2, .int (bI false)), (0, .ref m0), (1, .int (nI s_))]) hx hb dX10_hasSegments_1 rfl hl (by decide) rfl (fun ls hl => ?_)
  refine lv_iconst (v := nI 0) hx hb dX10_hasSegments_2 (by decide) ?_
  refine lv_istore_n (lv' := [(3, .int (nI 0)), (2, .int (bI false)), (0, .ref m0), (1, .int (nI s_))]) hx hb dX10_hasSegments_3 rfl hl (by decide) rfl (fun ls hl => ?_)
  have loop4 : ∀ (n4 : Nat) (k : Nat) (b : Bool), (k ≤ sgm) → (b = exR (fun k => decide (WO k = s_)) 0 k) → sgm - k < n4 → ∀ (ls : Array Slot), lv_has ls 4 [(3, .int (nI k)), (2, .int (bI b)), (0, .ref m0), (1, .int (nI s_))] → W pG lG eG (zRoom 0 0 0 0) sG mG [.ref m0, .int (nI s_)].toArray bG tG cG sG.heap [] 0 0 (MQ bG (roQ (some (.int (bI (hsM WO sgm s_)))) sG.heap) [.ref m0, .int (nI s_)].toArray sG 0 0 (fun _ => False)) (F0 mG 4 ls []) := by
    intro n4
    induction n4 with
    | zero => intro k b i1 i2 hm; exact absurd hm (Nat.not_lt_zero _)
    | succ n4 ih4 =>
      intro k b i1 i2 hm4 ls hl
      refine lv_iload_n hx hb dX10_hasSegments_4 rfl (lv_at hl 0 rfl) ?_
      refine lv_aload_n hx hb dX10_hasSegments_5 rfl (lv_at hl 2 rfl) ?_
      refine va_get (D := D) (ci := 9) (v := .int (nI sgm)) (C := RX10) (T := TX10) (N := 21) hx hb hts in_X10 hown hK.1 hP 0 rfl rfl 7 (Nat.le_of_ble_eq_true rfl) (hts _ q976) (fun _ h9 => h9) rfl dX10_hasSegments_6 ?_
      refine zn_icmp_ge (tgt := 38) hx hb (by omega) (by omega) dX10_hasSegments_9 (by decide) (fun c_1 => ?_) (fun c_1 => ?_)
      · skip
        refine lv_iload_n hx hb dX10_hasSegments_38 rfl (lv_at hl 1 rfl) ?_
        exact zr_roB (by rw [i2, show k = sgm by omega]; rfl) hx hb hr hlocks dX10_hasSegments_39
      · skip
        refine lv_iload_n hx hb dX10_hasSegments_12 rfl (lv_at hl 1 rfl) ?_
        refine zb_if_ne (tgt := 26) hx hb dX10_hasSegments_13 (by decide) (fun c_2 => ?_) (fun c_2 => ?_)
        · skip
          refine lv_iconst (v := bI true) hx hb dX10_hasSegments_26 (by decide) ?_
          refine lv_goto (tgt := 31) hx hb dX10_hasSegments_27 (by decide) ?_
          refine lv_istore_n (lv' := [(2, .int (bI true)), (3, .int (nI k)), (0, .ref m0), (1, .int (nI s_))]) hx hb dX10_hasSegments_31 rfl hl (by decide) rfl (fun ls hl => ?_)
          refine lv_iinc (v := nI (k + 1)) (lv' := [(3, .int (nI (k + 1))), (2, .int (bI true)), (0, .ref m0), (1, .int (nI s_))]) hx hb dX10_hasSegments_32 hl (k := 1) rfl (nI_add _ _) (by decide) rfl (fun ls hl => ?_)
          refine lv_goto (tgt := 4) hx hb dX10_hasSegments_35 (by decide) ?_
          exact ih4 (k + 1) true (by first | assumption | omega) (by first | exact (exR_more (Nat.le_succ k) (i2.symm.trans (by assumption))).symm | exact (exR_t (f := fun k => decide (WO k = s_)) (Nat.zero_le k) (Nat.lt_succ_self k) (decide_eq_true (by assumption))).symm | exact (decide_eq_false (p := WO k = s_) (by assumption)).symm.trans (exR_step (f := fun k => decide (WO k = s_)) (Nat.zero_le k) (i2.symm.trans (by assumption)))) (by omega) _ (lv_sub hl [0, 1, 2, 3] rfl)
        · skip
          refine lv_aload_n hx hb dX10_hasSegments_16 rfl (lv_at hl 2 rfl) ?_
          refine va_get (D := D) (ci := 9) (v := .ref wo_) (C := RX10) (T := TX10) (N := 21) hx hb hts in_X10 hown hK.1 hP 0 rfl rfl 10 (Nat.le_of_ble_eq_true rfl) (hts _ q979) (fun _ h9 => h9) rfl dX10_hasSegments_17 ?_
          refine lv_iload_n hx hb dX10_hasSegments_20 rfl (lv_at hl 0 rfl) ?_
          refine zn_iaload (f := WO) (i := k) hx hb hK.1 hP 1 0 rfl rfl (by omega) (by decide) dX10_hasSegments_21 ?_
          refine lv_iload_n hx hb dX10_hasSegments_22 rfl (lv_at hl 3 rfl) ?_
          refine zn_icmp_ne (tgt := 30) hx hb (by have := hWO k (by omega); omega) (by omega) dX10_hasSegments_23 (by decide) (fun c_3 => ?_) (fun c_3 => ?_)
          · skip
            refine lv_iconst (v := bI false) hx hb dX10_hasSegments_30 (by decide) ?_
            refine lv_istore_n (lv' := [(2, .int (bI false)), (3, .int (nI k)), (0, .ref m0), (1, .int (nI s_))]) hx hb dX10_hasSegments_31 rfl hl (by decide) rfl (fun ls hl => ?_)
            refine lv_iinc (v := nI (k + 1)) (lv' := [(3, .int (nI (k + 1))), (2, .int (bI false)), (0, .ref m0), (1, .int (nI s_))]) hx hb dX10_hasSegments_32 hl (k := 1) rfl (nI_add _ _) (by decide) rfl (fun ls hl => ?_)
            refine lv_goto (tgt := 4) hx hb dX10_hasSegments_35 (by decide) ?_
            exact ih4 (k + 1) false (by first | assumption | omega) (by first | exact (exR_more (Nat.le_succ k) (i2.symm.trans (by assumption))).symm | exact (exR_t (f := fun k => decide (WO k = s_)) (Nat.zero_le k) (Nat.lt_succ_self k) (decide_eq_true (by assumption))).symm | exact (decide_eq_false (p := WO k = s_) (by assumption)).symm.trans (exR_step (f := fun k => decide (WO k = s_)) (Nat.zero_le k) (i2.symm.trans (by assumption)))) (by omega) _ (lv_sub hl [0, 1, 2, 3] rfl)
          · skip
            refine lv_iconst (v := bI true) hx hb dX10_hasSegments_26 (by decide) ?_
            refine lv_goto (tgt := 31) hx hb dX10_hasSegments_27 (by decide) ?_
            refine lv_istore_n (lv' := [(2, .int (bI true)), (3, .int (nI k)), (0, .ref m0), (1, .int (nI s_))]) hx hb dX10_hasSegments_31 rfl hl (by decide) rfl (fun ls hl => ?_)
            refine lv_iinc (v := nI (k + 1)) (lv' := [(3, .int (nI (k + 1))), (2, .int (bI true)), (0, .ref m0), (1, .int (nI s_))]) hx hb dX10_hasSegments_32 hl (k := 1) rfl (nI_add _ _) (by decide) rfl (fun ls hl => ?_)
            refine lv_goto (tgt := 4) hx hb dX10_hasSegments_35 (by decide) ?_
            exact ih4 (k + 1) true (by first | assumption | omega) (by first | exact (exR_more (Nat.le_succ k) (i2.symm.trans (by assumption))).symm | exact (exR_t (f := fun k => decide (WO k = s_)) (Nat.zero_le k) (Nat.lt_succ_self k) (decide_eq_true (by assumption))).symm | exact (decide_eq_false (p := WO k = s_) (by assumption)).symm.trans (exR_step (f := fun k => decide (WO k = s_)) (Nat.zero_le k) (i2.symm.trans (by assumption)))) (by omega) _ (lv_sub hl [0, 1, 2, 3] rfl)
  exact loop4 (sgm - 0 + 1) 0 false (by first | assumption | omega) rfl (Nat.lt_succ_self _) _ (lv_sub hl [0, 1, 2, 3] rfl)
set_option maxHeartbeats 4000000 in
set_option maxRecDepth 100000 in
theorem metX10_insideOf (lG : Launch) (D : va_G) (dA : Nat → ClassId) (m0 : Nat) (thr : Nat) (kn : Nat) (pt : Nat) (pa : Nat) (bg : Nat) (xs_ : Nat) (ys_ : Nat) (sgm : Nat) (fr_ : Nat) (tw : Nat) (wo_ : Nat) (mt : Nat) (ha_ : Nat) (x0 : Int) (y0 : Int) (dx : Int) (dy : Int) (zz : Nat) (ct : Nat) (ov : Nat) (un : Nat) (KD : Nat → Nat) (PT : Nat → Nat) (WO : Nat → Nat) (HA : Nat → Bool) (s_ : Nat) (hs : s_ < 2) (hsgm : sgm ≤ 4096) (hWO : ∀ k, k < sgm → WO k < 2) (hKD : ∀ s, s < 2 → KD s < 4) (hPT : ∀ s, s < 2 → PT s ≤ 2048) : Ro lG yX10_insideOf (ws_ yX10_insideOf cX10_insideOf 2 (some .int)) 1 23 D dA [.ref m0, .int (nI s_)] [(m0, .inr (9, [.int (nI thr), .ref kn, .ref pt, .ref pa, .ref bg, .ref xs_, .ref ys_, .int (nI sgm), .ref fr_, .ref tw, .ref wo_, .ref mt, .ref ha_, .long (lZ x0), .long (lZ y0), .long (lZ dx), .long (lZ dy), .ref zz, .int (nI ct), .ref ov, .ref un])), (kn, .inl (dA 0, 2, .inl fun j => nI (KD j))), (pt, .inl (dA 0, 2, .inl fun j => nI (PT j))), (wo_, .inl (dA 0, 4096, .inl fun j => nI (WO j))), (ha_, .inl (dA 2, 2, .inl fun j => bI (HA j)))] (some (.int (iZ (inM KD PT WO HA sgm s_)))) := by
  refine Ro.of (by decide) (Nat.le_of_ble_eq_true rfl) ?_
  intro pG eG sG mG bG tG cG ls hx hb hr hml hown hts hlocks hP hK hl
  have hown : sG.vm.findClass RX10 = some mG.cls := hown
  have hl : lv_has ls 2 [(0, .ref m0), (1, .int (nI s_))] := hl
  have hkd := hKD s_ hs
  have hpt := hPT s_ hs
  refine lv_aload_n hx hb dX10_insideOf_0 rfl (lv_at hl 0 rfl) ?_
  refine va_get (D := D) (ci := 9) (v := .ref kn) (C := RX10) (T := TX10) (N := 21) hx hb hts in_X10 hown hK.1 hP 0 rfl rfl 1 (Nat.le_of_ble_eq_true rfl) (hts _ q970) (fun _ h9 => h9) rfl dX10_insideOf_1 ?_
  refine lv_iload_n hx hb dX10_insideOf_4 rfl (lv_at hl 1 rfl) ?_
  refine zn_iaload (f := KD) (i := s_) hx hb hK.1 hP 1 0 rfl rfl (by omega) (by decide) dX10_insideOf_5 ?_
  refine lv_iconst (v := nI 1) hx hb dX10_insideOf_6 (by decide) ?_
  refine zn_icmp_ne (tgt := 27) hx hb (by omega) (by decide) dX10_insideOf_7 (by decide) (fun c_1 => ?_) (fun c_1 => ?_)
  · skip
    refine lv_aload_n hx hb dX10_insideOf_27 rfl (lv_at hl 0 rfl) ?_
    refine va_get (D := D) (ci := 9) (v := .ref kn) (C := RX10) (T := TX10) (N := 21) hx hb hts in_X10 hown hK.1 hP 0 rfl rfl 1 (Nat.le_of_ble_eq_true rfl) (hts _ q970) (fun _ h9 => h9) rfl dX10_insideOf_28 ?_
    refine lv_iload_n hx hb dX10_insideOf_31 rfl (lv_at hl 1 rfl) ?_
    refine zn_iaload (f := KD) (i := s_) hx hb hK.1 hP 1 0 rfl rfl (by omega) (by decide) dX10_insideOf_32 ?_
    refine lv_iconst (v := nI 2) hx hb dX10_insideOf_33 (by decide) ?_
    refine zn_icmp_ne (tgt := 53) hx hb (by omega) (by decide) dX10_insideOf_34 (by decide) (fun c_2 => ?_) (fun c_2 => ?_)
    · skip
      refine lv_aload_n hx hb dX10_insideOf_53 rfl (lv_at hl 0 rfl) ?_
      refine va_get (D := D) (ci := 9) (v := .ref ha_) (C := RX10) (T := TX10) (N := 21) hx hb hts in_X10 hown hK.1 hP 0 rfl rfl 12 (Nat.le_of_ble_eq_true rfl) (hts _ q981) (fun _ h9 => h9) rfl dX10_insideOf_54 ?_
      refine lv_iload_n hx hb dX10_insideOf_57 rfl (lv_at hl 1 rfl) ?_
      refine zb_baload (f := HA) (i := s_) hx hb hK.1 hP 4 2 rfl rfl (by omega) (by decide) dX10_insideOf_58 ?_
      refine zb_if_eq (tgt := 66) hx hb dX10_insideOf_59 (by decide) (fun c_3 => ?_) (fun c_3 => ?_)
      · skip
        refine lv_iconst (v := iZ (-1)) hx hb dX10_insideOf_66 (by decide) ?_
        exact zr_roI (congrArg iZ (by unfold inM; first | (rw [if_pos (by assumption), if_pos (by assumption)]; done) | (rw [if_pos (by assumption), if_neg (by omega)]; done) | (rw [if_neg (by assumption), if_pos (by assumption), if_pos (by assumption)]; done) | (rw [if_neg (by assumption), if_pos (by assumption), if_neg (by rw [show hsM WO sgm s_ = false from (by assumption)]; decide)]; done) | (rw [if_neg (by assumption), if_neg (by assumption), if_pos (by assumption)]; done) | (rw [if_neg (by assumption), if_neg (by assumption), if_neg (by rw [show HA s_ = false from (by assumption)]; decide)]; done))) hx hb hr hlocks dX10_insideOf_67
      · skip
        refine lv_iconst (v := iZ 2) hx hb dX10_insideOf_62 (by decide) ?_
        refine lv_goto (tgt := 67) hx hb dX10_insideOf_63 (by decide) ?_
        exact zr_roI (congrArg iZ (by unfold inM; first | (rw [if_pos (by assumption), if_pos (by assumption)]; done) | (rw [if_pos (by assumption), if_neg (by omega)]; done) | (rw [if_neg (by assumption), if_pos (by assumption), if_pos (by assumption)]; done) | (rw [if_neg (by assumption), if_pos (by assumption), if_neg (by rw [show hsM WO sgm s_ = false from (by assumption)]; decide)]; done) | (rw [if_neg (by assumption), if_neg (by assumption), if_pos (by assumption)]; done) | (rw [if_neg (by assumption), if_neg (by assumption), if_neg (by rw [show HA s_ = false from (by assumption)]; decide)]; done))) hx hb hr hlocks dX10_insideOf_67
    · skip
      refine lv_aload_n hx hb dX10_insideOf_37 rfl (lv_at hl 0 rfl) ?_
      refine lv_iload_n hx hb dX10_insideOf_38 rfl (lv_at hl 1 rfl) ?_
      refine zc_roV (v := .int (bI (hsM WO sgm s_))) (rest := []) ⟨hx, hb, hml, hown, hts⟩ (metX10_hasSegments lG D dA m0 thr kn pt pa bg xs_ ys_ sgm fr_ tw wo_ mt ha_ x0 y0 dx dy zz ct ov un WO s_ (by first | assumption | omega) (by first | assumption | omega) (by first | assumption | omega)) (cwV 1 hts (lw_V q1225 q1227 qs65 q80 q1228) rfl rfl rfl (by decide +kernel) ⟨Nat.le_of_ble_eq_true rfl, Nat.le_of_ble_eq_true rfl⟩) (va_recv hK.1 hP (ci := 9) (q0 := 0) rfl rfl) (hP.sub [0, 3] rfl) hK rfl hl.1 rfl (Nat.le_of_ble_eq_true rfl) dX10_insideOf_39 ⟨Nat.zero_le _, Nat.zero_le _⟩ ?_
      refine zb_if_eq (tgt := 49) hx hb dX10_insideOf_42 (by decide) (fun c_4 => ?_) (fun c_4 => ?_)
      · skip
        refine lv_iconst (v := iZ (-1)) hx hb dX10_insideOf_49 (by decide) ?_
        refine lv_goto (tgt := 67) hx hb dX10_insideOf_50 (by decide) ?_
        exact zr_roI (congrArg iZ (by unfold inM; first | (rw [if_pos (by assumption), if_pos (by assumption)]; done) | (rw [if_pos (by assumption), if_neg (by omega)]; done) | (rw [if_neg (by assumption), if_pos (by assumption), if_pos (by assumption)]; done) | (rw [if_neg (by assumption), if_pos (by assumption), if_neg (by rw [show hsM WO sgm s_ = false from (by assumption)]; decide)]; done) | (rw [if_neg (by assumption), if_neg (by assumption), if_pos (by assumption)]; done) | (rw [if_neg (by assumption), if_neg (by assumption), if_neg (by rw [show HA s_ = false from (by assumption)]; decide)]; done))) hx hb hr hlocks dX10_insideOf_67
      · skip
        refine lv_iconst (v := iZ 1) hx hb dX10_insideOf_45 (by decide) ?_
        refine lv_goto (tgt := 67) hx hb dX10_insideOf_46 (by decide) ?_
        exact zr_roI (congrArg iZ (by unfold inM; first | (rw [if_pos (by assumption), if_pos (by assumption)]; done) | (rw [if_pos (by assumption), if_neg (by omega)]; done) | (rw [if_neg (by assumption), if_pos (by assumption), if_pos (by assumption)]; done) | (rw [if_neg (by assumption), if_pos (by assumption), if_neg (by rw [show hsM WO sgm s_ = false from (by assumption)]; decide)]; done) | (rw [if_neg (by assumption), if_neg (by assumption), if_pos (by assumption)]; done) | (rw [if_neg (by assumption), if_neg (by assumption), if_neg (by rw [show HA s_ = false from (by assumption)]; decide)]; done))) hx hb hr hlocks dX10_insideOf_67
  · skip
    refine lv_aload_n hx hb dX10_insideOf_10 rfl (lv_at hl 0 rfl) ?_
    refine va_get (D := D) (ci := 9) (v := .ref pt) (C := RX10) (T := TX10) (N := 21) hx hb hts in_X10 hown hK.1 hP 0 rfl rfl 2 (Nat.le_of_ble_eq_true rfl) (hts _ q971) (fun _ h9 => h9) rfl dX10_insideOf_11 ?_
    refine lv_iload_n hx hb dX10_insideOf_14 rfl (lv_at hl 1 rfl) ?_
    refine zn_iaload (f := PT) (i := s_) hx hb hK.1 hP 2 0 rfl rfl (by omega) (by decide) dX10_insideOf_15 ?_
    refine zn_if_le (tgt := 23) hx hb (by omega) dX10_insideOf_16 (by decide) (fun c_5 => ?_) (fun c_5 => ?_)
    · skip
      refine lv_iconst (v := iZ (-1)) hx hb dX10_insideOf_23 (by decide) ?_
      refine lv_goto (tgt := 67) hx hb dX10_insideOf_24 (by decide) ?_
      exact zr_roI (congrArg iZ (by unfold inM; first | (rw [if_pos (by assumption), if_pos (by assumption)]; done) | (rw [if_pos (by assumption), if_neg (by omega)]; done) | (rw [if_neg (by assumption), if_pos (by assumption), if_pos (by assumption)]; done) | (rw [if_neg (by assumption), if_pos (by assumption), if_neg (by rw [show hsM WO sgm s_ = false from (by assumption)]; decide)]; done) | (rw [if_neg (by assumption), if_neg (by assumption), if_pos (by assumption)]; done) | (rw [if_neg (by assumption), if_neg (by assumption), if_neg (by rw [show HA s_ = false from (by assumption)]; decide)]; done))) hx hb hr hlocks dX10_insideOf_67
    · skip
      refine lv_iconst (v := iZ 0) hx hb dX10_insideOf_19 (by decide) ?_
      refine lv_goto (tgt := 67) hx hb dX10_insideOf_20 (by decide) ?_
      exact zr_roI (congrArg iZ (by unfold inM; first | (rw [if_pos (by assumption), if_pos (by assumption)]; done) | (rw [if_pos (by assumption), if_neg (by omega)]; done) | (rw [if_neg (by assumption), if_pos (by assumption), if_pos (by assumption)]; done) | (rw [if_neg (by assumption), if_pos (by assumption), if_neg (by rw [show hsM WO sgm s_ = false from (by assumption)]; decide)]; done) | (rw [if_neg (by assumption), if_neg (by assumption), if_pos (by assumption)]; done) | (rw [if_neg (by assumption), if_neg (by assumption), if_neg (by rw [show HA s_ = false from (by assumption)]; decide)]; done))) hx hb hr hlocks dX10_insideOf_67
set_option maxHeartbeats 4000000 in
set_option maxRecDepth 100000 in
theorem metX10_there (lG : Launch) (D : va_G) (dA : Nat → ClassId) (m0 : Nat) (thr : Nat) (kn : Nat) (pt : Nat) (pa : Nat) (bg : Nat) (xs_ : Nat) (ys_ : Nat) (sgm : Nat) (fr_ : Nat) (tw : Nat) (wo_ : Nat) (mt : Nat) (ha_ : Nat) (x0 : Int) (y0 : Int) (dx : Int) (dy : Int) (zz : Nat) (ct : Nat) (ov : Nat) (un : Nat) (MX : Nat → Int) (ii : Nat) (jj : Nat) (hi : ii < 3) (hj : jj < 3) (hM : mxB MX) : Ro lG yX10_there (ws_ yX10_there cX10_there 3 (some .boolean)) 0 0 D dA [.ref m0, .int (nI ii), .int (nI jj)] [(m0, .inr (9, [.int (nI thr), .ref kn, .ref pt, .ref pa, .ref bg, .ref xs_, .ref ys_, .int (nI sgm), .ref fr_, .ref tw, .ref wo_, .ref mt, .ref ha_, .long (lZ x0), .long (lZ y0), .long (lZ dx), .long (lZ dy), .ref zz, .int (nI ct), .ref ov, .ref un])), (mt, .inl (dA 0, 9, .inl fun j => iZ (MX j)))] (some (.int (bI (mxH MX ii jj)))) := by
  refine Ro.of (by decide) (Nat.le_of_ble_eq_true rfl) ?_
  intro pG eG sG mG bG tG cG ls hx hb hr hml hown hts hlocks hP hK hl
  have hown : sG.vm.findClass RX10 = some mG.cls := hown
  have hl : lv_has ls 3 [(0, .ref m0), (1, .int (nI ii)), (2, .int (nI jj))] := hl
  refine lv_aload_n hx hb dX10_there_0 rfl (lv_at hl 0 rfl) ?_
  refine va_get (D := D) (ci := 9) (v := .ref mt) (C := RX10) (T := TX10) (N := 21) hx hb hts in_X10 hown hK.1 hP 0 rfl rfl 11 (Nat.le_of_ble_eq_true rfl) (hts _ q980) (fun _ h9 => h9) rfl dX10_there_1 ?_
  refine lv_iconst (v := nI 3) hx hb dX10_there_4 (by decide) ?_
  refine lv_iload_n hx hb dX10_there_5 rfl (lv_at hl 1 rfl) ?_
  refine zn_imul hx hb dX10_there_6 ?_
  refine lv_iload_n hx hb dX10_there_7 rfl (lv_at hl 2 rfl) ?_
  refine zn_iadd hx hb dX10_there_8 ?_
  refine zz_iaload (f := MX) (i := (3 * ii) + jj) hx hb hK.1 hP 1 0 rfl rfl (by omega) (by decide) dX10_there_9 ?_
  refine zz_if_lt (tgt := 17) hx hb (mxB_I hM _) dX10_there_10 (by decide) (fun c_1 => ?_) (fun c_1 => ?_)
  · skip
    refine lv_iconst (v := nI 0) hx hb dX10_there_17 (by decide) ?_
    exact zr_roB (by unfold mxH; first | (rw [decide_eq_true (by omega)]; rfl) | (rw [decide_eq_false (by omega)]; rfl)) hx hb hr hlocks dX10_there_18
  · skip
    refine lv_iconst (v := nI 1) hx hb dX10_there_13 (by decide) ?_
    refine lv_goto (tgt := 18) hx hb dX10_there_14 (by decide) ?_
    exact zr_roB (by unfold mxH; first | (rw [decide_eq_true (by omega)]; rfl) | (rw [decide_eq_false (by omega)]; rfl)) hx hb hr hlocks dX10_there_18
set_option maxHeartbeats 4000000 in
set_option maxRecDepth 100000 in
theorem metX10_meet (lG : Launch) (D : va_G) (dA : Nat → ClassId) (m0 : Nat) (thr : Nat) (kn : Nat) (pt : Nat) (pa : Nat) (bg : Nat) (xs_ : Nat) (ys_ : Nat) (sgm : Nat) (fr_ : Nat) (tw : Nat) (wo_ : Nat) (mt : Nat) (ha_ : Nat) (x0 : Int) (y0 : Int) (dx : Int) (dy : Int) (zz : Nat) (ct : Nat) (ov : Nat) (un : Nat) (MX : Nat → Int) (hM : mxB MX) : Ro lG yX10_meet (ws_ yX10_meet cX10_meet 1 (some .boolean)) 1 22 D dA [.ref m0] [(m0, .inr (9, [.int (nI thr), .ref kn, .ref pt, .ref pa, .ref bg, .ref xs_, .ref ys_, .int (nI sgm), .ref fr_, .ref tw, .ref wo_, .ref mt, .ref ha_, .long (lZ x0), .long (lZ y0), .long (lZ dx), .long (lZ dy), .ref zz, .int (nI ct), .ref ov, .ref un])), (mt, .inl (dA 0, 9, .inl fun j => iZ (MX j)))] (some (.int (bI (qMeets MX)))) := by
  refine Ro.of (by decide) (Nat.le_of_ble_eq_true rfl) ?_
  intro pG eG sG mG bG tG cG ls hx hb hr hml hown hts hlocks hP hK hl
  have hown : sG.vm.findClass RX10 = some mG.cls := hown
  have hl : lv_has ls 1 [(0, .ref m0)] := hl
  refine lv_aload_n hx hb dX10_meet_0 rfl (lv_at hl 0 rfl) ?_
  refine lv_iconst (v := nI 0) hx hb dX10_meet_1 (by decide) ?_
  refine lv_iconst (v := nI 0) hx hb dX10_meet_2 (by decide) ?_
  refine zc_roV (v := .int (bI (mxH MX 0 0))) (rest := []) ⟨hx, hb, hml, hown, hts⟩ (metX10_there lG D dA m0 thr kn pt pa bg xs_ ys_ sgm fr_ tw wo_ mt ha_ x0 y0 dx dy zz ct ov un MX 0 0 (by first | assumption | omega) (by first | assumption | omega) (by first | assumption | omega)) (cwV 2 hts (lw_V q1229 q1231 qs66 q80 q1232) rfl rfl rfl (by decide +kernel) ⟨Nat.le_of_ble_eq_true rfl, Nat.le_of_ble_eq_true rfl⟩) (va_recv hK.1 hP (ci := 9) (q0 := 0) rfl rfl) (hP.sub [0, 1] rfl) hK rfl hl.1 rfl (Nat.le_of_ble_eq_true rfl) dX10_meet_3 ⟨Nat.zero_le _, Nat.zero_le _⟩ ?_
  refine zb_if_ne (tgt := 36) hx hb dX10_meet_6 (by decide) (fun c_1 => ?_) (fun c_1 => ?_)
  · skip
    refine lv_iconst (v := nI 1) hx hb dX10_meet_36 (by decide) ?_
    refine lv_goto (tgt := 41) hx hb dX10_meet_37 (by decide) ?_
    exact zr_roB (by unfold qMeets; simp_all [bI, nI]) hx hb hr hlocks dX10_meet_41
  · skip
    refine lv_aload_n hx hb dX10_meet_9 rfl (lv_at hl 0 rfl) ?_
    refine lv_iconst (v := nI 0) hx hb dX10_meet_10 (by decide) ?_
    refine lv_iconst (v := nI 1) hx hb dX10_meet_11 (by decide) ?_
    refine zc_roV (v := .int (bI (mxH MX 0 1))) (rest := []) ⟨hx, hb, hml, hown, hts⟩ (metX10_there lG D dA m0 thr kn pt pa bg xs_ ys_ sgm fr_ tw wo_ mt ha_ x0 y0 dx dy zz ct ov un MX 0 1 (by first | assumption | omega) (by first | assumption | omega) (by first | assumption | omega)) (cwV 2 hts (lw_V q1229 q1231 qs66 q80 q1232) rfl rfl rfl (by decide +kernel) ⟨Nat.le_of_ble_eq_true rfl, Nat.le_of_ble_eq_true rfl⟩) (va_recv hK.1 hP (ci := 9) (q0 := 0) rfl rfl) (hP.sub [0, 1] rfl) hK rfl hl.1 rfl (Nat.le_of_ble_eq_true rfl) dX10_meet_12 ⟨Nat.zero_le _, Nat.zero_le _⟩ ?_
    refine zb_if_ne (tgt := 36) hx hb dX10_meet_15 (by decide) (fun c_2 => ?_) (fun c_2 => ?_)
    · skip
      refine lv_iconst (v := nI 1) hx hb dX10_meet_36 (by decide) ?_
      refine lv_goto (tgt := 41) hx hb dX10_meet_37 (by decide) ?_
      exact zr_roB (by unfold qMeets; simp_all [bI, nI]) hx hb hr hlocks dX10_meet_41
    · skip
      refine lv_aload_n hx hb dX10_meet_18 rfl (lv_at hl 0 rfl) ?_
      refine lv_iconst (v := nI 1) hx hb dX10_meet_19 (by decide) ?_
      refine lv_iconst (v := nI 0) hx hb dX10_meet_20 (by decide) ?_
      refine zc_roV (v := .int (bI (mxH MX 1 0))) (rest := []) ⟨hx, hb, hml, hown, hts⟩ (metX10_there lG D dA m0 thr kn pt pa bg xs_ ys_ sgm fr_ tw wo_ mt ha_ x0 y0 dx dy zz ct ov un MX 1 0 (by first | assumption | omega) (by first | assumption | omega) (by first | assumption | omega)) (cwV 2 hts (lw_V q1229 q1231 qs66 q80 q1232) rfl rfl rfl (by decide +kernel) ⟨Nat.le_of_ble_eq_true rfl, Nat.le_of_ble_eq_true rfl⟩) (va_recv hK.1 hP (ci := 9) (q0 := 0) rfl rfl) (hP.sub [0, 1] rfl) hK rfl hl.1 rfl (Nat.le_of_ble_eq_true rfl) dX10_meet_21 ⟨Nat.zero_le _, Nat.zero_le _⟩ ?_
      refine zb_if_ne (tgt := 36) hx hb dX10_meet_24 (by decide) (fun c_3 => ?_) (fun c_3 => ?_)
      · skip
        refine lv_iconst (v := nI 1) hx hb dX10_meet_36 (by decide) ?_
        refine lv_goto (tgt := 41) hx hb dX10_meet_37 (by decide) ?_
        exact zr_roB (by unfold qMeets; simp_all [bI, nI]) hx hb hr hlocks dX10_meet_41
      · skip
        refine lv_aload_n hx hb dX10_meet_27 rfl (lv_at hl 0 rfl) ?_
        refine lv_iconst (v := nI 1) hx hb dX10_meet_28 (by decide) ?_
        refine lv_iconst (v := nI 1) hx hb dX10_meet_29 (by decide) ?_
        refine zc_roV (v := .int (bI (mxH MX 1 1))) (rest := []) ⟨hx, hb, hml, hown, hts⟩ (metX10_there lG D dA m0 thr kn pt pa bg xs_ ys_ sgm fr_ tw wo_ mt ha_ x0 y0 dx dy zz ct ov un MX 1 1 (by first | assumption | omega) (by first | assumption | omega) (by first | assumption | omega)) (cwV 2 hts (lw_V q1229 q1231 qs66 q80 q1232) rfl rfl rfl (by decide +kernel) ⟨Nat.le_of_ble_eq_true rfl, Nat.le_of_ble_eq_true rfl⟩) (va_recv hK.1 hP (ci := 9) (q0 := 0) rfl rfl) (hP.sub [0, 1] rfl) hK rfl hl.1 rfl (Nat.le_of_ble_eq_true rfl) dX10_meet_30 ⟨Nat.zero_le _, Nat.zero_le _⟩ ?_
        refine zb_if_eq (tgt := 40) hx hb dX10_meet_33 (by decide) (fun c_4 => ?_) (fun c_4 => ?_)
        · skip
          refine lv_iconst (v := nI 0) hx hb dX10_meet_40 (by decide) ?_
          exact zr_roB (by unfold qMeets; simp_all [bI, nI]) hx hb hr hlocks dX10_meet_41
        · skip
          refine lv_iconst (v := nI 1) hx hb dX10_meet_36 (by decide) ?_
          refine lv_goto (tgt := 41) hx hb dX10_meet_37 (by decide) ?_
          exact zr_roB (by unfold qMeets; simp_all [bI, nI]) hx hb hr hlocks dX10_meet_41
set_option maxHeartbeats 4000000 in
set_option maxRecDepth 100000 in
theorem metX10_none (lG : Launch) (D : va_G) (dA : Nat → ClassId) (m0 : Nat) (thr : Nat) (kn : Nat) (pt : Nat) (pa : Nat) (bg : Nat) (xs_ : Nat) (ys_ : Nat) (sgm : Nat) (fr_ : Nat) (tw : Nat) (wo_ : Nat) (mt : Nat) (ha_ : Nat) (x0 : Int) (y0 : Int) (dx : Int) (dy : Int) (zz : Nat) (ct : Nat) (ov : Nat) (un : Nat) (MX : Nat → Int) (ii : Nat) (jj : Nat) (hi : ii < 9) (hj : jj < 9) (hM : mxB MX) : Ro lG yX10_none (ws_ yX10_none cX10_none 3 (some .boolean)) 0 0 D dA [.ref m0, .int (nI ii), .int (nI jj)] [(m0, .inr (9, [.int (nI thr), .ref kn, .ref pt, .ref pa, .ref bg, .ref xs_, .ref ys_, .int (nI sgm), .ref fr_, .ref tw, .ref wo_, .ref mt, .ref ha_, .long (lZ x0), .long (lZ y0), .long (lZ dx), .long (lZ dy), .ref zz, .int (nI ct), .ref ov, .ref un])), (mt, .inl (dA 0, 9, .inl fun j => iZ (MX j)))] (some (.int (bI (mNo MX ii jj)))) := by
  refine Ro.of (by decide) (Nat.le_of_ble_eq_true rfl) ?_
  intro pG eG sG mG bG tG cG ls hx hb hr hml hown hts hlocks hP hK hl
  have hown : sG.vm.findClass RX10 = some mG.cls := hown
  have hl : lv_has ls 3 [(0, .ref m0), (1, .int (nI ii)), (2, .int (nI jj))] := hl
  refine lv_aload_n hx hb dX10_none_0 rfl (lv_at hl 0 rfl) ?_
  refine va_get (D := D) (ci := 9) (v := .ref mt) (C := RX10) (T := TX10) (N := 21) hx hb hts in_X10 hown hK.1 hP 0 rfl rfl 11 (Nat.le_of_ble_eq_true rfl) (hts _ q980) (fun _ h9 => h9) rfl dX10_none_1 ?_
  refine lv_iload_n hx hb dX10_none_4 rfl (lv_at hl 1 rfl) ?_
  refine zz_iaload (f := MX) (i := ii) hx hb hK.1 hP 1 0 rfl rfl (by omega) (by decide) dX10_none_5 ?_
  refine zz_if_ge (tgt := 22) hx hb (mxB_I hM _) dX10_none_6 (by decide) (fun c_1 => ?_) (fun c_1 => ?_)
  · skip
    refine lv_iconst (v := nI 0) hx hb dX10_none_22 (by decide) ?_
    exact zr_roB (by unfold mNo; first | (rw [decide_eq_true (show MX ii < 0 by omega), decide_eq_true (show MX jj < 0 by omega)]; rfl) | (rw [decide_eq_false (show ¬ MX ii < 0 by omega)]; rfl) | (rw [decide_eq_true (show MX ii < 0 by omega), decide_eq_false (show ¬ MX jj < 0 by omega)]; rfl)) hx hb hr hlocks dX10_none_23
  · skip
    refine lv_aload_n hx hb dX10_none_9 rfl (lv_at hl 0 rfl) ?_
    refine va_get (D := D) (ci := 9) (v := .ref mt) (C := RX10) (T := TX10) (N := 21) hx hb hts in_X10 hown hK.1 hP 0 rfl rfl 11 (Nat.le_of_ble_eq_true rfl) (hts _ q980) (fun _ h9 => h9) rfl dX10_none_10 ?_
    refine lv_iload_n hx hb dX10_none_13 rfl (lv_at hl 2 rfl) ?_
    refine zz_iaload (f := MX) (i := jj) hx hb hK.1 hP 1 0 rfl rfl (by omega) (by decide) dX10_none_14 ?_
    refine zz_if_ge (tgt := 22) hx hb (mxB_I hM _) dX10_none_15 (by decide) (fun c_2 => ?_) (fun c_2 => ?_)
    · skip
      refine lv_iconst (v := nI 0) hx hb dX10_none_22 (by decide) ?_
      exact zr_roB (by unfold mNo; first | (rw [decide_eq_true (show MX ii < 0 by omega), decide_eq_true (show MX jj < 0 by omega)]; rfl) | (rw [decide_eq_false (show ¬ MX ii < 0 by omega)]; rfl) | (rw [decide_eq_true (show MX ii < 0 by omega), decide_eq_false (show ¬ MX jj < 0 by omega)]; rfl)) hx hb hr hlocks dX10_none_23
    · skip
      refine lv_iconst (v := nI 1) hx hb dX10_none_18 (by decide) ?_
      refine lv_goto (tgt := 23) hx hb dX10_none_19 (by decide) ?_
      exact zr_roB (by unfold mNo; first | (rw [decide_eq_true (show MX ii < 0 by omega), decide_eq_true (show MX jj < 0 by omega)]; rfl) | (rw [decide_eq_false (show ¬ MX ii < 0 by omega)]; rfl) | (rw [decide_eq_true (show MX ii < 0 by omega), decide_eq_false (show ¬ MX jj < 0 by omega)]; rfl)) hx hb hr hlocks dX10_none_23
set_option maxHeartbeats 4000000 in
set_option maxRecDepth 100000 in
theorem metX10_crossing (lG : Launch) (D : va_G) (dA : Nat → ClassId) (m0 : Nat) (thr : Nat) (kn : Nat) (pt : Nat) (pa : Nat) (bg : Nat) (xs_ : Nat) (ys_ : Nat) (sgm : Nat) (fr_ : Nat) (tw : Nat) (wo_ : Nat) (mt : Nat) (ha_ : Nat) (x0 : Int) (y0 : Int) (dx : Int) (dy : Int) (zz : Nat) (ct : Nat) (ov : Nat) (un : Nat) (MX : Nat → Int) (d : Int) (e : Int) (hM : mxB MX) (hd : -1 ≤ d ∧ d ≤ 2) (he : -1 ≤ e ∧ e ≤ 2) : Ro lG yX10_crossing (ws_ yX10_crossing cX10_crossing 3 (some .boolean)) 1 22 D dA [.ref m0, .int (iZ d), .int (iZ e)] [(m0, .inr (9, [.int (nI thr), .ref kn, .ref pt, .ref pa, .ref bg, .ref xs_, .ref ys_, .int (nI sgm), .ref fr_, .ref tw, .ref wo_, .ref mt, .ref ha_, .long (lZ x0), .long (lZ y0), .long (lZ dx), .long (lZ dy), .ref zz, .int (nI ct), .ref ov, .ref un])), (mt, .inl (dA 0, 9, .inl fun j => iZ (MX j)))] (some (.int (bI (mCross MX d e)))) := by
  refine Ro.of (by decide) (Nat.le_of_ble_eq_true rfl) ?_
  intro pG eG sG mG bG tG cG ls hx hb hr hml hown hts hlocks hP hK hl
  have hown : sG.vm.findClass RX10 = some mG.cls := hown
  have hl : lv_has ls 3 [(0, .ref m0), (1, .int (iZ d)), (2, .int (iZ e))] := hl
  refine lv_iload_n hx hb dX10_crossing_0 rfl (lv_at hl 1 rfl) ?_
  refine lv_iload_n hx hb dX10_crossing_1 rfl (lv_at hl 2 rfl) ?_
  refine zz_icmp_ge (tgt := 29) hx hb ⟨by omega, by omega⟩ ⟨by omega, by omega⟩ dX10_crossing_2 (by decide) (fun c_1 => ?_) (fun c_1 => ?_)
  · skip
    refine lv_iload_n hx hb dX10_crossing_29 rfl (lv_at hl 1 rfl) ?_
    refine lv_iload_n hx hb dX10_crossing_30 rfl (lv_at hl 2 rfl) ?_
    refine zz_icmp_le (tgt := 58) hx hb ⟨by omega, by omega⟩ ⟨by omega, by omega⟩ dX10_crossing_31 (by decide) (fun c_2 => ?_) (fun c_2 => ?_)
    · skip
      refine lv_iload_n hx hb dX10_crossing_58 rfl (lv_at hl 1 rfl) ?_
      refine lv_iconst (v := nI 1) hx hb dX10_crossing_59 (by decide) ?_
      refine zt_n2z ?_
      refine zz_icmp_ne (tgt := 76) hx hb ⟨by omega, by omega⟩ ⟨by omega, by omega⟩ dX10_crossing_60 (by decide) (fun c_3 => ?_) (fun c_3 => ?_)
      · skip
        refine lv_iconst (v := nI 0) hx hb dX10_crossing_76 (by decide) ?_
        exact zr_roB (by unfold mCross; first | (rw [if_pos (by assumption)]; simp_all [bI, nI]; done) | (rw [if_neg (by omega), if_pos (by assumption)]; simp_all [bI, nI]; done) | (rw [if_neg (by omega), if_neg (by omega)]; simp_all [bI, nI]; done)) hx hb hr hlocks dX10_crossing_77
      · skip
        refine lv_aload_n hx hb dX10_crossing_63 rfl (lv_at hl 0 rfl) ?_
        refine va_get (D := D) (ci := 9) (v := .ref mt) (C := RX10) (T := TX10) (N := 21) hx hb hts in_X10 hown hK.1 hP 0 rfl rfl 11 (Nat.le_of_ble_eq_true rfl) (hts _ q980) (fun _ h9 => h9) rfl dX10_crossing_64 ?_
        refine lv_iconst (v := nI 0) hx hb dX10_crossing_67 (by decide) ?_
        refine zz_iaload (f := MX) (i := 0) hx hb hK.1 hP 1 0 rfl rfl (by omega) (by decide) dX10_crossing_68 ?_
        refine zz_if_ne (tgt := 76) hx hb (mxB_I hM _) dX10_crossing_69 (by decide) (fun c_4 => ?_) (fun c_4 => ?_)
        · skip
          refine lv_iconst (v := nI 0) hx hb dX10_crossing_76 (by decide) ?_
          exact zr_roB (by unfold mCross; first | (rw [if_pos (by assumption)]; simp_all [bI, nI]; done) | (rw [if_neg (by omega), if_pos (by assumption)]; simp_all [bI, nI]; done) | (rw [if_neg (by omega), if_neg (by omega)]; simp_all [bI, nI]; done)) hx hb hr hlocks dX10_crossing_77
        · skip
          refine lv_iconst (v := nI 1) hx hb dX10_crossing_72 (by decide) ?_
          refine lv_goto (tgt := 77) hx hb dX10_crossing_73 (by decide) ?_
          exact zr_roB (by unfold mCross; first | (rw [if_pos (by assumption)]; simp_all [bI, nI]; done) | (rw [if_neg (by omega), if_pos (by assumption)]; simp_all [bI, nI]; done) | (rw [if_neg (by omega), if_neg (by omega)]; simp_all [bI, nI]; done)) hx hb hr hlocks dX10_crossing_77
    · skip
      refine lv_aload_n hx hb dX10_crossing_34 rfl (lv_at hl 0 rfl) ?_
      refine lv_iconst (v := nI 0) hx hb dX10_crossing_35 (by decide) ?_
      refine lv_iconst (v := nI 0) hx hb dX10_crossing_36 (by decide) ?_
      refine zc_roV (v := .int (bI (mxH MX 0 0))) (rest := []) ⟨hx, hb, hml, hown, hts⟩ (metX10_there lG D dA m0 thr kn pt pa bg xs_ ys_ sgm fr_ tw wo_ mt ha_ x0 y0 dx dy zz ct ov un MX 0 0 (by first | assumption | omega) (by first | assumption | omega) (by first | assumption | omega)) (cwV 2 hts (lw_V q1229 q1231 qs66 q80 q1232) rfl rfl rfl (by decide +kernel) ⟨Nat.le_of_ble_eq_true rfl, Nat.le_of_ble_eq_true rfl⟩) (va_recv hK.1 hP (ci := 9) (q0 := 0) rfl rfl) (hP.sub [0, 1] rfl) hK rfl hl.1 rfl (Nat.le_of_ble_eq_true rfl) dX10_crossing_37 ⟨Nat.zero_le _, Nat.zero_le _⟩ ?_
      refine zb_if_eq (tgt := 56) hx hb dX10_crossing_40 (by decide) (fun c_5 => ?_) (fun c_5 => ?_)
      · skip
        refine lv_iconst (v := nI 0) hx hb dX10_crossing_56 (by decide) ?_
        exact zr_roB (by unfold mCross; first | (rw [if_pos (by assumption)]; simp_all [bI, nI]; done) | (rw [if_neg (by omega), if_pos (by assumption)]; simp_all [bI, nI]; done) | (rw [if_neg (by omega), if_neg (by omega)]; simp_all [bI, nI]; done)) hx hb hr hlocks dX10_crossing_57
      · skip
        refine lv_aload_n hx hb dX10_crossing_43 rfl (lv_at hl 0 rfl) ?_
        refine lv_iconst (v := nI 2) hx hb dX10_crossing_44 (by decide) ?_
        refine lv_iconst (v := nI 0) hx hb dX10_crossing_45 (by decide) ?_
        refine zc_roV (v := .int (bI (mxH MX 2 0))) (rest := []) ⟨hx, hb, hml, hown, hts⟩ (metX10_there lG D dA m0 thr kn pt pa bg xs_ ys_ sgm fr_ tw wo_ mt ha_ x0 y0 dx dy zz ct ov un MX 2 0 (by first | assumption | omega) (by first | assumption | omega) (by first | assumption | omega)) (cwV 2 hts (lw_V q1229 q1231 qs66 q80 q1232) rfl rfl rfl (by decide +kernel) ⟨Nat.le_of_ble_eq_true rfl, Nat.le_of_ble_eq_true rfl⟩) (va_recv hK.1 hP (ci := 9) (q0 := 0) rfl rfl) (hP.sub [0, 1] rfl) hK rfl hl.1 rfl (Nat.le_of_ble_eq_true rfl) dX10_crossing_46 ⟨Nat.zero_le _, Nat.zero_le _⟩ ?_
        refine zb_if_eq (tgt := 56) hx hb dX10_crossing_49 (by decide) (fun c_6 => ?_) (fun c_6 => ?_)
        · skip
          refine lv_iconst (v := nI 0) hx hb dX10_crossing_56 (by decide) ?_
          exact zr_roB (by unfold mCross; first | (rw [if_pos (by assumption)]; simp_all [bI, nI]; done) | (rw [if_neg (by omega), if_pos (by assumption)]; simp_all [bI, nI]; done) | (rw [if_neg (by omega), if_neg (by omega)]; simp_all [bI, nI]; done)) hx hb hr hlocks dX10_crossing_57
        · skip
          refine lv_iconst (v := nI 1) hx hb dX10_crossing_52 (by decide) ?_
          refine lv_goto (tgt := 57) hx hb dX10_crossing_53 (by decide) ?_
          exact zr_roB (by unfold mCross; first | (rw [if_pos (by assumption)]; simp_all [bI, nI]; done) | (rw [if_neg (by omega), if_pos (by assumption)]; simp_all [bI, nI]; done) | (rw [if_neg (by omega), if_neg (by omega)]; simp_all [bI, nI]; done)) hx hb hr hlocks dX10_crossing_57
  · skip
    refine lv_aload_n hx hb dX10_crossing_5 rfl (lv_at hl 0 rfl) ?_
    refine lv_iconst (v := nI 0) hx hb dX10_crossing_6 (by decide) ?_
    refine lv_iconst (v := nI 0) hx hb dX10_crossing_7 (by decide) ?_
    refine zc_roV (v := .int (bI (mxH MX 0 0))) (rest := []) ⟨hx, hb, hml, hown, hts⟩ (metX10_there lG D dA m0 thr kn pt pa bg xs_ ys_ sgm fr_ tw wo_ mt ha_ x0 y0 dx dy zz ct ov un MX 0 0 (by first | assumption | omega) (by first | assumption | omega) (by first | assumption | omega)) (cwV 2 hts (lw_V q1229 q1231 qs66 q80 q1232) rfl rfl rfl (by decide +kernel) ⟨Nat.le_of_ble_eq_true rfl, Nat.le_of_ble_eq_true rfl⟩) (va_recv hK.1 hP (ci := 9) (q0 := 0) rfl rfl) (hP.sub [0, 1] rfl) hK rfl hl.1 rfl (Nat.le_of_ble_eq_true rfl) dX10_crossing_8 ⟨Nat.zero_le _, Nat.zero_le _⟩ ?_
    refine zb_if_eq (tgt := 27) hx hb dX10_crossing_11 (by decide) (fun c_7 => ?_) (fun c_7 => ?_)
    · skip
      refine lv_iconst (v := nI 0) hx hb dX10_crossing_27 (by decide) ?_
      exact zr_roB (by unfold mCross; first | (rw [if_pos (by assumption)]; simp_all [bI, nI]; done) | (rw [if_neg (by omega), if_pos (by assumption)]; simp_all [bI, nI]; done) | (rw [if_neg (by omega), if_neg (by omega)]; simp_all [bI, nI]; done)) hx hb hr hlocks dX10_crossing_28
    · skip
      refine lv_aload_n hx hb dX10_crossing_14 rfl (lv_at hl 0 rfl) ?_
      refine lv_iconst (v := nI 0) hx hb dX10_crossing_15 (by decide) ?_
      refine lv_iconst (v := nI 2) hx hb dX10_crossing_16 (by decide) ?_
      refine zc_roV (v := .int (bI (mxH MX 0 2))) (rest := []) ⟨hx, hb, hml, hown, hts⟩ (metX10_there lG D dA m0 thr kn pt pa bg xs_ ys_ sgm fr_ tw wo_ mt ha_ x0 y0 dx dy zz ct ov un MX 0 2 (by first | assumption | omega) (by first | assumption | omega) (by first | assumption | omega)) (cwV 2 hts (lw_V q1229 q1231 qs66 q80 q1232) rfl rfl rfl (by decide +kernel) ⟨Nat.le_of_ble_eq_true rfl, Nat.le_of_ble_eq_true rfl⟩) (va_recv hK.1 hP (ci := 9) (q0 := 0) rfl rfl) (hP.sub [0, 1] rfl) hK rfl hl.1 rfl (Nat.le_of_ble_eq_true rfl) dX10_crossing_17 ⟨Nat.zero_le _, Nat.zero_le _⟩ ?_
      refine zb_if_eq (tgt := 27) hx hb dX10_crossing_20 (by decide) (fun c_8 => ?_) (fun c_8 => ?_)
      · skip
        refine lv_iconst (v := nI 0) hx hb dX10_crossing_27 (by decide) ?_
        exact zr_roB (by unfold mCross; first | (rw [if_pos (by assumption)]; simp_all [bI, nI]; done) | (rw [if_neg (by omega), if_pos (by assumption)]; simp_all [bI, nI]; done) | (rw [if_neg (by omega), if_neg (by omega)]; simp_all [bI, nI]; done)) hx hb hr hlocks dX10_crossing_28
      · skip
        refine lv_iconst (v := nI 1) hx hb dX10_crossing_23 (by decide) ?_
        refine lv_goto (tgt := 28) hx hb dX10_crossing_24 (by decide) ?_
        exact zr_roB (by unfold mCross; first | (rw [if_pos (by assumption)]; simp_all [bI, nI]; done) | (rw [if_neg (by omega), if_pos (by assumption)]; simp_all [bI, nI]; done) | (rw [if_neg (by omega), if_neg (by omega)]; simp_all [bI, nI]; done)) hx hb hr hlocks dX10_crossing_28
