/-! Relator: places and notes (printed by wip gen/c46.py) -/
def sh2 (a b : Nat) : Nat → Option Nat := fun k => if k = 0 then some a else some b
theorem zq_aald {p : Program} {l : Launch} {e : Env} {R : Room} {s : State} {m : MethodId} {args : Array Value} {below : List Frame} {meth : Method} {c : Code} {H : Heap} {locs : List Loc} {cells slots : Nat} {Q : State → Prop} {cc : ByteArray} {pc : Nat} {ls : Array Slot} {rest : List Value} {D : va_G} {dA : Nat → ClassId} {ws : va_W} {a v : Nat} (hx : p.tables.exec = Jvm.exec) (hb : c.code = cc) (hK : va_K D zCl (zTys dA) s) (hP : va_P D zCl ws H) (q0 : Nat) {n i : Nat} {f : Nat → Option Nat} (ha : ws[q0]? = some (a, .inl (dA 3, n, .inr (.inr (.inr (.inr f)))))) (hin : i < n) (hn : n < 2 ^ 31) (hv : f i = some v) (hdg : decode cc pc = .ok (.aaload, 1)) (k : W p l e R s m args below meth c H locs cells slots Q (F0 m (pc + 1) ls (.ref v :: rest))) : W p l e R s m args below meth c H locs cells slots Q (F0 m pc ls (.int (nI i) :: .ref a :: rest)) :=
  va_aldq hx hb hK hP q0 3 ha rfl (vp_in_nI hin hn) hdg (by rw [nI_clamp (Nat.lt_trans hin hn), hv]; exact k)
def mxB (MX : Nat → Int) : Prop := ∀ k, -1 ≤ MX k ∧ MX k ≤ 2
/-- a note in the matrix -/
def noteF (MX : Nat → Int) (i j d : Nat) : Nat → Int := updZ MX (3 * i + j) (max (MX (3 * i + j)) (d : Int))
theorem mxB_note {MX : Nat → Int} {i j d : Nat} (h : mxB MX) (hd : d < 3) : mxB (noteF MX i j d) := fun k => by
  unfold noteF
  by_cases q : k = 3 * i + j
  · rw [q, updZ_s]; have := h (3 * i + j); omega
  · rw [updZ_n q]; exact h k
/-- where a place of whole numbers is, of a shape -/
def plA (kd : Nat) (X Y : Nat → Int) (ST : Nat → Nat) (np nq : Nat) (SX SY EX EY : Nat → Int) (a b : Nat) (px py : Int) : Nat :=
  if kd = 1 then (if exR (fun k => ptAt X Y k px py) 0 nq then 0 else 2)
  else if kd = 2 then (if olEnds X Y ST np nq px py np % 2 = 1 then 1 else if exR (fun k => sgOn (SX k) (SY k) (EX k) (EY k) px py) a b then 0 else 2)
  else if exR (fun k => sgOn (SX k) (SY k) (EX k) (EY k) px py) a b then 1
  else if parR (fun k => sgOdd (SX k) (SY k) (EX k) (EY k) px py 0 0 0 0) a (b - a) then 0 else 2
theorem plA_lt {kd : Nat} {X Y : Nat → Int} {ST : Nat → Nat} {np nq : Nat} {SX SY EX EY : Nat → Int} {a b : Nat} {px py : Int} : plA kd X Y ST np nq SX SY EX EY a b px py < 3 := by
  unfold plA; split
  · split <;> omega
  · split
    · split
      · omega
      · split <;> omega
    · split
      · omega
      · split <;> omega
def io (b : Bool) : Nat := if b then 0 else 2
theorem io_lt {b : Bool} : io b < 3 := by cases b <;> decide
set_option maxHeartbeats 4000000 in
set_option maxRecDepth 100000 in
theorem metX2_shape_0 (lG : Launch) (D : va_G) (dA : Nat → ClassId) (r0 : Nat) (sh : Nat) (sg : Nat) (tk : Bool) (bx : Nat) (th : Nat) (tr : Nat) (ev : Nat) (stp : Nat) (mx : Nat) (rl : Bool) (wa : Nat) (la : Nat) (ra : Nat) (ti : Nat) (o0a : Nat) (o0b : Nat)  : Ro lG yX2_shape (ws_ yX2_shape cX2_shape 2 (some (.object "ShapeRelator$Outline"))) 0 0 D dA [.ref r0, .int (nI 0)] [(r0, .inr (1, [.ref sh, .ref sg, .int (bI tk), .ref bx, .ref th, .ref tr, .ref ev, .ref stp, .ref mx, .int (bI rl), .ref wa, .ref la, .ref ra, .ref ti])), (sh, .inl (dA 3, 2, .inr (.inr (.inr (.inr (sh2 o0a o0b))))))] (some (.ref o0a)) := by
  refine Ro.of (by decide) (Nat.le_of_ble_eq_true rfl) ?_
  intro pG eG sG mG bG tG cG ls hx hb hr hml hown hts hlocks hP hK hl
  have hown : sG.vm.findClass RX2 = some mG.cls := hown
  have hl : lv_has ls 2 [(0, .ref r0), (1, .int (nI 0))] := hl
  refine lv_aload_n hx hb dX2_shape_0 rfl (lv_at hl 0 rfl) ?_
  refine va_get (D := D) (ci := 1) (v := .ref sh) (C := RX2) (T := TX2) (N := 14) hx hb hts in_X2 hown hK.1 hP 0 rfl rfl 0 (Nat.le_of_ble_eq_true rfl) (hts _ q315) (fun _ h9 => h9) rfl dX2_shape_1 ?_
  refine lv_iload_n hx hb dX2_shape_4 rfl (lv_at hl 1 rfl) ?_
  refine zq_aald (f := sh2 o0a o0b) (i := 0) hx hb hK.1 hP 1 rfl (by omega) (by omega) rfl dX2_shape_5 ?_
  exact zr_roA (by first | exact Or.inl ⟨_, rfl⟩ | exact Or.inr ⟨_, rfl⟩) hx hb hr hlocks dX2_shape_6
set_option maxHeartbeats 4000000 in
set_option maxRecDepth 100000 in
theorem metX2_shape_1 (lG : Launch) (D : va_G) (dA : Nat → ClassId) (r0 : Nat) (sh : Nat) (sg : Nat) (tk : Bool) (bx : Nat) (th : Nat) (tr : Nat) (ev : Nat) (stp : Nat) (mx : Nat) (rl : Bool) (wa : Nat) (la : Nat) (ra : Nat) (ti : Nat) (o0a : Nat) (o0b : Nat)  : Ro lG yX2_shape (ws_ yX2_shape cX2_shape 2 (some (.object "ShapeRelator$Outline"))) 0 0 D dA [.ref r0, .int (nI 1)] [(r0, .inr (1, [.ref sh, .ref sg, .int (bI tk), .ref bx, .ref th, .ref tr, .ref ev, .ref stp, .ref mx, .int (bI rl), .ref wa, .ref la, .ref ra, .ref ti])), (sh, .inl (dA 3, 2, .inr (.inr (.inr (.inr (sh2 o0a o0b))))))] (some (.ref o0b)) := by
  refine Ro.of (by decide) (Nat.le_of_ble_eq_true rfl) ?_
  intro pG eG sG mG bG tG cG ls hx hb hr hml hown hts hlocks hP hK hl
  have hown : sG.vm.findClass RX2 = some mG.cls := hown
  have hl : lv_has ls 2 [(0, .ref r0), (1, .int (nI 1))] := hl
  refine lv_aload_n hx hb dX2_shape_0 rfl (lv_at hl 0 rfl) ?_
  refine va_get (D := D) (ci := 1) (v := .ref sh) (C := RX2) (T := TX2) (N := 14) hx hb hts in_X2 hown hK.1 hP 0 rfl rfl 0 (Nat.le_of_ble_eq_true rfl) (hts _ q315) (fun _ h9 => h9) rfl dX2_shape_1 ?_
  refine lv_iload_n hx hb dX2_shape_4 rfl (lv_at hl 1 rfl) ?_
  refine zq_aald (f := sh2 o0a o0b) (i := 1) hx hb hK.1 hP 1 rfl (by omega) (by omega) rfl dX2_shape_5 ?_
  exact zr_roA (by first | exact Or.inl ⟨_, rfl⟩ | exact Or.inr ⟨_, rfl⟩) hx hb hr hlocks dX2_shape_6
set_option maxHeartbeats 4000000 in
set_option maxRecDepth 100000 in
theorem metX2_change (lG : Launch) (D : va_G) (dA : Nat → ClassId) (r0 : Nat) (sh : Nat) (sg : Nat) (tk : Bool) (bx : Nat) (th : Nat) (tr : Nat) (ev : Nat) (stp : Nat) (mx : Nat) (rl : Bool) (wa : Nat) (la : Nat) (ra : Nat) (ti : Nat)  : Wr lG yX2_change (ws_ yX2_change cX2_change 1 none) 0 0 D dA [.ref r0] [(r0, .inr (1, [.ref sh, .ref sg, .int (bI tk), .ref bx, .ref th, .ref tr, .ref ev, .ref stp, .ref mx, .int (bI rl), .ref wa, .ref la, .ref ra, .ref ti]))] 0 0 (fun (_u : Unit) => True) (fun (_u : Unit) => none) (fun (_u : Unit) => [(r0, .inr (1, [.ref sh, .ref sg, .int (bI false), .ref bx, .ref th, .ref tr, .ref ev, .ref stp, .ref mx, .int (bI false), .ref wa, .ref la, .ref ra, .ref ti]))]) := by
  refine Wr.of (by decide) (Nat.le_of_ble_eq_true rfl) ?_
  intro pG eG sG mG bG tG cG ls A hx hb hr hml hown hts hlocks hnm hP hK hD hS hA hl
  have hK1 := hK.1
  have hown : sG.vm.findClass RX2 = some mG.cls := hown
  have hl : lv_has ls 1 [(0, .ref r0)] := hl
  refine lv_aload_n hx hb dX2_change_0 rfl (lv_at hl 0 rfl) ?_
  refine lv_iconst (v := bI false) hx hb dX2_change_1 (by decide) ?_
  refine va_put (D := D) (ci := 1) (v := .int (bI false)) (ty := .boolean) (C := RX2) (T := TX2) (N := 14) hx hb hts in_X2 tyX2 tyX2_ok nmX2 hown hK.1 hP hD hS 0 rfl rfl 2 (Nat.le_of_ble_eq_true rfl) (hts _ q317) (fun _ h9 => h9) rfl (by decide +kernel) (nar_bI _) (fit_bI _) (Nat.le_of_ble_eq_true rfl) dX2_change_2 (fun H locs hP hD hS => ?_)
  have hP : va_P D zCl [(r0, .inr (1, [.ref sh, .ref sg, .int (bI false), .ref bx, .ref th, .ref tr, .ref ev, .ref stp, .ref mx, .int (bI rl), .ref wa, .ref la, .ref ra, .ref ti]))] H := hP
  have hD : va_D A [(r0, .inr (1, [.ref sh, .ref sg, .int (bI false), .ref bx, .ref th, .ref tr, .ref ev, .ref stp, .ref mx, .int (bI rl), .ref wa, .ref la, .ref ra, .ref ti]))] := hD
  refine lv_aload_n hx hb dX2_change_5 rfl (lv_at hl 0 rfl) ?_
  refine lv_iconst (v := bI false) hx hb dX2_change_6 (by decide) ?_
  refine va_put (D := D) (ci := 1) (v := .int (bI false)) (ty := .boolean) (C := RX2) (T := TX2) (N := 14) hx hb hts in_X2 tyX2 tyX2_ok nmX2 hown hK.1 hP hD hS 0 rfl rfl 9 (Nat.le_of_ble_eq_true rfl) (hts _ q324) (fun _ h9 => h9) rfl (by decide +kernel) (nar_bI _) (fit_bI _) (Nat.le_of_ble_eq_true rfl) dX2_change_7 (fun H locs hP hD hS => ?_)
  have hP : va_P D zCl [(r0, .inr (1, [.ref sh, .ref sg, .int (bI false), .ref bx, .ref th, .ref tr, .ref ev, .ref stp, .ref mx, .int (bI false), .ref wa, .ref la, .ref ra, .ref ti]))] H := hP
  have hD : va_D A [(r0, .inr (1, [.ref sh, .ref sg, .int (bI false), .ref bx, .ref th, .ref tr, .ref ev, .ref stp, .ref mx, .int (bI false), .ref wa, .ref la, .ref ra, .ref ti]))] := hD
  exact zr_wrV (u := ()) rfl trivial (hP.sub [0] rfl) (hD.sub [0] (by decide) rfl) hS hx hb hr hlocks dX2_change_10
set_option maxHeartbeats 4000000 in
set_option maxRecDepth 100000 in
theorem metX2_isPoint (lG : Launch) (D : va_G) (dA : Nat → ClassId) (r0 : Nat) (sh : Nat) (sg : Nat) (tk : Bool) (bx : Nat) (th : Nat) (tr : Nat) (ev : Nat) (stp : Nat) (mx : Nat) (rl : Bool) (wa : Nat) (la : Nat) (ra : Nat) (ti : Nat) (o0 : Nat) (kd : Nat) (c1 : Nat) (np : Nat) (c2 : Nat) (c3 : Nat) (nq : Nat) (ns : Nat) (nx : Nat) (ST : Nat → Nat) (X : Nat → Int) (Y : Nat → Int) (px : Int) (py : Int) (hnx2 : nx ≤ 4096) (hnq : nq ≤ nx) (hX : ∀ k, cB (X k)) (hY : ∀ k, cB (Y k)) (hpx : cB px) (hpy : cB py) : Ro lG yX2_isPoint (ws_ yX2_isPoint cX2_isPoint 5 (some .boolean)) 1 23 D dA [.ref r0, .ref o0, .int (iZ px), .int (iZ py)] [(r0, .inr (1, [.ref sh, .ref sg, .int (bI tk), .ref bx, .ref th, .ref tr, .ref ev, .ref stp, .ref mx, .int (bI rl), .ref wa, .ref la, .ref ra, .ref ti])), (o0, .inr (2, [.int (nI kd), .ref c1, .int (nI np), .ref c2, .ref c3, .int (nI nq)])), (c1, .inl (dA 0, ns, .inl fun j => nI (ST j))), (c2, .inl (dA 0, nx, .inl fun j => iZ (X j))), (c3, .inl (dA 0, nx, .inl fun j => iZ (Y j)))] (some (.int (bI (exR (fun k => ptAt X Y k px py) 0 nq)))) := by
  refine Ro.of (by decide) (Nat.le_of_ble_eq_true rfl) ?_
  intro pG eG sG mG bG tG cG ls hx hb hr hml hown hts hlocks hP hK hl
  have hown : sG.vm.findClass RX2 = some mG.cls := hown
  have hl : lv_has ls 5 [(0, .ref r0), (1, .ref o0), (2, .int (iZ px)), (3, .int (iZ py))] := hl
  refine lv_iconst (v := nI 0) hx hb dX2_isPoint_0 (by decide) ?_
  refine lv_istore (lv' := [(4, .int (nI 0)), (0, .ref r0), (1, .ref o0), (2, .int (iZ px)), (3, .int (iZ py))]) hx hb dX2_isPoint_1 hl (by decide) rfl (fun ls hl => ?_)
  have loop3 : ∀ (n3 : Nat) (k : Nat), (k ≤ nq) → (∀ j, 0 ≤ j → j < k → ptAt X Y j px py = false) → nq - k < n3 → ∀ (ls : Array Slot), lv_has ls 5 [(4, .int (nI k)), (0, .ref r0), (1, .ref o0), (2, .int (iZ px)), (3, .int (iZ py))] → W pG lG eG (zRoom 1 0 0 23) sG mG [.ref r0, .ref o0, .int (iZ px), .int (iZ py)].toArray bG tG cG sG.heap [] 0 0 (MQ bG (roQ (some (.int (bI (exR (fun k => ptAt X Y k px py) 0 nq)))) sG.heap) [.ref r0, .ref o0, .int (iZ px), .int (iZ py)].toArray sG 0 0 (fun _ => False)) (F0 mG 3 ls []) := by
    intro n3
    induction n3 with
    | zero => intro k h1 h2 hm; exact absurd hm (Nat.not_lt_zero _)
    | succ n3 ih3 =>
      intro k h1 h2 hm3 ls hl
      refine lv_iload hx hb dX2_isPoint_3 (lv_at hl 0 rfl) ?_
      refine lv_aload_n hx hb dX2_isPoint_5 rfl (lv_at hl 2 rfl) ?_
      refine va_getN (D := D) (ci := 2) (v := .int (nI nq)) (C := RX3) (T := TX3) (N := 6) hx hb hts in_X3 hown hK.1 hP 1 rfl rfl 5 (Nat.le_of_ble_eq_true rfl) (hK.use zq129) (fun _ h9 => h9) rfl dX2_isPoint_6 ?_
      refine zn_icmp_ge (tgt := 31) hx hb (by omega) (by omega) dX2_isPoint_9 (by decide) (fun c_1 => ?_) (fun c_1 => ?_)
      · skip
        refine lv_iconst (v := nI 0) hx hb dX2_isPoint_31 (by decide) ?_
        exact zr_roB (by rw [exR_f (fun j a b => h2 j a (by omega))]; rfl) hx hb hr hlocks dX2_isPoint_32
      · skip
        refine lv_aload_n hx hb dX2_isPoint_12 rfl (lv_at hl 2 rfl) ?_
        refine lv_iload hx hb dX2_isPoint_13 (lv_at hl 0 rfl) ?_
        refine lv_iload_n hx hb dX2_isPoint_15 rfl (lv_at hl 3 rfl) ?_
        refine lv_iload_n hx hb dX2_isPoint_16 rfl (lv_at hl 4 rfl) ?_
        refine zc_roV (v := .int (bI (ptAt X Y k px py))) (rest := []) ⟨hx, hb, hml, hown, hts⟩ (metX3_isAt lG D dA o0 kd c1 np c2 c3 nq ns nx ST X Y k px py (by first | assumption | omega) (by first | assumption | omega) (hX _) (hY _) (by first | assumption | omega) (by first | assumption | omega)) (cwV 3 hts (lw_V q599 q391 q392 q73 q393) rfl rfl rfl (by decide +kernel) ⟨Nat.le_of_ble_eq_true rfl, Nat.le_of_ble_eq_true rfl⟩) (va_recv hK.1 hP (ci := 2) (q0 := 1) rfl rfl) (hP.sub [1, 2, 3, 4] rfl) hK rfl hl.1 rfl (Nat.le_of_ble_eq_true rfl) dX2_isPoint_17 ⟨Nat.zero_le _, Nat.zero_le _⟩ ?_
        refine zb_if_eq (tgt := 25) hx hb dX2_isPoint_20 (by decide) (fun c_2 => ?_) (fun c_2 => ?_)
        · skip
          refine lv_iinc (v := nI (k + 1)) (lv' := [(4, .int (nI (k + 1))), (0, .ref r0), (1, .ref o0), (2, .int (iZ px)), (3, .int (iZ py))]) hx hb dX2_isPoint_25 hl (k := 0) rfl (nI_add _ _) (by decide) rfl (fun ls hl => ?_)
          refine lv_goto (tgt := 3) hx hb dX2_isPoint_28 (by decide) ?_
          exact ih3 (k + 1) (by first | assumption | omega) (lt_step h2 (by assumption)) (by omega) _ (lv_sub hl [0, 1, 2, 3, 4] rfl)
        · skip
          refine lv_iconst (v := nI 1) hx hb dX2_isPoint_23 (by decide) ?_
          exact zr_roB (by rw [exR_t (f := fun k => ptAt X Y k px py) (Nat.zero_le _) (by assumption) (by assumption)]; rfl) hx hb hr hlocks dX2_isPoint_24
  exact loop3 (nq - 0 + 1) 0 (by first | assumption | omega) (fun j a b => absurd b (Nat.not_lt_zero _)) (Nat.lt_succ_self _) _ (lv_sub hl [0, 1, 2, 3, 4] rfl)
set_option maxHeartbeats 4000000 in
set_option maxRecDepth 100000 in
theorem metX2_placeOf_0 (lG : Launch) (D : va_G) (dA : Nat → ClassId) (r0 : Nat) (sh : Nat) (sg : Nat) (tk : Bool) (bx : Nat) (th : Nat) (tr : Nat) (ev : Nat) (stp : Nat) (mx : Nat) (rl : Bool) (wa : Nat) (la : Nat) (ra : Nat) (ti : Nat) (o0a : Nat) (kda : Nat) (c1a : Nat) (npa : Nat) (c2a : Nat) (c3a : Nat) (nqa : Nat) (nsa : Nat) (nxa : Nat) (STa : Nat → Nat) (Xa : Nat → Int) (Ya : Nat → Int) (o0b : Nat) (e1 : Nat) (e2 : Nat) (e3 : Nat) (e4 : Nat) (szs : Nat) (of_ : Nat) (ncs : Nat) (SX : Nat → Int) (SY : Nat → Int) (EX : Nat → Int) (EY : Nat → Int) (sx : Int) (sy : Int) (du : Int) (dv : Int) (lu : Int) (lv : Int) (px : Int) (py : Int) (ahns2 : nsa ≤ 4096) (ahnp : npa ≤ nsa) (ahnx2 : nxa ≤ 4096) (ahnq : nqa ≤ nxa) (ahkd : kda < 4) (ahST : olOK STa npa nqa) (ahX : ∀ k, cB (Xa k)) (ahY : ∀ k, cB (Ya k)) (hncs : ncs ≤ 4096) (hof : of_ ≤ szs) (hszs : szs ≤ ncs) (hC : sgB SX SY EX EY) (hpx : cB px) (hpy : cB py) : Wr lG yX2_placeOf (ws_ yX2_placeOf cX2_placeOf 5 (some .int)) 4 91 D dA [.ref r0, .int (nI 0), .int (iZ px), .int (iZ py)] [(r0, .inr (1, [.ref sh, .ref sg, .int (bI tk), .ref bx, .ref th, .ref tr, .ref ev, .ref stp, .ref mx, .int (bI rl), .ref wa, .ref la, .ref ra, .ref ti])), (sh, .inl (dA 3, 2, .inr (.inr (.inr (.inr (sh2 o0a o0b)))))), (o0a, .inr (2, [.int (nI kda), .ref c1a, .int (nI npa), .ref c2a, .ref c3a, .int (nI nqa)])), (c1a, .inl (dA 0, nsa, .inl fun j => nI (STa j))), (c2a, .inl (dA 0, nxa, .inl fun j => iZ (Xa j))), (c3a, .inl (dA 0, nxa, .inl fun j => iZ (Ya j))), (sg, .inr (3, [.ref e1, .ref e2, .ref e3, .ref e4, .int (nI szs), .int (nI of_)])), (e1, .inl (dA 0, ncs, .inl fun j => iZ (SX j))), (e2, .inl (dA 0, ncs, .inl fun j => iZ (SY j))), (e3, .inl (dA 0, ncs, .inl fun j => iZ (EX j))), (e4, .inl (dA 0, ncs, .inl fun j => iZ (EY j))), (stp, .inr (8, [.int (iZ sx), .int (iZ sy), .long (lZ du), .long (lZ dv), .long (lZ lu), .long (lZ lv)]))] 0 0 (fun (u : Int × Int × Int × Int × Int × Int) => let s1 := u.1; let s2 := u.2.1; let s3 := u.2.2.1; let s4 := u.2.2.2.1; let s5 := u.2.2.2.2.1; let s6 := u.2.2.2.2.2; True) (fun (u : Int × Int × Int × Int × Int × Int) => let s1 := u.1; let s2 := u.2.1; let s3 := u.2.2.1; let s4 := u.2.2.2.1; let s5 := u.2.2.2.2.1; let s6 := u.2.2.2.2.2; some (.int (nI (plA kda Xa Ya STa npa nqa SX SY EX EY 0 of_ px py)))) (fun (u : Int × Int × Int × Int × Int × Int) => let s1 := u.1; let s2 := u.2.1; let s3 := u.2.2.1; let s4 := u.2.2.2.1; let s5 := u.2.2.2.2.1; let s6 := u.2.2.2.2.2; [(r0, .inr (1, [.ref sh, .ref sg, .int (bI tk), .ref bx, .ref th, .ref tr, .ref ev, .ref stp, .ref mx, .int (bI rl), .ref wa, .ref la, .ref ra, .ref ti])), (sh, .inl (dA 3, 2, .inr (.inr (.inr (.inr (sh2 o0a o0b)))))), (o0a, .inr (2, [.int (nI kda), .ref c1a, .int (nI npa), .ref c2a, .ref c3a, .int (nI nqa)])), (c1a, .inl (dA 0, nsa, .inl fun j => nI (STa j))), (c2a, .inl (dA 0, nxa, .inl fun j => iZ (Xa j))), (c3a, .inl (dA 0, nxa, .inl fun j => iZ (Ya j))), (sg, .inr (3, [.ref e1, .ref e2, .ref e3, .ref e4, .int (nI szs), .int (nI of_)])), (e1, .inl (dA 0, ncs, .inl fun j => iZ (SX j))), (e2, .inl (dA 0, ncs, .inl fun j => iZ (SY j))), (e3, .inl (dA 0, ncs, .inl fun j => iZ (EX j))), (e4, .inl (dA 0, ncs, .inl fun j => iZ (EY j))), (stp, .inr (8, [.int (iZ s1), .int (iZ s2), .long (lZ s3), .long (lZ s4), .long (lZ s5), .long (lZ s6)]))]) := by
  refine Wr.of (by decide) (Nat.le_of_ble_eq_true rfl) ?_
  intro pG eG sG mG bG tG cG ls A hx hb hr hml hown hts hlocks hnm hP hK hD hS hA hl
  have hK1 := hK.1
  have hown : sG.vm.findClass RX2 = some mG.cls := hown
  have hl : lv_has ls 5 [(0, .ref r0), (1, .int (nI 0)), (2, .int (iZ px)), (3, .int (iZ py))] := hl
  refine lv_aload_n hx hb dX2_placeOf_0 rfl (lv_at hl 0 rfl) ?_
  refine va_get (D := D) (ci := 1) (v := .ref sh) (C := RX2) (T := TX2) (N := 14) hx hb hts in_X2 hown hK.1 hP 0 rfl rfl 0 (Nat.le_of_ble_eq_true rfl) (hts _ q315) (fun _ h9 => h9) rfl dX2_placeOf_1 ?_
  refine lv_iload_n hx hb dX2_placeOf_4 rfl (lv_at hl 1 rfl) ?_
  refine zq_aald (f := sh2 o0a o0b) (i := 0) hx hb hK.1 hP 1 rfl (by omega) (by omega) rfl dX2_placeOf_5 ?_
  refine lv_astore (lv' := [(4, .ref o0a), (0, .ref r0), (1, .int (nI 0)), (2, .int (iZ px)), (3, .int (iZ py))]) hx hb dX2_placeOf_6 hl (by decide) rfl (fun ls hl => ?_)
  refine lv_aload hx hb dX2_placeOf_8 (lv_at hl 0 rfl) ?_
  refine va_getN (D := D) (ci := 2) (v := .int (nI kda)) (C := RX3) (T := TX3) (N := 6) hx hb hts in_X3 hown hK.1 hP 2 rfl rfl 0 (Nat.le_of_ble_eq_true rfl) (hK.use zq115) (fun _ h9 => h9) rfl dX2_placeOf_10 ?_
  refine lv_iconst (v := nI 1) hx hb dX2_placeOf_13 (by decide) ?_
  refine zn_icmp_ne (tgt := 34) hx hb (by omega) (by decide) dX2_placeOf_14 (by decide) (fun c_1 => ?_) (fun c_1 => ?_)
  · skip
    refine lv_aload hx hb dX2_placeOf_34 (lv_at hl 0 rfl) ?_
    refine va_getN (D := D) (ci := 2) (v := .int (nI kda)) (C := RX3) (T := TX3) (N := 6) hx hb hts in_X3 hown hK.1 hP 2 rfl rfl 0 (Nat.le_of_ble_eq_true rfl) (hK.use zq115) (fun _ h9 => h9) rfl dX2_placeOf_36 ?_
    refine lv_iconst (v := nI 2) hx hb dX2_placeOf_39 (by decide) ?_
    refine zn_icmp_ne (tgt := 79) hx hb (by omega) (by decide) dX2_placeOf_40 (by decide) (fun c_2 => ?_) (fun c_2 => ?_)
    · skip
      refine lv_aload_n hx hb dX2_placeOf_79 rfl (lv_at hl 1 rfl) ?_
      refine va_get (D := D) (ci := 1) (v := .ref sg) (C := RX2) (T := TX2) (N := 14) hx hb hts in_X2 hown hK.1 hP 0 rfl rfl 1 (Nat.le_of_ble_eq_true rfl) (hts _ q316) (fun _ h9 => h9) rfl dX2_placeOf_80 ?_
      refine lv_iload_n hx hb dX2_placeOf_83 rfl (lv_at hl 2 rfl) ?_
      refine lv_iload_n hx hb dX2_placeOf_84 rfl (lv_at hl 3 rfl) ?_
      refine lv_iload_n hx hb dX2_placeOf_85 rfl (lv_at hl 4 rfl) ?_
      refine zc_roV (v := .int (bI (exR (fun k => sgOn (SX k) (SY k) (EX k) (EY k) px py) (if 0 = 0 then 0 else of_) (if 0 = 0 then of_ else szs)))) (rest := []) ⟨hx, hb, hml, hown, hts⟩ (metX4_isOnAny lG D dA sg e1 e2 e3 e4 szs of_ ncs SX SY EX EY 0 px py (by first | assumption | omega) (by first | assumption | omega) (by first | assumption | omega) (by first | assumption | omega) (by first | assumption | omega) (by first | assumption | omega) (by first | assumption | omega)) (cwV 3 hts (lw_V q606 q607 q608 q74 q609) rfl rfl rfl (by decide +kernel) ⟨Nat.le_of_ble_eq_true rfl, Nat.le_of_ble_eq_true rfl⟩) (va_recv hK.1 hP (ci := 3) (q0 := 6) rfl rfl) (hP.sub [6, 7, 8, 9, 10] rfl) hK rfl hl.1 rfl (Nat.le_of_ble_eq_true rfl) dX2_placeOf_86 ⟨Nat.zero_le _, Nat.zero_le _⟩ ?_
      refine zb_if_eq (tgt := 94) hx hb dX2_placeOf_89 (by decide) (fun c_3 => ?_) (fun c_3 => ?_)
      · skip
        refine lv_aload_n hx hb dX2_placeOf_94 rfl (lv_at hl 1 rfl) ?_
        refine va_get (D := D) (ci := 1) (v := .ref stp) (C := RX2) (T := TX2) (N := 14) hx hb hts in_X2 hown hK.1 hP 0 rfl rfl 7 (Nat.le_of_ble_eq_true rfl) (hts _ q322) (fun _ h9 => h9) rfl dX2_placeOf_95 ?_
        refine lv_iload_n hx hb dX2_placeOf_98 rfl (lv_at hl 3 rfl) ?_
        refine lv_iload_n hx hb dX2_placeOf_99 rfl (lv_at hl 4 rfl) ?_
        refine zz_lconst hx hb 0 dX2_placeOf_100 rfl ?_
        refine zz_lconst hx hb 0 dX2_placeOf_101 rfl ?_
        refine zc_wrV (rest := []) (wr := [(r0, .inr (1, [.ref sh, .ref sg, .int (bI tk), .ref bx, .ref th, .ref tr, .ref ev, .ref stp, .ref mx, .int (bI rl), .ref wa, .ref la, .ref ra, .ref ti])), (sh, .inl (dA 3, 2, .inr (.inr (.inr (.inr (sh2 o0a o0b)))))), (o0a, .inr (2, [.int (nI kda), .ref c1a, .int (nI npa), .ref c2a, .ref c3a, .int (nI nqa)])), (c1a, .inl (dA 0, nsa, .inl fun j => nI (STa j))), (c2a, .inl (dA 0, nxa, .inl fun j => iZ (Xa j))), (c3a, .inl (dA 0, nxa, .inl fun j => iZ (Ya j))), (sg, .inr (3, [.ref e1, .ref e2, .ref e3, .ref e4, .int (nI szs), .int (nI of_)])), (e1, .inl (dA 0, ncs, .inl fun j => iZ (SX j))), (e2, .inl (dA 0, ncs, .inl fun j => iZ (SY j))), (e3, .inl (dA 0, ncs, .inl fun j => iZ (EX j))), (e4, .inl (dA 0, ncs, .inl fun j => iZ (EY j)))]) ⟨hx, hb, hml, hown, hts⟩ (metX9_set lG D dA stp sx sy du dv lu lv px py 0 0 ) (cwV 4 hts (lw_V q619 q620 q621 q79 q622) rfl rfl rfl (by decide +kernel) ⟨Nat.le_of_ble_eq_true rfl, Nat.le_of_ble_eq_true rfl⟩) (va_recv hK.1 hP (ci := 8) (q0 := 11) rfl rfl) hP hK hD hS hA [11] [0, 1, 2, 3, 4, 5, 6, 7, 8, 9, 10] rfl rfl (by decide) (by decide) (by decide) rfl hl.1 rfl (Nat.le_of_ble_eq_true rfl) dX2_placeOf_102 ⟨Nat.zero_le _, Nat.zero_le _⟩ (fun u H locs hp_4 hP hD hS => ?_)
        have hP : va_P D zCl [(r0, .inr (1, [.ref sh, .ref sg, .int (bI tk), .ref bx, .ref th, .ref tr, .ref ev, .ref stp, .ref mx, .int (bI rl), .ref wa, .ref la, .ref ra, .ref ti])), (sh, .inl (dA 3, 2, .inr (.inr (.inr (.inr (sh2 o0a o0b)))))), (o0a, .inr (2, [.int (nI kda), .ref c1a, .int (nI npa), .ref c2a, .ref c3a, .int (nI nqa)])), (c1a, .inl (dA 0, nsa, .inl fun j => nI (STa j))), (c2a, .inl (dA 0, nxa, .inl fun j => iZ (Xa j))), (c3a, .inl (dA 0, nxa, .inl fun j => iZ (Ya j))), (sg, .inr (3, [.ref e1, .ref e2, .ref e3, .ref e4, .int (nI szs), .int (nI of_)])), (e1, .inl (dA 0, ncs, .inl fun j => iZ (SX j))), (e2, .inl (dA 0, ncs, .inl fun j => iZ (SY j))), (e3, .inl (dA 0, ncs, .inl fun j => iZ (EX j))), (e4, .inl (dA 0, ncs, .inl fun j => iZ (EY j))), (stp, .inr (8, [.int (iZ px), .int (iZ py), .long (lZ 0), .long (lZ 0), .long (lZ 0), .long (lZ 0)]))] H := hP
        have hD : va_D A [(r0, .inr (1, [.ref sh, .ref sg, .int (bI tk), .ref bx, .ref th, .ref tr, .ref ev, .ref stp, .ref mx, .int (bI rl), .ref wa, .ref la, .ref ra, .ref ti])), (sh, .inl (dA 3, 2, .inr (.inr (.inr (.inr (sh2 o0a o0b)))))), (o0a, .inr (2, [.int (nI kda), .ref c1a, .int (nI npa), .ref c2a, .ref c3a, .int (nI nqa)])), (c1a, .inl (dA 0, nsa, .inl fun j => nI (STa j))), (c2a, .inl (dA 0, nxa, .inl fun j => iZ (Xa j))), (c3a, .inl (dA 0, nxa, .inl fun j => iZ (Ya j))), (sg, .inr (3, [.ref e1, .ref e2, .ref e3, .ref e4, .int (nI szs), .int (nI of_)])), (e1, .inl (dA 0, ncs, .inl fun j => iZ (SX j))), (e2, .inl (dA 0, ncs, .inl fun j => iZ (SY j))), (e3, .inl (dA 0, ncs, .inl fun j => iZ (EX j))), (e4, .inl (dA 0, ncs, .inl fun j => iZ (EY j))), (stp, .inr (8, [.int (iZ px), .int (iZ py), .long (lZ 0), .long (lZ 0), .long (lZ 0), .long (lZ 0)]))] := hD
        show W _ _ _ _ _ _ _ _ _ _ _ _ 0 0 _ (F0 mG 105 ls [])
        refine lv_aload_n hx hb dX2_placeOf_105 rfl (lv_at hl 1 rfl) ?_
        refine va_get (D := D) (ci := 1) (v := .ref sg) (C := RX2) (T := TX2) (N := 14) hx hb hts in_X2 hown hK.1 hP 0 rfl rfl 1 (Nat.le_of_ble_eq_true rfl) (hts _ q316) (fun _ h9 => h9) rfl dX2_placeOf_106 ?_
        refine lv_iload_n hx hb dX2_placeOf_109 rfl (lv_at hl 2 rfl) ?_
        refine lv_aload_n hx hb dX2_placeOf_110 rfl (lv_at hl 1 rfl) ?_
        refine va_get (D := D) (ci := 1) (v := .ref stp) (C := RX2) (T := TX2) (N := 14) hx hb hts in_X2 hown hK.1 hP 0 rfl rfl 7 (Nat.le_of_ble_eq_true rfl) (hts _ q322) (fun _ h9 => h9) rfl dX2_placeOf_111 ?_
        refine zc_roV (v := .int (bI (parR (fun k => sgOdd (SX k) (SY k) (EX k) (EY k) px py 0 0 0 0) (if 0 = 0 then 0 else of_) ((if 0 = 0 then of_ else szs) - (if 0 = 0 then 0 else of_))))) (rest := []) ⟨hx, hb, hml, hown, hts⟩ (metX4_isOdd lG D dA sg e1 e2 e3 e4 szs of_ ncs SX SY EX EY stp px py 0 0 0 0 0 (by first | assumption | omega) (by first | assumption | omega) (by first | assumption | omega) (by first | assumption | omega) (by first | assumption | omega) (by first | assumption | omega) (by first | assumption | omega) dB_0 dB_0 dB_0 dB_0) (cwV 2 hts (lw_V q623 q624 q625 q74 q626) rfl rfl rfl (by decide +kernel) ⟨Nat.le_of_ble_eq_true rfl, Nat.le_of_ble_eq_true rfl⟩) (va_recv hK.1 hP (ci := 3) (q0 := 6) rfl rfl) (hP.sub [6, 7, 8, 9, 10, 11] rfl) hK rfl hl.1 rfl (Nat.le_of_ble_eq_true rfl) dX2_placeOf_114 ⟨Nat.zero_le _, Nat.zero_le _⟩ ?_
        refine zb_if_eq (tgt := 124) hx hb dX2_placeOf_117 (by decide) (fun c_5 => ?_) (fun c_5 => ?_)
        · skip
          refine lv_iconst (v := nI 2) hx hb dX2_placeOf_124 (by decide) ?_
          exact zr_wrI (u := (px, py, 0, 0, 0, 0)) (congrArg (fun z => some (Value.int (nI z))) (by unfold plA; simp_all)) trivial (hP.sub [0, 1, 2, 3, 4, 5, 6, 7, 8, 9, 10, 11] rfl) (hD.sub [0, 1, 2, 3, 4, 5, 6, 7, 8, 9, 10, 11] (by decide) rfl) hS hx hb hr hlocks dX2_placeOf_125
        · skip
          refine lv_iconst (v := nI 0) hx hb dX2_placeOf_120 (by decide) ?_
          refine lv_goto (tgt := 125) hx hb dX2_placeOf_121 (by decide) ?_
          exact zr_wrI (u := (px, py, 0, 0, 0, 0)) (congrArg (fun z => some (Value.int (nI z))) (by unfold plA; simp_all)) trivial (hP.sub [0, 1, 2, 3, 4, 5, 6, 7, 8, 9, 10, 11] rfl) (hD.sub [0, 1, 2, 3, 4, 5, 6, 7, 8, 9, 10, 11] (by decide) rfl) hS hx hb hr hlocks dX2_placeOf_125
      · skip
        refine lv_iconst (v := nI 1) hx hb dX2_placeOf_92 (by decide) ?_
        exact zr_wrI (u := (sx, sy, du, dv, lu, lv)) (congrArg (fun z => some (Value.int (nI z))) (by unfold plA; simp_all)) trivial (hP.sub [0, 1, 2, 3, 4, 5, 6, 7, 8, 9, 10, 11] rfl) (hD.sub [0, 1, 2, 3, 4, 5, 6, 7, 8, 9, 10, 11] (by decide) rfl) hS hx hb hr hlocks dX2_placeOf_93
    · skip
      refine lv_aload hx hb dX2_placeOf_43 (lv_at hl 0 rfl) ?_
      refine lv_iload_n hx hb dX2_placeOf_45 rfl (lv_at hl 3 rfl) ?_
      refine lv_iload_n hx hb dX2_placeOf_46 rfl (lv_at hl 4 rfl) ?_
      refine zc_roV (v := .int (nI (olEnds Xa Ya STa npa nqa px py npa))) (rest := []) ⟨hx, hb, hml, hown, hts⟩ (metX3_ends lG D dA o0a kda c1a npa c2a c3a nqa nsa nxa STa Xa Ya px py ahns2 ahnp ahnx2 ahnq (fun p h => (ahST p h).2) ahX ahY (by first | assumption | omega) (by first | assumption | omega)) (cwV 2 hts (lw_V q600 q601 q602 q73 q603) rfl rfl rfl (by decide +kernel) ⟨Nat.le_of_ble_eq_true rfl, Nat.le_of_ble_eq_true rfl⟩) (va_recv hK.1 hP (ci := 2) (q0 := 2) rfl rfl) (hP.sub [2, 3, 4, 5] rfl) hK rfl hl.1 rfl (Nat.le_of_ble_eq_true rfl) dX2_placeOf_47 ⟨Nat.zero_le _, Nat.zero_le _⟩ ?_
      have hoe := olEnds_le (X := Xa) (Y := Ya) (ST := STa) (np := npa) (nq := nqa) (px := px) (py := py) npa
      refine lv_iconst (v := nI 2) hx hb dX2_placeOf_50 (by decide) ?_
      refine zn_irem hx hb (by omega) (by decide) (by decide) dX2_placeOf_51 ?_
      refine lv_iconst (v := nI 1) hx hb dX2_placeOf_52 (by decide) ?_
      refine zn_icmp_ne (tgt := 60) hx hb (by omega) (by decide) dX2_placeOf_53 (by decide) (fun c_6 => ?_) (fun c_6 => ?_)
      · skip
        refine lv_aload_n hx hb dX2_placeOf_60 rfl (lv_at hl 1 rfl) ?_
        refine va_get (D := D) (ci := 1) (v := .ref sg) (C := RX2) (T := TX2) (N := 14) hx hb hts in_X2 hown hK.1 hP 0 rfl rfl 1 (Nat.le_of_ble_eq_true rfl) (hts _ q316) (fun _ h9 => h9) rfl dX2_placeOf_61 ?_
        refine lv_iload_n hx hb dX2_placeOf_64 rfl (lv_at hl 2 rfl) ?_
        refine lv_iload_n hx hb dX2_placeOf_65 rfl (lv_at hl 3 rfl) ?_
        refine lv_iload_n hx hb dX2_placeOf_66 rfl (lv_at hl 4 rfl) ?_
        refine zc_roV (v := .int (bI (exR (fun k => sgOn (SX k) (SY k) (EX k) (EY k) px py) (if 0 = 0 then 0 else of_) (if 0 = 0 then of_ else szs)))) (rest := []) ⟨hx, hb, hml, hown, hts⟩ (metX4_isOnAny lG D dA sg e1 e2 e3 e4 szs of_ ncs SX SY EX EY 0 px py (by first | assumption | omega) (by first | assumption | omega) (by first | assumption | omega) (by first | assumption | omega) (by first | assumption | omega) (by first | assumption | omega) (by first | assumption | omega)) (cwV 3 hts (lw_V q606 q607 q608 q74 q609) rfl rfl rfl (by decide +kernel) ⟨Nat.le_of_ble_eq_true rfl, Nat.le_of_ble_eq_true rfl⟩) (va_recv hK.1 hP (ci := 3) (q0 := 6) rfl rfl) (hP.sub [6, 7, 8, 9, 10] rfl) hK rfl hl.1 rfl (Nat.le_of_ble_eq_true rfl) dX2_placeOf_67 ⟨Nat.zero_le _, Nat.zero_le _⟩ ?_
        refine zb_if_eq (tgt := 77) hx hb dX2_placeOf_70 (by decide) (fun c_7 => ?_) (fun c_7 => ?_)
        · skip
          refine lv_iconst (v := nI 2) hx hb dX2_placeOf_77 (by decide) ?_
          exact zr_wrI (u := (sx, sy, du, dv, lu, lv)) (congrArg (fun z => some (Value.int (nI z))) (by unfold plA; simp_all)) trivial (hP.sub [0, 1, 2, 3, 4, 5, 6, 7, 8, 9, 10, 11] rfl) (hD.sub [0, 1, 2, 3, 4, 5, 6, 7, 8, 9, 10, 11] (by decide) rfl) hS hx hb hr hlocks dX2_placeOf_78
        · skip
          refine lv_iconst (v := nI 0) hx hb dX2_placeOf_73 (by decide) ?_
          refine lv_goto (tgt := 78) hx hb dX2_placeOf_74 (by decide) ?_
          exact zr_wrI (u := (sx, sy, du, dv, lu, lv)) (congrArg (fun z => some (Value.int (nI z))) (by unfold plA; simp_all)) trivial (hP.sub [0, 1, 2, 3, 4, 5, 6, 7, 8, 9, 10, 11] rfl) (hD.sub [0, 1, 2, 3, 4, 5, 6, 7, 8, 9, 10, 11] (by decide) rfl) hS hx hb hr hlocks dX2_placeOf_78
      · skip
        refine lv_iconst (v := nI 1) hx hb dX2_placeOf_56 (by decide) ?_
        refine lv_goto (tgt := 78) hx hb dX2_placeOf_57 (by decide) ?_
        exact zr_wrI (u := (sx, sy, du, dv, lu, lv)) (congrArg (fun z => some (Value.int (nI z))) (by unfold plA; simp_all)) trivial (hP.sub [0, 1, 2, 3, 4, 5, 6, 7, 8, 9, 10, 11] rfl) (hD.sub [0, 1, 2, 3, 4, 5, 6, 7, 8, 9, 10, 11] (by decide) rfl) hS hx hb hr hlocks dX2_placeOf_78
  · skip
    refine lv_aload_n hx hb dX2_placeOf_17 rfl (lv_at hl 1 rfl) ?_
    refine lv_aload hx hb dX2_placeOf_18 (lv_at hl 0 rfl) ?_
    refine lv_iload_n hx hb dX2_placeOf_20 rfl (lv_at hl 3 rfl) ?_
    refine lv_iload_n hx hb dX2_placeOf_21 rfl (lv_at hl 4 rfl) ?_
    refine zc_roV (v := .int (bI (exR (fun k => ptAt Xa Ya k px py) 0 nqa))) (rest := []) ⟨hx, hb, hml, hown, hts⟩ (metX2_isPoint lG D dA r0 sh sg tk bx th tr ev stp mx rl wa la ra ti o0a kda c1a npa c2a c3a nqa nsa nxa STa Xa Ya px py ahnx2 ahnq ahX ahY (by first | assumption | omega) (by first | assumption | omega)) (cwV 3 hts (lw_V q595 q597 qs17 q72 q598) rfl rfl rfl (by decide +kernel) ⟨Nat.le_of_ble_eq_true rfl, Nat.le_of_ble_eq_true rfl⟩) (va_recv hK.1 hP (ci := 1) (q0 := 0) rfl rfl) (hP.sub [0, 2, 3, 4, 5] rfl) hK rfl hl.1 rfl (Nat.le_of_ble_eq_true rfl) dX2_placeOf_22 ⟨Nat.zero_le _, Nat.zero_le _⟩ ?_
    refine zb_if_eq (tgt := 32) hx hb dX2_placeOf_25 (by decide) (fun c_8 => ?_) (fun c_8 => ?_)
    · skip
      refine lv_iconst (v := nI 2) hx hb dX2_placeOf_32 (by decide) ?_
      exact zr_wrI (u := (sx, sy, du, dv, lu, lv)) (congrArg (fun z => some (Value.int (nI z))) (by unfold plA; simp_all)) trivial (hP.sub [0, 1, 2, 3, 4, 5, 6, 7, 8, 9, 10, 11] rfl) (hD.sub [0, 1, 2, 3, 4, 5, 6, 7, 8, 9, 10, 11] (by decide) rfl) hS hx hb hr hlocks dX2_placeOf_33
    · skip
      refine lv_iconst (v := nI 0) hx hb dX2_placeOf_28 (by decide) ?_
      refine lv_goto (tgt := 33) hx hb dX2_placeOf_29 (by decide) ?_
      exact zr_wrI (u := (sx, sy, du, dv, lu, lv)) (congrArg (fun z => some (Value.int (nI z))) (by unfold plA; simp_all)) trivial (hP.sub [0, 1, 2, 3, 4, 5, 6, 7, 8, 9, 10, 11] rfl) (hD.sub [0, 1, 2, 3, 4, 5, 6, 7, 8, 9, 10, 11] (by decide) rfl) hS hx hb hr hlocks dX2_placeOf_33
set_option maxHeartbeats 4000000 in
set_option maxRecDepth 100000 in
theorem metX2_placeOf_1 (lG : Launch) (D : va_G) (dA : Nat → ClassId) (r0 : Nat) (sh : Nat) (sg : Nat) (tk : Bool) (bx : Nat) (th : Nat) (tr : Nat) (ev : Nat) (stp : Nat) (mx : Nat) (rl : Bool) (wa : Nat) (la : Nat) (ra : Nat) (ti : Nat) (o0b : Nat) (kdb : Nat) (c1b : Nat) (npb : Nat) (c2b : Nat) (c3b : Nat) (nqb : Nat) (nsb : Nat) (nxb : Nat) (STb : Nat → Nat) (Xb : Nat → Int) (Yb : Nat → Int) (o0a : Nat) (e1 : Nat) (e2 : Nat) (e3 : Nat) (e4 : Nat) (szs : Nat) (of_ : Nat) (ncs : Nat) (SX : Nat → Int) (SY : Nat → Int) (EX : Nat → Int) (EY : Nat → Int) (sx : Int) (sy : Int) (du : Int) (dv : Int) (lu : Int) (lv : Int) (px : Int) (py : Int) (bhns2 : nsb ≤ 4096) (bhnp : npb ≤ nsb) (bhnx2 : nxb ≤ 4096) (bhnq : nqb ≤ nxb) (bhkd : kdb < 4) (bhST : olOK STb npb nqb) (bhX : ∀ k, cB (Xb k)) (bhY : ∀ k, cB (Yb k)) (hncs : ncs ≤ 4096) (hof : of_ ≤ szs) (hszs : szs ≤ ncs) (hC : sgB SX SY EX EY) (hpx : cB px) (hpy : cB py) : Wr lG yX2_placeOf (ws_ yX2_placeOf cX2_placeOf 5 (some .int)) 4 91 D dA [.ref r0, .int (nI 1), .int (iZ px), .int (iZ py)] [(r0, .inr (1, [.ref sh, .ref sg, .int (bI tk), .ref bx, .ref th, .ref tr, .ref ev, .ref stp, .ref mx, .int (bI rl), .ref wa, .ref la, .ref ra, .ref ti])), (sh, .inl (dA 3, 2, .inr (.inr (.inr (.inr (sh2 o0a o0b)))))), (o0b, .inr (2, [.int (nI kdb), .ref c1b, .int (nI npb), .ref c2b, .ref c3b, .int (nI nqb)])), (c1b, .inl (dA 0, nsb, .inl fun j => nI (STb j))), (c2b, .inl (dA 0, nxb, .inl fun j => iZ (Xb j))), (c3b, .inl (dA 0, nxb, .inl fun j => iZ (Yb j))), (sg, .inr (3, [.ref e1, .ref e2, .ref e3, .ref e4, .int (nI szs), .int (nI of_)])), (e1, .inl (dA 0, ncs, .inl fun j => iZ (SX j))), (e2, .inl (dA 0, ncs, .inl fun j => iZ (SY j))), (e3, .inl (dA 0, ncs, .inl fun j => iZ (EX j))), (e4, .inl (dA 0, ncs, .inl fun j => iZ (EY j))), (stp, .inr (8, [.int (iZ sx), .int (iZ sy), .long (lZ du), .long (lZ dv), .long (lZ lu), .long (lZ lv)]))] 0 0 (fun (u : Int × Int × Int × Int × Int × Int) => let s1 := u.1; let s2 := u.2.1; let s3 := u.2.2.1; let s4 := u.2.2.2.1; let s5 := u.2.2.2.2.1; let s6 := u.2.2.2.2.2; True) (fun (u : Int × Int × Int × Int × Int × Int) => let s1 := u.1; let s2 := u.2.1; let s3 := u.2.2.1; let s4 := u.2.2.2.1; let s5 := u.2.2.2.2.1; let s6 := u.2.2.2.2.2; some (.int (nI (plA kdb Xb Yb STb npb nqb SX SY EX EY of_ szs px py)))) (fun (u : Int × Int × Int × Int × Int × Int) => let s1 := u.1; let s2 := u.2.1; let s3 := u.2.2.1; let s4 := u.2.2.2.1; let s5 := u.2.2.2.2.1; let s6 := u.2.2.2.2.2; [(r0, .inr (1, [.ref sh, .ref sg, .int (bI tk), .ref bx, .ref th, .ref tr, .ref ev, .ref stp, .ref mx, .int (bI rl), .ref wa, .ref la, .ref ra, .ref ti])), (sh, .inl (dA 3, 2, .inr (.inr (.inr (.inr (sh2 o0a o0b)))))), (o0b, .inr (2, [.int (nI kdb), .ref c1b, .int (nI npb), .ref c2b, .ref c3b, .int (nI nqb)])), (c1b, .inl (dA 0, nsb, .inl fun j => nI (STb j))), (c2b, .inl (dA 0, nxb, .inl fun j => iZ (Xb j))), (c3b, .inl (dA 0, nxb, .inl fun j => iZ (Yb j))), (sg, .inr (3, [.ref e1, .ref e2, .ref e3, .ref e4, .int (nI szs), .int (nI of_)])), (e1, .inl (dA 0, ncs, .inl fun j => iZ (SX j))), (e2, .inl (dA 0, ncs, .inl fun j => iZ (SY j))), (e3, .inl (dA 0, ncs, .inl fun j => iZ (EX j))), (e4, .inl (dA 0, ncs, .inl fun j => iZ (EY j))), (stp, .inr (8, [.int (iZ s1), .int (iZ s2), .long (lZ s3), .long (lZ s4), .long (lZ s5), .long (lZ s6)]))]) := by
  refine Wr.of (by decide) (Nat.le_of_ble_eq_true rfl) ?_
  intro pG eG sG mG bG tG cG ls A hx hb hr hml hown hts hlocks hnm hP hK hD hS hA hl
  have hK1 := hK.1
  have hown : sG.vm.findClass RX2 = some mG.cls := hown
  have hl : lv_has ls 5 [(0, .ref r0), (1, .int (nI 1)), (2, .int (iZ px)), (3, .int (iZ py))] := hl
  refine lv_aload_n hx hb dX2_placeOf_0 rfl (lv_at hl 0 rfl) ?_
  refine va_get (D := D) (ci := 1) (v := .ref sh) (C := RX2) (T := TX2) (N := 14) hx hb hts in_X2 hown hK.1 hP 0 rfl rfl 0 (Nat.le_of_ble_eq_true rfl) (hts _ q315) (fun _ h9 => h9) rfl dX2_placeOf_1 ?_
  refine lv_iload_n hx hb dX2_placeOf_4 rfl (lv_at hl 1 rfl) ?_
  refine zq_aald (f := sh2 o0a o0b) (i := 1) hx hb hK.1 hP 1 rfl (by omega) (by omega) rfl dX2_placeOf_5 ?_
  refine lv_astore (lv' := [(4, .ref o0b), (0, .ref r0), (1, .int (nI 1)), (2, .int (iZ px)), (3, .int (iZ py))]) hx hb dX2_placeOf_6 hl (by decide) rfl (fun ls hl => ?_)
  refine lv_aload hx hb dX2_placeOf_8 (lv_at hl 0 rfl) ?_
  refine va_getN (D := D) (ci := 2) (v := .int (nI kdb)) (C := RX3) (T := TX3) (N := 6) hx hb hts in_X3 hown hK.1 hP 2 rfl rfl 0 (Nat.le_of_ble_eq_true rfl) (hK.use zq115) (fun _ h9 => h9) rfl dX2_placeOf_10 ?_
  refine lv_iconst (v := nI 1) hx hb dX2_placeOf_13 (by decide) ?_
  refine zn_icmp_ne (tgt := 34) hx hb (by omega) (by decide) dX2_placeOf_14 (by decide) (fun c_1 => ?_) (fun c_1 => ?_)
  · skip
    refine lv_aload hx hb dX2_placeOf_34 (lv_at hl 0 rfl) ?_
    refine va_getN (D := D) (ci := 2) (v := .int (nI kdb)) (C := RX3) (T := TX3) (N := 6) hx hb hts in_X3 hown hK.1 hP 2 rfl rfl 0 (Nat.le_of_ble_eq_true rfl) (hK.use zq115) (fun _ h9 => h9) rfl dX2_placeOf_36 ?_
    refine lv_iconst (v := nI 2) hx hb dX2_placeOf_39 (by decide) ?_
    refine zn_icmp_ne (tgt := 79) hx hb (by omega) (by decide) dX2_placeOf_40 (by decide) (fun c_2 => ?_) (fun c_2 => ?_)
    · skip
      refine lv_aload_n hx hb dX2_placeOf_79 rfl (lv_at hl 1 rfl) ?_
      refine va_get (D := D) (ci := 1) (v := .ref sg) (C := RX2) (T := TX2) (N := 14) hx hb hts in_X2 hown hK.1 hP 0 rfl rfl 1 (Nat.le_of_ble_eq_true rfl) (hts _ q316) (fun _ h9 => h9) rfl dX2_placeOf_80 ?_
      refine lv_iload_n hx hb dX2_placeOf_83 rfl (lv_at hl 2 rfl) ?_
      refine lv_iload_n hx hb dX2_placeOf_84 rfl (lv_at hl 3 rfl) ?_
      refine lv_iload_n hx hb dX2_placeOf_85 rfl (lv_at hl 4 rfl) ?_
      refine zc_roV (v := .int (bI (exR (fun k => sgOn (SX k) (SY k) (EX k) (EY k) px py) (if 1 = 0 then 0 else of_) (if 1 = 0 then of_ else szs)))) (rest := []) ⟨hx, hb, hml, hown, hts⟩ (metX4_isOnAny lG D dA sg e1 e2 e3 e4 szs of_ ncs SX SY EX EY 1 px py (by first | assumption | omega) (by first | assumption | omega) (by first | assumption | omega) (by first | assumption | omega) (by first | assumption | omega) (by first | assumption | omega) (by first | assumption | omega)) (cwV 3 hts (lw_V q606 q607 q608 q74 q609) rfl rfl rfl (by decide +kernel) ⟨Nat.le_of_ble_eq_true rfl, Nat.le_of_ble_eq_true rfl⟩) (va_recv hK.1 hP (ci := 3) (q0 := 6) rfl rfl) (hP.sub [6, 7, 8, 9, 10] rfl) hK rfl hl.1 rfl (Nat.le_of_ble_eq_true rfl) dX2_placeOf_86 ⟨Nat.zero_le _, Nat.zero_le _⟩ ?_
      refine zb_if_eq (tgt := 94) hx hb dX2_placeOf_89 (by decide) (fun c_3 => ?_) (fun c_3 => ?_)
      · skip
        refine lv_aload_n hx hb dX2_placeOf_94 rfl (lv_at hl 1 rfl) ?_
        refine va_get (D := D) (ci := 1) (v := .ref stp) (C := RX2) (T := TX2) (N := 14) hx hb hts in_X2 hown hK.1 hP 0 rfl rfl 7 (Nat.le_of_ble_eq_true rfl) (hts _ q322) (fun _ h9 => h9) rfl dX2_placeOf_95 ?_
        refine lv_iload_n hx hb dX2_placeOf_98 rfl (lv_at hl 3 rfl) ?_
        refine lv_iload_n hx hb dX2_placeOf_99 rfl (lv_at hl 4 rfl) ?_
        refine zz_lconst hx hb 0 dX2_placeOf_100 rfl ?_
        refine zz_lconst hx hb 0 dX2_placeOf_101 rfl ?_
        refine zc_wrV (rest := []) (wr := [(r0, .inr (1, [.ref sh, .ref sg, .int (bI tk), .ref bx, .ref th, .ref tr, .ref ev, .ref stp, .ref mx, .int (bI rl), .ref wa, .ref la, .ref ra, .ref ti])), (sh, .inl (dA 3, 2, .inr (.inr (.inr (.inr (sh2 o0a o0b)))))), (o0b, .inr (2, [.int (nI kdb), .ref c1b, .int (nI npb), .ref c2b, .ref c3b, .int (nI nqb)])), (c1b, .inl (dA 0, nsb, .inl fun j => nI (STb j))), (c2b, .inl (dA 0, nxb, .inl fun j => iZ (Xb j))), (c3b, .inl (dA 0, nxb, .inl fun j => iZ (Yb j))), (sg, .inr (3, [.ref e1, .ref e2, .ref e3, .ref e4, .int (nI szs), .int (nI of_)])), (e1, .inl (dA 0, ncs, .inl fun j => iZ (SX j))), (e2, .inl (dA 0, ncs, .inl fun j => iZ (SY j))), (e3, .inl (dA 0, ncs, .inl fun j => iZ (EX j))), (e4, .inl (dA 0, ncs, .inl fun j => iZ (EY j)))]) ⟨hx, hb, hml, hown, hts⟩ (metX9_set lG D dA stp sx sy du dv lu lv px py 0 0 ) (cwV 4 hts (lw_V q619 q620 q621 q79 q622) rfl rfl rfl (by decide +kernel) ⟨Nat.le_of_ble_eq_true rfl, Nat.le_of_ble_eq_true rfl⟩) (va_recv hK.1 hP (ci := 8) (q0 := 11) rfl rfl) hP hK hD hS hA [11] [0, 1, 2, 3, 4, 5, 6, 7, 8, 9, 10] rfl rfl (by decide) (by decide) (by decide) rfl hl.1 rfl (Nat.le_of_ble_eq_true rfl) dX2_placeOf_102 ⟨Nat.zero_le _, Nat.zero_le _⟩ (fun u H locs hp_4 hP hD hS => ?_)
        have hP : va_P D zCl [(r0, .inr (1, [.ref sh, .ref sg, .int (bI tk), .ref bx, .ref th, .ref tr, .ref ev, .ref stp, .ref mx, .int (bI rl), .ref wa, .ref la, .ref ra, .ref ti])), (sh, .inl (dA 3, 2, .inr (.inr (.inr (.inr (sh2 o0a o0b)))))), (o0b, .inr (2, [.int (nI kdb), .ref c1b, .int (nI npb), .ref c2b, .ref c3b, .int (nI nqb)])), (c1b, .inl (dA 0, nsb, .inl fun j => nI (STb j))), (c2b, .inl (dA 0, nxb, .inl fun j => iZ (Xb j))), (c3b, .inl (dA 0, nxb, .inl fun j => iZ (Yb j))), (sg, .inr (3, [.ref e1, .ref e2, .ref e3, .ref e4, .int (nI szs), .int (nI of_)])), (e1, .inl (dA 0, ncs, .inl fun j => iZ (SX j))), (e2, .inl (dA 0, ncs, .inl fun j => iZ (SY j))), (e3, .inl (dA 0, ncs, .inl fun j => iZ (EX j))), (e4, .inl (dA 0, ncs, .inl fun j => iZ (EY j))), (stp, .inr (8, [.int (iZ px), .int (iZ py), .long (lZ 0), .long (lZ 0), .long (lZ 0), .long (lZ 0)]))] H := hP
        have hD : va_D A [(r0, .inr (1, [.ref sh, .ref sg, .int (bI tk), .ref bx, .ref th, .ref tr, .ref ev, .ref stp, .ref mx, .int (bI rl), .ref wa, .ref la, .ref ra, .ref ti])), (sh, .inl (dA 3, 2, .inr (.inr (.inr (.inr (sh2 o0a o0b)))))), (o0b, .inr (2, [.int (nI kdb), .ref c1b, .int (nI npb), .ref c2b, .ref c3b, .int (nI nqb)])), (c1b, .inl (dA 0, nsb, .inl fun j => nI (STb j))), (c2b, .inl (dA 0, nxb, .inl fun j => iZ (Xb j))), (c3b, .inl (dA 0, nxb, .inl fun j => iZ (Yb j))), (sg, .inr (3, [.ref e1, .ref e2, .ref e3, .ref e4, .int (nI szs), .int (nI of_)])), (e1, .inl (dA 0, ncs, .inl fun j => iZ (SX j))), (e2, .inl (dA 0, ncs, .inl fun j => iZ (SY j))), (e3, .inl (dA 0, ncs, .inl fun j => iZ (EX j))), (e4, .inl (dA 0, ncs, .inl fun j => iZ (EY j))), (stp, .inr (8, [.int (iZ px), .int (iZ py), .long (lZ 0), .long (lZ 0), .long (lZ 0), .long (lZ 0)]))] := hD
        show W _ _ _ _ _ _ _ _ _ _ _ _ 0 0 _ (F0 mG 105 ls [])
        refine lv_aload_n hx hb dX2_placeOf_105 rfl (lv_at hl 1 rfl) ?_
        refine va_get (D := D) (ci := 1) (v := .ref sg) (C := RX2) (T := TX2) (N := 14) hx hb hts in_X2 hown hK.1 hP 0 rfl rfl 1 (Nat.le_of_ble_eq_true rfl) (hts _ q316) (fun _ h9 => h9) rfl dX2_placeOf_106 ?_
        refine lv_iload_n hx hb dX2_placeOf_109 rfl (lv_at hl 2 rfl) ?_
        refine lv_aload_n hx hb dX2_placeOf_110 rfl (lv_at hl 1 rfl) ?_
        refine va_get (D := D) (ci := 1) (v := .ref stp) (C := RX2) (T := TX2) (N := 14) hx hb hts in_X2 hown hK.1 hP 0 rfl rfl 7 (Nat.le_of_ble_eq_true rfl) (hts _ q322) (fun _ h9 => h9) rfl dX2_placeOf_111 ?_
        refine zc_roV (v := .int (bI (parR (fun k => sgOdd (SX k) (SY k) (EX k) (EY k) px py 0 0 0 0) (if 1 = 0 then 0 else of_) ((if 1 = 0 then of_ else szs) - (if 1 = 0 then 0 else of_))))) (rest := []) ⟨hx, hb, hml, hown, hts⟩ (metX4_isOdd lG D dA sg e1 e2 e3 e4 szs of_ ncs SX SY EX EY stp px py 0 0 0 0 1 (by first | assumption | omega) (by first | assumption | omega) (by first | assumption | omega) (by first | assumption | omega) (by first | assumption | omega) (by first | assumption | omega) (by first | assumption | omega) dB_0 dB_0 dB_0 dB_0) (cwV 2 hts (lw_V q623 q624 q625 q74 q626) rfl rfl rfl (by decide +kernel) ⟨Nat.le_of_ble_eq_true rfl, Nat.le_of_ble_eq_true rfl⟩) (va_recv hK.1 hP (ci := 3) (q0 := 6) rfl rfl) (hP.sub [6, 7, 8, 9, 10, 11] rfl) hK rfl hl.1 rfl (Nat.le_of_ble_eq_true rfl) dX2_placeOf_114 ⟨Nat.zero_le _, Nat.zero_le _⟩ ?_
        refine zb_if_eq (tgt := 124) hx hb dX2_placeOf_117 (by decide) (fun c_5 => ?_) (fun c_5 => ?_)
        · skip
          refine lv_iconst (v := nI 2) hx hb dX2_placeOf_124 (by decide) ?_
          exact zr_wrI (u := (px, py, 0, 0, 0, 0)) (congrArg (fun z => some (Value.int (nI z))) (by unfold plA; simp_all)) trivial (hP.sub [0, 1, 2, 3, 4, 5, 6, 7, 8, 9, 10, 11] rfl) (hD.sub [0, 1, 2, 3, 4, 5, 6, 7, 8, 9, 10, 11] (by decide) rfl) hS hx hb hr hlocks dX2_placeOf_125
        · skip
          refine lv_iconst (v := nI 0) hx hb dX2_placeOf_120 (by decide) ?_
          refine lv_goto (tgt := 125) hx hb dX2_placeOf_121 (by decide) ?_
          exact zr_wrI (u := (px, py, 0, 0, 0, 0)) (congrArg (fun z => some (Value.int (nI z))) (by unfold plA; simp_all)) trivial (hP.sub [0, 1, 2, 3, 4, 5, 6, 7, 8, 9, 10, 11] rfl) (hD.sub [0, 1, 2, 3, 4, 5, 6, 7, 8, 9, 10, 11] (by decide) rfl) hS hx hb hr hlocks dX2_placeOf_125
      · skip
        refine lv_iconst (v := nI 1) hx hb dX2_placeOf_92 (by decide) ?_
        exact zr_wrI (u := (sx, sy, du, dv, lu, lv)) (congrArg (fun z => some (Value.int (nI z))) (by unfold plA; simp_all)) trivial (hP.sub [0, 1, 2, 3, 4, 5, 6, 7, 8, 9, 10, 11] rfl) (hD.sub [0, 1, 2, 3, 4, 5, 6, 7, 8, 9, 10, 11] (by decide) rfl) hS hx hb hr hlocks dX2_placeOf_93
    · skip
      refine lv_aload hx hb dX2_placeOf_43 (lv_at hl 0 rfl) ?_
      refine lv_iload_n hx hb dX2_placeOf_45 rfl (lv_at hl 3 rfl) ?_
      refine lv_iload_n hx hb dX2_placeOf_46 rfl (lv_at hl 4 rfl) ?_
      refine zc_roV (v := .int (nI (olEnds Xb Yb STb npb nqb px py npb))) (rest := []) ⟨hx, hb, hml, hown, hts⟩ (metX3_ends lG D dA o0b kdb c1b npb c2b c3b nqb nsb nxb STb Xb Yb px py bhns2 bhnp bhnx2 bhnq (fun p h => (bhST p h).2) bhX bhY (by first | assumption | omega) (by first | assumption | omega)) (cwV 2 hts (lw_V q600 q601 q602 q73 q603) rfl rfl rfl (by decide +kernel) ⟨Nat.le_of_ble_eq_true rfl, Nat.le_of_ble_eq_true rfl⟩) (va_recv hK.1 hP (ci := 2) (q0 := 2) rfl rfl) (hP.sub [2, 3, 4, 5] rfl) hK rfl hl.1 rfl (Nat.le_of_ble_eq_true rfl) dX2_placeOf_47 ⟨Nat.zero_le _, Nat.zero_le _⟩ ?_
      have hoe := olEnds_le (X := Xb) (Y := Yb) (ST := STb) (np := npb) (nq := nqb) (px := px) (py := py) npb
      refine lv_iconst (v := nI 2) hx hb dX2_placeOf_50 (by decide) ?_
      refine zn_irem hx hb (by omega) (by decide) (by decide) dX2_placeOf_51 ?_
      refine lv_iconst (v := nI 1) hx hb dX2_placeOf_52 (by decide) ?_
      refine zn_icmp_ne (tgt := 60) hx hb (by omega) (by decide) dX2_placeOf_53 (by decide) (fun c_6 => ?_) (fun c_6 => ?_)
      · skip
        refine lv_aload_n hx hb dX2_placeOf_60 rfl (lv_at hl 1 rfl) ?_
        refine va_get (D := D) (ci := 1) (v := .ref sg) (C := RX2) (T := TX2) (N := 14) hx hb hts in_X2 hown hK.1 hP 0 rfl rfl 1 (Nat.le_of_ble_eq_true rfl) (hts _ q316) (fun _ h9 => h9) rfl dX2_placeOf_61 ?_
        refine lv_iload_n hx hb dX2_placeOf_64 rfl (lv_at hl 2 rfl) ?_
        refine lv_iload_n hx hb dX2_placeOf_65 rfl (lv_at hl 3 rfl) ?_
        refine lv_iload_n hx hb dX2_placeOf_66 rfl (lv_at hl 4 rfl) ?_
        refine zc_roV (v := .int (bI (exR (fun k => sgOn (SX k) (SY k) (EX k) (EY k) px py) (if 1 = 0 then 0 else of_) (if 1 = 0 then of_ else szs)))) (rest := []) ⟨hx, hb, hml, hown, hts⟩ (metX4_isOnAny lG D dA sg e1 e2 e3 e4 szs of_ ncs SX SY EX EY 1 px py (by first | assumption | omega) (by first | assumption | omega) (by first | assumption | omega) (by first | assumption | omega) (by first | assumption | omega) (by first | assumption | omega) (by first | assumption | omega)) (cwV 3 hts (lw_V q606 q607 q608 q74 q609) rfl rfl rfl (by decide +kernel) ⟨Nat.le_of_ble_eq_true rfl, Nat.le_of_ble_eq_true rfl⟩) (va_recv hK.1 hP (ci := 3) (q0 := 6) rfl rfl) (hP.sub [6, 7, 8, 9, 10] rfl) hK rfl hl.1 rfl (Nat.le_of_ble_eq_true rfl) dX2_placeOf_67 ⟨Nat.zero_le _, Nat.zero_le _⟩ ?_
        refine zb_if_eq (tgt := 77) hx hb dX2_placeOf_70 (by decide) (fun c_7 => ?_) (fun c_7 => ?_)
        · skip
          refine lv_iconst (v := nI 2) hx hb dX2_placeOf_77 (by decide) ?_
          exact zr_wrI (u := (sx, sy, du, dv, lu, lv)) (congrArg (fun z => some (Value.int (nI z))) (by unfold plA; simp_all)) trivial (hP.sub [0, 1, 2, 3, 4, 5, 6, 7, 8, 9, 10, 11] rfl) (hD.sub [0, 1, 2, 3, 4, 5, 6, 7, 8, 9, 10, 11] (by decide) rfl) hS hx hb hr hlocks dX2_placeOf_78
        · skip
          refine lv_iconst (v := nI 0) hx hb dX2_placeOf_73 (by decide) ?_
          refine lv_goto (tgt := 78) hx hb dX2_placeOf_74 (by decide) ?_
          exact zr_wrI (u := (sx, sy, du, dv, lu, lv)) (congrArg (fun z => some (Value.int (nI z))) (by unfold plA; simp_all)) trivial (hP.sub [0, 1, 2, 3, 4, 5, 6, 7, 8, 9, 10, 11] rfl) (hD.sub [0, 1, 2, 3, 4, 5, 6, 7, 8, 9, 10, 11] (by decide) rfl) hS hx hb hr hlocks dX2_placeOf_78
      · skip
        refine lv_iconst (v := nI 1) hx hb dX2_placeOf_56 (by decide) ?_
        refine lv_goto (tgt := 78) hx hb dX2_placeOf_57 (by decide) ?_
        exact zr_wrI (u := (sx, sy, du, dv, lu, lv)) (congrArg (fun z => some (Value.int (nI z))) (by unfold plA; simp_all)) trivial (hP.sub [0, 1, 2, 3, 4, 5, 6, 7, 8, 9, 10, 11] rfl) (hD.sub [0, 1, 2, 3, 4, 5, 6, 7, 8, 9, 10, 11] (by decide) rfl) hS hx hb hr hlocks dX2_placeOf_78
  · skip
    refine lv_aload_n hx hb dX2_placeOf_17 rfl (lv_at hl 1 rfl) ?_
    refine lv_aload hx hb dX2_placeOf_18 (lv_at hl 0 rfl) ?_
    refine lv_iload_n hx hb dX2_placeOf_20 rfl (lv_at hl 3 rfl) ?_
    refine lv_iload_n hx hb dX2_placeOf_21 rfl (lv_at hl 4 rfl) ?_
    refine zc_roV (v := .int (bI (exR (fun k => ptAt Xb Yb k px py) 0 nqb))) (rest := []) ⟨hx, hb, hml, hown, hts⟩ (metX2_isPoint lG D dA r0 sh sg tk bx th tr ev stp mx rl wa la ra ti o0b kdb c1b npb c2b c3b nqb nsb nxb STb Xb Yb px py bhnx2 bhnq bhX bhY (by first | assumption | omega) (by first | assumption | omega)) (cwV 3 hts (lw_V q595 q597 qs17 q72 q598) rfl rfl rfl (by decide +kernel) ⟨Nat.le_of_ble_eq_true rfl, Nat.le_of_ble_eq_true rfl⟩) (va_recv hK.1 hP (ci := 1) (q0 := 0) rfl rfl) (hP.sub [0, 2, 3, 4, 5] rfl) hK rfl hl.1 rfl (Nat.le_of_ble_eq_true rfl) dX2_placeOf_22 ⟨Nat.zero_le _, Nat.zero_le _⟩ ?_
    refine zb_if_eq (tgt := 32) hx hb dX2_placeOf_25 (by decide) (fun c_8 => ?_) (fun c_8 => ?_)
    · skip
      refine lv_iconst (v := nI 2) hx hb dX2_placeOf_32 (by decide) ?_
      exact zr_wrI (u := (sx, sy, du, dv, lu, lv)) (congrArg (fun z => some (Value.int (nI z))) (by unfold plA; simp_all)) trivial (hP.sub [0, 1, 2, 3, 4, 5, 6, 7, 8, 9, 10, 11] rfl) (hD.sub [0, 1, 2, 3, 4, 5, 6, 7, 8, 9, 10, 11] (by decide) rfl) hS hx hb hr hlocks dX2_placeOf_33
    · skip
      refine lv_iconst (v := nI 0) hx hb dX2_placeOf_28 (by decide) ?_
      refine lv_goto (tgt := 33) hx hb dX2_placeOf_29 (by decide) ?_
      exact zr_wrI (u := (sx, sy, du, dv, lu, lv)) (congrArg (fun z => some (Value.int (nI z))) (by unfold plA; simp_all)) trivial (hP.sub [0, 1, 2, 3, 4, 5, 6, 7, 8, 9, 10, 11] rfl) (hD.sub [0, 1, 2, 3, 4, 5, 6, 7, 8, 9, 10, 11] (by decide) rfl) hS hx hb hr hlocks dX2_placeOf_33
set_option maxHeartbeats 4000000 in
set_option maxRecDepth 100000 in
theorem metX2_note (lG : Launch) (D : va_G) (dA : Nat → ClassId) (r0 : Nat) (sh : Nat) (sg : Nat) (tk : Bool) (bx : Nat) (th : Nat) (tr : Nat) (ev : Nat) (stp : Nat) (mx : Nat) (rl : Bool) (wa : Nat) (la : Nat) (ra : Nat) (ti : Nat) (MX : Nat → Int) (ii : Nat) (jj : Nat) (d : Nat) (hi : ii < 3) (hj : jj < 3) (hd : d < 3) (hM : mxB MX) : Wr lG yX2_note (ws_ yX2_note cX2_note 4 none) 1 21 D dA [.ref r0, .int (nI ii), .int (nI jj), .int (nI d)] [(r0, .inr (1, [.ref sh, .ref sg, .int (bI tk), .ref bx, .ref th, .ref tr, .ref ev, .ref stp, .ref mx, .int (bI rl), .ref wa, .ref la, .ref ra, .ref ti])), (mx, .inl (dA 0, 9, .inl fun j => iZ (MX j)))] 0 0 (fun (_u : Unit) => True) (fun (_u : Unit) => none) (fun (_u : Unit) => [(r0, .inr (1, [.ref sh, .ref sg, .int (bI tk), .ref bx, .ref th, .ref tr, .ref ev, .ref stp, .ref mx, .int (bI rl), .ref wa, .ref la, .ref ra, .ref ti])), (mx, .inl (dA 0, 9, .inl fun j => iZ ((noteF MX ii jj d) j)))]) := by
  refine Wr.of (by decide) (Nat.le_of_ble_eq_true rfl) ?_
  intro pG eG sG mG bG tG cG ls A hx hb hr hml hown hts hlocks hnm hP hK hD hS hA hl
  have hK1 := hK.1
  have hown : sG.vm.findClass RX2 = some mG.cls := hown
  have hl : lv_has ls 4 [(0, .ref r0), (1, .int (nI ii)), (2, .int (nI jj)), (3, .int (nI d))] := hl
  refine lv_aload_n hx hb dX2_note_0 rfl (lv_at hl 0 rfl) ?_
  refine va_get (D := D) (ci := 1) (v := .ref mx) (C := RX2) (T := TX2) (N := 14) hx hb hts in_X2 hown hK.1 hP 0 rfl rfl 8 (Nat.le_of_ble_eq_true rfl) (hts _ q323) (fun _ h9 => h9) rfl dX2_note_1 ?_
  refine lv_iconst (v := nI 3) hx hb dX2_note_4 (by decide) ?_
  refine lv_iload_n hx hb dX2_note_5 rfl (lv_at hl 1 rfl) ?_
  refine zn_imul hx hb dX2_note_6 ?_
  refine lv_iload_n hx hb dX2_note_7 rfl (lv_at hl 2 rfl) ?_
  refine zn_iadd hx hb dX2_note_8 ?_
  refine lv_aload_n hx hb dX2_note_9 rfl (lv_at hl 0 rfl) ?_
  refine va_get (D := D) (ci := 1) (v := .ref mx) (C := RX2) (T := TX2) (N := 14) hx hb hts in_X2 hown hK.1 hP 0 rfl rfl 8 (Nat.le_of_ble_eq_true rfl) (hts _ q323) (fun _ h9 => h9) rfl dX2_note_10 ?_
  refine lv_iconst (v := nI 3) hx hb dX2_note_13 (by decide) ?_
  refine lv_iload_n hx hb dX2_note_14 rfl (lv_at hl 1 rfl) ?_
  refine zn_imul hx hb dX2_note_15 ?_
  refine lv_iload_n hx hb dX2_note_16 rfl (lv_at hl 2 rfl) ?_
  refine zn_iadd hx hb dX2_note_17 ?_
  refine zz_iaload (f := MX) (i := (3 * ii) + jj) hx hb hK.1 hP 1 0 rfl rfl (by omega) (by decide) dX2_note_18 ?_
  refine lv_iload_n hx hb dX2_note_19 rfl (lv_at hl 3 rfl) ?_
  refine zt_eq (.int (iZ (((d : Nat) : Int)))) (congrArg Value.int (nI_iZ _)) ?_
  refine zc_roS (v := .int (iZ (max (MX ((3 * ii) + jj)) (((d : Nat) : Int))))) (rest := [.int (nI ((3 * ii) + jj)), .ref mx]) ⟨hx, hb, hml, hown, hts⟩ (metJ8_max lG D dA (MX ((3 * ii) + jj)) (((d : Nat) : Int)) (⟨by have := (hM (3 * ii + jj)).1; omega, by have := (hM (3 * ii + jj)).2; omega⟩) (⟨by omega, by omega⟩)) (va_cwS 2 hts (lw_S q403 q404 q90 q405) rfl rfl rfl (by decide +kernel) ⟨Nat.le_of_ble_eq_true rfl, Nat.le_of_ble_eq_true rfl⟩) (hP.sub [] rfl) hK rfl hl.1 rfl (Nat.le_of_ble_eq_true rfl) dX2_note_20 ⟨Nat.zero_le _, Nat.zero_le _⟩ ?_
  refine zz_iastore (f := MX) (i := (3 * ii) + jj) (x := max (MX ((3 * ii) + jj)) (((d : Nat) : Int))) hx hb hK.1 hP hD hS 1 0 rfl rfl (by omega) (by decide) dX2_note_23 (fun H locs hP hD hS => ?_)
  have hP : va_P D zCl [(r0, .inr (1, [.ref sh, .ref sg, .int (bI tk), .ref bx, .ref th, .ref tr, .ref ev, .ref stp, .ref mx, .int (bI rl), .ref wa, .ref la, .ref ra, .ref ti])), (mx, .inl (dA 0, 9, .inl fun j => iZ ((updZ MX ((3 * ii) + jj) (max (MX ((3 * ii) + jj)) (((d : Nat) : Int)))) j)))] H := hP
  have hD : va_D A [(r0, .inr (1, [.ref sh, .ref sg, .int (bI tk), .ref bx, .ref th, .ref tr, .ref ev, .ref stp, .ref mx, .int (bI rl), .ref wa, .ref la, .ref ra, .ref ti])), (mx, .inl (dA 0, 9, .inl fun j => iZ ((updZ MX ((3 * ii) + jj) (max (MX ((3 * ii) + jj)) (((d : Nat) : Int)))) j)))] := hD
  exact zr_wrV (u := ()) rfl trivial (hP.sub [0, 1] rfl) (hD.sub [0, 1] (by decide) rfl) hS hx hb hr hlocks dX2_note_24
set_option maxHeartbeats 4000000 in
set_option maxRecDepth 100000 in
theorem metX2_notePlace (lG : Launch) (D : va_G) (dA : Nat → ClassId) (r0 : Nat) (sh : Nat) (sg : Nat) (tk : Bool) (bx : Nat) (th : Nat) (tr : Nat) (ev : Nat) (stp : Nat) (mx : Nat) (rl : Bool) (wa : Nat) (la : Nat) (ra : Nat) (ti : Nat) (o0a : Nat) (kda : Nat) (c1a : Nat) (npa : Nat) (c2a : Nat) (c3a : Nat) (nqa : Nat) (nsa : Nat) (nxa : Nat) (STa : Nat → Nat) (Xa : Nat → Int) (Ya : Nat → Int) (o0b : Nat) (kdb : Nat) (c1b : Nat) (npb : Nat) (c2b : Nat) (c3b : Nat) (nqb : Nat) (nsb : Nat) (nxb : Nat) (STb : Nat → Nat) (Xb : Nat → Int) (Yb : Nat → Int) (e1 : Nat) (e2 : Nat) (e3 : Nat) (e4 : Nat) (szs : Nat) (of_ : Nat) (ncs : Nat) (SX : Nat → Int) (SY : Nat → Int) (EX : Nat → Int) (EY : Nat → Int) (sx : Int) (sy : Int) (du : Int) (dv : Int) (lu : Int) (lv : Int) (MX : Nat → Int) (px : Int) (py : Int) (ahns2 : nsa ≤ 4096) (ahnp : npa ≤ nsa) (ahnx2 : nxa ≤ 4096) (ahnq : nqa ≤ nxa) (ahkd : kda < 4) (ahST : olOK STa npa nqa) (ahX : ∀ k, cB (Xa k)) (ahY : ∀ k, cB (Ya k)) (bhns2 : nsb ≤ 4096) (bhnp : npb ≤ nsb) (bhnx2 : nxb ≤ 4096) (bhnq : nqb ≤ nxb) (bhkd : kdb < 4) (bhST : olOK STb npb nqb) (bhX : ∀ k, cB (Xb k)) (bhY : ∀ k, cB (Yb k)) (hncs : ncs ≤ 4096) (hof : of_ ≤ szs) (hszs : szs ≤ ncs) (hC : sgB SX SY EX EY) (hpx : cB px) (hpy : cB py) (hM : mxB MX) : Wr lG yX2_notePlace (ws_ yX2_notePlace cX2_notePlace 3 none) 5 115 D dA [.ref r0, .int (iZ px), .int (iZ py)] [(r0, .inr (1, [.ref sh, .ref sg, .int (bI tk), .ref bx, .ref th, .ref tr, .ref ev, .ref stp, .ref mx, .int (bI rl), .ref wa, .ref la, .ref ra, .ref ti])), (sh, .inl (dA 3, 2, .inr (.inr (.inr (.inr (sh2 o0a o0b)))))), (o0a, .inr (2, [.int (nI kda), .ref c1a, .int (nI npa), .ref c2a, .ref c3a, .int (nI nqa)])), (c1a, .inl (dA 0, nsa, .inl fun j => nI (STa j))), (c2a, .inl (dA 0, nxa, .inl fun j => iZ (Xa j))), (c3a, .inl (dA 0, nxa, .inl fun j => iZ (Ya j))), (o0b, .inr (2, [.int (nI kdb), .ref c1b, .int (nI npb), .ref c2b, .ref c3b, .int (nI nqb)])), (c1b, .inl (dA 0, nsb, .inl fun j => nI (STb j))), (c2b, .inl (dA 0, nxb, .inl fun j => iZ (Xb j))), (c3b, .inl (dA 0, nxb, .inl fun j => iZ (Yb j))), (sg, .inr (3, [.ref e1, .ref e2, .ref e3, .ref e4, .int (nI szs), .int (nI of_)])), (e1, .inl (dA 0, ncs, .inl fun j => iZ (SX j))), (e2, .inl (dA 0, ncs, .inl fun j => iZ (SY j))), (e3, .inl (dA 0, ncs, .inl fun j => iZ (EX j))), (e4, .inl (dA 0, ncs, .inl fun j => iZ (EY j))), (stp, .inr (8, [.int (iZ sx), .int (iZ sy), .long (lZ du), .long (lZ dv), .long (lZ lu), .long (lZ lv)])), (mx, .inl (dA 0, 9, .inl fun j => iZ (MX j)))] 0 0 (fun (u : Int × Int × Int × Int × Int × Int) => let s1 := u.1; let s2 := u.2.1; let s3 := u.2.2.1; let s4 := u.2.2.2.1; let s5 := u.2.2.2.2.1; let s6 := u.2.2.2.2.2; True) (fun (u : Int × Int × Int × Int × Int × Int) => let s1 := u.1; let s2 := u.2.1; let s3 := u.2.2.1; let s4 := u.2.2.2.1; let s5 := u.2.2.2.2.1; let s6 := u.2.2.2.2.2; none) (fun (u : Int × Int × Int × Int × Int × Int) => let s1 := u.1; let s2 := u.2.1; let s3 := u.2.2.1; let s4 := u.2.2.2.1; let s5 := u.2.2.2.2.1; let s6 := u.2.2.2.2.2; [(r0, .inr (1, [.ref sh, .ref sg, .int (bI tk), .ref bx, .ref th, .ref tr, .ref ev, .ref stp, .ref mx, .int (bI rl), .ref wa, .ref la, .ref ra, .ref ti])), (sh, .inl (dA 3, 2, .inr (.inr (.inr (.inr (sh2 o0a o0b)))))), (o0a, .inr (2, [.int (nI kda), .ref c1a, .int (nI npa), .ref c2a, .ref c3a, .int (nI nqa)])), (c1a, .inl (dA 0, nsa, .inl fun j => nI (STa j))), (c2a, .inl (dA 0, nxa, .inl fun j => iZ (Xa j))), (c3a, .inl (dA 0, nxa, .inl fun j => iZ (Ya j))), (o0b, .inr (2, [.int (nI kdb), .ref c1b, .int (nI npb), .ref c2b, .ref c3b, .int (nI nqb)])), (c1b, .inl (dA 0, nsb, .inl fun j => nI (STb j))), (c2b, .inl (dA 0, nxb, .inl fun j => iZ (Xb j))), (c3b, .inl (dA 0, nxb, .inl fun j => iZ (Yb j))), (sg, .inr (3, [.ref e1, .ref e2, .ref e3, .ref e4, .int (nI szs), .int (nI of_)])), (e1, .inl (dA 0, ncs, .inl fun j => iZ (SX j))), (e2, .inl (dA 0, ncs, .inl fun j => iZ (SY j))), (e3, .inl (dA 0, ncs, .inl fun j => iZ (EX j))), (e4, .inl (dA 0, ncs, .inl fun j => iZ (EY j))), (stp, .inr (8, [.int (iZ s1), .int (iZ s2), .long (lZ s3), .long (lZ s4), .long (lZ s5), .long (lZ s6)])), (mx, .inl (dA 0, 9, .inl fun j => iZ ((noteF MX (plA kda Xa Ya STa npa nqa SX SY EX EY 0 of_ px py) (plA kdb Xb Yb STb npb nqb SX SY EX EY of_ szs px py) 0) j)))]) := by
  refine Wr.of (by decide) (Nat.le_of_ble_eq_true rfl) ?_
  intro pG eG sG mG bG tG cG ls A hx hb hr hml hown hts hlocks hnm hP hK hD hS hA hl
  have hK1 := hK.1
  have hown : sG.vm.findClass RX2 = some mG.cls := hown
  have hl : lv_has ls 3 [(0, .ref r0), (1, .int (iZ px)), (2, .int (iZ py))] := hl
  refine lv_aload_n hx hb dX2_notePlace_0 rfl (lv_at hl 0 rfl) ?_
  refine lv_aload_n hx hb dX2_notePlace_1 rfl (lv_at hl 0 rfl) ?_
  refine lv_iconst (v := nI 0) hx hb dX2_notePlace_2 (by decide) ?_
  refine lv_iload_n hx hb dX2_notePlace_3 rfl (lv_at hl 1 rfl) ?_
  refine lv_iload_n hx hb dX2_notePlace_4 rfl (lv_at hl 2 rfl) ?_
  refine zc_wrV (rest := [.ref r0]) (wr := [(o0b, .inr (2, [.int (nI kdb), .ref c1b, .int (nI npb), .ref c2b, .ref c3b, .int (nI nqb)])), (c1b, .inl (dA 0, nsb, .inl fun j => nI (STb j))), (c2b, .inl (dA 0, nxb, .inl fun j => iZ (Xb j))), (c3b, .inl (dA 0, nxb, .inl fun j => iZ (Yb j))), (mx, .inl (dA 0, 9, .inl fun j => iZ (MX j)))]) ⟨hx, hb, hml, hown, hts⟩ (metX2_placeOf_0 lG D dA r0 sh sg tk bx th tr ev stp mx rl wa la ra ti o0a kda c1a npa c2a c3a nqa nsa nxa STa Xa Ya o0b e1 e2 e3 e4 szs of_ ncs SX SY EX EY sx sy du dv lu lv px py (by first | assumption | omega) (by first | assumption | omega) (by first | assumption | omega) (by first | assumption | omega) (by first | assumption | omega) (by first | assumption | omega) (by first | assumption | omega) (by first | assumption | omega) (by first | assumption | omega) (by first | assumption | omega) (by first | assumption | omega) (by first | assumption | omega) (by first | assumption | omega) (by first | assumption | omega)) (cwV 3 hts (lw_V q591 q593 qs16 q72 q594) rfl rfl rfl (by decide +kernel) ⟨Nat.le_of_ble_eq_true rfl, Nat.le_of_ble_eq_true rfl⟩) (va_recv hK.1 hP (ci := 1) (q0 := 0) rfl rfl) hP hK hD hS hA [0, 1, 2, 3, 4, 5, 10, 11, 12, 13, 14, 15] [6, 7, 8, 9, 16] rfl rfl (by decide) (by decide) (by decide) rfl hl.1 rfl (Nat.le_of_ble_eq_true rfl) dX2_notePlace_5 ⟨Nat.zero_le _, Nat.zero_le _⟩ (fun u H locs hp_7 hP hD hS => ?_)
  obtain ⟨s1_1, s2_2, s3_3, s4_4, s5_5, s6_6⟩ := u
  have hP : va_P D zCl [(o0b, .inr (2, [.int (nI kdb), .ref c1b, .int (nI npb), .ref c2b, .ref c3b, .int (nI nqb)])), (c1b, .inl (dA 0, nsb, .inl fun j => nI (STb j))), (c2b, .inl (dA 0, nxb, .inl fun j => iZ (Xb j))), (c3b, .inl (dA 0, nxb, .inl fun j => iZ (Yb j))), (mx, .inl (dA 0, 9, .inl fun j => iZ (MX j))), (r0, .inr (1, [.ref sh, .ref sg, .int (bI tk), .ref bx, .ref th, .ref tr, .ref ev, .ref stp, .ref mx, .int (bI rl), .ref wa, .ref la, .ref ra, .ref ti])), (sh, .inl (dA 3, 2, .inr (.inr (.inr (.inr (sh2 o0a o0b)))))), (o0a, .inr (2, [.int (nI kda), .ref c1a, .int (nI npa), .ref c2a, .ref c3a, .int (nI nqa)])), (c1a, .inl (dA 0, nsa, .inl fun j => nI (STa j))), (c2a, .inl (dA 0, nxa, .inl fun j => iZ (Xa j))), (c3a, .inl (dA 0, nxa, .inl fun j => iZ (Ya j))), (sg, .inr (3, [.ref e1, .ref e2, .ref e3, .ref e4, .int (nI szs), .int (nI of_)])), (e1, .inl (dA 0, ncs, .inl fun j => iZ (SX j))), (e2, .inl (dA 0, ncs, .inl fun j => iZ (SY j))), (e3, .inl (dA 0, ncs, .inl fun j => iZ (EX j))), (e4, .inl (dA 0, ncs, .inl fun j => iZ (EY j))), (stp, .inr (8, [.int (iZ s1_1), .int (iZ s2_2), .long (lZ s3_3), .long (lZ s4_4), .long (lZ s5_5), .long (lZ s6_6)]))] H := hP
  have hD : va_D A [(o0b, .inr (2, [.int (nI kdb), .ref c1b, .int (nI npb), .ref c2b, .ref c3b, .int (nI nqb)])), (c1b, .inl (dA 0, nsb, .inl fun j => nI (STb j))), (c2b, .inl (dA 0, nxb, .inl fun j => iZ (Xb j))), (c3b, .inl (dA 0, nxb, .inl fun j => iZ (Yb j))), (mx, .inl (dA 0, 9, .inl fun j => iZ (MX j))), (r0, .inr (1, [.ref sh, .ref sg, .int (bI tk), .ref bx, .ref th, .ref tr, .ref ev, .ref stp, .ref mx, .int (bI rl), .ref wa, .ref la, .ref ra, .ref ti])), (sh, .inl (dA 3, 2, .inr (.inr (.inr (.inr (sh2 o0a o0b)))))), (o0a, .inr (2, [.int (nI kda), .ref c1a, .int (nI npa), .ref c2a, .ref c3a, .int (nI nqa)])), (c1a, .inl (dA 0, nsa, .inl fun j => nI (STa j))), (c2a, .inl (dA 0, nxa, .inl fun j => iZ (Xa j))), (c3a, .inl (dA 0, nxa, .inl fun j => iZ (Ya j))), (sg, .inr (3, [.ref e1, .ref e2, .ref e3, .ref e4, .int (nI szs), .int (nI of_)])), (e1, .inl (dA 0, ncs, .inl fun j => iZ (SX j))), (e2, .inl (dA 0, ncs, .inl fun j => iZ (SY j))), (e3, .inl (dA 0, ncs, .inl fun j => iZ (EX j))), (e4, .inl (dA 0, ncs, .inl fun j => iZ (EY j))), (stp, .inr (8, [.int (iZ s1_1), .int (iZ s2_2), .long (lZ s3_3), .long (lZ s4_4), .long (lZ s5_5), .long (lZ s6_6)]))] := hD
  show W _ _ _ _ _ _ _ _ _ _ _ _ 0 0 _ (F0 mG 8 ls [.int (nI (plA kda Xa Ya STa npa nqa SX SY EX EY 0 of_ px py)), .ref r0])
  refine lv_aload_n hx hb dX2_notePlace_8 rfl (lv_at hl 0 rfl) ?_
  refine lv_iconst (v := nI 1) hx hb dX2_notePlace_9 (by decide) ?_
  refine lv_iload_n hx hb dX2_notePlace_10 rfl (lv_at hl 1 rfl) ?_
  refine lv_iload_n hx hb dX2_notePlace_11 rfl (lv_at hl 2 rfl) ?_
  refine zc_wrV (rest := [.int (nI (plA kda Xa Ya STa npa nqa SX SY EX EY 0 of_ px py)), .ref r0]) (wr := [(mx, .inl (dA 0, 9, .inl fun j => iZ (MX j))), (o0a, .inr (2, [.int (nI kda), .ref c1a, .int (nI npa), .ref c2a, .ref c3a, .int (nI nqa)])), (c1a, .inl (dA 0, nsa, .inl fun j => nI (STa j))), (c2a, .inl (dA 0, nxa, .inl fun j => iZ (Xa j))), (c3a, .inl (dA 0, nxa, .inl fun j => iZ (Ya j)))]) ⟨hx, hb, hml, hown, hts⟩ (metX2_placeOf_1 lG D dA r0 sh sg tk bx th tr ev stp mx rl wa la ra ti o0b kdb c1b npb c2b c3b nqb nsb nxb STb Xb Yb o0a e1 e2 e3 e4 szs of_ ncs SX SY EX EY s1_1 s2_2 s3_3 s4_4 s5_5 s6_6 px py (by first | assumption | omega) (by first | assumption | omega) (by first | assumption | omega) (by first | assumption | omega) (by first | assumption | omega) (by first | assumption | omega) (by first | assumption | omega) (by first | assumption | omega) (by first | assumption | omega) (by first | assumption | omega) (by first | assumption | omega) (by first | assumption | omega) (by first | assumption | omega) (by first | assumption | omega)) (cwV 3 hts (lw_V q591 q593 qs16 q72 q594) rfl rfl rfl (by decide +kernel) ⟨Nat.le_of_ble_eq_true rfl, Nat.le_of_ble_eq_true rfl⟩) (va_recv hK.1 hP (ci := 1) (q0 := 5) rfl rfl) hP hK hD hS hA [5, 6, 0, 1, 2, 3, 11, 12, 13, 14, 15, 16] [4, 7, 8, 9, 10] rfl rfl (by decide) (by decide) (by decide) rfl hl.1 rfl (Nat.le_of_ble_eq_true rfl) dX2_notePlace_12 ⟨Nat.zero_le _, Nat.zero_le _⟩ (fun u H locs hp_14 hP hD hS => ?_)
  obtain ⟨s1_8, s2_9, s3_10, s4_11, s5_12, s6_13⟩ := u
  have hP : va_P D zCl [(mx, .inl (dA 0, 9, .inl fun j => iZ (MX j))), (o0a, .inr (2, [.int (nI kda), .ref c1a, .int (nI npa), .ref c2a, .ref c3a, .int (nI nqa)])), (c1a, .inl (dA 0, nsa, .inl fun j => nI (STa j))), (c2a, .inl (dA 0, nxa, .inl fun j => iZ (Xa j))), (c3a, .inl (dA 0, nxa, .inl fun j => iZ (Ya j))), (r0, .inr (1, [.ref sh, .ref sg, .int (bI tk), .ref bx, .ref th, .ref tr, .ref ev, .ref stp, .ref mx, .int (bI rl), .ref wa, .ref la, .ref ra, .ref ti])), (sh, .inl (dA 3, 2, .inr (.inr (.inr (.inr (sh2 o0a o0b)))))), (o0b, .inr (2, [.int (nI kdb), .ref c1b, .int (nI npb), .ref c2b, .ref c3b, .int (nI nqb)])), (c1b, .inl (dA 0, nsb, .inl fun j => nI (STb j))), (c2b, .inl (dA 0, nxb, .inl fun j => iZ (Xb j))), (c3b, .inl (dA 0, nxb, .inl fun j => iZ (Yb j))), (sg, .inr (3, [.ref e1, .ref e2, .ref e3, .ref e4, .int (nI szs), .int (nI of_)])), (e1, .inl (dA 0, ncs, .inl fun j => iZ (SX j))), (e2, .inl (dA 0, ncs, .inl fun j => iZ (SY j))), (e3, .inl (dA 0, ncs, .inl fun j => iZ (EX j))), (e4, .inl (dA 0, ncs, .inl fun j => iZ (EY j))), (stp, .inr (8, [.int (iZ s1_8), .int (iZ s2_9), .long (lZ s3_10), .long (lZ s4_11), .long (lZ s5_12), .long (lZ s6_13)]))] H := hP
  have hD : va_D A [(mx, .inl (dA 0, 9, .inl fun j => iZ (MX j))), (o0a, .inr (2, [.int (nI kda), .ref c1a, .int (nI npa), .ref c2a, .ref c3a, .int (nI nqa)])), (c1a, .inl (dA 0, nsa, .inl fun j => nI (STa j))), (c2a, .inl (dA 0, nxa, .inl fun j => iZ (Xa j))), (c3a, .inl (dA 0, nxa, .inl fun j => iZ (Ya j))), (r0, .inr (1, [.ref sh, .ref sg, .int (bI tk), .ref bx, .ref th, .ref tr, .ref ev, .ref stp, .ref mx, .int (bI rl), .ref wa, .ref la, .ref ra, .ref ti])), (sh, .inl (dA 3, 2, .inr (.inr (.inr (.inr (sh2 o0a o0b)))))), (o0b, .inr (2, [.int (nI kdb), .ref c1b, .int (nI npb), .ref c2b, .ref c3b, .int (nI nqb)])), (c1b, .inl (dA 0, nsb, .inl fun j => nI (STb j))), (c2b, .inl (dA 0, nxb, .inl fun j => iZ (Xb j))), (c3b, .inl (dA 0, nxb, .inl fun j => iZ (Yb j))), (sg, .inr (3, [.ref e1, .ref e2, .ref e3, .ref e4, .int (nI szs), .int (nI of_)])), (e1, .inl (dA 0, ncs, .inl fun j => iZ (SX j))), (e2, .inl (dA 0, ncs, .inl fun j => iZ (SY j))), (e3, .inl (dA 0, ncs, .inl fun j => iZ (EX j))), (e4, .inl (dA 0, ncs, .inl fun j => iZ (EY j))), (stp, .inr (8, [.int (iZ s1_8), .int (iZ s2_9), .long (lZ s3_10), .long (lZ s4_11), .long (lZ s5_12), .long (lZ s6_13)]))] := hD
  show W _ _ _ _ _ _ _ _ _ _ _ _ 0 0 _ (F0 mG 15 ls [.int (nI (plA kdb Xb Yb STb npb nqb SX SY EX EY of_ szs px py)), .int (nI (plA kda Xa Ya STa npa nqa SX SY EX EY 0 of_ px py)), .ref r0])
  refine lv_iconst (v := nI 0) hx hb dX2_notePlace_15 (by decide) ?_
  refine zc_wrV (rest := []) (wr := [(o0a, .inr (2, [.int (nI kda), .ref c1a, .int (nI npa), .ref c2a, .ref c3a, .int (nI nqa)])), (c1a, .inl (dA 0, nsa, .inl fun j => nI (STa j))), (c2a, .inl (dA 0, nxa, .inl fun j => iZ (Xa j))), (c3a, .inl (dA 0, nxa, .inl fun j => iZ (Ya j))), (sh, .inl (dA 3, 2, .inr (.inr (.inr (.inr (sh2 o0a o0b)))))), (o0b, .inr (2, [.int (nI kdb), .ref c1b, .int (nI npb), .ref c2b, .ref c3b, .int (nI nqb)])), (c1b, .inl (dA 0, nsb, .inl fun j => nI (STb j))), (c2b, .inl (dA 0, nxb, .inl fun j => iZ (Xb j))), (c3b, .inl (dA 0, nxb, .inl fun j => iZ (Yb j))), (sg, .inr (3, [.ref e1, .ref e2, .ref e3, .ref e4, .int (nI szs), .int (nI of_)])), (e1, .inl (dA 0, ncs, .inl fun j => iZ (SX j))), (e2, .inl (dA 0, ncs, .inl fun j => iZ (SY j))), (e3, .inl (dA 0, ncs, .inl fun j => iZ (EX j))), (e4, .inl (dA 0, ncs, .inl fun j => iZ (EY j))), (stp, .inr (8, [.int (iZ s1_8), .int (iZ s2_9), .long (lZ s3_10), .long (lZ s4_11), .long (lZ s5_12), .long (lZ s6_13)]))]) ⟨hx, hb, hml, hown, hts⟩ (metX2_note lG D dA r0 sh sg tk bx th tr ev stp mx rl wa la ra ti MX (plA kda Xa Ya STa npa nqa SX SY EX EY 0 of_ px py) (plA kdb Xb Yb STb npb nqb SX SY EX EY of_ szs px py) 0 plA_lt plA_lt (by decide) (by first | assumption | omega)) (cwV 3 hts (lw_V q638 q640 qs18 q72 q641) rfl rfl rfl (by decide +kernel) ⟨Nat.le_of_ble_eq_true rfl, Nat.le_of_ble_eq_true rfl⟩) (va_recv hK.1 hP (ci := 1) (q0 := 5) rfl rfl) hP hK hD hS hA [5, 0] [1, 2, 3, 4, 6, 7, 8, 9, 10, 11, 12, 13, 14, 15, 16] rfl rfl (by decide) (by decide) (by decide) rfl hl.1 rfl (Nat.le_of_ble_eq_true rfl) dX2_notePlace_16 ⟨Nat.zero_le _, Nat.zero_le _⟩ (fun u H locs hp_15 hP hD hS => ?_)
  have hP : va_P D zCl [(o0a, .inr (2, [.int (nI kda), .ref c1a, .int (nI npa), .ref c2a, .ref c3a, .int (nI nqa)])), (c1a, .inl (dA 0, nsa, .inl fun j => nI (STa j))), (c2a, .inl (dA 0, nxa, .inl fun j => iZ (Xa j))), (c3a, .inl (dA 0, nxa, .inl fun j => iZ (Ya j))), (sh, .inl (dA 3, 2, .inr (.inr (.inr (.inr (sh2 o0a o0b)))))), (o0b, .inr (2, [.int (nI kdb), .ref c1b, .int (nI npb), .ref c2b, .ref c3b, .int (nI nqb)])), (c1b, .inl (dA 0, nsb, .inl fun j => nI (STb j))), (c2b, .inl (dA 0, nxb, .inl fun j => iZ (Xb j))), (c3b, .inl (dA 0, nxb, .inl fun j => iZ (Yb j))), (sg, .inr (3, [.ref e1, .ref e2, .ref e3, .ref e4, .int (nI szs), .int (nI of_)])), (e1, .inl (dA 0, ncs, .inl fun j => iZ (SX j))), (e2, .inl (dA 0, ncs, .inl fun j => iZ (SY j))), (e3, .inl (dA 0, ncs, .inl fun j => iZ (EX j))), (e4, .inl (dA 0, ncs, .inl fun j => iZ (EY j))), (stp, .inr (8, [.int (iZ s1_8), .int (iZ s2_9), .long (lZ s3_10), .long (lZ s4_11), .long (lZ s5_12), .long (lZ s6_13)])), (r0, .inr (1, [.ref sh, .ref sg, .int (bI tk), .ref bx, .ref th, .ref tr, .ref ev, .ref stp, .ref mx, .int (bI rl), .ref wa, .ref la, .ref ra, .ref ti])), (mx, .inl (dA 0, 9, .inl fun j => iZ ((noteF MX (plA kda Xa Ya STa npa nqa SX SY EX EY 0 of_ px py) (plA kdb Xb Yb STb npb nqb SX SY EX EY of_ szs px py) 0) j)))] H := hP
  have hD : va_D A [(o0a, .inr (2, [.int (nI kda), .ref c1a, .int (nI npa), .ref c2a, .ref c3a, .int (nI nqa)])), (c1a, .inl (dA 0, nsa, .inl fun j => nI (STa j))), (c2a, .inl (dA 0, nxa, .inl fun j => iZ (Xa j))), (c3a, .inl (dA 0, nxa, .inl fun j => iZ (Ya j))), (sh, .inl (dA 3, 2, .inr (.inr (.inr (.inr (sh2 o0a o0b)))))), (o0b, .inr (2, [.int (nI kdb), .ref c1b, .int (nI npb), .ref c2b, .ref c3b, .int (nI nqb)])), (c1b, .inl (dA 0, nsb, .inl fun j => nI (STb j))), (c2b, .inl (dA 0, nxb, .inl fun j => iZ (Xb j))), (c3b, .inl (dA 0, nxb, .inl fun j => iZ (Yb j))), (sg, .inr (3, [.ref e1, .ref e2, .ref e3, .ref e4, .int (nI szs), .int (nI of_)])), (e1, .inl (dA 0, ncs, .inl fun j => iZ (SX j))), (e2, .inl (dA 0, ncs, .inl fun j => iZ (SY j))), (e3, .inl (dA 0, ncs, .inl fun j => iZ (EX j))), (e4, .inl (dA 0, ncs, .inl fun j => iZ (EY j))), (stp, .inr (8, [.int (iZ s1_8), .int (iZ s2_9), .long (lZ s3_10), .long (lZ s4_11), .long (lZ s5_12), .long (lZ s6_13)])), (r0, .inr (1, [.ref sh, .ref sg, .int (bI tk), .ref bx, .ref th, .ref tr, .ref ev, .ref stp, .ref mx, .int (bI rl), .ref wa, .ref la, .ref ra, .ref ti])), (mx, .inl (dA 0, 9, .inl fun j => iZ ((noteF MX (plA kda Xa Ya STa npa nqa SX SY EX EY 0 of_ px py) (plA kdb Xb Yb STb npb nqb SX SY EX EY of_ szs px py) 0) j)))] := hD
  show W _ _ _ _ _ _ _ _ _ _ _ _ 0 0 _ (F0 mG 19 ls [])
  exact zr_wrV (u := (s1_8, s2_9, s3_10, s4_11, s5_12, s6_13)) rfl trivial (hP.sub [15, 4, 0, 1, 2, 3, 5, 6, 7, 8, 9, 10, 11, 12, 13, 14, 16] rfl) (hD.sub [15, 4, 0, 1, 2, 3, 5, 6, 7, 8, 9, 10, 11, 12, 13, 14, 16] (by decide) rfl) hS hx hb hr hlocks dX2_notePlace_19
set_option maxHeartbeats 4000000 in
set_option maxRecDepth 100000 in
theorem metX2_inOrOut (lG : Launch) (D : va_G) (dA : Nat → ClassId) (b : Bool)  : Ro lG yX2_inOrOut (ws_ yX2_inOrOut cX2_inOrOut 1 (some .int)) 0 0 D dA [.int (bI b)] [] (some (.int (nI (io b)))) := by
  refine Ro.of (by decide) (Nat.le_of_ble_eq_true rfl) ?_
  intro pG eG sG mG bG tG cG ls hx hb hr hml hown hts hlocks hP hK hl
  have hown : sG.vm.findClass RX2 = some mG.cls := hown
  have hl : lv_has ls 1 [(0, .int (bI b))] := hl
  refine lv_iload_n hx hb dX2_inOrOut_0 rfl (lv_at hl 0 rfl) ?_
  refine zb_if_eq (tgt := 8) hx hb dX2_inOrOut_1 (by decide) (fun c_1 => ?_) (fun c_1 => ?_)
  · skip
    refine lv_iconst (v := nI 2) hx hb dX2_inOrOut_8 (by decide) ?_
    exact zr_roI (by unfold io; simp_all) hx hb hr hlocks dX2_inOrOut_9
  · skip
    refine lv_iconst (v := nI 0) hx hb dX2_inOrOut_4 (by decide) ?_
    refine lv_goto (tgt := 9) hx hb dX2_inOrOut_5 (by decide) ?_
    exact zr_roI (by unfold io; simp_all) hx hb hr hlocks dX2_inOrOut_9
set_option maxHeartbeats 4000000 in
set_option maxRecDepth 100000 in
theorem metX2_notePiece (lG : Launch) (D : va_G) (dA : Nat → ClassId) (r0 : Nat) (sh : Nat) (sg : Nat) (tk : Bool) (bx : Nat) (th : Nat) (tr : Nat) (ev : Nat) (stp : Nat) (mx : Nat) (rl : Bool) (wa : Nat) (la : Nat) (ra : Nat) (ti : Nat) (WA : Nat → Nat) (LA : Nat → Bool) (RA : Nat → Bool) (MX : Nat → Int) (hWA : ∀ k, WA k < 3) (hM : mxB MX) : Wr lG yX2_notePiece (ws_ yX2_notePiece cX2_notePiece 1 none) 2 44 D dA [.ref r0] [(r0, .inr (1, [.ref sh, .ref sg, .int (bI tk), .ref bx, .ref th, .ref tr, .ref ev, .ref stp, .ref mx, .int (bI rl), .ref wa, .ref la, .ref ra, .ref ti])), (wa, .inl (dA 0, 2, .inl fun j => nI (WA j))), (la, .inl (dA 2, 2, .inl fun j => bI (LA j))), (ra, .inl (dA 2, 2, .inl fun j => bI (RA j))), (mx, .inl (dA 0, 9, .inl fun j => iZ (MX j)))] 0 0 (fun (_u : Unit) => True) (fun (_u : Unit) => none) (fun (_u : Unit) => [(r0, .inr (1, [.ref sh, .ref sg, .int (bI tk), .ref bx, .ref th, .ref tr, .ref ev, .ref stp, .ref mx, .int (bI rl), .ref wa, .ref la, .ref ra, .ref ti])), (wa, .inl (dA 0, 2, .inl fun j => nI (WA j))), (la, .inl (dA 2, 2, .inl fun j => bI (LA j))), (ra, .inl (dA 2, 2, .inl fun j => bI (RA j))), (mx, .inl (dA 0, 9, .inl fun j => iZ ((noteF (noteF (noteF MX (WA 0) (WA 1) 1) (io (LA 0)) (io (LA 1)) 2) (io (RA 0)) (io (RA 1)) 2) j)))]) := by
  refine Wr.of (by decide) (Nat.le_of_ble_eq_true rfl) ?_
  intro pG eG sG mG bG tG cG ls A hx hb hr hml hown hts hlocks hnm hP hK hD hS hA hl
  have hK1 := hK.1
  have hown : sG.vm.findClass RX2 = some mG.cls := hown
  have hl : lv_has ls 1 [(0, .ref r0)] := hl
  refine lv_aload_n hx hb dX2_notePiece_0 rfl (lv_at hl 0 rfl) ?_
  refine lv_aload_n hx hb dX2_notePiece_1 rfl (lv_at hl 0 rfl) ?_
  refine va_get (D := D) (ci := 1) (v := .ref wa) (C := RX2) (T := TX2) (N := 14) hx hb hts in_X2 hown hK.1 hP 0 rfl rfl 10 (Nat.le_of_ble_eq_true rfl) (hts _ q325) (fun _ h9 => h9) rfl dX2_notePiece_2 ?_
  refine lv_iconst (v := nI 0) hx hb dX2_notePiece_5 (by decide) ?_
  refine zn_iaload (f := WA) (i := 0) hx hb hK.1 hP 1 0 rfl rfl (by omega) (by decide) dX2_notePiece_6 ?_
  refine lv_aload_n hx hb dX2_notePiece_7 rfl (lv_at hl 0 rfl) ?_
  refine va_get (D := D) (ci := 1) (v := .ref wa) (C := RX2) (T := TX2) (N := 14) hx hb hts in_X2 hown hK.1 hP 0 rfl rfl 10 (Nat.le_of_ble_eq_true rfl) (hts _ q325) (fun _ h9 => h9) rfl dX2_notePiece_8 ?_
  refine lv_iconst (v := nI 1) hx hb dX2_notePiece_11 (by decide) ?_
  refine zn_iaload (f := WA) (i := 1) hx hb hK.1 hP 1 0 rfl rfl (by omega) (by decide) dX2_notePiece_12 ?_
  refine lv_iconst (v := nI 1) hx hb dX2_notePiece_13 (by decide) ?_
  refine zc_wrV (rest := []) (wr := [(wa, .inl (dA 0, 2, .inl fun j => nI (WA j))), (la, .inl (dA 2, 2, .inl fun j => bI (LA j))), (ra, .inl (dA 2, 2, .inl fun j => bI (RA j)))]) ⟨hx, hb, hml, hown, hts⟩ (metX2_note lG D dA r0 sh sg tk bx th tr ev stp mx rl wa la ra ti MX (WA 0) (WA 1) 1 (hWA _) (hWA _) (by decide) (by first | assumption | omega)) (cwV 3 hts (lw_V q638 q640 qs18 q72 q641) rfl rfl rfl (by decide +kernel) ⟨Nat.le_of_ble_eq_true rfl, Nat.le_of_ble_eq_true rfl⟩) (va_recv hK.1 hP (ci := 1) (q0 := 0) rfl rfl) hP hK hD hS hA [0, 4] [1, 2, 3] rfl rfl (by decide) (by decide) (by decide) rfl hl.1 rfl (Nat.le_of_ble_eq_true rfl) dX2_notePiece_14 ⟨Nat.zero_le _, Nat.zero_le _⟩ (fun u H locs hp_1 hP hD hS => ?_)
  have hP : va_P D zCl [(wa, .inl (dA 0, 2, .inl fun j => nI (WA j))), (la, .inl (dA 2, 2, .inl fun j => bI (LA j))), (ra, .inl (dA 2, 2, .inl fun j => bI (RA j))), (r0, .inr (1, [.ref sh, .ref sg, .int (bI tk), .ref bx, .ref th, .ref tr, .ref ev, .ref stp, .ref mx, .int (bI rl), .ref wa, .ref la, .ref ra, .ref ti])), (mx, .inl (dA 0, 9, .inl fun j => iZ ((noteF MX (WA 0) (WA 1) 1) j)))] H := hP
  have hD : va_D A [(wa, .inl (dA 0, 2, .inl fun j => nI (WA j))), (la, .inl (dA 2, 2, .inl fun j => bI (LA j))), (ra, .inl (dA 2, 2, .inl fun j => bI (RA j))), (r0, .inr (1, [.ref sh, .ref sg, .int (bI tk), .ref bx, .ref th, .ref tr, .ref ev, .ref stp, .ref mx, .int (bI rl), .ref wa, .ref la, .ref ra, .ref ti])), (mx, .inl (dA 0, 9, .inl fun j => iZ ((noteF MX (WA 0) (WA 1) 1) j)))] := hD
  show W _ _ _ _ _ _ _ _ _ _ _ _ 0 0 _ (F0 mG 17 ls [])
  refine lv_aload_n hx hb dX2_notePiece_17 rfl (lv_at hl 0 rfl) ?_
  refine lv_aload_n hx hb dX2_notePiece_18 rfl (lv_at hl 0 rfl) ?_
  refine va_get (D := D) (ci := 1) (v := .ref la) (C := RX2) (T := TX2) (N := 14) hx hb hts in_X2 hown hK.1 hP 3 rfl rfl 11 (Nat.le_of_ble_eq_true rfl) (hts _ q326) (fun _ h9 => h9) rfl dX2_notePiece_19 ?_
  refine lv_iconst (v := nI 0) hx hb dX2_notePiece_22 (by decide) ?_
  refine zb_baload (f := LA) (i := 0) hx hb hK.1 hP 1 2 rfl rfl (by omega) (by decide) dX2_notePiece_23 ?_
  refine zc_roS (v := .int (nI (io (LA 0)))) (rest := [.ref r0]) ⟨hx, hb, hml, hown, hts⟩ (metX2_inOrOut lG D dA (LA 0) ) (va_cwS 1 hts (lw_S q665 q666 q72 q667) rfl rfl rfl (by decide +kernel) ⟨Nat.le_of_ble_eq_true rfl, Nat.le_of_ble_eq_true rfl⟩) (hP.sub [] rfl) hK rfl hl.1 rfl (Nat.le_of_ble_eq_true rfl) dX2_notePiece_24 ⟨Nat.zero_le _, Nat.zero_le _⟩ ?_
  refine lv_aload_n hx hb dX2_notePiece_27 rfl (lv_at hl 0 rfl) ?_
  refine va_get (D := D) (ci := 1) (v := .ref la) (C := RX2) (T := TX2) (N := 14) hx hb hts in_X2 hown hK.1 hP 3 rfl rfl 11 (Nat.le_of_ble_eq_true rfl) (hts _ q326) (fun _ h9 => h9) rfl dX2_notePiece_28 ?_
  refine lv_iconst (v := nI 1) hx hb dX2_notePiece_31 (by decide) ?_
  refine zb_baload (f := LA) (i := 1) hx hb hK.1 hP 1 2 rfl rfl (by omega) (by decide) dX2_notePiece_32 ?_
  refine zc_roS (v := .int (nI (io (LA 1)))) (rest := [.int (nI (io (LA 0))), .ref r0]) ⟨hx, hb, hml, hown, hts⟩ (metX2_inOrOut lG D dA (LA 1) ) (va_cwS 1 hts (lw_S q665 q666 q72 q667) rfl rfl rfl (by decide +kernel) ⟨Nat.le_of_ble_eq_true rfl, Nat.le_of_ble_eq_true rfl⟩) (hP.sub [] rfl) hK rfl hl.1 rfl (Nat.le_of_ble_eq_true rfl) dX2_notePiece_33 ⟨Nat.zero_le _, Nat.zero_le _⟩ ?_
  refine lv_iconst (v := nI 2) hx hb dX2_notePiece_36 (by decide) ?_
  refine zc_wrV (rest := []) (wr := [(wa, .inl (dA 0, 2, .inl fun j => nI (WA j))), (la, .inl (dA 2, 2, .inl fun j => bI (LA j))), (ra, .inl (dA 2, 2, .inl fun j => bI (RA j)))]) ⟨hx, hb, hml, hown, hts⟩ (metX2_note lG D dA r0 sh sg tk bx th tr ev stp mx rl wa la ra ti (noteF MX (WA 0) (WA 1) 1) (io (LA 0)) (io (LA 1)) 2 io_lt io_lt (by decide) (mxB_note hM (by decide))) (cwV 3 hts (lw_V q638 q640 qs18 q72 q641) rfl rfl rfl (by decide +kernel) ⟨Nat.le_of_ble_eq_true rfl, Nat.le_of_ble_eq_true rfl⟩) (va_recv hK.1 hP (ci := 1) (q0 := 3) rfl rfl) hP hK hD hS hA [3, 4] [0, 1, 2] rfl rfl (by decide) (by decide) (by decide) rfl hl.1 rfl (Nat.le_of_ble_eq_true rfl) dX2_notePiece_37 ⟨Nat.zero_le _, Nat.zero_le _⟩ (fun u H locs hp_2 hP hD hS => ?_)
  have hP : va_P D zCl [(wa, .inl (dA 0, 2, .inl fun j => nI (WA j))), (la, .inl (dA 2, 2, .inl fun j => bI (LA j))), (ra, .inl (dA 2, 2, .inl fun j => bI (RA j))), (r0, .inr (1, [.ref sh, .ref sg, .int (bI tk), .ref bx, .ref th, .ref tr, .ref ev, .ref stp, .ref mx, .int (bI rl), .ref wa, .ref la, .ref ra, .ref ti])), (mx, .inl (dA 0, 9, .inl fun j => iZ ((noteF (noteF MX (WA 0) (WA 1) 1) (io (LA 0)) (io (LA 1)) 2) j)))] H := hP
  have hD : va_D A [(wa, .inl (dA 0, 2, .inl fun j => nI (WA j))), (la, .inl (dA 2, 2, .inl fun j => bI (LA j))), (ra, .inl (dA 2, 2, .inl fun j => bI (RA j))), (r0, .inr (1, [.ref sh, .ref sg, .int (bI tk), .ref bx, .ref th, .ref tr, .ref ev, .ref stp, .ref mx, .int (bI rl), .ref wa, .ref la, .ref ra, .ref ti])), (mx, .inl (dA 0, 9, .inl fun j => iZ ((noteF (noteF MX (WA 0) (WA 1) 1) (io (LA 0)) (io (LA 1)) 2) j)))] := hD
  show W _ _ _ _ _ _ _ _ _ _ _ _ 0 0 _ (F0 mG 40 ls [])
  refine lv_aload_n hx hb dX2_notePiece_40 rfl (lv_at hl 0 rfl) ?_
  refine lv_aload_n hx hb dX2_notePiece_41 rfl (lv_at hl 0 rfl) ?_
  refine va_get (D := D) (ci := 1) (v := .ref ra) (C := RX2) (T := TX2) (N := 14) hx hb hts in_X2 hown hK.1 hP 3 rfl rfl 12 (Nat.le_of_ble_eq_true rfl) (hts _ q327) (fun _ h9 => h9) rfl dX2_notePiece_42 ?_
  refine lv_iconst (v := nI 0) hx hb dX2_notePiece_45 (by decide) ?_
  refine zb_baload (f := RA) (i := 0) hx hb hK.1 hP 2 2 rfl rfl (by omega) (by decide) dX2_notePiece_46 ?_
  refine zc_roS (v := .int (nI (io (RA 0)))) (rest := [.ref r0]) ⟨hx, hb, hml, hown, hts⟩ (metX2_inOrOut lG D dA (RA 0) ) (va_cwS 1 hts (lw_S q665 q666 q72 q667) rfl rfl rfl (by decide +kernel) ⟨Nat.le_of_ble_eq_true rfl, Nat.le_of_ble_eq_true rfl⟩) (hP.sub [] rfl) hK rfl hl.1 rfl (Nat.le_of_ble_eq_true rfl) dX2_notePiece_47 ⟨Nat.zero_le _, Nat.zero_le _⟩ ?_
  refine lv_aload_n hx hb dX2_notePiece_50 rfl (lv_at hl 0 rfl) ?_
  refine va_get (D := D) (ci := 1) (v := .ref ra) (C := RX2) (T := TX2) (N := 14) hx hb hts in_X2 hown hK.1 hP 3 rfl rfl 12 (Nat.le_of_ble_eq_true rfl) (hts _ q327) (fun _ h9 => h9) rfl dX2_notePiece_51 ?_
  refine lv_iconst (v := nI 1) hx hb dX2_notePiece_54 (by decide) ?_
  refine zb_baload (f := RA) (i := 1) hx hb hK.1 hP 2 2 rfl rfl (by omega) (by decide) dX2_notePiece_55 ?_
  refine zc_roS (v := .int (nI (io (RA 1)))) (rest := [.int (nI (io (RA 0))), .ref r0]) ⟨hx, hb, hml, hown, hts⟩ (metX2_inOrOut lG D dA (RA 1) ) (va_cwS 1 hts (lw_S q665 q666 q72 q667) rfl rfl rfl (by decide +kernel) ⟨Nat.le_of_ble_eq_true rfl, Nat.le_of_ble_eq_true rfl⟩) (hP.sub [] rfl) hK rfl hl.1 rfl (Nat.le_of_ble_eq_true rfl) dX2_notePiece_56 ⟨Nat.zero_le _, Nat.zero_le _⟩ ?_
  refine lv_iconst (v := nI 2) hx hb dX2_notePiece_59 (by decide) ?_
  refine zc_wrV (rest := []) (wr := [(wa, .inl (dA 0, 2, .inl fun j => nI (WA j))), (la, .inl (dA 2, 2, .inl fun j => bI (LA j))), (ra, .inl (dA 2, 2, .inl fun j => bI (RA j)))]) ⟨hx, hb, hml, hown, hts⟩ (metX2_note lG D dA r0 sh sg tk bx th tr ev stp mx rl wa la ra ti (noteF (noteF MX (WA 0) (WA 1) 1) (io (LA 0)) (io (LA 1)) 2) (io (RA 0)) (io (RA 1)) 2 io_lt io_lt (by decide) (mxB_note (mxB_note hM (by decide)) (by decide))) (cwV 3 hts (lw_V q638 q640 qs18 q72 q641) rfl rfl rfl (by decide +kernel) ⟨Nat.le_of_ble_eq_true rfl, Nat.le_of_ble_eq_true rfl⟩) (va_recv hK.1 hP (ci := 1) (q0 := 3) rfl rfl) hP hK hD hS hA [3, 4] [0, 1, 2] rfl rfl (by decide) (by decide) (by decide) rfl hl.1 rfl (Nat.le_of_ble_eq_true rfl) dX2_notePiece_60 ⟨Nat.zero_le _, Nat.zero_le _⟩ (fun u H locs hp_3 hP hD hS => ?_)
  have hP : va_P D zCl [(wa, .inl (dA 0, 2, .inl fun j => nI (WA j))), (la, .inl (dA 2, 2, .inl fun j => bI (LA j))), (ra, .inl (dA 2, 2, .inl fun j => bI (RA j))), (r0, .inr (1, [.ref sh, .ref sg, .int (bI tk), .ref bx, .ref th, .ref tr, .ref ev, .ref stp, .ref mx, .int (bI rl), .ref wa, .ref la, .ref ra, .ref ti])), (mx, .inl (dA 0, 9, .inl fun j => iZ ((noteF (noteF (noteF MX (WA 0) (WA 1) 1) (io (LA 0)) (io (LA 1)) 2) (io (RA 0)) (io (RA 1)) 2) j)))] H := hP
  have hD : va_D A [(wa, .inl (dA 0, 2, .inl fun j => nI (WA j))), (la, .inl (dA 2, 2, .inl fun j => bI (LA j))), (ra, .inl (dA 2, 2, .inl fun j => bI (RA j))), (r0, .inr (1, [.ref sh, .ref sg, .int (bI tk), .ref bx, .ref th, .ref tr, .ref ev, .ref stp, .ref mx, .int (bI rl), .ref wa, .ref la, .ref ra, .ref ti])), (mx, .inl (dA 0, 9, .inl fun j => iZ ((noteF (noteF (noteF MX (WA 0) (WA 1) 1) (io (LA 0)) (io (LA 1)) 2) (io (RA 0)) (io (RA 1)) 2) j)))] := hD
  show W _ _ _ _ _ _ _ _ _ _ _ _ 0 0 _ (F0 mG 63 ls [])
  exact zr_wrV (u := ()) rfl trivial (hP.sub [3, 0, 1, 2, 4] rfl) (hD.sub [3, 0, 1, 2, 4] (by decide) rfl) hS hx hb hr hlocks dX2_notePiece_63
