/-! Model: where a place is (printed by wip gen/c61.py) -/
def mX (x0 dx V0 V1 v : Int) : Int := Int.sign ((x0 - v) * V1 + dx * V0)
def mS (x0 y0 dx dy V0 V1 px py qx qy : Int) : Int := Int.sign (((qx - px) * (y0 - py) - (qy - py) * (x0 - px)) * V1 + ((qx - px) * dy - (qy - py) * dx) * V0)
def ptM (x0 y0 dx dy V0 V1 px py : Int) : Bool := decide (mX x0 dx V0 V1 px = 0) && decide (mX y0 dy V0 V1 py = 0)
def onM (x0 y0 dx dy V0 V1 px py qx qy : Int) : Bool := decide (mX x0 dx V0 V1 px * mX x0 dx V0 V1 qx ≤ 0) && decide (mX y0 dy V0 V1 py * mX y0 dy V0 V1 qy ≤ 0) && decide (mS x0 y0 dx dy V0 V1 px py qx qy = 0)
def crM (x0 y0 dx dy V0 V1 px py qx qy : Int) : Bool :=
  if mX y0 dy V0 V1 py < 0 then (if mX y0 dy V0 V1 qy < 0 then false else decide (0 < mS x0 y0 dx dy V0 V1 qx qy px py))
  else (if mX y0 dy V0 V1 qy < 0 then decide (0 < mS x0 y0 dx dy V0 V1 px py qx qy) else false)
theorem mX_I {x0 dx V0 V1 v : Int} : inI (mX x0 dx V0 V1 v) := sign_I _
theorem mS_I {x0 y0 dx dy V0 V1 px py qx qy : Int} : inI (mS x0 y0 dx dy V0 V1 px py qx qy) := sign_I _
theorem sign_b (z : Int) : -1 ≤ Int.sign z ∧ Int.sign z ≤ 1 := by
  rcases Int.lt_trichotomy z 0 with h | h | h
  · rw [Int.sign_eq_neg_one_of_neg h]; exact ⟨by decide, by decide⟩
  · rw [h]; exact ⟨by decide, by decide⟩
  · rw [Int.sign_eq_one_of_pos h]; exact ⟨by decide, by decide⟩
theorem mXX_I {x0 dx V0 V1 v w : Int} : inI (mX x0 dx V0 V1 v * mX x0 dx V0 V1 w) := by
  have := mul_bd (A := 1) (B := 1) (sign_b ((x0 - v) * V1 + dx * V0)) (sign_b ((x0 - w) * V1 + dx * V0)) (by decide) (by decide)
  have h1 : -1 ≤ mX x0 dx V0 V1 v * mX x0 dx V0 V1 w := this.1
  have h2 : mX x0 dx V0 V1 v * mX x0 dx V0 V1 w ≤ 1 := this.2
  exact ⟨by omega, by omega⟩
def cntR (f : Nat → Bool) : Nat → Nat
  | 0 => 0
  | k + 1 => cntR f k + (f k).toNat
theorem cntR_le (f : Nat → Bool) : ∀ n, cntR f n ≤ n
  | 0 => Nat.le_refl _
  | n + 1 => by rw [cntR]; have := cntR_le f n; have := Bool.toNat_le (f n); omega
theorem cnt_t {f : Nat → Bool} {k n : Nat} (h : n = cntR f k) (hf : f k = true) : n + 1 = cntR f (k + 1) := by rw [cntR, ← h, hf]; rfl
theorem cnt_f {f : Nat → Bool} {k n : Nat} (h : n = cntR f k) (hf : f k = false) : n + 0 = cntR f (k + 1) := by rw [cntR, ← h, hf]; rfl
section MK
variable (x0 y0 dx dy V0 V1 : Int) (XS YS : Nat → Int) (FM TM WO : Nat → Nat)
def ptK (k : Nat) : Bool := ptM x0 y0 dx dy V0 V1 (XS k) (YS k)
def onK (k : Nat) : Bool := onM x0 y0 dx dy V0 V1 (XS (FM k)) (YS (FM k)) (XS (TM k)) (YS (TM k))
def crK (k : Nat) : Bool := crM x0 y0 dx dy V0 V1 (XS (FM k)) (YS (FM k)) (XS (TM k)) (YS (TM k))
def hvF (s k : Nat) : Bool := decide (WO k = s) && onK x0 y0 dx dy V0 V1 XS YS FM TM k
def cdF (s k : Nat) : Bool := decide (WO k = s) && (!onK x0 y0 dx dy V0 V1 XS YS FM TM k && crK x0 y0 dx dy V0 V1 XS YS FM TM k)
end MK
section MK2
variable {x0 y0 dx dy V0 V1 : Int} {XS YS : Nat → Int} {FM TM WO : Nat → Nat} {s k : Nat}
theorem hv_w (h : WO k ≠ s) : hvF x0 y0 dx dy V0 V1 XS YS FM TM WO s k = false := by unfold hvF; rw [decide_eq_false h]; rfl
theorem hv_o (h : WO k = s) {b : Bool} (ho : onK x0 y0 dx dy V0 V1 XS YS FM TM k = b) : hvF x0 y0 dx dy V0 V1 XS YS FM TM WO s k = b := by unfold hvF; rw [decide_eq_true h, ho]; rfl
theorem cd_w (h : WO k ≠ s) : cdF x0 y0 dx dy V0 V1 XS YS FM TM WO s k = false := by unfold cdF; rw [decide_eq_false h]; rfl
theorem cd_o (h : WO k = s) (ho : onK x0 y0 dx dy V0 V1 XS YS FM TM k = true) : cdF x0 y0 dx dy V0 V1 XS YS FM TM WO s k = false := by unfold cdF; rw [decide_eq_true h, ho]; rfl
theorem cd_c (h : WO k = s) (ho : onK x0 y0 dx dy V0 V1 XS YS FM TM k = false) {b : Bool} (hc : crK x0 y0 dx dy V0 V1 XS YS FM TM k = b) : cdF x0 y0 dx dy V0 V1 XS YS FM TM WO s k = b := by unfold cdF; rw [decide_eq_true h, ho, hc]; rfl
end MK2
def bgF (BG : Nat → Nat) (s p : Nat) : Nat := 2048 * s + BG (1025 * s + p)
def enF (BG PN PT : Nat → Nat) (s p : Nat) : Nat := 2048 * s + (if p + 1 < PN s then BG (1025 * s + p + 1) else PT s)
/-- how often a place is an end of one of the first parts -/
def enM (isP : Nat → Bool) (BG PN PT : Nat → Nat) (s : Nat) : Nat → Nat
  | 0 => 0
  | p + 1 => enM isP BG PN PT s p + (if bgF BG s p < enF BG PN PT s p then (isP (bgF BG s p)).toNat + (isP (enF BG PN PT s p - 1)).toNat else 0)
theorem enM_le {isP : Nat → Bool} {BG PN PT : Nat → Nat} {s : Nat} : ∀ p, enM isP BG PN PT s p ≤ 2 * p
  | 0 => Nat.le_refl _
  | p + 1 => by
    have ih := enM_le (isP := isP) (BG := BG) (PN := PN) (PT := PT) (s := s) p
    rw [enM]; split
    · have h1 := Bool.toNat_le (isP (bgF BG s p)); have h2 := Bool.toNat_le (isP (enF BG PN PT s p - 1)); omega
    · omega
theorem en_skip {isP : Nat → Bool} {BG PN PT : Nat → Nat} {s p n : Nat} (h : n = enM isP BG PN PT s p) (hc : ¬ bgF BG s p < enF BG PN PT s p) : n = enM isP BG PN PT s (p + 1) := by rw [enM, if_neg hc, ← h]; rfl
theorem en_step {isP : Nat → Bool} {BG PN PT : Nat → Nat} {s p n a b : Nat} (h : n = enM isP BG PN PT s p) (hc : bgF BG s p < enF BG PN PT s p) (ha : (isP (bgF BG s p)).toNat = a) (hb : (isP (enF BG PN PT s p - 1)).toNat = b) : n + (a + b) = enM isP BG PN PT s (p + 1) := by rw [enM, if_pos hc, ← h, ha, hb]
/-- where the place at hand is, of a shape -/
def whM (x0 y0 dx dy V0 V1 : Int) (XS YS : Nat → Int) (FM TM WO KD PT PN BG : Nat → Nat) (n s : Nat) : Nat :=
  if KD s = 1 then (if exR (ptK x0 y0 dx dy V0 V1 XS YS) (2048 * s) (2048 * s + PT s) then 0 else 2)
  else if KD s = 2 then (if enM (ptK x0 y0 dx dy V0 V1 XS YS) BG PN PT s (PN s) % 2 = 1 then 1 else if 0 < cntR (hvF x0 y0 dx dy V0 V1 XS YS FM TM WO s) n then 0 else 2)
  else if 0 < cntR (hvF x0 y0 dx dy V0 V1 XS YS FM TM WO s) n then 1
  else if cntR (cdF x0 y0 dx dy V0 V1 XS YS FM TM WO s) n % 2 = 1 then 0 else 2
theorem whM_lt {x0 y0 dx dy V0 V1 : Int} {XS YS : Nat → Int} {FM TM WO KD PT PN BG : Nat → Nat} {n s : Nat} : whM x0 y0 dx dy V0 V1 XS YS FM TM WO KD PT PN BG n s < 3 := by
  unfold whM; split
  · split <;> omega
  · split
    · split
      · omega
      · split <;> omega
    · split
      · omega
      · split <;> omega
set_option maxHeartbeats 4000000 in
set_option maxRecDepth 100000 in
theorem metX10_overX (lG : Launch) (D : va_G) (dA : Nat → ClassId) (m0 : Nat) (thr : Nat) (kn : Nat) (pt : Nat) (pa : Nat) (bg : Nat) (xs_ : Nat) (ys_ : Nat) (sgm : Nat) (fr_ : Nat) (tw : Nat) (wo_ : Nat) (mt : Nat) (ha_ : Nat) (x0 : Int) (y0 : Int) (dx : Int) (dy : Int) (zz : Nat) (ct : Nat) (ov : Nat) (un : Nat) (ZZ : Nat → Int) (V0 : Int) (V1 : Int) (v : Int) (hp : ptOK ZZ V0 V1) (hx0 : cB x0) (hy0 : cB y0) (hdx : dB dx) (hdy : dB dy) (hv : cB v) : Wr lG yX10_overX (ws_ yX10_overX cX10_overX 3 (some .int)) 3 75 D dA [.ref m0, .long (lZ v)] [(m0, .inr (9, [.int (nI thr), .ref kn, .ref pt, .ref pa, .ref bg, .ref xs_, .ref ys_, .int (nI sgm), .ref fr_, .ref tw, .ref wo_, .ref mt, .ref ha_, .long (lZ x0), .long (lZ y0), .long (lZ dx), .long (lZ dy), .ref zz, .int (nI ct), .ref ov, .ref un])), (zz, .inl (dA 1, 192, .inr (.inl fun j => lZ (ZZ j))))] 0 0 (fun (u : (Nat → Int)) => let ZZ2 := u; ptOK ZZ2 V0 V1) (fun (u : (Nat → Int)) => let ZZ2 := u; some (.int (iZ (mX x0 dx V0 V1 v)))) (fun (u : (Nat → Int)) => let ZZ2 := u; [(m0, .inr (9, [.int (nI thr), .ref kn, .ref pt, .ref pa, .ref bg, .ref xs_, .ref ys_, .int (nI sgm), .ref fr_, .ref tw, .ref wo_, .ref mt, .ref ha_, .long (lZ x0), .long (lZ y0), .long (lZ dx), .long (lZ dy), .ref zz, .int (nI ct), .ref ov, .ref un])), (zz, .inl (dA 1, 192, .inr (.inl fun j => lZ (ZZ2 j))))]) := by
  refine Wr.of (by decide) (Nat.le_of_ble_eq_true rfl) ?_
  intro pG eG sG mG bG tG cG ls A hx hb hr hml hown hts hlocks hnm hP hK hD hS hA hl
  have hK1 := hK.1
  have hown : sG.vm.findClass RX10 = some mG.cls := hown
  have hl : lv_has ls 3 [(0, .ref m0), (1, .long (lZ v))] := hl
  refine lv_aload_n hx hb dX10_overX_0 rfl (lv_at hl 0 rfl) ?_
  refine lv_aload_n hx hb dX10_overX_1 rfl (lv_at hl 0 rfl) ?_
  refine va_get (D := D) (ci := 9) (v := .long (lZ x0)) (C := RX10) (T := TX10) (N := 21) hx hb hts in_X10 hown hK.1 hP 0 rfl rfl 13 (Nat.le_of_ble_eq_true rfl) (hts _ q982) (fun _ h9 => h9) rfl dX10_overX_2 ?_
  refine lv_lload_n hx hb dX10_overX_5 rfl (lv_at hl 1 rfl) ?_
  refine zz_lsub hx hb dX10_overX_6 ?_
  refine lv_aload_n hx hb dX10_overX_7 rfl (lv_at hl 0 rfl) ?_
  refine va_get (D := D) (ci := 9) (v := .long (lZ dx)) (C := RX10) (T := TX10) (N := 21) hx hb hts in_X10 hown hK.1 hP 0 rfl rfl 15 (Nat.le_of_ble_eq_true rfl) (hts _ q984) (fun _ h9 => h9) rfl dX10_overX_8 ?_
  refine zc_wrV (rest := []) (wr := []) ⟨hx, hb, hml, hown, hts⟩ (metX10_sgn lG D dA m0 thr kn pt pa bg xs_ ys_ sgm fr_ tw wo_ mt ha_ x0 y0 dx dy zz ct ov un ZZ V0 V1 (x0 - v) dx (by first | assumption | omega) ((hx0.sub hv).l) (hdx.l)) (cwV 2 hts (lw_V q1126 q1128 qs44 q80 q1129) rfl rfl rfl (by decide +kernel) ⟨Nat.le_of_ble_eq_true rfl, Nat.le_of_ble_eq_true rfl⟩) (va_recv hK.1 hP (ci := 9) (q0 := 0) rfl rfl) hP hK hD hS hA [0, 1] [] rfl rfl (by decide) (by decide) (by decide) rfl hl.1 rfl (Nat.le_of_ble_eq_true rfl) dX10_overX_11 ⟨Nat.zero_le _, Nat.zero_le _⟩ (fun u H locs hp_2 hP hD hS => ?_)
  obtain ⟨ZZ2_1, rfl⟩ : ∃ z, z = u := ⟨_, rfl⟩
  have hP : va_P D zCl [(m0, .inr (9, [.int (nI thr), .ref kn, .ref pt, .ref pa, .ref bg, .ref xs_, .ref ys_, .int (nI sgm), .ref fr_, .ref tw, .ref wo_, .ref mt, .ref ha_, .long (lZ x0), .long (lZ y0), .long (lZ dx), .long (lZ dy), .ref zz, .int (nI ct), .ref ov, .ref un])), (zz, .inl (dA 1, 192, .inr (.inl fun j => lZ (ZZ2_1 j))))] H := hP
  have hD : va_D A [(m0, .inr (9, [.int (nI thr), .ref kn, .ref pt, .ref pa, .ref bg, .ref xs_, .ref ys_, .int (nI sgm), .ref fr_, .ref tw, .ref wo_, .ref mt, .ref ha_, .long (lZ x0), .long (lZ y0), .long (lZ dx), .long (lZ dy), .ref zz, .int (nI ct), .ref ov, .ref un])), (zz, .inl (dA 1, 192, .inr (.inl fun j => lZ (ZZ2_1 j))))] := hD
  have hp_2 : ptOK ZZ2_1 V0 V1 := hp_2
  show W _ _ _ _ _ _ _ _ _ _ _ _ 0 0 _ (F0 mG 14 ls [.int (iZ (Int.sign ((x0 - v) * V1 + dx * V0)))])
  exact zr_wrI (u := (ZZ2_1)) rfl (show ptOK ZZ2_1 V0 V1 from (by first | assumption | omega)) (hP.sub [0, 1] rfl) (hD.sub [0, 1] (by decide) rfl) hS hx hb hr hlocks dX10_overX_14
set_option maxHeartbeats 4000000 in
set_option maxRecDepth 100000 in
theorem metX10_overY (lG : Launch) (D : va_G) (dA : Nat → ClassId) (m0 : Nat) (thr : Nat) (kn : Nat) (pt : Nat) (pa : Nat) (bg : Nat) (xs_ : Nat) (ys_ : Nat) (sgm : Nat) (fr_ : Nat) (tw : Nat) (wo_ : Nat) (mt : Nat) (ha_ : Nat) (x0 : Int) (y0 : Int) (dx : Int) (dy : Int) (zz : Nat) (ct : Nat) (ov : Nat) (un : Nat) (ZZ : Nat → Int) (V0 : Int) (V1 : Int) (v : Int) (hp : ptOK ZZ V0 V1) (hx0 : cB x0) (hy0 : cB y0) (hdx : dB dx) (hdy : dB dy) (hv : cB v) : Wr lG yX10_overY (ws_ yX10_overY cX10_overY 3 (some .int)) 3 75 D dA [.ref m0, .long (lZ v)] [(m0, .inr (9, [.int (nI thr), .ref kn, .ref pt, .ref pa, .ref bg, .ref xs_, .ref ys_, .int (nI sgm), .ref fr_, .ref tw, .ref wo_, .ref mt, .ref ha_, .long (lZ x0), .long (lZ y0), .long (lZ dx), .long (lZ dy), .ref zz, .int (nI ct), .ref ov, .ref un])), (zz, .inl (dA 1, 192, .inr (.inl fun j => lZ (ZZ j))))] 0 0 (fun (u : (Nat → Int)) => let ZZ2 := u; ptOK ZZ2 V0 V1) (fun (u : (Nat → Int)) => let ZZ2 := u; some (.int (iZ (mX y0 dy V0 V1 v)))) (fun (u : (Nat → Int)) => let ZZ2 := u; [(m0, .inr (9, [.int (nI thr), .ref kn, .ref pt, .ref pa, .ref bg, .ref xs_, .ref ys_, .int (nI sgm), .ref fr_, .ref tw, .ref wo_, .ref mt, .ref ha_, .long (lZ x0), .long (lZ y0), .long (lZ dx), .long (lZ dy), .ref zz, .int (nI ct), .ref ov, .ref un])), (zz, .inl (dA 1, 192, .inr (.inl fun j => lZ (ZZ2 j))))]) := by
  refine Wr.of (by decide) (Nat.le_of_ble_eq_true rfl) ?_
  intro pG eG sG mG bG tG cG ls A hx hb hr hml hown hts hlocks hnm hP hK hD hS hA hl
  have hK1 := hK.1
  have hown : sG.vm.findClass RX10 = some mG.cls := hown
  have hl : lv_has ls 3 [(0, .ref m0), (1, .long (lZ v))] := hl
  refine lv_aload_n hx hb dX10_overY_0 rfl (lv_at hl 0 rfl) ?_
  refine lv_aload_n hx hb dX10_overY_1 rfl (lv_at hl 0 rfl) ?_
  refine va_get (D := D) (ci := 9) (v := .long (lZ y0)) (C := RX10) (T := TX10) (N := 21) hx hb hts in_X10 hown hK.1 hP 0 rfl rfl 14 (Nat.le_of_ble_eq_true rfl) (hts _ q983) (fun _ h9 => h9) rfl dX10_overY_2 ?_
  refine lv_lload_n hx hb dX10_overY_5 rfl (lv_at hl 1 rfl) ?_
  refine zz_lsub hx hb dX10_overY_6 ?_
  refine lv_aload_n hx hb dX10_overY_7 rfl (lv_at hl 0 rfl) ?_
  refine va_get (D := D) (ci := 9) (v := .long (lZ dy)) (C := RX10) (T := TX10) (N := 21) hx hb hts in_X10 hown hK.1 hP 0 rfl rfl 16 (Nat.le_of_ble_eq_true rfl) (hts _ q985) (fun _ h9 => h9) rfl dX10_overY_8 ?_
  refine zc_wrV (rest := []) (wr := []) ⟨hx, hb, hml, hown, hts⟩ (metX10_sgn lG D dA m0 thr kn pt pa bg xs_ ys_ sgm fr_ tw wo_ mt ha_ x0 y0 dx dy zz ct ov un ZZ V0 V1 (y0 - v) dy (by first | assumption | omega) ((hy0.sub hv).l) (hdy.l)) (cwV 2 hts (lw_V q1126 q1128 qs44 q80 q1129) rfl rfl rfl (by decide +kernel) ⟨Nat.le_of_ble_eq_true rfl, Nat.le_of_ble_eq_true rfl⟩) (va_recv hK.1 hP (ci := 9) (q0 := 0) rfl rfl) hP hK hD hS hA [0, 1] [] rfl rfl (by decide) (by decide) (by decide) rfl hl.1 rfl (Nat.le_of_ble_eq_true rfl) dX10_overY_11 ⟨Nat.zero_le _, Nat.zero_le _⟩ (fun u H locs hp_2 hP hD hS => ?_)
  obtain ⟨ZZ2_1, rfl⟩ : ∃ z, z = u := ⟨_, rfl⟩
  have hP : va_P D zCl [(m0, .inr (9, [.int (nI thr), .ref kn, .ref pt, .ref pa, .ref bg, .ref xs_, .ref ys_, .int (nI sgm), .ref fr_, .ref tw, .ref wo_, .ref mt, .ref ha_, .long (lZ x0), .long (lZ y0), .long (lZ dx), .long (lZ dy), .ref zz, .int (nI ct), .ref ov, .ref un])), (zz, .inl (dA 1, 192, .inr (.inl fun j => lZ (ZZ2_1 j))))] H := hP
  have hD : va_D A [(m0, .inr (9, [.int (nI thr), .ref kn, .ref pt, .ref pa, .ref bg, .ref xs_, .ref ys_, .int (nI sgm), .ref fr_, .ref tw, .ref wo_, .ref mt, .ref ha_, .long (lZ x0), .long (lZ y0), .long (lZ dx), .long (lZ dy), .ref zz, .int (nI ct), .ref ov, .ref un])), (zz, .inl (dA 1, 192, .inr (.inl fun j => lZ (ZZ2_1 j))))] := hD
  have hp_2 : ptOK ZZ2_1 V0 V1 := hp_2
  show W _ _ _ _ _ _ _ _ _ _ _ _ 0 0 _ (F0 mG 14 ls [.int (iZ (Int.sign ((y0 - v) * V1 + dy * V0)))])
  exact zr_wrI (u := (ZZ2_1)) rfl (show ptOK ZZ2_1 V0 V1 from (by first | assumption | omega)) (hP.sub [0, 1] rfl) (hD.sub [0, 1] (by decide) rfl) hS hx hb hr hlocks dX10_overY_14
set_option maxHeartbeats 4000000 in
set_option maxRecDepth 100000 in
theorem metX10_side (lG : Launch) (D : va_G) (dA : Nat → ClassId) (m0 : Nat) (thr : Nat) (kn : Nat) (pt : Nat) (pa : Nat) (bg : Nat) (xs_ : Nat) (ys_ : Nat) (sgm : Nat) (fr_ : Nat) (tw : Nat) (wo_ : Nat) (mt : Nat) (ha_ : Nat) (x0 : Int) (y0 : Int) (dx : Int) (dy : Int) (zz : Nat) (ct : Nat) (ov : Nat) (un : Nat) (ZZ : Nat → Int) (V0 : Int) (V1 : Int) (XS : Nat → Int) (YS : Nat → Int) (p : Nat) (q : Nat) (hp : ptOK ZZ V0 V1) (hx0 : cB x0) (hy0 : cB y0) (hdx : dB dx) (hdy : dB dy) (hXS : ∀ k, cB (XS k)) (hYS : ∀ k, cB (YS k)) (hp1 : p < 4096) (hq1 : q < 4096) : Wr lG yX10_side (ws_ yX10_side cX10_side 7 (some .int)) 3 75 D dA [.ref m0, .int (nI p), .int (nI q)] [(m0, .inr (9, [.int (nI thr), .ref kn, .ref pt, .ref pa, .ref bg, .ref xs_, .ref ys_, .int (nI sgm), .ref fr_, .ref tw, .ref wo_, .ref mt, .ref ha_, .long (lZ x0), .long (lZ y0), .long (lZ dx), .long (lZ dy), .ref zz, .int (nI ct), .ref ov, .ref un])), (zz, .inl (dA 1, 192, .inr (.inl fun j => lZ (ZZ j)))), (xs_, .inl (dA 0, 4096, .inl fun j => iZ (XS j))), (ys_, .inl (dA 0, 4096, .inl fun j => iZ (YS j)))] 0 0 (fun (u : (Nat → Int)) => let ZZ2 := u; ptOK ZZ2 V0 V1) (fun (u : (Nat → Int)) => let ZZ2 := u; some (.int (iZ (mS x0 y0 dx dy V0 V1 (XS p) (YS p) (XS q) (YS q))))) (fun (u : (Nat → Int)) => let ZZ2 := u; [(m0, .inr (9, [.int (nI thr), .ref kn, .ref pt, .ref pa, .ref bg, .ref xs_, .ref ys_, .int (nI sgm), .ref fr_, .ref tw, .ref wo_, .ref mt, .ref ha_, .long (lZ x0), .long (lZ y0), .long (lZ dx), .long (lZ dy), .ref zz, .int (nI ct), .ref ov, .ref un])), (zz, .inl (dA 1, 192, .inr (.inl fun j => lZ (ZZ2 j)))), (xs_, .inl (dA 0, 4096, .inl fun j => iZ (XS j))), (ys_, .inl (dA 0, 4096, .inl fun j => iZ (YS j)))]) := by
  refine Wr.of (by decide) (Nat.le_of_ble_eq_true rfl) ?_
  intro pG eG sG mG bG tG cG ls A hx hb hr hml hown hts hlocks hnm hP hK hD hS hA hl
  have hK1 := hK.1
  have hown : sG.vm.findClass RX10 = some mG.cls := hown
  have hl : lv_has ls 7 [(0, .ref m0), (1, .int (nI p)), (2, .int (nI q))] := hl
  refine lv_aload_n hx hb dX10_side_0 rfl (lv_at hl 0 rfl) ?_
  refine va_get (D := D) (ci := 9) (v := .ref xs_) (C := RX10) (T := TX10) (N := 21) hx hb hts in_X10 hown hK.1 hP 0 rfl rfl 5 (Nat.le_of_ble_eq_true rfl) (hts _ q974) (fun _ h9 => h9) rfl dX10_side_1 ?_
  refine lv_iload_n hx hb dX10_side_4 rfl (lv_at hl 2 rfl) ?_
  refine zz_iaload (f := XS) (i := q) hx hb hK.1 hP 2 0 rfl rfl (by omega) (by decide) dX10_side_5 ?_
  refine zz_i2l hx hb (hXS _).i dX10_side_6 ?_
  refine lv_aload_n hx hb dX10_side_7 rfl (lv_at hl 0 rfl) ?_
  refine va_get (D := D) (ci := 9) (v := .ref xs_) (C := RX10) (T := TX10) (N := 21) hx hb hts in_X10 hown hK.1 hP 0 rfl rfl 5 (Nat.le_of_ble_eq_true rfl) (hts _ q974) (fun _ h9 => h9) rfl dX10_side_8 ?_
  refine lv_iload_n hx hb dX10_side_11 rfl (lv_at hl 1 rfl) ?_
  refine zz_iaload (f := XS) (i := p) hx hb hK.1 hP 2 0 rfl rfl (by omega) (by decide) dX10_side_12 ?_
  refine zz_i2l hx hb (hXS _).i dX10_side_13 ?_
  refine zz_lsub hx hb dX10_side_14 ?_
  refine lv_lstore_n (lv' := [(3, .long (lZ ((XS q) - (XS p)))), (0, .ref m0), (1, .int (nI p)), (2, .int (nI q))]) hx hb dX10_side_15 rfl hl (by decide) rfl (fun ls hl => ?_)
  refine lv_aload_n hx hb dX10_side_16 rfl (lv_at hl 1 rfl) ?_
  refine va_get (D := D) (ci := 9) (v := .ref ys_) (C := RX10) (T := TX10) (N := 21) hx hb hts in_X10 hown hK.1 hP 0 rfl rfl 6 (Nat.le_of_ble_eq_true rfl) (hts _ q975) (fun _ h9 => h9) rfl dX10_side_17 ?_
  refine lv_iload_n hx hb dX10_side_20 rfl (lv_at hl 3 rfl) ?_
  refine zz_iaload (f := YS) (i := q) hx hb hK.1 hP 3 0 rfl rfl (by omega) (by decide) dX10_side_21 ?_
  refine zz_i2l hx hb (hYS _).i dX10_side_22 ?_
  refine lv_aload_n hx hb dX10_side_23 rfl (lv_at hl 1 rfl) ?_
  refine va_get (D := D) (ci := 9) (v := .ref ys_) (C := RX10) (T := TX10) (N := 21) hx hb hts in_X10 hown hK.1 hP 0 rfl rfl 6 (Nat.le_of_ble_eq_true rfl) (hts _ q975) (fun _ h9 => h9) rfl dX10_side_24 ?_
  refine lv_iload_n hx hb dX10_side_27 rfl (lv_at hl 2 rfl) ?_
  refine zz_iaload (f := YS) (i := p) hx hb hK.1 hP 3 0 rfl rfl (by omega) (by decide) dX10_side_28 ?_
  refine zz_i2l hx hb (hYS _).i dX10_side_29 ?_
  refine zz_lsub hx hb dX10_side_30 ?_
  refine lv_lstore (lv' := [(5, .long (lZ ((YS q) - (YS p)))), (3, .long (lZ ((XS q) - (XS p)))), (0, .ref m0), (1, .int (nI p)), (2, .int (nI q))]) hx hb dX10_side_31 hl (by decide) rfl (fun ls hl => ?_)
  refine lv_aload_n hx hb dX10_side_33 rfl (lv_at hl 2 rfl) ?_
  refine lv_lload_n hx hb dX10_side_34 rfl (lv_at hl 1 rfl) ?_
  refine lv_aload_n hx hb dX10_side_35 rfl (lv_at hl 2 rfl) ?_
  refine va_get (D := D) (ci := 9) (v := .long (lZ y0)) (C := RX10) (T := TX10) (N := 21) hx hb hts in_X10 hown hK.1 hP 0 rfl rfl 14 (Nat.le_of_ble_eq_true rfl) (hts _ q983) (fun _ h9 => h9) rfl dX10_side_36 ?_
  refine lv_aload_n hx hb dX10_side_39 rfl (lv_at hl 2 rfl) ?_
  refine va_get (D := D) (ci := 9) (v := .ref ys_) (C := RX10) (T := TX10) (N := 21) hx hb hts in_X10 hown hK.1 hP 0 rfl rfl 6 (Nat.le_of_ble_eq_true rfl) (hts _ q975) (fun _ h9 => h9) rfl dX10_side_40 ?_
  refine lv_iload_n hx hb dX10_side_43 rfl (lv_at hl 3 rfl) ?_
  refine zz_iaload (f := YS) (i := p) hx hb hK.1 hP 3 0 rfl rfl (by omega) (by decide) dX10_side_44 ?_
  refine zz_i2l hx hb (hYS _).i dX10_side_45 ?_
  refine zz_lsub hx hb dX10_side_46 ?_
  refine zz_lmul hx hb dX10_side_47 ?_
  refine lv_lload hx hb dX10_side_48 (lv_at hl 0 rfl) ?_
  refine lv_aload_n hx hb dX10_side_50 rfl (lv_at hl 2 rfl) ?_
  refine va_get (D := D) (ci := 9) (v := .long (lZ x0)) (C := RX10) (T := TX10) (N := 21) hx hb hts in_X10 hown hK.1 hP 0 rfl rfl 13 (Nat.le_of_ble_eq_true rfl) (hts _ q982) (fun _ h9 => h9) rfl dX10_side_51 ?_
  refine lv_aload_n hx hb dX10_side_54 rfl (lv_at hl 2 rfl) ?_
  refine va_get (D := D) (ci := 9) (v := .ref xs_) (C := RX10) (T := TX10) (N := 21) hx hb hts in_X10 hown hK.1 hP 0 rfl rfl 5 (Nat.le_of_ble_eq_true rfl) (hts _ q974) (fun _ h9 => h9) rfl dX10_side_55 ?_
  refine lv_iload_n hx hb dX10_side_58 rfl (lv_at hl 3 rfl) ?_
  refine zz_iaload (f := XS) (i := p) hx hb hK.1 hP 2 0 rfl rfl (by omega) (by decide) dX10_side_59 ?_
  refine zz_i2l hx hb (hXS _).i dX10_side_60 ?_
  refine zz_lsub hx hb dX10_side_61 ?_
  refine zz_lmul hx hb dX10_side_62 ?_
  refine zz_lsub hx hb dX10_side_63 ?_
  refine lv_lload_n hx hb dX10_side_64 rfl (lv_at hl 1 rfl) ?_
  refine lv_aload_n hx hb dX10_side_65 rfl (lv_at hl 2 rfl) ?_
  refine va_get (D := D) (ci := 9) (v := .long (lZ dy)) (C := RX10) (T := TX10) (N := 21) hx hb hts in_X10 hown hK.1 hP 0 rfl rfl 16 (Nat.le_of_ble_eq_true rfl) (hts _ q985) (fun _ h9 => h9) rfl dX10_side_66 ?_
  refine zz_lmul hx hb dX10_side_69 ?_
  refine lv_lload hx hb dX10_side_70 (lv_at hl 0 rfl) ?_
  refine lv_aload_n hx hb dX10_side_72 rfl (lv_at hl 2 rfl) ?_
  refine va_get (D := D) (ci := 9) (v := .long (lZ dx)) (C := RX10) (T := TX10) (N := 21) hx hb hts in_X10 hown hK.1 hP 0 rfl rfl 15 (Nat.le_of_ble_eq_true rfl) (hts _ q984) (fun _ h9 => h9) rfl dX10_side_73 ?_
  refine zz_lmul hx hb dX10_side_76 ?_
  refine zz_lsub hx hb dX10_side_77 ?_
  refine zc_wrV (rest := []) (wr := [(xs_, .inl (dA 0, 4096, .inl fun j => iZ (XS j))), (ys_, .inl (dA 0, 4096, .inl fun j => iZ (YS j)))]) ⟨hx, hb, hml, hown, hts⟩ (metX10_sgn lG D dA m0 thr kn pt pa bg xs_ ys_ sgm fr_ tw wo_ mt ha_ x0 y0 dx dy zz ct ov un ZZ V0 V1 ((((XS q) - (XS p)) * (y0 - (YS p))) - (((YS q) - (YS p)) * (x0 - (XS p)))) ((((XS q) - (XS p)) * dy) - (((YS q) - (YS p)) * dx)) (by first | assumption | omega) (inL_cross ((hXS _).sub (hXS _)) (hy0.sub (hYS _)) ((hYS _).sub (hYS _)) (hx0.sub (hXS _))) (inL_cross ((hXS _).sub (hXS _)) hdy ((hYS _).sub (hYS _)) hdx)) (cwV 2 hts (lw_V q1126 q1128 qs44 q80 q1129) rfl rfl rfl (by decide +kernel) ⟨Nat.le_of_ble_eq_true rfl, Nat.le_of_ble_eq_true rfl⟩) (va_recv hK.1 hP (ci := 9) (q0 := 0) rfl rfl) hP hK hD hS hA [0, 1] [2, 3] rfl rfl (by decide) (by decide) (by decide) rfl hl.1 rfl (Nat.le_of_ble_eq_true rfl) dX10_side_78 ⟨Nat.zero_le _, Nat.zero_le _⟩ (fun u H locs hp_2 hP hD hS => ?_)
  obtain ⟨ZZ2_1, rfl⟩ : ∃ z, z = u := ⟨_, rfl⟩
  have hP : va_P D zCl [(xs_, .inl (dA 0, 4096, .inl fun j => iZ (XS j))), (ys_, .inl (dA 0, 4096, .inl fun j => iZ (YS j))), (m0, .inr (9, [.int (nI thr), .ref kn, .ref pt, .ref pa, .ref bg, .ref xs_, .ref ys_, .int (nI sgm), .ref fr_, .ref tw, .ref wo_, .ref mt, .ref ha_, .long (lZ x0), .long (lZ y0), .long (lZ dx), .long (lZ dy), .ref zz, .int (nI ct), .ref ov, .ref un])), (zz, .inl (dA 1, 192, .inr (.inl fun j => lZ (ZZ2_1 j))))] H := hP
  have hD : va_D A [(xs_, .inl (dA 0, 4096, .inl fun j => iZ (XS j))), (ys_, .inl (dA 0, 4096, .inl fun j => iZ (YS j))), (m0, .inr (9, [.int (nI thr), .ref kn, .ref pt, .ref pa, .ref bg, .ref xs_, .ref ys_, .int (nI sgm), .ref fr_, .ref tw, .ref wo_, .ref mt, .ref ha_, .long (lZ x0), .long (lZ y0), .long (lZ dx), .long (lZ dy), .ref zz, .int (nI ct), .ref ov, .ref un])), (zz, .inl (dA 1, 192, .inr (.inl fun j => lZ (ZZ2_1 j))))] := hD
  have hp_2 : ptOK ZZ2_1 V0 V1 := hp_2
  show W _ _ _ _ _ _ _ _ _ _ _ _ 0 0 _ (F0 mG 81 ls [.int (iZ (Int.sign (((((XS q) - (XS p)) * (y0 - (YS p))) - (((YS q) - (YS p)) * (x0 - (XS p)))) * V1 + ((((XS q) - (XS p)) * dy) - (((YS q) - (YS p)) * dx)) * V0)))])
  exact zr_wrI (u := (ZZ2_1)) rfl (show ptOK ZZ2_1 V0 V1 from (by first | assumption | omega)) (hP.sub [2, 3, 0, 1] rfl) (hD.sub [2, 3, 0, 1] (by decide) rfl) hS hx hb hr hlocks dX10_side_81
set_option maxHeartbeats 4000000 in
set_option maxRecDepth 100000 in
theorem metX10_isPoint (lG : Launch) (D : va_G) (dA : Nat → ClassId) (m0 : Nat) (thr : Nat) (kn : Nat) (pt : Nat) (pa : Nat) (bg : Nat) (xs_ : Nat) (ys_ : Nat) (sgm : Nat) (fr_ : Nat) (tw : Nat) (wo_ : Nat) (mt : Nat) (ha_ : Nat) (x0 : Int) (y0 : Int) (dx : Int) (dy : Int) (zz : Nat) (ct : Nat) (ov : Nat) (un : Nat) (ZZ : Nat → Int) (V0 : Int) (V1 : Int) (XS : Nat → Int) (YS : Nat → Int) (k : Nat) (hp : ptOK ZZ V0 V1) (hx0 : cB x0) (hy0 : cB y0) (hdx : dB dx) (hdy : dB dy) (hXS : ∀ k, cB (XS k)) (hYS : ∀ k, cB (YS k)) (hk : k < 4096) : Wr lG yX10_isPoint (ws_ yX10_isPoint cX10_isPoint 2 (some .boolean)) 4 97 D dA [.ref m0, .int (nI k)] [(m0, .inr (9, [.int (nI thr), .ref kn, .ref pt, .ref pa, .ref bg, .ref xs_, .ref ys_, .int (nI sgm), .ref fr_, .ref tw, .ref wo_, .ref mt, .ref ha_, .long (lZ x0), .long (lZ y0), .long (lZ dx), .long (lZ dy), .ref zz, .int (nI ct), .ref ov, .ref un])), (zz, .inl (dA 1, 192, .inr (.inl fun j => lZ (ZZ j)))), (xs_, .inl (dA 0, 4096, .inl fun j => iZ (XS j))), (ys_, .inl (dA 0, 4096, .inl fun j => iZ (YS j)))] 0 0 (fun (u : (Nat → Int)) => let ZZ2 := u; ptOK ZZ2 V0 V1) (fun (u : (Nat → Int)) => let ZZ2 := u; some (.int (bI (ptK x0 y0 dx dy V0 V1 XS YS k)))) (fun (u : (Nat → Int)) => let ZZ2 := u; [(m0, .inr (9, [.int (nI thr), .ref kn, .ref pt, .ref pa, .ref bg, .ref xs_, .ref ys_, .int (nI sgm), .ref fr_, .ref tw, .ref wo_, .ref mt, .ref ha_, .long (lZ x0), .long (lZ y0), .long (lZ dx), .long (lZ dy), .ref zz, .int (nI ct), .ref ov, .ref un])), (zz, .inl (dA 1, 192, .inr (.inl fun j => lZ (ZZ2 j)))), (xs_, .inl (dA 0, 4096, .inl fun j => iZ (XS j))), (ys_, .inl (dA 0, 4096, .inl fun j => iZ (YS j)))]) := by
  refine Wr.of (by decide) (Nat.le_of_ble_eq_true rfl) ?_
  intro pG eG sG mG bG tG cG ls A hx hb hr hml hown hts hlocks hnm hP hK hD hS hA hl
  have hK1 := hK.1
  have hown : sG.vm.findClass RX10 = some mG.cls := hown
  have hl : lv_has ls 2 [(0, .ref m0), (1, .int (nI k))] := hl
  refine lv_aload_n hx hb dX10_isPoint_0 rfl (lv_at hl 0 rfl) ?_
  refine lv_aload_n hx hb dX10_isPoint_1 rfl (lv_at hl 0 rfl) ?_
  refine va_get (D := D) (ci := 9) (v := .ref xs_) (C := RX10) (T := TX10) (N := 21) hx hb hts in_X10 hown hK.1 hP 0 rfl rfl 5 (Nat.le_of_ble_eq_true rfl) (hts _ q974) (fun _ h9 => h9) rfl dX10_isPoint_2 ?_
  refine lv_iload_n hx hb dX10_isPoint_5 rfl (lv_at hl 1 rfl) ?_
  refine zz_iaload (f := XS) (i := k) hx hb hK.1 hP 2 0 rfl rfl (by omega) (by decide) dX10_isPoint_6 ?_
  refine zz_i2l hx hb (hXS _).i dX10_isPoint_7 ?_
  refine zc_wrV (rest := []) (wr := [(xs_, .inl (dA 0, 4096, .inl fun j => iZ (XS j))), (ys_, .inl (dA 0, 4096, .inl fun j => iZ (YS j)))]) ⟨hx, hb, hml, hown, hts⟩ (metX10_overX lG D dA m0 thr kn pt pa bg xs_ ys_ sgm fr_ tw wo_ mt ha_ x0 y0 dx dy zz ct ov un ZZ V0 V1 (XS k) (by first | assumption | omega) (by first | assumption | omega) (by first | assumption | omega) (by first | assumption | omega) (by first | assumption | omega) (hXS _)) (cwV 1 hts (lw_V q1122 q1124 qs43 q80 q1125) rfl rfl rfl (by decide +kernel) ⟨Nat.le_of_ble_eq_true rfl, Nat.le_of_ble_eq_true rfl⟩) (va_recv hK.1 hP (ci := 9) (q0 := 0) rfl rfl) hP hK hD hS hA [0, 1] [2, 3] rfl rfl (by decide) (by decide) (by decide) rfl hl.1 rfl (Nat.le_of_ble_eq_true rfl) dX10_isPoint_8 ⟨Nat.zero_le _, Nat.zero_le _⟩ (fun u H locs hp_2 hP hD hS => ?_)
  obtain ⟨ZZ2_1, rfl⟩ : ∃ z, z = u := ⟨_, rfl⟩
  have hP : va_P D zCl [(xs_, .inl (dA 0, 4096, .inl fun j => iZ (XS j))), (ys_, .inl (dA 0, 4096, .inl fun j => iZ (YS j))), (m0, .inr (9, [.int (nI thr), .ref kn, .ref pt, .ref pa, .ref bg, .ref xs_, .ref ys_, .int (nI sgm), .ref fr_, .ref tw, .ref wo_, .ref mt, .ref ha_, .long (lZ x0), .long (lZ y0), .long (lZ dx), .long (lZ dy), .ref zz, .int (nI ct), .ref ov, .ref un])), (zz, .inl (dA 1, 192, .inr (.inl fun j => lZ (ZZ2_1 j))))] H := hP
  have hD : va_D A [(xs_, .inl (dA 0, 4096, .inl fun j => iZ (XS j))), (ys_, .inl (dA 0, 4096, .inl fun j => iZ (YS j))), (m0, .inr (9, [.int (nI thr), .ref kn, .ref pt, .ref pa, .ref bg, .ref xs_, .ref ys_, .int (nI sgm), .ref fr_, .ref tw, .ref wo_, .ref mt, .ref ha_, .long (lZ x0), .long (lZ y0), .long (lZ dx), .long (lZ dy), .ref zz, .int (nI ct), .ref ov, .ref un])), (zz, .inl (dA 1, 192, .inr (.inl fun j => lZ (ZZ2_1 j))))] := hD
  have hp_2 : ptOK ZZ2_1 V0 V1 := hp_2
  show W _ _ _ _ _ _ _ _ _ _ _ _ 0 0 _ (F0 mG 11 ls [.int (iZ (mX x0 dx V0 V1 (XS k)))])
  refine zz_if_ne (tgt := 32) hx hb mX_I dX10_isPoint_11 (by decide) (fun c_3 => ?_) (fun c_3 => ?_)
  · skip
    refine lv_iconst (v := bI false) hx hb dX10_isPoint_32 (by decide) ?_
    exact zr_wrB (u := (ZZ2_1)) (congrArg (fun z => some (Value.int (bI z))) (show _ = ptK x0 y0 dx dy V0 V1 XS YS k from (by unfold ptK ptM; first | (rw [decide_eq_true (by assumption), decide_eq_true (by assumption)]; rfl) | (rw [decide_eq_true (by assumption), decide_eq_false (by assumption)]; rfl) | (rw [decide_eq_false (by assumption)]; rfl)))) (show ptOK ZZ2_1 V0 V1 from (by first | assumption | omega)) (hP.sub [2, 3, 0, 1] rfl) (hD.sub [2, 3, 0, 1] (by decide) rfl) hS hx hb hr hlocks dX10_isPoint_33
  · skip
    refine lv_aload_n hx hb dX10_isPoint_14 rfl (lv_at hl 0 rfl) ?_
    refine lv_aload_n hx hb dX10_isPoint_15 rfl (lv_at hl 0 rfl) ?_
    refine va_get (D := D) (ci := 9) (v := .ref ys_) (C := RX10) (T := TX10) (N := 21) hx hb hts in_X10 hown hK.1 hP 2 rfl rfl 6 (Nat.le_of_ble_eq_true rfl) (hts _ q975) (fun _ h9 => h9) rfl dX10_isPoint_16 ?_
    refine lv_iload_n hx hb dX10_isPoint_19 rfl (lv_at hl 1 rfl) ?_
    refine zz_iaload (f := YS) (i := k) hx hb hK.1 hP 1 0 rfl rfl (by omega) (by decide) dX10_isPoint_20 ?_
    refine zz_i2l hx hb (hYS _).i dX10_isPoint_21 ?_
    refine zc_wrV (rest := []) (wr := [(xs_, .inl (dA 0, 4096, .inl fun j => iZ (XS j))), (ys_, .inl (dA 0, 4096, .inl fun j => iZ (YS j)))]) ⟨hx, hb, hml, hown, hts⟩ (metX10_overY lG D dA m0 thr kn pt pa bg xs_ ys_ sgm fr_ tw wo_ mt ha_ x0 y0 dx dy zz ct ov un ZZ2_1 V0 V1 (YS k) (by first | assumption | omega) (by first | assumption | omega) (by first | assumption | omega) (by first | assumption | omega) (by first | assumption | omega) (hYS _)) (cwV 1 hts (lw_V q1138 q1140 qs47 q80 q1141) rfl rfl rfl (by decide +kernel) ⟨Nat.le_of_ble_eq_true rfl, Nat.le_of_ble_eq_true rfl⟩) (va_recv hK.1 hP (ci := 9) (q0 := 2) rfl rfl) hP hK hD hS hA [2, 3] [0, 1] rfl rfl (by decide) (by decide) (by decide) rfl hl.1 rfl (Nat.le_of_ble_eq_true rfl) dX10_isPoint_22 ⟨Nat.zero_le _, Nat.zero_le _⟩ (fun u H locs hp_5 hP hD hS => ?_)
    obtain ⟨ZZ2_4, rfl⟩ : ∃ z, z = u := ⟨_, rfl⟩
    have hP : va_P D zCl [(xs_, .inl (dA 0, 4096, .inl fun j => iZ (XS j))), (ys_, .inl (dA 0, 4096, .inl fun j => iZ (YS j))), (m0, .inr (9, [.int (nI thr), .ref kn, .ref pt, .ref pa, .ref bg, .ref xs_, .ref ys_, .int (nI sgm), .ref fr_, .ref tw, .ref wo_, .ref mt, .ref ha_, .long (lZ x0), .long (lZ y0), .long (lZ dx), .long (lZ dy), .ref zz, .int (nI ct), .ref ov, .ref un])), (zz, .inl (dA 1, 192, .inr (.inl fun j => lZ (ZZ2_4 j))))] H := hP
    have hD : va_D A [(xs_, .inl (dA 0, 4096, .inl fun j => iZ (XS j))), (ys_, .inl (dA 0, 4096, .inl fun j => iZ (YS j))), (m0, .inr (9, [.int (nI thr), .ref kn, .ref pt, .ref pa, .ref bg, .ref xs_, .ref ys_, .int (nI sgm), .ref fr_, .ref tw, .ref wo_, .ref mt, .ref ha_, .long (lZ x0), .long (lZ y0), .long (lZ dx), .long (lZ dy), .ref zz, .int (nI ct), .ref ov, .ref un])), (zz, .inl (dA 1, 192, .inr (.inl fun j => lZ (ZZ2_4 j))))] := hD
    have hp_5 : ptOK ZZ2_4 V0 V1 := hp_5
    show W _ _ _ _ _ _ _ _ _ _ _ _ 0 0 _ (F0 mG 25 ls [.int (iZ (mX y0 dy V0 V1 (YS k)))])
    refine zz_if_ne (tgt := 32) hx hb mX_I dX10_isPoint_25 (by decide) (fun c_6 => ?_) (fun c_6 => ?_)
    · skip
      refine lv_iconst (v := bI false) hx hb dX10_isPoint_32 (by decide) ?_
      exact zr_wrB (u := (ZZ2_4)) (congrArg (fun z => some (Value.int (bI z))) (show _ = ptK x0 y0 dx dy V0 V1 XS YS k from (by unfold ptK ptM; first | (rw [decide_eq_true (by assumption), decide_eq_true (by assumption)]; rfl) | (rw [decide_eq_true (by assumption), decide_eq_false (by assumption)]; rfl) | (rw [decide_eq_false (by assumption)]; rfl)))) (show ptOK ZZ2_4 V0 V1 from (by first | assumption | omega)) (hP.sub [2, 3, 0, 1] rfl) (hD.sub [2, 3, 0, 1] (by decide) rfl) hS hx hb hr hlocks dX10_isPoint_33
    · skip
      refine lv_iconst (v := bI true) hx hb dX10_isPoint_28 (by decide) ?_
      refine lv_goto (tgt := 33) hx hb dX10_isPoint_29 (by decide) ?_
      exact zr_wrB (u := (ZZ2_4)) (congrArg (fun z => some (Value.int (bI z))) (show _ = ptK x0 y0 dx dy V0 V1 XS YS k from (by unfold ptK ptM; first | (rw [decide_eq_true (by assumption), decide_eq_true (by assumption)]; rfl) | (rw [decide_eq_true (by assumption), decide_eq_false (by assumption)]; rfl) | (rw [decide_eq_false (by assumption)]; rfl)))) (show ptOK ZZ2_4 V0 V1 from (by first | assumption | omega)) (hP.sub [2, 3, 0, 1] rfl) (hD.sub [2, 3, 0, 1] (by decide) rfl) hS hx hb hr hlocks dX10_isPoint_33
set_option maxHeartbeats 4000000 in
set_option maxRecDepth 100000 in
theorem metX10_isOn (lG : Launch) (D : va_G) (dA : Nat → ClassId) (m0 : Nat) (thr : Nat) (kn : Nat) (pt : Nat) (pa : Nat) (bg : Nat) (xs_ : Nat) (ys_ : Nat) (sgm : Nat) (fr_ : Nat) (tw : Nat) (wo_ : Nat) (mt : Nat) (ha_ : Nat) (x0 : Int) (y0 : Int) (dx : Int) (dy : Int) (zz : Nat) (ct : Nat) (ov : Nat) (un : Nat) (ZZ : Nat → Int) (V0 : Int) (V1 : Int) (XS : Nat → Int) (YS : Nat → Int) (FM : Nat → Nat) (TM : Nat → Nat) (WO : Nat → Nat) (k : Nat) (hp : ptOK ZZ V0 V1) (hx0 : cB x0) (hy0 : cB y0) (hdx : dB dx) (hdy : dB dy) (hXS : ∀ k, cB (XS k)) (hYS : ∀ k, cB (YS k)) (hFM : ∀ k, k < sgm → FM k < 4096) (hTM : ∀ k, k < sgm → TM k < 4096) (hsgm : sgm ≤ 4096) (hk : k < sgm) : Wr lG yX10_isOn (ws_ yX10_isOn cX10_isOn 4 (some .boolean)) 4 101 D dA [.ref m0, .int (nI k)] [(m0, .inr (9, [.int (nI thr), .ref kn, .ref pt, .ref pa, .ref bg, .ref xs_, .ref ys_, .int (nI sgm), .ref fr_, .ref tw, .ref wo_, .ref mt, .ref ha_, .long (lZ x0), .long (lZ y0), .long (lZ dx), .long (lZ dy), .ref zz, .int (nI ct), .ref ov, .ref un])), (zz, .inl (dA 1, 192, .inr (.inl fun j => lZ (ZZ j)))), (xs_, .inl (dA 0, 4096, .inl fun j => iZ (XS j))), (ys_, .inl (dA 0, 4096, .inl fun j => iZ (YS j))), (fr_, .inl (dA 0, 4096, .inl fun j => nI (FM j))), (tw, .inl (dA 0, 4096, .inl fun j => nI (TM j))), (wo_, .inl (dA 0, 4096, .inl fun j => nI (WO j)))] 0 0 (fun (u : (Nat → Int)) => let ZZ2 := u; ptOK ZZ2 V0 V1) (fun (u : (Nat → Int)) => let ZZ2 := u; some (.int (bI (onK x0 y0 dx dy V0 V1 XS YS FM TM k)))) (fun (u : (Nat → Int)) => let ZZ2 := u; [(m0, .inr (9, [.int (nI thr), .ref kn, .ref pt, .ref pa, .ref bg, .ref xs_, .ref ys_, .int (nI sgm), .ref fr_, .ref tw, .ref wo_, .ref mt, .ref ha_, .long (lZ x0), .long (lZ y0), .long (lZ dx), .long (lZ dy), .ref zz, .int (nI ct), .ref ov, .ref un])), (zz, .inl (dA 1, 192, .inr (.inl fun j => lZ (ZZ2 j)))), (xs_, .inl (dA 0, 4096, .inl fun j => iZ (XS j))), (ys_, .inl (dA 0, 4096, .inl fun j => iZ (YS j))), (fr_, .inl (dA 0, 4096, .inl fun j => nI (FM j))), (tw, .inl (dA 0, 4096, .inl fun j => nI (TM j))), (wo_, .inl (dA 0, 4096, .inl fun j => nI (WO j)))]) := by
  refine Wr.of (by decide) (Nat.le_of_ble_eq_true rfl) ?_
  intro pG eG sG mG bG tG cG ls A hx hb hr hml hown hts hlocks hnm hP hK hD hS hA hl
  have hK1 := hK.1
  have hown : sG.vm.findClass RX10 = some mG.cls := hown
  have hl : lv_has ls 4 [(0, .ref m0), (1, .int (nI k))] := hl
  have hf := hFM k hk
  have ht := hTM k hk
  refine lv_aload_n hx hb dX10_isOn_0 rfl (lv_at hl 0 rfl) ?_
  refine va_get (D := D) (ci := 9) (v := .ref fr_) (C := RX10) (T := TX10) (N := 21) hx hb hts in_X10 hown hK.1 hP 0 rfl rfl 8 (Nat.le_of_ble_eq_true rfl) (hts _ q977) (fun _ h9 => h9) rfl dX10_isOn_1 ?_
  refine lv_iload_n hx hb dX10_isOn_4 rfl (lv_at hl 1 rfl) ?_
  refine zn_iaload (f := FM) (i := k) hx hb hK.1 hP 4 0 rfl rfl (by omega) (by decide) dX10_isOn_5 ?_
  refine lv_istore_n (lv' := [(2, .int (nI (FM k))), (0, .ref m0), (1, .int (nI k))]) hx hb dX10_isOn_6 rfl hl (by decide) rfl (fun ls hl => ?_)
  refine lv_aload_n hx hb dX10_isOn_7 rfl (lv_at hl 1 rfl) ?_
  refine va_get (D := D) (ci := 9) (v := .ref tw) (C := RX10) (T := TX10) (N := 21) hx hb hts in_X10 hown hK.1 hP 0 rfl rfl 9 (Nat.le_of_ble_eq_true rfl) (hts _ q978) (fun _ h9 => h9) rfl dX10_isOn_8 ?_
  refine lv_iload_n hx hb dX10_isOn_11 rfl (lv_at hl 2 rfl) ?_
  refine zn_iaload (f := TM) (i := k) hx hb hK.1 hP 5 0 rfl rfl (by omega) (by decide) dX10_isOn_12 ?_
  refine lv_istore_n (lv' := [(3, .int (nI (TM k))), (2, .int (nI (FM k))), (0, .ref m0), (1, .int (nI k))]) hx hb dX10_isOn_13 rfl hl (by decide) rfl (fun ls hl => ?_)
  refine lv_aload_n hx hb dX10_isOn_14 rfl (lv_at hl 2 rfl) ?_
  refine lv_aload_n hx hb dX10_isOn_15 rfl (lv_at hl 2 rfl) ?_
  refine va_get (D := D) (ci := 9) (v := .ref xs_) (C := RX10) (T := TX10) (N := 21) hx hb hts in_X10 hown hK.1 hP 0 rfl rfl 5 (Nat.le_of_ble_eq_true rfl) (hts _ q974) (fun _ h9 => h9) rfl dX10_isOn_16 ?_
  refine lv_iload_n hx hb dX10_isOn_19 rfl (lv_at hl 1 rfl) ?_
  refine zz_iaload (f := XS) (i := FM k) hx hb hK.1 hP 2 0 rfl rfl (by omega) (by decide) dX10_isOn_20 ?_
  refine zz_i2l hx hb (hXS _).i dX10_isOn_21 ?_
  refine zc_wrV (rest := []) (wr := [(xs_, .inl (dA 0, 4096, .inl fun j => iZ (XS j))), (ys_, .inl (dA 0, 4096, .inl fun j => iZ (YS j))), (fr_, .inl (dA 0, 4096, .inl fun j => nI (FM j))), (tw, .inl (dA 0, 4096, .inl fun j => nI (TM j))), (wo_, .inl (dA 0, 4096, .inl fun j => nI (WO j)))]) ⟨hx, hb, hml, hown, hts⟩ (metX10_overX lG D dA m0 thr kn pt pa bg xs_ ys_ sgm fr_ tw wo_ mt ha_ x0 y0 dx dy zz ct ov un ZZ V0 V1 (XS (FM k)) (by first | assumption | omega) (by first | assumption | omega) (by first | assumption | omega) (by first | assumption | omega) (by first | assumption | omega) (hXS _)) (cwV 1 hts (lw_V q1122 q1124 qs43 q80 q1125) rfl rfl rfl (by decide +kernel) ⟨Nat.le_of_ble_eq_true rfl, Nat.le_of_ble_eq_true rfl⟩) (va_recv hK.1 hP (ci := 9) (q0 := 0) rfl rfl) hP hK hD hS hA [0, 1] [2, 3, 4, 5, 6] rfl rfl (by decide) (by decide) (by decide) rfl hl.1 rfl (Nat.le_of_ble_eq_true rfl) dX10_isOn_22 ⟨Nat.zero_le _, Nat.zero_le _⟩ (fun u H locs hp_2 hP hD hS => ?_)
  obtain ⟨ZZ2_1, rfl⟩ : ∃ z, z = u := ⟨_, rfl⟩
  have hP : va_P D zCl [(xs_, .inl (dA 0, 4096, .inl fun j => iZ (XS j))), (ys_, .inl (dA 0, 4096, .inl fun j => iZ (YS j))), (fr_, .inl (dA 0, 4096, .inl fun j => nI (FM j))), (tw, .inl (dA 0, 4096, .inl fun j => nI (TM j))), (wo_, .inl (dA 0, 4096, .inl fun j => nI (WO j))), (m0, .inr (9, [.int (nI thr), .ref kn, .ref pt, .ref pa, .ref bg, .ref xs_, .ref ys_, .int (nI sgm), .ref fr_, .ref tw, .ref wo_, .ref mt, .ref ha_, .long (lZ x0), .long (lZ y0), .long (lZ dx), .long (lZ dy), .ref zz, .int (nI ct), .ref ov, .ref un])), (zz, .inl (dA 1, 192, .inr (.inl fun j => lZ (ZZ2_1 j))))] H := hP
  have hD : va_D A [(xs_, .inl (dA 0, 4096, .inl fun j => iZ (XS j))), (ys_, .inl (dA 0, 4096, .inl fun j => iZ (YS j))), (fr_, .inl (dA 0, 4096, .inl fun j => nI (FM j))), (tw, .inl (dA 0, 4096, .inl fun j => nI (TM j))), (wo_, .inl (dA 0, 4096, .inl fun j => nI (WO j))), (m0, .inr (9, [.int (nI thr), .ref kn, .ref pt, .ref pa, .ref bg, .ref xs_, .ref ys_, .int (nI sgm), .ref fr_, .ref tw, .ref wo_, .ref mt, .ref ha_, .long (lZ x0), .long (lZ y0), .long (lZ dx), .long (lZ dy), .ref zz, .int (nI ct), .ref ov, .ref un])), (zz, .inl (dA 1, 192, .inr (.inl fun j => lZ (ZZ2_1 j))))] := hD
  have hp_2 : ptOK ZZ2_1 V0 V1 := hp_2
  show W _ _ _ _ _ _ _ _ _ _ _ _ 0 0 _ (F0 mG 25 ls [.int (iZ (mX x0 dx V0 V1 (XS (FM k))))])
  refine lv_aload_n hx hb dX10_isOn_25 rfl (lv_at hl 2 rfl) ?_
  refine lv_aload_n hx hb dX10_isOn_26 rfl (lv_at hl 2 rfl) ?_
  refine va_get (D := D) (ci := 9) (v := .ref xs_) (C := RX10) (T := TX10) (N := 21) hx hb hts in_X10 hown hK.1 hP 5 rfl rfl 5 (Nat.le_of_ble_eq_true rfl) (hts _ q974) (fun _ h9 => h9) rfl dX10_isOn_27 ?_
  refine lv_iload_n hx hb dX10_isOn_30 rfl (lv_at hl 0 rfl) ?_
  refine zz_iaload (f := XS) (i := TM k) hx hb hK.1 hP 0 0 rfl rfl (by omega) (by decide) dX10_isOn_31 ?_
  refine zz_i2l hx hb (hXS _).i dX10_isOn_32 ?_
  refine zc_wrV (rest := [.int (iZ (mX x0 dx V0 V1 (XS (FM k))))]) (wr := [(xs_, .inl (dA 0, 4096, .inl fun j => iZ (XS j))), (ys_, .inl (dA 0, 4096, .inl fun j => iZ (YS j))), (fr_, .inl (dA 0, 4096, .inl fun j => nI (FM j))), (tw, .inl (dA 0, 4096, .inl fun j => nI (TM j))), (wo_, .inl (dA 0, 4096, .inl fun j => nI (WO j)))]) ⟨hx, hb, hml, hown, hts⟩ (metX10_overX lG D dA m0 thr kn pt pa bg xs_ ys_ sgm fr_ tw wo_ mt ha_ x0 y0 dx dy zz ct ov un ZZ2_1 V0 V1 (XS (TM k)) (by first | assumption | omega) (by first | assumption | omega) (by first | assumption | omega) (by first | assumption | omega) (by first | assumption | omega) (hXS _)) (cwV 1 hts (lw_V q1122 q1124 qs43 q80 q1125) rfl rfl rfl (by decide +kernel) ⟨Nat.le_of_ble_eq_true rfl, Nat.le_of_ble_eq_true rfl⟩) (va_recv hK.1 hP (ci := 9) (q0 := 5) rfl rfl) hP hK hD hS hA [5, 6] [0, 1, 2, 3, 4] rfl rfl (by decide) (by decide) (by decide) rfl hl.1 rfl (Nat.le_of_ble_eq_true rfl) dX10_isOn_33 ⟨Nat.zero_le _, Nat.zero_le _⟩ (fun u H locs hp_4 hP hD hS => ?_)
  obtain ⟨ZZ2_3, rfl⟩ : ∃ z, z = u := ⟨_, rfl⟩
  have hP : va_P D zCl [(xs_, .inl (dA 0, 4096, .inl fun j => iZ (XS j))), (ys_, .inl (dA 0, 4096, .inl fun j => iZ (YS j))), (fr_, .inl (dA 0, 4096, .inl fun j => nI (FM j))), (tw, .inl (dA 0, 4096, .inl fun j => nI (TM j))), (wo_, .inl (dA 0, 4096, .inl fun j => nI (WO j))), (m0, .inr (9, [.int (nI thr), .ref kn, .ref pt, .ref pa, .ref bg, .ref xs_, .ref ys_, .int (nI sgm), .ref fr_, .ref tw, .ref wo_, .ref mt, .ref ha_, .long (lZ x0), .long (lZ y0), .long (lZ dx), .long (lZ dy), .ref zz, .int (nI ct), .ref ov, .ref un])), (zz, .inl (dA 1, 192, .inr (.inl fun j => lZ (ZZ2_3 j))))] H := hP
  have hD : va_D A [(xs_, .inl (dA 0, 4096, .inl fun j => iZ (XS j))), (ys_, .inl (dA 0, 4096, .inl fun j => iZ (YS j))), (fr_, .inl (dA 0, 4096, .inl fun j => nI (FM j))), (tw, .inl (dA 0, 4096, .inl fun j => nI (TM j))), (wo_, .inl (dA 0, 4096, .inl fun j => nI (WO j))), (m0, .inr (9, [.int (nI thr), .ref kn, .ref pt, .ref pa, .ref bg, .ref xs_, .ref ys_, .int (nI sgm), .ref fr_, .ref tw, .ref wo_, .ref mt, .ref ha_, .long (lZ x0), .long (lZ y0), .long (lZ dx), .long (lZ dy), .ref zz, .int (nI ct), .ref ov, .ref un])), (zz, .inl (dA 1, 192, .inr (.inl fun j => lZ (ZZ2_3 j))))] := hD
  have hp_4 : ptOK ZZ2_3 V0 V1 := hp_4
  show W _ _ _ _ _ _ _ _ _ _ _ _ 0 0 _ (F0 mG 36 ls [.int (iZ (mX x0 dx V0 V1 (XS (TM k)))), .int (iZ (mX x0 dx V0 V1 (XS (FM k))))])
  refine zz_imul hx hb dX10_isOn_36 ?_
  refine zz_if_gt (tgt := 79) hx hb mXX_I dX10_isOn_37 (by decide) (fun c_5 => ?_) (fun c_5 => ?_)
  · skip
    refine lv_iconst (v := bI false) hx hb dX10_isOn_79 (by decide) ?_
    exact zr_wrB (u := (ZZ2_3)) (congrArg (fun z => some (Value.int (bI z))) (show _ = onK x0 y0 dx dy V0 V1 XS YS FM TM k from (by unfold onK onM; first | (rw [decide_eq_true (by assumption), decide_eq_true (by assumption), decide_eq_true (by assumption)]; rfl) | (rw [decide_eq_true (by assumption), decide_eq_true (by assumption), decide_eq_false (by assumption)]; rfl) | (rw [decide_eq_true (by assumption), decide_eq_false (by omega)]; rfl) | (rw [decide_eq_false (by omega)]; rfl)))) (show ptOK ZZ2_3 V0 V1 from (by first | assumption | omega)) (hP.sub [5, 6, 0, 1, 2, 3, 4] rfl) (hD.sub [5, 6, 0, 1, 2, 3, 4] (by decide) rfl) hS hx hb hr hlocks dX10_isOn_80
  · skip
    refine lv_aload_n hx hb dX10_isOn_40 rfl (lv_at hl 2 rfl) ?_
    refine lv_aload_n hx hb dX10_isOn_41 rfl (lv_at hl 2 rfl) ?_
    refine va_get (D := D) (ci := 9) (v := .ref ys_) (C := RX10) (T := TX10) (N := 21) hx hb hts in_X10 hown hK.1 hP 5 rfl rfl 6 (Nat.le_of_ble_eq_true rfl) (hts _ q975) (fun _ h9 => h9) rfl dX10_isOn_42 ?_
    refine lv_iload_n hx hb dX10_isOn_45 rfl (lv_at hl 1 rfl) ?_
    refine zz_iaload (f := YS) (i := FM k) hx hb hK.1 hP 1 0 rfl rfl (by omega) (by decide) dX10_isOn_46 ?_
    refine zz_i2l hx hb (hYS _).i dX10_isOn_47 ?_
    refine zc_wrV (rest := []) (wr := [(xs_, .inl (dA 0, 4096, .inl fun j => iZ (XS j))), (ys_, .inl (dA 0, 4096, .inl fun j => iZ (YS j))), (fr_, .inl (dA 0, 4096, .inl fun j => nI (FM j))), (tw, .inl (dA 0, 4096, .inl fun j => nI (TM j))), (wo_, .inl (dA 0, 4096, .inl fun j => nI (WO j)))]) ⟨hx, hb, hml, hown, hts⟩ (metX10_overY lG D dA m0 thr kn pt pa bg xs_ ys_ sgm fr_ tw wo_ mt ha_ x0 y0 dx dy zz ct ov un ZZ2_3 V0 V1 (YS (FM k)) (by first | assumption | omega) (by first | assumption | omega) (by first | assumption | omega) (by first | assumption | omega) (by first | assumption | omega) (hYS _)) (cwV 1 hts (lw_V q1138 q1140 qs47 q80 q1141) rfl rfl rfl (by decide +kernel) ⟨Nat.le_of_ble_eq_true rfl, Nat.le_of_ble_eq_true rfl⟩) (va_recv hK.1 hP (ci := 9) (q0 := 5) rfl rfl) hP hK hD hS hA [5, 6] [0, 1, 2, 3, 4] rfl rfl (by decide) (by decide) (by decide) rfl hl.1 rfl (Nat.le_of_ble_eq_true rfl) dX10_isOn_48 ⟨Nat.zero_le _, Nat.zero_le _⟩ (fun u H locs hp_7 hP hD hS => ?_)
    obtain ⟨ZZ2_6, rfl⟩ : ∃ z, z = u := ⟨_, rfl⟩
    have hP : va_P D zCl [(xs_, .inl (dA 0, 4096, .inl fun j => iZ (XS j))), (ys_, .inl (dA 0, 4096, .inl fun j => iZ (YS j))), (fr_, .inl (dA 0, 4096, .inl fun j => nI (FM j))), (tw, .inl (dA 0, 4096, .inl fun j => nI (TM j))), (wo_, .inl (dA 0, 4096, .inl fun j => nI (WO j))), (m0, .inr (9, [.int (nI thr), .ref kn, .ref pt, .ref pa, .ref bg, .ref xs_, .ref ys_, .int (nI sgm), .ref fr_, .ref tw, .ref wo_, .ref mt, .ref ha_, .long (lZ x0), .long (lZ y0), .long (lZ dx), .long (lZ dy), .ref zz, .int (nI ct), .ref ov, .ref un])), (zz, .inl (dA 1, 192, .inr (.inl fun j => lZ (ZZ2_6 j))))] H := hP
    have hD : va_D A [(xs_, .inl (dA 0, 4096, .inl fun j => iZ (XS j))), (ys_, .inl (dA 0, 4096, .inl fun j => iZ (YS j))), (fr_, .inl (dA 0, 4096, .inl fun j => nI (FM j))), (tw, .inl (dA 0, 4096, .inl fun j => nI (TM j))), (wo_, .inl (dA 0, 4096, .inl fun j => nI (WO j))), (m0, .inr (9, [.int (nI thr), .ref kn, .ref pt, .ref pa, .ref bg, .ref xs_, .ref ys_, .int (nI sgm), .ref fr_, .ref tw, .ref wo_, .ref mt, .ref ha_, .long (lZ x0), .long (lZ y0), .long (lZ dx), .long (lZ dy), .ref zz, .int (nI ct), .ref ov, .ref un])), (zz, .inl (dA 1, 192, .inr (.inl fun j => lZ (ZZ2_6 j))))] := hD
    have hp_7 : ptOK ZZ2_6 V0 V1 := hp_7
    show W _ _ _ _ _ _ _ _ _ _ _ _ 0 0 _ (F0 mG 51 ls [.int (iZ (mX y0 dy V0 V1 (YS (FM k))))])
    refine lv_aload_n hx hb dX10_isOn_51 rfl (lv_at hl 2 rfl) ?_
    refine lv_aload_n hx hb dX10_isOn_52 rfl (lv_at hl 2 rfl) ?_
    refine va_get (D := D) (ci := 9) (v := .ref ys_) (C := RX10) (T := TX10) (N := 21) hx hb hts in_X10 hown hK.1 hP 5 rfl rfl 6 (Nat.le_of_ble_eq_true rfl) (hts _ q975) (fun _ h9 => h9) rfl dX10_isOn_53 ?_
    refine lv_iload_n hx hb dX10_isOn_56 rfl (lv_at hl 0 rfl) ?_
    refine zz_iaload (f := YS) (i := TM k) hx hb hK.1 hP 1 0 rfl rfl (by omega) (by decide) dX10_isOn_57 ?_
    refine zz_i2l hx hb (hYS _).i dX10_isOn_58 ?_
    refine zc_wrV (rest := [.int (iZ (mX y0 dy V0 V1 (YS (FM k))))]) (wr := [(xs_, .inl (dA 0, 4096, .inl fun j => iZ (XS j))), (ys_, .inl (dA 0, 4096, .inl fun j => iZ (YS j))), (fr_, .inl (dA 0, 4096, .inl fun j => nI (FM j))), (tw, .inl (dA 0, 4096, .inl fun j => nI (TM j))), (wo_, .inl (dA 0, 4096, .inl fun j => nI (WO j)))]) ⟨hx, hb, hml, hown, hts⟩ (metX10_overY lG D dA m0 thr kn pt pa bg xs_ ys_ sgm fr_ tw wo_ mt ha_ x0 y0 dx dy zz ct ov un ZZ2_6 V0 V1 (YS (TM k)) (by first | assumption | omega) (by first | assumption | omega) (by first | assumption | omega) (by first | assumption | omega) (by first | assumption | omega) (hYS _)) (cwV 1 hts (lw_V q1138 q1140 qs47 q80 q1141) rfl rfl rfl (by decide +kernel) ⟨Nat.le_of_ble_eq_true rfl, Nat.le_of_ble_eq_true rfl⟩) (va_recv hK.1 hP (ci := 9) (q0 := 5) rfl rfl) hP hK hD hS hA [5, 6] [0, 1, 2, 3, 4] rfl rfl (by decide) (by decide) (by decide) rfl hl.1 rfl (Nat.le_of_ble_eq_true rfl) dX10_isOn_59 ⟨Nat.zero_le _, Nat.zero_le _⟩ (fun u H locs hp_9 hP hD hS => ?_)
    obtain ⟨ZZ2_8, rfl⟩ : ∃ z, z = u := ⟨_, rfl⟩
    have hP : va_P D zCl [(xs_, .inl (dA 0, 4096, .inl fun j => iZ (XS j))), (ys_, .inl (dA 0, 4096, .inl fun j => iZ (YS j))), (fr_, .inl (dA 0, 4096, .inl fun j => nI (FM j))), (tw, .inl (dA 0, 4096, .inl fun j => nI (TM j))), (wo_, .inl (dA 0, 4096, .inl fun j => nI (WO j))), (m0, .inr (9, [.int (nI thr), .ref kn, .ref pt, .ref pa, .ref bg, .ref xs_, .ref ys_, .int (nI sgm), .ref fr_, .ref tw, .ref wo_, .ref mt, .ref ha_, .long (lZ x0), .long (lZ y0), .long (lZ dx), .long (lZ dy), .ref zz, .int (nI ct), .ref ov, .ref un])), (zz, .inl (dA 1, 192, .inr (.inl fun j => lZ (ZZ2_8 j))))] H := hP
    have hD : va_D A [(xs_, .inl (dA 0, 4096, .inl fun j => iZ (XS j))), (ys_, .inl (dA 0, 4096, .inl fun j => iZ (YS j))), (fr_, .inl (dA 0, 4096, .inl fun j => nI (FM j))), (tw, .inl (dA 0, 4096, .inl fun j => nI (TM j))), (wo_, .inl (dA 0, 4096, .inl fun j => nI (WO j))), (m0, .inr (9, [.int (nI thr), .ref kn, .ref pt, .ref pa, .ref bg, .ref xs_, .ref ys_, .int (nI sgm), .ref fr_, .ref tw, .ref wo_, .ref mt, .ref ha_, .long (lZ x0), .long (lZ y0), .long (lZ dx), .long (lZ dy), .ref zz, .int (nI ct), .ref ov, .ref un])), (zz, .inl (dA 1, 192, .inr (.inl fun j => lZ (ZZ2_8 j))))] := hD
    have hp_9 : ptOK ZZ2_8 V0 V1 := hp_9
    show W _ _ _ _ _ _ _ _ _ _ _ _ 0 0 _ (F0 mG 62 ls [.int (iZ (mX y0 dy V0 V1 (YS (TM k)))), .int (iZ (mX y0 dy V0 V1 (YS (FM k))))])
    refine zz_imul hx hb dX10_isOn_62 ?_
    refine zz_if_gt (tgt := 79) hx hb mXX_I dX10_isOn_63 (by decide) (fun c_10 => ?_) (fun c_10 => ?_)
    · skip
      refine lv_iconst (v := bI false) hx hb dX10_isOn_79 (by decide) ?_
      exact zr_wrB (u := (ZZ2_8)) (congrArg (fun z => some (Value.int (bI z))) (show _ = onK x0 y0 dx dy V0 V1 XS YS FM TM k from (by unfold onK onM; first | (rw [decide_eq_true (by assumption), decide_eq_true (by assumption), decide_eq_true (by assumption)]; rfl) | (rw [decide_eq_true (by assumption), decide_eq_true (by assumption), decide_eq_false (by assumption)]; rfl) | (rw [decide_eq_true (by assumption), decide_eq_false (by omega)]; rfl) | (rw [decide_eq_false (by omega)]; rfl)))) (show ptOK ZZ2_8 V0 V1 from (by first | assumption | omega)) (hP.sub [5, 6, 0, 1, 2, 3, 4] rfl) (hD.sub [5, 6, 0, 1, 2, 3, 4] (by decide) rfl) hS hx hb hr hlocks dX10_isOn_80
    · skip
      refine lv_aload_n hx hb dX10_isOn_66 rfl (lv_at hl 2 rfl) ?_
      refine lv_iload_n hx hb dX10_isOn_67 rfl (lv_at hl 1 rfl) ?_
      refine lv_iload_n hx hb dX10_isOn_68 rfl (lv_at hl 0 rfl) ?_
      refine zc_wrV (rest := []) (wr := [(fr_, .inl (dA 0, 4096, .inl fun j => nI (FM j))), (tw, .inl (dA 0, 4096, .inl fun j => nI (TM j))), (wo_, .inl (dA 0, 4096, .inl fun j => nI (WO j)))]) ⟨hx, hb, hml, hown, hts⟩ (metX10_side lG D dA m0 thr kn pt pa bg xs_ ys_ sgm fr_ tw wo_ mt ha_ x0 y0 dx dy zz ct ov un ZZ2_8 V0 V1 XS YS (FM k) (TM k) (by first | assumption | omega) (by first | assumption | omega) (by first | assumption | omega) (by first | assumption | omega) (by first | assumption | omega) (by first | assumption | omega) (by first | assumption | omega) (by first | assumption | omega) (by first | assumption | omega)) (cwV 2 hts (lw_V q1150 q1152 qs50 q80 q1153) rfl rfl rfl (by decide +kernel) ⟨Nat.le_of_ble_eq_true rfl, Nat.le_of_ble_eq_true rfl⟩) (va_recv hK.1 hP (ci := 9) (q0 := 5) rfl rfl) hP hK hD hS hA [5, 6, 0, 1] [2, 3, 4] rfl rfl (by decide) (by decide) (by decide) rfl hl.1 rfl (Nat.le_of_ble_eq_true rfl) dX10_isOn_69 ⟨Nat.zero_le _, Nat.zero_le _⟩ (fun u H locs hp_12 hP hD hS => ?_)
      obtain ⟨ZZ2_11, rfl⟩ : ∃ z, z = u := ⟨_, rfl⟩
      have hP : va_P D zCl [(fr_, .inl (dA 0, 4096, .inl fun j => nI (FM j))), (tw, .inl (dA 0, 4096, .inl fun j => nI (TM j))), (wo_, .inl (dA 0, 4096, .inl fun j => nI (WO j))), (m0, .inr (9, [.int (nI thr), .ref kn, .ref pt, .ref pa, .ref bg, .ref xs_, .ref ys_, .int (nI sgm), .ref fr_, .ref tw, .ref wo_, .ref mt, .ref ha_, .long (lZ x0), .long (lZ y0), .long (lZ dx), .long (lZ dy), .ref zz, .int (nI ct), .ref ov, .ref un])), (zz, .inl (dA 1, 192, .inr (.inl fun j => lZ (ZZ2_11 j)))), (xs_, .inl (dA 0, 4096, .inl fun j => iZ (XS j))), (ys_, .inl (dA 0, 4096, .inl fun j => iZ (YS j)))] H := hP
      have hD : va_D A [(fr_, .inl (dA 0, 4096, .inl fun j => nI (FM j))), (tw, .inl (dA 0, 4096, .inl fun j => nI (TM j))), (wo_, .inl (dA 0, 4096, .inl fun j => nI (WO j))), (m0, .inr (9, [.int (nI thr), .ref kn, .ref pt, .ref pa, .ref bg, .ref xs_, .ref ys_, .int (nI sgm), .ref fr_, .ref tw, .ref wo_, .ref mt, .ref ha_, .long (lZ x0), .long (lZ y0), .long (lZ dx), .long (lZ dy), .ref zz, .int (nI ct), .ref ov, .ref un])), (zz, .inl (dA 1, 192, .inr (.inl fun j => lZ (ZZ2_11 j)))), (xs_, .inl (dA 0, 4096, .inl fun j => iZ (XS j))), (ys_, .inl (dA 0, 4096, .inl fun j => iZ (YS j)))] := hD
      have hp_12 : ptOK ZZ2_11 V0 V1 := hp_12
      show W _ _ _ _ _ _ _ _ _ _ _ _ 0 0 _ (F0 mG 72 ls [.int (iZ (mS x0 y0 dx dy V0 V1 (XS (FM k)) (YS (FM k)) (XS (TM k)) (YS (TM k))))])
      refine zz_if_ne (tgt := 79) hx hb mS_I dX10_isOn_72 (by decide) (fun c_13 => ?_) (fun c_13 => ?_)
      · skip
        refine lv_iconst (v := bI false) hx hb dX10_isOn_79 (by decide) ?_
        exact zr_wrB (u := (ZZ2_11)) (congrArg (fun z => some (Value.int (bI z))) (show _ = onK x0 y0 dx dy V0 V1 XS YS FM TM k from (by unfold onK onM; first | (rw [decide_eq_true (by assumption), decide_eq_true (by assumption), decide_eq_true (by assumption)]; rfl) | (rw [decide_eq_true (by assumption), decide_eq_true (by assumption), decide_eq_false (by assumption)]; rfl) | (rw [decide_eq_true (by assumption), decide_eq_false (by omega)]; rfl) | (rw [decide_eq_false (by omega)]; rfl)))) (show ptOK ZZ2_11 V0 V1 from (by first | assumption | omega)) (hP.sub [3, 4, 5, 6, 0, 1, 2] rfl) (hD.sub [3, 4, 5, 6, 0, 1, 2] (by decide) rfl) hS hx hb hr hlocks dX10_isOn_80
      · skip
        refine lv_iconst (v := bI true) hx hb dX10_isOn_75 (by decide) ?_
        refine lv_goto (tgt := 80) hx hb dX10_isOn_76 (by decide) ?_
        exact zr_wrB (u := (ZZ2_11)) (congrArg (fun z => some (Value.int (bI z))) (show _ = onK x0 y0 dx dy V0 V1 XS YS FM TM k from (by unfold onK onM; first | (rw [decide_eq_true (by assumption), decide_eq_true (by assumption), decide_eq_true (by assumption)]; rfl) | (rw [decide_eq_true (by assumption), decide_eq_true (by assumption), decide_eq_false (by assumption)]; rfl) | (rw [decide_eq_true (by assumption), decide_eq_false (by omega)]; rfl) | (rw [decide_eq_false (by omega)]; rfl)))) (show ptOK ZZ2_11 V0 V1 from (by first | assumption | omega)) (hP.sub [3, 4, 5, 6, 0, 1, 2] rfl) (hD.sub [3, 4, 5, 6, 0, 1, 2] (by decide) rfl) hS hx hb hr hlocks dX10_isOn_80
set_option maxHeartbeats 4000000 in
set_option maxRecDepth 100000 in
theorem metX10_crosses (lG : Launch) (D : va_G) (dA : Nat → ClassId) (m0 : Nat) (thr : Nat) (kn : Nat) (pt : Nat) (pa : Nat) (bg : Nat) (xs_ : Nat) (ys_ : Nat) (sgm : Nat) (fr_ : Nat) (tw : Nat) (wo_ : Nat) (mt : Nat) (ha_ : Nat) (x0 : Int) (y0 : Int) (dx : Int) (dy : Int) (zz : Nat) (ct : Nat) (ov : Nat) (un : Nat) (ZZ : Nat → Int) (V0 : Int) (V1 : Int) (XS : Nat → Int) (YS : Nat → Int) (FM : Nat → Nat) (TM : Nat → Nat) (WO : Nat → Nat) (k : Nat) (hp : ptOK ZZ V0 V1) (hx0 : cB x0) (hy0 : cB y0) (hdx : dB dx) (hdy : dB dy) (hXS : ∀ k, cB (XS k)) (hYS : ∀ k, cB (YS k)) (hFM : ∀ k, k < sgm → FM k < 4096) (hTM : ∀ k, k < sgm → TM k < 4096) (hsgm : sgm ≤ 4096) (hk : k < sgm) : Wr lG yX10_crosses (ws_ yX10_crosses cX10_crosses 4 (some .boolean)) 4 101 D dA [.ref m0, .int (nI k)] [(m0, .inr (9, [.int (nI thr), .ref kn, .ref pt, .ref pa, .ref bg, .ref xs_, .ref ys_, .int (nI sgm), .ref fr_, .ref tw, .ref wo_, .ref mt, .ref ha_, .long (lZ x0), .long (lZ y0), .long (lZ dx), .long (lZ dy), .ref zz, .int (nI ct), .ref ov, .ref un])), (zz, .inl (dA 1, 192, .inr (.inl fun j => lZ (ZZ j)))), (xs_, .inl (dA 0, 4096, .inl fun j => iZ (XS j))), (ys_, .inl (dA 0, 4096, .inl fun j => iZ (YS j))), (fr_, .inl (dA 0, 4096, .inl fun j => nI (FM j))), (tw, .inl (dA 0, 4096, .inl fun j => nI (TM j))), (wo_, .inl (dA 0, 4096, .inl fun j => nI (WO j)))] 0 0 (fun (u : (Nat → Int)) => let ZZ2 := u; ptOK ZZ2 V0 V1) (fun (u : (Nat → Int)) => let ZZ2 := u; some (.int (bI (crK x0 y0 dx dy V0 V1 XS YS FM TM k)))) (fun (u : (Nat → Int)) => let ZZ2 := u; [(m0, .inr (9, [.int (nI thr), .ref kn, .ref pt, .ref pa, .ref bg, .ref xs_, .ref ys_, .int (nI sgm), .ref fr_, .ref tw, .ref wo_, .ref mt, .ref ha_, .long (lZ x0), .long (lZ y0), .long (lZ dx), .long (lZ dy), .ref zz, .int (nI ct), .ref ov, .ref un])), (zz, .inl (dA 1, 192, .inr (.inl fun j => lZ (ZZ2 j)))), (xs_, .inl (dA 0, 4096, .inl fun j => iZ (XS j))), (ys_, .inl (dA 0, 4096, .inl fun j => iZ (YS j))), (fr_, .inl (dA 0, 4096, .inl fun j => nI (FM j))), (tw, .inl (dA 0, 4096, .inl fun j => nI (TM j))), (wo_, .inl (dA 0, 4096, .inl fun j => nI (WO j)))]) := by
  refine Wr.of (by decide) (Nat.le_of_ble_eq_true rfl) ?_
  intro pG eG sG mG bG tG cG ls A hx hb hr hml hown hts hlocks hnm hP hK hD hS hA hl
  have hK1 := hK.1
  have hown : sG.vm.findClass RX10 = some mG.cls := hown
  have hl : lv_has ls 4 [(0, .ref m0), (1, .int (nI k))] := hl
  have hf := hFM k hk
  have ht := hTM k hk
  refine lv_aload_n hx hb dX10_crosses_0 rfl (lv_at hl 0 rfl) ?_
  refine lv_aload_n hx hb dX10_crosses_1 rfl (lv_at hl 0 rfl) ?_
  refine va_get (D := D) (ci := 9) (v := .ref ys_) (C := RX10) (T := TX10) (N := 21) hx hb hts in_X10 hown hK.1 hP 0 rfl rfl 6 (Nat.le_of_ble_eq_true rfl) (hts _ q975) (fun _ h9 => h9) rfl dX10_crosses_2 ?_
  refine lv_aload_n hx hb dX10_crosses_5 rfl (lv_at hl 0 rfl) ?_
  refine va_get (D := D) (ci := 9) (v := .ref fr_) (C := RX10) (T := TX10) (N := 21) hx hb hts in_X10 hown hK.1 hP 0 rfl rfl 8 (Nat.le_of_ble_eq_true rfl) (hts _ q977) (fun _ h9 => h9) rfl dX10_crosses_6 ?_
  refine lv_iload_n hx hb dX10_crosses_9 rfl (lv_at hl 1 rfl) ?_
  refine zn_iaload (f := FM) (i := k) hx hb hK.1 hP 4 0 rfl rfl (by omega) (by decide) dX10_crosses_10 ?_
  refine zz_iaload (f := YS) (i := FM k) hx hb hK.1 hP 3 0 rfl rfl (by omega) (by decide) dX10_crosses_11 ?_
  refine zz_i2l hx hb (hYS _).i dX10_crosses_12 ?_
  refine zc_wrV (rest := []) (wr := [(xs_, .inl (dA 0, 4096, .inl fun j => iZ (XS j))), (ys_, .inl (dA 0, 4096, .inl fun j => iZ (YS j))), (fr_, .inl (dA 0, 4096, .inl fun j => nI (FM j))), (tw, .inl (dA 0, 4096, .inl fun j => nI (TM j))), (wo_, .inl (dA 0, 4096, .inl fun j => nI (WO j)))]) ⟨hx, hb, hml, hown, hts⟩ (metX10_overY lG D dA m0 thr kn pt pa bg xs_ ys_ sgm fr_ tw wo_ mt ha_ x0 y0 dx dy zz ct ov un ZZ V0 V1 (YS (FM k)) (by first | assumption | omega) (by first | assumption | omega) (by first | assumption | omega) (by first | assumption | omega) (by first | assumption | omega) (hYS _)) (cwV 1 hts (lw_V q1138 q1140 qs47 q80 q1141) rfl rfl rfl (by decide +kernel) ⟨Nat.le_of_ble_eq_true rfl, Nat.le_of_ble_eq_true rfl⟩) (va_recv hK.1 hP (ci := 9) (q0 := 0) rfl rfl) hP hK hD hS hA [0, 1] [2, 3, 4, 5, 6] rfl rfl (by decide) (by decide) (by decide) rfl hl.1 rfl (Nat.le_of_ble_eq_true rfl) dX10_crosses_13 ⟨Nat.zero_le _, Nat.zero_le _⟩ (fun u H locs hp_2 hP hD hS => ?_)
  obtain ⟨ZZ2_1, rfl⟩ : ∃ z, z = u := ⟨_, rfl⟩
  have hP : va_P D zCl [(xs_, .inl (dA 0, 4096, .inl fun j => iZ (XS j))), (ys_, .inl (dA 0, 4096, .inl fun j => iZ (YS j))), (fr_, .inl (dA 0, 4096, .inl fun j => nI (FM j))), (tw, .inl (dA 0, 4096, .inl fun j => nI (TM j))), (wo_, .inl (dA 0, 4096, .inl fun j => nI (WO j))), (m0, .inr (9, [.int (nI thr), .ref kn, .ref pt, .ref pa, .ref bg, .ref xs_, .ref ys_, .int (nI sgm), .ref fr_, .ref tw, .ref wo_, .ref mt, .ref ha_, .long (lZ x0), .long (lZ y0), .long (lZ dx), .long (lZ dy), .ref zz, .int (nI ct), .ref ov, .ref un])), (zz, .inl (dA 1, 192, .inr (.inl fun j => lZ (ZZ2_1 j))))] H := hP
  have hD : va_D A [(xs_, .inl (dA 0, 4096, .inl fun j => iZ (XS j))), (ys_, .inl (dA 0, 4096, .inl fun j => iZ (YS j))), (fr_, .inl (dA 0, 4096, .inl fun j => nI (FM j))), (tw, .inl (dA 0, 4096, .inl fun j => nI (TM j))), (wo_, .inl (dA 0, 4096, .inl fun j => nI (WO j))), (m0, .inr (9, [.int (nI thr), .ref kn, .ref pt, .ref pa, .ref bg, .ref xs_, .ref ys_, .int (nI sgm), .ref fr_, .ref tw, .ref wo_, .ref mt, .ref ha_, .long (lZ x0), .long (lZ y0), .long (lZ dx), .long (lZ dy), .ref zz, .int (nI ct), .ref ov, .ref un])), (zz, .inl (dA 1, 192, .inr (.inl fun j => lZ (ZZ2_1 j))))] := hD
  have hp_2 : ptOK ZZ2_1 V0 V1 := hp_2
  show W _ _ _ _ _ _ _ _ _ _ _ _ 0 0 _ (F0 mG 16 ls [.int (iZ (mX y0 dy V0 V1 (YS (FM k))))])
  refine zz_if_ge (tgt := 23) hx hb mX_I dX10_crosses_16 (by decide) (fun c_3 => ?_) (fun c_3 => ?_)
  · skip
    refine lv_iconst (v := nI 0) hx hb dX10_crosses_23 (by decide) ?_
    refine lv_istore_n (lv' := [(2, .int (nI 0)), (0, .ref m0), (1, .int (nI k))]) hx hb dX10_crosses_24 rfl hl (by decide) rfl (fun ls hl => ?_)
    refine lv_aload_n hx hb dX10_crosses_25 rfl (lv_at hl 1 rfl) ?_
    refine lv_aload_n hx hb dX10_crosses_26 rfl (lv_at hl 1 rfl) ?_
    refine va_get (D := D) (ci := 9) (v := .ref ys_) (C := RX10) (T := TX10) (N := 21) hx hb hts in_X10 hown hK.1 hP 5 rfl rfl 6 (Nat.le_of_ble_eq_true rfl) (hts _ q975) (fun _ h9 => h9) rfl dX10_crosses_27 ?_
    refine lv_aload_n hx hb dX10_crosses_30 rfl (lv_at hl 1 rfl) ?_
    refine va_get (D := D) (ci := 9) (v := .ref tw) (C := RX10) (T := TX10) (N := 21) hx hb hts in_X10 hown hK.1 hP 5 rfl rfl 9 (Nat.le_of_ble_eq_true rfl) (hts _ q978) (fun _ h9 => h9) rfl dX10_crosses_31 ?_
    refine lv_iload_n hx hb dX10_crosses_34 rfl (lv_at hl 2 rfl) ?_
    refine zn_iaload (f := TM) (i := k) hx hb hK.1 hP 3 0 rfl rfl (by omega) (by decide) dX10_crosses_35 ?_
    refine zz_iaload (f := YS) (i := TM k) hx hb hK.1 hP 1 0 rfl rfl (by omega) (by decide) dX10_crosses_36 ?_
    refine zz_i2l hx hb (hYS _).i dX10_crosses_37 ?_
    refine zc_wrV (rest := []) (wr := [(xs_, .inl (dA 0, 4096, .inl fun j => iZ (XS j))), (ys_, .inl (dA 0, 4096, .inl fun j => iZ (YS j))), (fr_, .inl (dA 0, 4096, .inl fun j => nI (FM j))), (tw, .inl (dA 0, 4096, .inl fun j => nI (TM j))), (wo_, .inl (dA 0, 4096, .inl fun j => nI (WO j)))]) ⟨hx, hb, hml, hown, hts⟩ (metX10_overY lG D dA m0 thr kn pt pa bg xs_ ys_ sgm fr_ tw wo_ mt ha_ x0 y0 dx dy zz ct ov un ZZ2_1 V0 V1 (YS (TM k)) (by first | assumption | omega) (by first | assumption | omega) (by first | assumption | omega) (by first | assumption | omega) (by first | assumption | omega) (hYS _)) (cwV 1 hts (lw_V q1138 q1140 qs47 q80 q1141) rfl rfl rfl (by decide +kernel) ⟨Nat.le_of_ble_eq_true rfl, Nat.le_of_ble_eq_true rfl⟩) (va_recv hK.1 hP (ci := 9) (q0 := 5) rfl rfl) hP hK hD hS hA [5, 6] [0, 1, 2, 3, 4] rfl rfl (by decide) (by decide) (by decide) rfl hl.1 rfl (Nat.le_of_ble_eq_true rfl) dX10_crosses_38 ⟨Nat.zero_le _, Nat.zero_le _⟩ (fun u H locs hp_5 hP hD hS => ?_)
    obtain ⟨ZZ2_4, rfl⟩ : ∃ z, z = u := ⟨_, rfl⟩
    have hP : va_P D zCl [(xs_, .inl (dA 0, 4096, .inl fun j => iZ (XS j))), (ys_, .inl (dA 0, 4096, .inl fun j => iZ (YS j))), (fr_, .inl (dA 0, 4096, .inl fun j => nI (FM j))), (tw, .inl (dA 0, 4096, .inl fun j => nI (TM j))), (wo_, .inl (dA 0, 4096, .inl fun j => nI (WO j))), (m0, .inr (9, [.int (nI thr), .ref kn, .ref pt, .ref pa, .ref bg, .ref xs_, .ref ys_, .int (nI sgm), .ref fr_, .ref tw, .ref wo_, .ref mt, .ref ha_, .long (lZ x0), .long (lZ y0), .long (lZ dx), .long (lZ dy), .ref zz, .int (nI ct), .ref ov, .ref un])), (zz, .inl (dA 1, 192, .inr (.inl fun j => lZ (ZZ2_4 j))))] H := hP
    have hD : va_D A [(xs_, .inl (dA 0, 4096, .inl fun j => iZ (XS j))), (ys_, .inl (dA 0, 4096, .inl fun j => iZ (YS j))), (fr_, .inl (dA 0, 4096, .inl fun j => nI (FM j))), (tw, .inl (dA 0, 4096, .inl fun j => nI (TM j))), (wo_, .inl (dA 0, 4096, .inl fun j => nI (WO j))), (m0, .inr (9, [.int (nI thr), .ref kn, .ref pt, .ref pa, .ref bg, .ref xs_, .ref ys_, .int (nI sgm), .ref fr_, .ref tw, .ref wo_, .ref mt, .ref ha_, .long (lZ x0), .long (lZ y0), .long (lZ dx), .long (lZ dy), .ref zz, .int (nI ct), .ref ov, .ref un])), (zz, .inl (dA 1, 192, .inr (.inl fun j => lZ (ZZ2_4 j))))] := hD
    have hp_5 : ptOK ZZ2_4 V0 V1 := hp_5
    show W _ _ _ _ _ _ _ _ _ _ _ _ 0 0 _ (F0 mG 41 ls [.int (iZ (mX y0 dy V0 V1 (YS (TM k))))])
    refine zz_if_ge (tgt := 48) hx hb mX_I dX10_crosses_41 (by decide) (fun c_6 => ?_) (fun c_6 => ?_)
    · skip
      refine lv_iconst (v := nI 0) hx hb dX10_crosses_48 (by decide) ?_
      refine lv_istore_n (lv' := [(3, .int (nI 0)), (2, .int (nI 0)), (0, .ref m0), (1, .int (nI k))]) hx hb dX10_crosses_49 rfl hl (by decide) rfl (fun ls hl => ?_)
      refine lv_iload_n hx hb dX10_crosses_50 rfl (lv_at hl 1 rfl) ?_
      refine lv_iload_n hx hb dX10_crosses_51 rfl (lv_at hl 0 rfl) ?_
      refine zn_icmp_ne (tgt := 57) hx hb (by decide) (by decide) dX10_crosses_52 (by decide) (fun c_7 => ?_) (fun c_7 => ?_)
      · skip
        exfalso; omega
      · skip
        refine lv_iconst (v := bI false) hx hb dX10_crosses_55 (by decide) ?_
        exact zr_wrB (u := (ZZ2_4)) (congrArg (fun z => some (Value.int (bI z))) (show _ = crK x0 y0 dx dy V0 V1 XS YS FM TM k from (by unfold crK crM; first | (rw [if_pos (by assumption), if_pos (by assumption)]; done) | (rw [if_pos (by assumption), if_neg (by omega), decide_eq_true (by assumption)]; done) | (rw [if_pos (by assumption), if_neg (by omega), decide_eq_false (by omega)]; done) | (rw [if_neg (by omega), if_pos (by assumption), decide_eq_true (by assumption)]; done) | (rw [if_neg (by omega), if_pos (by assumption), decide_eq_false (by omega)]; done) | (rw [if_neg (by omega), if_neg (by omega)]; done)))) (show ptOK ZZ2_4 V0 V1 from (by first | assumption | omega)) (hP.sub [5, 6, 0, 1, 2, 3, 4] rfl) (hD.sub [5, 6, 0, 1, 2, 3, 4] (by decide) rfl) hS hx hb hr hlocks dX10_crosses_56
    · skip
      refine lv_iconst (v := nI 1) hx hb dX10_crosses_44 (by decide) ?_
      refine lv_goto (tgt := 49) hx hb dX10_crosses_45 (by decide) ?_
      refine lv_istore_n (lv' := [(3, .int (nI 1)), (2, .int (nI 0)), (0, .ref m0), (1, .int (nI k))]) hx hb dX10_crosses_49 rfl hl (by decide) rfl (fun ls hl => ?_)
      refine lv_iload_n hx hb dX10_crosses_50 rfl (lv_at hl 1 rfl) ?_
      refine lv_iload_n hx hb dX10_crosses_51 rfl (lv_at hl 0 rfl) ?_
      refine zn_icmp_ne (tgt := 57) hx hb (by decide) (by decide) dX10_crosses_52 (by decide) (fun c_8 => ?_) (fun c_8 => ?_)
      · skip
        refine lv_iload_n hx hb dX10_crosses_57 rfl (lv_at hl 1 rfl) ?_
        refine zn_if_eq (tgt := 88) hx hb (by decide) dX10_crosses_58 (by decide) (fun c_9 => ?_) (fun c_9 => ?_)
        · skip
          refine lv_aload_n hx hb dX10_crosses_88 rfl (lv_at hl 2 rfl) ?_
          refine lv_aload_n hx hb dX10_crosses_89 rfl (lv_at hl 2 rfl) ?_
          refine va_get (D := D) (ci := 9) (v := .ref fr_) (C := RX10) (T := TX10) (N := 21) hx hb hts in_X10 hown hK.1 hP 5 rfl rfl 8 (Nat.le_of_ble_eq_true rfl) (hts _ q977) (fun _ h9 => h9) rfl dX10_crosses_90 ?_
          refine lv_iload_n hx hb dX10_crosses_93 rfl (lv_at hl 3 rfl) ?_
          refine zn_iaload (f := FM) (i := k) hx hb hK.1 hP 2 0 rfl rfl (by omega) (by decide) dX10_crosses_94 ?_
          refine lv_aload_n hx hb dX10_crosses_95 rfl (lv_at hl 2 rfl) ?_
          refine va_get (D := D) (ci := 9) (v := .ref tw) (C := RX10) (T := TX10) (N := 21) hx hb hts in_X10 hown hK.1 hP 5 rfl rfl 9 (Nat.le_of_ble_eq_true rfl) (hts _ q978) (fun _ h9 => h9) rfl dX10_crosses_96 ?_
          refine lv_iload_n hx hb dX10_crosses_99 rfl (lv_at hl 3 rfl) ?_
          refine zn_iaload (f := TM) (i := k) hx hb hK.1 hP 3 0 rfl rfl (by omega) (by decide) dX10_crosses_100 ?_
          refine zc_wrV (rest := []) (wr := [(fr_, .inl (dA 0, 4096, .inl fun j => nI (FM j))), (tw, .inl (dA 0, 4096, .inl fun j => nI (TM j))), (wo_, .inl (dA 0, 4096, .inl fun j => nI (WO j)))]) ⟨hx, hb, hml, hown, hts⟩ (metX10_side lG D dA m0 thr kn pt pa bg xs_ ys_ sgm fr_ tw wo_ mt ha_ x0 y0 dx dy zz ct ov un ZZ2_4 V0 V1 XS YS (FM k) (TM k) (by first | assumption | omega) (by first | assumption | omega) (by first | assumption | omega) (by first | assumption | omega) (by first | assumption | omega) (by first | assumption | omega) (by first | assumption | omega) (by first | assumption | omega) (by first | assumption | omega)) (cwV 2 hts (lw_V q1150 q1152 qs50 q80 q1153) rfl rfl rfl (by decide +kernel) ⟨Nat.le_of_ble_eq_true rfl, Nat.le_of_ble_eq_true rfl⟩) (va_recv hK.1 hP (ci := 9) (q0 := 5) rfl rfl) hP hK hD hS hA [5, 6, 0, 1] [2, 3, 4] rfl rfl (by decide) (by decide) (by decide) rfl hl.1 rfl (Nat.le_of_ble_eq_true rfl) dX10_crosses_101 ⟨Nat.zero_le _, Nat.zero_le _⟩ (fun u H locs hp_11 hP hD hS => ?_)
          obtain ⟨ZZ2_10, rfl⟩ : ∃ z, z = u := ⟨_, rfl⟩
          have hP : va_P D zCl [(fr_, .inl (dA 0, 4096, .inl fun j => nI (FM j))), (tw, .inl (dA 0, 4096, .inl fun j => nI (TM j))), (wo_, .inl (dA 0, 4096, .inl fun j => nI (WO j))), (m0, .inr (9, [.int (nI thr), .ref kn, .ref pt, .ref pa, .ref bg, .ref xs_, .ref ys_, .int (nI sgm), .ref fr_, .ref tw, .ref wo_, .ref mt, .ref ha_, .long (lZ x0), .long (lZ y0), .long (lZ dx), .long (lZ dy), .ref zz, .int (nI ct), .ref ov, .ref un])), (zz, .inl (dA 1, 192, .inr (.inl fun j => lZ (ZZ2_10 j)))), (xs_, .inl (dA 0, 4096, .inl fun j => iZ (XS j))), (ys_, .inl (dA 0, 4096, .inl fun j => iZ (YS j)))] H := hP
          have hD : va_D A [(fr_, .inl (dA 0, 4096, .inl fun j => nI (FM j))), (tw, .inl (dA 0, 4096, .inl fun j => nI (TM j))), (wo_, .inl (dA 0, 4096, .inl fun j => nI (WO j))), (m0, .inr (9, [.int (nI thr), .ref kn, .ref pt, .ref pa, .ref bg, .ref xs_, .ref ys_, .int (nI sgm), .ref fr_, .ref tw, .ref wo_, .ref mt, .ref ha_, .long (lZ x0), .long (lZ y0), .long (lZ dx), .long (lZ dy), .ref zz, .int (nI ct), .ref ov, .ref un])), (zz, .inl (dA 1, 192, .inr (.inl fun j => lZ (ZZ2_10 j)))), (xs_, .inl (dA 0, 4096, .inl fun j => iZ (XS j))), (ys_, .inl (dA 0, 4096, .inl fun j => iZ (YS j)))] := hD
          have hp_11 : ptOK ZZ2_10 V0 V1 := hp_11
          show W _ _ _ _ _ _ _ _ _ _ _ _ 0 0 _ (F0 mG 104 ls [.int (iZ (mS x0 y0 dx dy V0 V1 (XS (FM k)) (YS (FM k)) (XS (TM k)) (YS (TM k))))])
          refine zz_if_le (tgt := 111) hx hb mS_I dX10_crosses_104 (by decide) (fun c_12 => ?_) (fun c_12 => ?_)
          · skip
            refine lv_iconst (v := bI false) hx hb dX10_crosses_111 (by decide) ?_
            exact zr_wrB (u := (ZZ2_10)) (congrArg (fun z => some (Value.int (bI z))) (show _ = crK x0 y0 dx dy V0 V1 XS YS FM TM k from (by unfold crK crM; first | (rw [if_pos (by assumption), if_pos (by assumption)]; done) | (rw [if_pos (by assumption), if_neg (by omega), decide_eq_true (by assumption)]; done) | (rw [if_pos (by assumption), if_neg (by omega), decide_eq_false (by omega)]; done) | (rw [if_neg (by omega), if_pos (by assumption), decide_eq_true (by assumption)]; done) | (rw [if_neg (by omega), if_pos (by assumption), decide_eq_false (by omega)]; done) | (rw [if_neg (by omega), if_neg (by omega)]; done)))) (show ptOK ZZ2_10 V0 V1 from (by first | assumption | omega)) (hP.sub [3, 4, 5, 6, 0, 1, 2] rfl) (hD.sub [3, 4, 5, 6, 0, 1, 2] (by decide) rfl) hS hx hb hr hlocks dX10_crosses_112
          · skip
            refine lv_iconst (v := bI true) hx hb dX10_crosses_107 (by decide) ?_
            refine lv_goto (tgt := 112) hx hb dX10_crosses_108 (by decide) ?_
            exact zr_wrB (u := (ZZ2_10)) (congrArg (fun z => some (Value.int (bI z))) (show _ = crK x0 y0 dx dy V0 V1 XS YS FM TM k from (by unfold crK crM; first | (rw [if_pos (by assumption), if_pos (by assumption)]; done) | (rw [if_pos (by assumption), if_neg (by omega), decide_eq_true (by assumption)]; done) | (rw [if_pos (by assumption), if_neg (by omega), decide_eq_false (by omega)]; done) | (rw [if_neg (by omega), if_pos (by assumption), decide_eq_true (by assumption)]; done) | (rw [if_neg (by omega), if_pos (by assumption), decide_eq_false (by omega)]; done) | (rw [if_neg (by omega), if_neg (by omega)]; done)))) (show ptOK ZZ2_10 V0 V1 from (by first | assumption | omega)) (hP.sub [3, 4, 5, 6, 0, 1, 2] rfl) (hD.sub [3, 4, 5, 6, 0, 1, 2] (by decide) rfl) hS hx hb hr hlocks dX10_crosses_112
        · skip
          exfalso; omega
      · skip
        exfalso; omega
  · skip
    refine lv_iconst (v := nI 1) hx hb dX10_crosses_19 (by decide) ?_
    refine lv_goto (tgt := 24) hx hb dX10_crosses_20 (by decide) ?_
    refine lv_istore_n (lv' := [(2, .int (nI 1)), (0, .ref m0), (1, .int (nI k))]) hx hb dX10_crosses_24 rfl hl (by decide) rfl (fun ls hl => ?_)
    refine lv_aload_n hx hb dX10_crosses_25 rfl (lv_at hl 1 rfl) ?_
    refine lv_aload_n hx hb dX10_crosses_26 rfl (lv_at hl 1 rfl) ?_
    refine va_get (D := D) (ci := 9) (v := .ref ys_) (C := RX10) (T := TX10) (N := 21) hx hb hts in_X10 hown hK.1 hP 5 rfl rfl 6 (Nat.le_of_ble_eq_true rfl) (hts _ q975) (fun _ h9 => h9) rfl dX10_crosses_27 ?_
    refine lv_aload_n hx hb dX10_crosses_30 rfl (lv_at hl 1 rfl) ?_
    refine va_get (D := D) (ci := 9) (v := .ref tw) (C := RX10) (T := TX10) (N := 21) hx hb hts in_X10 hown hK.1 hP 5 rfl rfl 9 (Nat.le_of_ble_eq_true rfl) (hts _ q978) (fun _ h9 => h9) rfl dX10_crosses_31 ?_
    refine lv_iload_n hx hb dX10_crosses_34 rfl (lv_at hl 2 rfl) ?_
    refine zn_iaload (f := TM) (i := k) hx hb hK.1 hP 3 0 rfl rfl (by omega) (by decide) dX10_crosses_35 ?_
    refine zz_iaload (f := YS) (i := TM k) hx hb hK.1 hP 1 0 rfl rfl (by omega) (by decide) dX10_crosses_36 ?_
    refine zz_i2l hx hb (hYS _).i dX10_crosses_37 ?_
    refine zc_wrV (rest := []) (wr := [(xs_, .inl (dA 0, 4096, .inl fun j => iZ (XS j))), (ys_, .inl (dA 0, 4096, .inl fun j => iZ (YS j))), (fr_, .inl (dA 0, 4096, .inl fun j => nI (FM j))), (tw, .inl (dA 0, 4096, .inl fun j => nI (TM j))), (wo_, .inl (dA 0, 4096, .inl fun j => nI (WO j)))]) ⟨hx, hb, hml, hown, hts⟩ (metX10_overY lG D dA m0 thr kn pt pa bg xs_ ys_ sgm fr_ tw wo_ mt ha_ x0 y0 dx dy zz ct ov un ZZ2_1 V0 V1 (YS (TM k)) (by first | assumption | omega) (by first | assumption | omega) (by first | assumption | omega) (by first | assumption | omega) (by first | assumption | omega) (hYS _)) (cwV 1 hts (lw_V q1138 q1140 qs47 q80 q1141) rfl rfl rfl (by decide +kernel) ⟨Nat.le_of_ble_eq_true rfl, Nat.le_of_ble_eq_true rfl⟩) (va_recv hK.1 hP (ci := 9) (q0 := 5) rfl rfl) hP hK hD hS hA [5, 6] [0, 1, 2, 3, 4] rfl rfl (by decide) (by decide) (by decide) rfl hl.1 rfl (Nat.le_of_ble_eq_true rfl) dX10_crosses_38 ⟨Nat.zero_le _, Nat.zero_le _⟩ (fun u H locs hp_14 hP hD hS => ?_)
    obtain ⟨ZZ2_13, rfl⟩ : ∃ z, z = u := ⟨_, rfl⟩
    have hP : va_P D zCl [(xs_, .inl (dA 0, 4096, .inl fun j => iZ (XS j))), (ys_, .inl (dA 0, 4096, .inl fun j => iZ (YS j))), (fr_, .inl (dA 0, 4096, .inl fun j => nI (FM j))), (tw, .inl (dA 0, 4096, .inl fun j => nI (TM j))), (wo_, .inl (dA 0, 4096, .inl fun j => nI (WO j))), (m0, .inr (9, [.int (nI thr), .ref kn, .ref pt, .ref pa, .ref bg, .ref xs_, .ref ys_, .int (nI sgm), .ref fr_, .ref tw, .ref wo_, .ref mt, .ref ha_, .long (lZ x0), .long (lZ y0), .long (lZ dx), .long (lZ dy), .ref zz, .int (nI ct), .ref ov, .ref un])), (zz, .inl (dA 1, 192, .inr (.inl fun j => lZ (ZZ2_13 j))))] H := hP
    have hD : va_D A [(xs_, .inl (dA 0, 4096, .inl fun j => iZ (XS j))), (ys_, .inl (dA 0, 4096, .inl fun j => iZ (YS j))), (fr_, .inl (dA 0, 4096, .inl fun j => nI (FM j))), (tw, .inl (dA 0, 4096, .inl fun j => nI (TM j))), (wo_, .inl (dA 0, 4096, .inl fun j => nI (WO j))), (m0, .inr (9, [.int (nI thr), .ref kn, .ref pt, .ref pa, .ref bg, .ref xs_, .ref ys_, .int (nI sgm), .ref fr_, .ref tw, .ref wo_, .ref mt, .ref ha_, .long (lZ x0), .long (lZ y0), .long (lZ dx), .long (lZ dy), .ref zz, .int (nI ct), .ref ov, .ref un])), (zz, .inl (dA 1, 192, .inr (.inl fun j => lZ (ZZ2_13 j))))] := hD
    have hp_14 : ptOK ZZ2_13 V0 V1 := hp_14
    show W _ _ _ _ _ _ _ _ _ _ _ _ 0 0 _ (F0 mG 41 ls [.int (iZ (mX y0 dy V0 V1 (YS (TM k))))])
    refine zz_if_ge (tgt := 48) hx hb mX_I dX10_crosses_41 (by decide) (fun c_15 => ?_) (fun c_15 => ?_)
    · skip
      refine lv_iconst (v := nI 0) hx hb dX10_crosses_48 (by decide) ?_
      refine lv_istore_n (lv' := [(3, .int (nI 0)), (2, .int (nI 1)), (0, .ref m0), (1, .int (nI k))]) hx hb dX10_crosses_49 rfl hl (by decide) rfl (fun ls hl => ?_)
      refine lv_iload_n hx hb dX10_crosses_50 rfl (lv_at hl 1 rfl) ?_
      refine lv_iload_n hx hb dX10_crosses_51 rfl (lv_at hl 0 rfl) ?_
      refine zn_icmp_ne (tgt := 57) hx hb (by decide) (by decide) dX10_crosses_52 (by decide) (fun c_16 => ?_) (fun c_16 => ?_)
      · skip
        refine lv_iload_n hx hb dX10_crosses_57 rfl (lv_at hl 1 rfl) ?_
        refine zn_if_eq (tgt := 88) hx hb (by decide) dX10_crosses_58 (by decide) (fun c_17 => ?_) (fun c_17 => ?_)
        · skip
          exfalso; omega
        · skip
          refine lv_aload_n hx hb dX10_crosses_61 rfl (lv_at hl 2 rfl) ?_
          refine lv_aload_n hx hb dX10_crosses_62 rfl (lv_at hl 2 rfl) ?_
          refine va_get (D := D) (ci := 9) (v := .ref tw) (C := RX10) (T := TX10) (N := 21) hx hb hts in_X10 hown hK.1 hP 5 rfl rfl 9 (Nat.le_of_ble_eq_true rfl) (hts _ q978) (fun _ h9 => h9) rfl dX10_crosses_63 ?_
          refine lv_iload_n hx hb dX10_crosses_66 rfl (lv_at hl 3 rfl) ?_
          refine zn_iaload (f := TM) (i := k) hx hb hK.1 hP 3 0 rfl rfl (by omega) (by decide) dX10_crosses_67 ?_
          refine lv_aload_n hx hb dX10_crosses_68 rfl (lv_at hl 2 rfl) ?_
          refine va_get (D := D) (ci := 9) (v := .ref fr_) (C := RX10) (T := TX10) (N := 21) hx hb hts in_X10 hown hK.1 hP 5 rfl rfl 8 (Nat.le_of_ble_eq_true rfl) (hts _ q977) (fun _ h9 => h9) rfl dX10_crosses_69 ?_
          refine lv_iload_n hx hb dX10_crosses_72 rfl (lv_at hl 3 rfl) ?_
          refine zn_iaload (f := FM) (i := k) hx hb hK.1 hP 2 0 rfl rfl (by omega) (by decide) dX10_crosses_73 ?_
          refine zc_wrV (rest := []) (wr := [(fr_, .inl (dA 0, 4096, .inl fun j => nI (FM j))), (tw, .inl (dA 0, 4096, .inl fun j => nI (TM j))), (wo_, .inl (dA 0, 4096, .inl fun j => nI (WO j)))]) ⟨hx, hb, hml, hown, hts⟩ (metX10_side lG D dA m0 thr kn pt pa bg xs_ ys_ sgm fr_ tw wo_ mt ha_ x0 y0 dx dy zz ct ov un ZZ2_13 V0 V1 XS YS (TM k) (FM k) (by first | assumption | omega) (by first | assumption | omega) (by first | assumption | omega) (by first | assumption | omega) (by first | assumption | omega) (by first | assumption | omega) (by first | assumption | omega) (by first | assumption | omega) (by first | assumption | omega)) (cwV 2 hts (lw_V q1150 q1152 qs50 q80 q1153) rfl rfl rfl (by decide +kernel) ⟨Nat.le_of_ble_eq_true rfl, Nat.le_of_ble_eq_true rfl⟩) (va_recv hK.1 hP (ci := 9) (q0 := 5) rfl rfl) hP hK hD hS hA [5, 6, 0, 1] [2, 3, 4] rfl rfl (by decide) (by decide) (by decide) rfl hl.1 rfl (Nat.le_of_ble_eq_true rfl) dX10_crosses_74 ⟨Nat.zero_le _, Nat.zero_le _⟩ (fun u H locs hp_19 hP hD hS => ?_)
          obtain ⟨ZZ2_18, rfl⟩ : ∃ z, z = u := ⟨_, rfl⟩
          have hP : va_P D zCl [(fr_, .inl (dA 0, 4096, .inl fun j => nI (FM j))), (tw, .inl (dA 0, 4096, .inl fun j => nI (TM j))), (wo_, .inl (dA 0, 4096, .inl fun j => nI (WO j))), (m0, .inr (9, [.int (nI thr), .ref kn, .ref pt, .ref pa, .ref bg, .ref xs_, .ref ys_, .int (nI sgm), .ref fr_, .ref tw, .ref wo_, .ref mt, .ref ha_, .long (lZ x0), .long (lZ y0), .long (lZ dx), .long (lZ dy), .ref zz, .int (nI ct), .ref ov, .ref un])), (zz, .inl (dA 1, 192, .inr (.inl fun j => lZ (ZZ2_18 j)))), (xs_, .inl (dA 0, 4096, .inl fun j => iZ (XS j))), (ys_, .inl (dA 0, 4096, .inl fun j => iZ (YS j)))] H := hP
          have hD : va_D A [(fr_, .inl (dA 0, 4096, .inl fun j => nI (FM j))), (tw, .inl (dA 0, 4096, .inl fun j => nI (TM j))), (wo_, .inl (dA 0, 4096, .inl fun j => nI (WO j))), (m0, .inr (9, [.int (nI thr), .ref kn, .ref pt, .ref pa, .ref bg, .ref xs_, .ref ys_, .int (nI sgm), .ref fr_, .ref tw, .ref wo_, .ref mt, .ref ha_, .long (lZ x0), .long (lZ y0), .long (lZ dx), .long (lZ dy), .ref zz, .int (nI ct), .ref ov, .ref un])), (zz, .inl (dA 1, 192, .inr (.inl fun j => lZ (ZZ2_18 j)))), (xs_, .inl (dA 0, 4096, .inl fun j => iZ (XS j))), (ys_, .inl (dA 0, 4096, .inl fun j => iZ (YS j)))] := hD
          have hp_19 : ptOK ZZ2_18 V0 V1 := hp_19
          show W _ _ _ _ _ _ _ _ _ _ _ _ 0 0 _ (F0 mG 77 ls [.int (iZ (mS x0 y0 dx dy V0 V1 (XS (TM k)) (YS (TM k)) (XS (FM k)) (YS (FM k))))])
          refine zz_if_le (tgt := 84) hx hb mS_I dX10_crosses_77 (by decide) (fun c_20 => ?_) (fun c_20 => ?_)
          · skip
            refine lv_iconst (v := bI false) hx hb dX10_crosses_84 (by decide) ?_
            refine lv_goto (tgt := 112) hx hb dX10_crosses_85 (by decide) ?_
            exact zr_wrB (u := (ZZ2_18)) (congrArg (fun z => some (Value.int (bI z))) (show _ = crK x0 y0 dx dy V0 V1 XS YS FM TM k from (by unfold crK crM; first | (rw [if_pos (by assumption), if_pos (by assumption)]; done) | (rw [if_pos (by assumption), if_neg (by omega), decide_eq_true (by assumption)]; done) | (rw [if_pos (by assumption), if_neg (by omega), decide_eq_false (by omega)]; done) | (rw [if_neg (by omega), if_pos (by assumption), decide_eq_true (by assumption)]; done) | (rw [if_neg (by omega), if_pos (by assumption), decide_eq_false (by omega)]; done) | (rw [if_neg (by omega), if_neg (by omega)]; done)))) (show ptOK ZZ2_18 V0 V1 from (by first | assumption | omega)) (hP.sub [3, 4, 5, 6, 0, 1, 2] rfl) (hD.sub [3, 4, 5, 6, 0, 1, 2] (by decide) rfl) hS hx hb hr hlocks dX10_crosses_112
          · skip
            refine lv_iconst (v := bI true) hx hb dX10_crosses_80 (by decide) ?_
            refine lv_goto (tgt := 112) hx hb dX10_crosses_81 (by decide) ?_
            exact zr_wrB (u := (ZZ2_18)) (congrArg (fun z => some (Value.int (bI z))) (show _ = crK x0 y0 dx dy V0 V1 XS YS FM TM k from (by unfold crK crM; first | (rw [if_pos (by assumption), if_pos (by assumption)]; done) | (rw [if_pos (by assumption), if_neg (by omega), decide_eq_true (by assumption)]; done) | (rw [if_pos (by assumption), if_neg (by omega), decide_eq_false (by omega)]; done) | (rw [if_neg (by omega), if_pos (by assumption), decide_eq_true (by assumption)]; done) | (rw [if_neg (by omega), if_pos (by assumption), decide_eq_false (by omega)]; done) | (rw [if_neg (by omega), if_neg (by omega)]; done)))) (show ptOK ZZ2_18 V0 V1 from (by first | assumption | omega)) (hP.sub [3, 4, 5, 6, 0, 1, 2] rfl) (hD.sub [3, 4, 5, 6, 0, 1, 2] (by decide) rfl) hS hx hb hr hlocks dX10_crosses_112
      · skip
        exfalso; omega
    · skip
      refine lv_iconst (v := nI 1) hx hb dX10_crosses_44 (by decide) ?_
      refine lv_goto (tgt := 49) hx hb dX10_crosses_45 (by decide) ?_
      refine lv_istore_n (lv' := [(3, .int (nI 1)), (2, .int (nI 1)), (0, .ref m0), (1, .int (nI k))]) hx hb dX10_crosses_49 rfl hl (by decide) rfl (fun ls hl => ?_)
      refine lv_iload_n hx hb dX10_crosses_50 rfl (lv_at hl 1 rfl) ?_
      refine lv_iload_n hx hb dX10_crosses_51 rfl (lv_at hl 0 rfl) ?_
      refine zn_icmp_ne (tgt := 57) hx hb (by decide) (by decide) dX10_crosses_52 (by decide) (fun c_21 => ?_) (fun c_21 => ?_)
      · skip
        exfalso; omega
      · skip
        refine lv_iconst (v := bI false) hx hb dX10_crosses_55 (by decide) ?_
        exact zr_wrB (u := (ZZ2_13)) (congrArg (fun z => some (Value.int (bI z))) (show _ = crK x0 y0 dx dy V0 V1 XS YS FM TM k from (by unfold crK crM; first | (rw [if_pos (by assumption), if_pos (by assumption)]; done) | (rw [if_pos (by assumption), if_neg (by omega), decide_eq_true (by assumption)]; done) | (rw [if_pos (by assumption), if_neg (by omega), decide_eq_false (by omega)]; done) | (rw [if_neg (by omega), if_pos (by assumption), decide_eq_true (by assumption)]; done) | (rw [if_neg (by omega), if_pos (by assumption), decide_eq_false (by omega)]; done) | (rw [if_neg (by omega), if_neg (by omega)]; done)))) (show ptOK ZZ2_13 V0 V1 from (by first | assumption | omega)) (hP.sub [5, 6, 0, 1, 2, 3, 4] rfl) (hD.sub [5, 6, 0, 1, 2, 3, 4] (by decide) rfl) hS hx hb hr hlocks dX10_crosses_56
set_option maxHeartbeats 4000000 in
set_option maxRecDepth 100000 in
theorem metX10_having (lG : Launch) (D : va_G) (dA : Nat → ClassId) (m0 : Nat) (thr : Nat) (kn : Nat) (pt : Nat) (pa : Nat) (bg : Nat) (xs_ : Nat) (ys_ : Nat) (sgm : Nat) (fr_ : Nat) (tw : Nat) (wo_ : Nat) (mt : Nat) (ha_ : Nat) (x0 : Int) (y0 : Int) (dx : Int) (dy : Int) (zz : Nat) (ct : Nat) (ov : Nat) (un : Nat) (ZZ : Nat → Int) (V0 : Int) (V1 : Int) (XS : Nat → Int) (YS : Nat → Int) (FM : Nat → Nat) (TM : Nat → Nat) (WO : Nat → Nat) (s_ : Nat) (hp : ptOK ZZ V0 V1) (hx0 : cB x0) (hy0 : cB y0) (hdx : dB dx) (hdy : dB dy) (hXS : ∀ k, cB (XS k)) (hYS : ∀ k, cB (YS k)) (hFM : ∀ k, k < sgm → FM k < 4096) (hTM : ∀ k, k < sgm → TM k < 4096) (hsgm : sgm ≤ 4096) (hs : s_ < 2) (hWO : ∀ k, k < sgm → WO k < 2) : Wr lG yX10_having (ws_ yX10_having cX10_having 4 (some .int)) 5 124 D dA [.ref m0, .int (nI s_)] [(m0, .inr (9, [.int (nI thr), .ref kn, .ref pt, .ref pa, .ref bg, .ref xs_, .ref ys_, .int (nI sgm), .ref fr_, .ref tw, .ref wo_, .ref mt, .ref ha_, .long (lZ x0), .long (lZ y0), .long (lZ dx), .long (lZ dy), .ref zz, .int (nI ct), .ref ov, .ref un])), (zz, .inl (dA 1, 192, .inr (.inl fun j => lZ (ZZ j)))), (xs_, .inl (dA 0, 4096, .inl fun j => iZ (XS j))), (ys_, .inl (dA 0, 4096, .inl fun j => iZ (YS j))), (fr_, .inl (dA 0, 4096, .inl fun j => nI (FM j))), (tw, .inl (dA 0, 4096, .inl fun j => nI (TM j))), (wo_, .inl (dA 0, 4096, .inl fun j => nI (WO j)))] 0 0 (fun (u : (Nat → Int)) => let ZZ2 := u; ptOK ZZ2 V0 V1) (fun (u : (Nat → Int)) => let ZZ2 := u; some (.int (nI (cntR (hvF x0 y0 dx dy V0 V1 XS YS FM TM WO s_) sgm)))) (fun (u : (Nat → Int)) => let ZZ2 := u; [(m0, .inr (9, [.int (nI thr), .ref kn, .ref pt, .ref pa, .ref bg, .ref xs_, .ref ys_, .int (nI sgm), .ref fr_, .ref tw, .ref wo_, .ref mt, .ref ha_, .long (lZ x0), .long (lZ y0), .long (lZ dx), .long (lZ dy), .ref zz, .int (nI ct), .ref ov, .ref un])), (zz, .inl (dA 1, 192, .inr (.inl fun j => lZ (ZZ2 j)))), (xs_, .inl (dA 0, 4096, .inl fun j => iZ (XS j))), (ys_, .inl (dA 0, 4096, .inl fun j => iZ (YS j))), (fr_, .inl (dA 0, 4096, .inl fun j => nI (FM j))), (tw, .inl (dA 0, 4096, .inl fun j => nI (TM j))), (wo_, .inl (dA 0, 4096, .inl fun j => nI (WO j)))]) := by
  refine Wr.of (by decide) (Nat.le_of_ble_eq_true rfl) ?_
  intro pG eG sG mG bG tG cG ls A hx hb hr hml hown hts hlocks hnm hP hK hD hS hA hl
  have hK1 := hK.1
  have hown : sG.vm.findClass RX10 = some mG.cls := hown
  have hl : lv_has ls 4 [(0, .ref m0), (1, .int (nI s_))] := hl
  refine lv_iconst (v := nI 0) hx hb dX10_having_0 (by decide) ?_
  refine lv_istore_n (lv' := [(2, .int (nI 0)), (0, .ref m0), (1, .int (nI s_))]) hx hb dX10_having_1 rfl hl (by decide) rfl (fun ls hl => ?_)
  refine lv_iconst (v := nI 0) hx hb dX10_having_2 (by decide) ?_
  refine lv_istore_n (lv' := [(3, .int (nI 0)), (2, .int (nI 0)), (0, .ref m0), (1, .int (nI s_))]) hx hb dX10_having_3 rfl hl (by decide) rfl (fun ls hl => ?_)
  have loop4 : ∀ (n4 : Nat) (k : Nat) (n : Nat) (ZZ1 : Nat → Int), (k ≤ sgm) → (n = cntR (hvF x0 y0 dx dy V0 V1 XS YS FM TM WO s_) k) → (ptOK ZZ1 V0 V1) → sgm - k < n4 → ∀ (H : Heap) (locs : List Loc), va_P D zCl [(m0, .inr (9, [.int (nI thr), .ref kn, .ref pt, .ref pa, .ref bg, .ref xs_, .ref ys_, .int (nI sgm), .ref fr_, .ref tw, .ref wo_, .ref mt, .ref ha_, .long (lZ x0), .long (lZ y0), .long (lZ dx), .long (lZ dy), .ref zz, .int (nI ct), .ref ov, .ref un])), (zz, .inl (dA 1, 192, .inr (.inl fun j => lZ (ZZ1 j)))), (xs_, .inl (dA 0, 4096, .inl fun j => iZ (XS j))), (ys_, .inl (dA 0, 4096, .inl fun j => iZ (YS j))), (fr_, .inl (dA 0, 4096, .inl fun j => nI (FM j))), (tw, .inl (dA 0, 4096, .inl fun j => nI (TM j))), (wo_, .inl (dA 0, 4096, .inl fun j => nI (WO j)))] H → va_D A [(m0, .inr (9, [.int (nI thr), .ref kn, .ref pt, .ref pa, .ref bg, .ref xs_, .ref ys_, .int (nI sgm), .ref fr_, .ref tw, .ref wo_, .ref mt, .ref ha_, .long (lZ x0), .long (lZ y0), .long (lZ dx), .long (lZ dy), .ref zz, .int (nI ct), .ref ov, .ref un])), (zz, .inl (dA 1, 192, .inr (.inl fun j => lZ (ZZ1 j)))), (xs_, .inl (dA 0, 4096, .inl fun j => iZ (XS j))), (ys_, .inl (dA 0, 4096, .inl fun j => iZ (YS j))), (fr_, .inl (dA 0, 4096, .inl fun j => nI (FM j))), (tw, .inl (dA 0, 4096, .inl fun j => nI (TM j))), (wo_, .inl (dA 0, 4096, .inl fun j => nI (WO j)))] → va_S A sG.heap H locs → ∀ (ls : Array Slot), lv_has ls 4 [(3, .int (nI k)), (2, .int (nI n)), (0, .ref m0), (1, .int (nI s_))] → W pG lG eG (zRoom 5 0 0 124) sG mG [.ref m0, .int (nI s_)].toArray bG tG cG H locs 0 0 (MQ bG (wrQ D (fun (u : (Nat → Int)) => let ZZ2 := u; ptOK ZZ2 V0 V1) (fun (u : (Nat → Int)) => let ZZ2 := u; some (.int (nI (cntR (hvF x0 y0 dx dy V0 V1 XS YS FM TM WO s_) sgm)))) (fun (u : (Nat → Int)) => let ZZ2 := u; [(m0, .inr (9, [.int (nI thr), .ref kn, .ref pt, .ref pa, .ref bg, .ref xs_, .ref ys_, .int (nI sgm), .ref fr_, .ref tw, .ref wo_, .ref mt, .ref ha_, .long (lZ x0), .long (lZ y0), .long (lZ dx), .long (lZ dy), .ref zz, .int (nI ct), .ref ov, .ref un])), (zz, .inl (dA 1, 192, .inr (.inl fun j => lZ (ZZ2 j)))), (xs_, .inl (dA 0, 4096, .inl fun j => iZ (XS j))), (ys_, .inl (dA 0, 4096, .inl fun j => iZ (YS j))), (fr_, .inl (dA 0, 4096, .inl fun j => nI (FM j))), (tw, .inl (dA 0, 4096, .inl fun j => nI (TM j))), (wo_, .inl (dA 0, 4096, .inl fun j => nI (WO j)))]) A) [.ref m0, .int (nI s_)].toArray sG 0 0 A) (F0 mG 4 ls []) := by
    intro n4
    induction n4 with
    | zero => intro k n ZZ1 i1 i2 i3 hm; exact absurd hm (Nat.not_lt_zero _)
    | succ n4 ih4 =>
      intro k n ZZ1 i1 i2 i3 hm4 H locs hP hD hS ls hl
      have hcl := cntR_le (hvF x0 y0 dx dy V0 V1 XS YS FM TM WO s_) k
      refine lv_iload_n hx hb dX10_having_4 rfl (lv_at hl 0 rfl) ?_
      refine lv_aload_n hx hb dX10_having_5 rfl (lv_at hl 2 rfl) ?_
      refine va_get (D := D) (ci := 9) (v := .int (nI sgm)) (C := RX10) (T := TX10) (N := 21) hx hb hts in_X10 hown hK.1 hP 0 rfl rfl 7 (Nat.le_of_ble_eq_true rfl) (hts _ q976) (fun _ h9 => h9) rfl dX10_having_6 ?_
      refine zn_icmp_ge (tgt := 44) hx hb (by omega) (by omega) dX10_having_9 (by decide) (fun c_1 => ?_) (fun c_1 => ?_)
      · skip
        refine lv_iload_n hx hb dX10_having_44 rfl (lv_at hl 1 rfl) ?_
        exact zr_wrI (u := (ZZ1)) (congrArg (fun z => some (Value.int (nI z))) (by rw [i2, show k = sgm by omega])) (show ptOK ZZ1 V0 V1 from (by first | assumption | omega)) (hP.sub [0, 1, 2, 3, 4, 5, 6] rfl) (hD.sub [0, 1, 2, 3, 4, 5, 6] (by decide) rfl) hS hx hb hr hlocks dX10_having_45
      · skip
        refine lv_iload_n hx hb dX10_having_12 rfl (lv_at hl 1 rfl) ?_
        refine lv_aload_n hx hb dX10_having_13 rfl (lv_at hl 2 rfl) ?_
        refine va_get (D := D) (ci := 9) (v := .ref wo_) (C := RX10) (T := TX10) (N := 21) hx hb hts in_X10 hown hK.1 hP 0 rfl rfl 10 (Nat.le_of_ble_eq_true rfl) (hts _ q979) (fun _ h9 => h9) rfl dX10_having_14 ?_
        refine lv_iload_n hx hb dX10_having_17 rfl (lv_at hl 0 rfl) ?_
        refine zn_iaload (f := WO) (i := k) hx hb hK.1 hP 6 0 rfl rfl (by omega) (by decide) dX10_having_18 ?_
        refine lv_iload_n hx hb dX10_having_19 rfl (lv_at hl 3 rfl) ?_
        refine zn_icmp_ne (tgt := 35) hx hb (by have := hWO k (by omega); omega) (by omega) dX10_having_20 (by decide) (fun c_2 => ?_) (fun c_2 => ?_)
        · skip
          refine lv_iconst (v := nI 0) hx hb dX10_having_35 (by decide) ?_
          refine zn_iadd hx hb dX10_having_36 ?_
          refine lv_istore_n (lv' := [(2, .int (nI (n + 0))), (3, .int (nI k)), (0, .ref m0), (1, .int (nI s_))]) hx hb dX10_having_37 rfl hl (by decide) rfl (fun ls hl => ?_)
          refine lv_iinc (v := nI (k + 1)) (lv' := [(3, .int (nI (k + 1))), (2, .int (nI (n + 0))), (0, .ref m0), (1, .int (nI s_))]) hx hb dX10_having_38 hl (k := 1) rfl (nI_add _ _) (by decide) rfl (fun ls hl => ?_)
          refine lv_goto (tgt := 4) hx hb dX10_having_41 (by decide) ?_
          exact ih4 (k + 1) (n + 0) ZZ1 (by first | assumption | omega) (by first | exact cnt_f i2 (hv_w (by assumption)) | exact cnt_t i2 (hv_o (by assumption) (by assumption)) | exact cnt_f i2 (hv_o (by assumption) (by assumption))) (by first | assumption | omega) (by omega) _ _ (hP.sub [0, 1, 2, 3, 4, 5, 6] rfl) (hD.sub [0, 1, 2, 3, 4, 5, 6] (by decide) rfl) hS _ (lv_sub hl [0, 1, 2, 3] rfl)
        · skip
          refine lv_aload_n hx hb dX10_having_23 rfl (lv_at hl 2 rfl) ?_
          refine lv_iload_n hx hb dX10_having_24 rfl (lv_at hl 0 rfl) ?_
          refine zc_wrV (rest := [.int (nI n)]) (wr := []) ⟨hx, hb, hml, hown, hts⟩ (metX10_isOn lG D dA m0 thr kn pt pa bg xs_ ys_ sgm fr_ tw wo_ mt ha_ x0 y0 dx dy zz ct ov un ZZ1 V0 V1 XS YS FM TM WO k (by first | assumption | omega) (by first | assumption | omega) (by first | assumption | omega) (by first | assumption | omega) (by first | assumption | omega) (by first | assumption | omega) (by first | assumption | omega) (by first | assumption | omega) (by first | assumption | omega) (by first | assumption | omega) (by first | assumption | omega)) (cwV 1 hts (lw_V q1146 q1148 qs49 q80 q1149) rfl rfl rfl (by decide +kernel) ⟨Nat.le_of_ble_eq_true rfl, Nat.le_of_ble_eq_true rfl⟩) (va_recv hK.1 hP (ci := 9) (q0 := 0) rfl rfl) hP hK hD hS hA [0, 1, 2, 3, 4, 5, 6] [] rfl rfl (by decide) (by decide) (by decide) rfl hl.1 rfl (Nat.le_of_ble_eq_true rfl) dX10_having_25 ⟨Nat.zero_le _, Nat.zero_le _⟩ (fun u H locs hp_4 hP hD hS => ?_)
          obtain ⟨ZZ2_3, rfl⟩ : ∃ z, z = u := ⟨_, rfl⟩
          have hP : va_P D zCl [(m0, .inr (9, [.int (nI thr), .ref kn, .ref pt, .ref pa, .ref bg, .ref xs_, .ref ys_, .int (nI sgm), .ref fr_, .ref tw, .ref wo_, .ref mt, .ref ha_, .long (lZ x0), .long (lZ y0), .long (lZ dx), .long (lZ dy), .ref zz, .int (nI ct), .ref ov, .ref un])), (zz, .inl (dA 1, 192, .inr (.inl fun j => lZ (ZZ2_3 j)))), (xs_, .inl (dA 0, 4096, .inl fun j => iZ (XS j))), (ys_, .inl (dA 0, 4096, .inl fun j => iZ (YS j))), (fr_, .inl (dA 0, 4096, .inl fun j => nI (FM j))), (tw, .inl (dA 0, 4096, .inl fun j => nI (TM j))), (wo_, .inl (dA 0, 4096, .inl fun j => nI (WO j)))] H := hP
          have hD : va_D A [(m0, .inr (9, [.int (nI thr), .ref kn, .ref pt, .ref pa, .ref bg, .ref xs_, .ref ys_, .int (nI sgm), .ref fr_, .ref tw, .ref wo_, .ref mt, .ref ha_, .long (lZ x0), .long (lZ y0), .long (lZ dx), .long (lZ dy), .ref zz, .int (nI ct), .ref ov, .ref un])), (zz, .inl (dA 1, 192, .inr (.inl fun j => lZ (ZZ2_3 j)))), (xs_, .inl (dA 0, 4096, .inl fun j => iZ (XS j))), (ys_, .inl (dA 0, 4096, .inl fun j => iZ (YS j))), (fr_, .inl (dA 0, 4096, .inl fun j => nI (FM j))), (tw, .inl (dA 0, 4096, .inl fun j => nI (TM j))), (wo_, .inl (dA 0, 4096, .inl fun j => nI (WO j)))] := hD
          have hp_4 : ptOK ZZ2_3 V0 V1 := hp_4
          show W _ _ _ _ _ _ _ _ _ _ _ _ 0 0 _ (F0 mG 28 ls [.int (bI (onK x0 y0 dx dy V0 V1 XS YS FM TM k)), .int (nI n)])
          refine zb_if_eq (tgt := 35) hx hb dX10_having_28 (by decide) (fun c_5 => ?_) (fun c_5 => ?_)
          · skip
            refine lv_iconst (v := nI 0) hx hb dX10_having_35 (by decide) ?_
            refine zn_iadd hx hb dX10_having_36 ?_
            refine lv_istore_n (lv' := [(2, .int (nI (n + 0))), (3, .int (nI k)), (0, .ref m0), (1, .int (nI s_))]) hx hb dX10_having_37 rfl hl (by decide) rfl (fun ls hl => ?_)
            refine lv_iinc (v := nI (k + 1)) (lv' := [(3, .int (nI (k + 1))), (2, .int (nI (n + 0))), (0, .ref m0), (1, .int (nI s_))]) hx hb dX10_having_38 hl (k := 1) rfl (nI_add _ _) (by decide) rfl (fun ls hl => ?_)
            refine lv_goto (tgt := 4) hx hb dX10_having_41 (by decide) ?_
            exact ih4 (k + 1) (n + 0) ZZ2_3 (by first | assumption | omega) (by first | exact cnt_f i2 (hv_w (by assumption)) | exact cnt_t i2 (hv_o (by assumption) (by assumption)) | exact cnt_f i2 (hv_o (by assumption) (by assumption))) (by first | assumption | omega) (by omega) _ _ (hP.sub [0, 1, 2, 3, 4, 5, 6] rfl) (hD.sub [0, 1, 2, 3, 4, 5, 6] (by decide) rfl) hS _ (lv_sub hl [0, 1, 2, 3] rfl)
          · skip
            refine lv_iconst (v := nI 1) hx hb dX10_having_31 (by decide) ?_
            refine lv_goto (tgt := 36) hx hb dX10_having_32 (by decide) ?_
            refine zn_iadd hx hb dX10_having_36 ?_
            refine lv_istore_n (lv' := [(2, .int (nI (n + 1))), (3, .int (nI k)), (0, .ref m0), (1, .int (nI s_))]) hx hb dX10_having_37 rfl hl (by decide) rfl (fun ls hl => ?_)
            refine lv_iinc (v := nI (k + 1)) (lv' := [(3, .int (nI (k + 1))), (2, .int (nI (n + 1))), (0, .ref m0), (1, .int (nI s_))]) hx hb dX10_having_38 hl (k := 1) rfl (nI_add _ _) (by decide) rfl (fun ls hl => ?_)
            refine lv_goto (tgt := 4) hx hb dX10_having_41 (by decide) ?_
            exact ih4 (k + 1) (n + 1) ZZ2_3 (by first | assumption | omega) (by first | exact cnt_f i2 (hv_w (by assumption)) | exact cnt_t i2 (hv_o (by assumption) (by assumption)) | exact cnt_f i2 (hv_o (by assumption) (by assumption))) (by first | assumption | omega) (by omega) _ _ (hP.sub [0, 1, 2, 3, 4, 5, 6] rfl) (hD.sub [0, 1, 2, 3, 4, 5, 6] (by decide) rfl) hS _ (lv_sub hl [0, 1, 2, 3] rfl)
  exact loop4 (sgm - 0 + 1) 0 0 ZZ (by first | assumption | omega) rfl (by first | assumption | omega) (Nat.lt_succ_self _) _ _ (hP.sub [0, 1, 2, 3, 4, 5, 6] rfl) (hD.sub [0, 1, 2, 3, 4, 5, 6] (by decide) rfl) hS _ (lv_sub hl [0, 1, 2, 3] rfl)
set_option maxHeartbeats 4000000 in
set_option maxRecDepth 100000 in
theorem metX10_crossed (lG : Launch) (D : va_G) (dA : Nat → ClassId) (m0 : Nat) (thr : Nat) (kn : Nat) (pt : Nat) (pa : Nat) (bg : Nat) (xs_ : Nat) (ys_ : Nat) (sgm : Nat) (fr_ : Nat) (tw : Nat) (wo_ : Nat) (mt : Nat) (ha_ : Nat) (x0 : Int) (y0 : Int) (dx : Int) (dy : Int) (zz : Nat) (ct : Nat) (ov : Nat) (un : Nat) (ZZ : Nat → Int) (V0 : Int) (V1 : Int) (XS : Nat → Int) (YS : Nat → Int) (FM : Nat → Nat) (TM : Nat → Nat) (WO : Nat → Nat) (s_ : Nat) (hp : ptOK ZZ V0 V1) (hx0 : cB x0) (hy0 : cB y0) (hdx : dB dx) (hdy : dB dy) (hXS : ∀ k, cB (XS k)) (hYS : ∀ k, cB (YS k)) (hFM : ∀ k, k < sgm → FM k < 4096) (hTM : ∀ k, k < sgm → TM k < 4096) (hsgm : sgm ≤ 4096) (hs : s_ < 2) (hWO : ∀ k, k < sgm → WO k < 2) : Wr lG yX10_crossed (ws_ yX10_crossed cX10_crossed 4 (some .int)) 5 124 D dA [.ref m0, .int (nI s_)] [(m0, .inr (9, [.int (nI thr), .ref kn, .ref pt, .ref pa, .ref bg, .ref xs_, .ref ys_, .int (nI sgm), .ref fr_, .ref tw, .ref wo_, .ref mt, .ref ha_, .long (lZ x0), .long (lZ y0), .long (lZ dx), .long (lZ dy), .ref zz, .int (nI ct), .ref ov, .ref un])), (zz, .inl (dA 1, 192, .inr (.inl fun j => lZ (ZZ j)))), (xs_, .inl (dA 0, 4096, .inl fun j => iZ (XS j))), (ys_, .inl (dA 0, 4096, .inl fun j => iZ (YS j))), (fr_, .inl (dA 0, 4096, .inl fun j => nI (FM j))), (tw, .inl (dA 0, 4096, .inl fun j => nI (TM j))), (wo_, .inl (dA 0, 4096, .inl fun j => nI (WO j)))] 0 0 (fun (u : (Nat → Int)) => let ZZ2 := u; ptOK ZZ2 V0 V1) (fun (u : (Nat → Int)) => let ZZ2 := u; some (.int (nI (cntR (cdF x0 y0 dx dy V0 V1 XS YS FM TM WO s_) sgm % 2)))) (fun (u : (Nat → Int)) => let ZZ2 := u; [(m0, .inr (9, [.int (nI thr), .ref kn, .ref pt, .ref pa, .ref bg, .ref xs_, .ref ys_, .int (nI sgm), .ref fr_, .ref tw, .ref wo_, .ref mt, .ref ha_, .long (lZ x0), .long (lZ y0), .long (lZ dx), .long (lZ dy), .ref zz, .int (nI ct), .ref ov, .ref un])), (zz, .inl (dA 1, 192, .inr (.inl fun j => lZ (ZZ2 j)))), (xs_, .inl (dA 0, 4096, .inl fun j => iZ (XS j))), (ys_, .inl (dA 0, 4096, .inl fun j => iZ (YS j))), (fr_, .inl (dA 0, 4096, .inl fun j => nI (FM j))), (tw, .inl (dA 0, 4096, .inl fun j => nI (TM j))), (wo_, .inl (dA 0, 4096, .inl fun j => nI (WO j)))]) := by
  refine Wr.of (by decide) (Nat.le_of_ble_eq_true rfl) ?_
  intro pG eG sG mG bG tG cG ls A hx hb hr hml hown hts hlocks hnm hP hK hD hS hA hl
  have hK1 := hK.1
  have hown : sG.vm.findClass RX10 = some mG.cls := hown
  have hl : lv_has ls 4 [(0, .ref m0), (1, .int (nI s_))] := hl
  refine lv_iconst (v := nI 0) hx hb dX10_crossed_0 (by decide) ?_
  refine lv_istore_n (lv' := [(2, .int (nI 0)), (0, .ref m0), (1, .int (nI s_))]) hx hb dX10_crossed_1 rfl hl (by decide) rfl (fun ls hl => ?_)
  refine lv_iconst (v := nI 0) hx hb dX10_crossed_2 (by decide) ?_
  refine lv_istore_n (lv' := [(3, .int (nI 0)), (2, .int (nI 0)), (0, .ref m0), (1, .int (nI s_))]) hx hb dX10_crossed_3 rfl hl (by decide) rfl (fun ls hl => ?_)
  have loop4 : ∀ (n4 : Nat) (k : Nat) (n : Nat) (ZZ1 : Nat → Int), (k ≤ sgm) → (n = cntR (cdF x0 y0 dx dy V0 V1 XS YS FM TM WO s_) k) → (ptOK ZZ1 V0 V1) → sgm - k < n4 → ∀ (H : Heap) (locs : List Loc), va_P D zCl [(m0, .inr (9, [.int (nI thr), .ref kn, .ref pt, .ref pa, .ref bg, .ref xs_, .ref ys_, .int (nI sgm), .ref fr_, .ref tw, .ref wo_, .ref mt, .ref ha_, .long (lZ x0), .long (lZ y0), .long (lZ dx), .long (lZ dy), .ref zz, .int (nI ct), .ref ov, .ref un])), (zz, .inl (dA 1, 192, .inr (.inl fun j => lZ (ZZ1 j)))), (xs_, .inl (dA 0, 4096, .inl fun j => iZ (XS j))), (ys_, .inl (dA 0, 4096, .inl fun j => iZ (YS j))), (fr_, .inl (dA 0, 4096, .inl fun j => nI (FM j))), (tw, .inl (dA 0, 4096, .inl fun j => nI (TM j))), (wo_, .inl (dA 0, 4096, .inl fun j => nI (WO j)))] H → va_D A [(m0, .inr (9, [.int (nI thr), .ref kn, .ref pt, .ref pa, .ref bg, .ref xs_, .ref ys_, .int (nI sgm), .ref fr_, .ref tw, .ref wo_, .ref mt, .ref ha_, .long (lZ x0), .long (lZ y0), .long (lZ dx), .long (lZ dy), .ref zz, .int (nI ct), .ref ov, .ref un])), (zz, .inl (dA 1, 192, .inr (.inl fun j => lZ (ZZ1 j)))), (xs_, .inl (dA 0, 4096, .inl fun j => iZ (XS j))), (ys_, .inl (dA 0, 4096, .inl fun j => iZ (YS j))), (fr_, .inl (dA 0, 4096, .inl fun j => nI (FM j))), (tw, .inl (dA 0, 4096, .inl fun j => nI (TM j))), (wo_, .inl (dA 0, 4096, .inl fun j => nI (WO j)))] → va_S A sG.heap H locs → ∀ (ls : Array Slot), lv_has ls 4 [(3, .int (nI k)), (2, .int (nI n)), (0, .ref m0), (1, .int (nI s_))] → W pG lG eG (zRoom 5 0 0 124) sG mG [.ref m0, .int (nI s_)].toArray bG tG cG H locs 0 0 (MQ bG (wrQ D (fun (u : (Nat → Int)) => let ZZ2 := u; ptOK ZZ2 V0 V1) (fun (u : (Nat → Int)) => let ZZ2 := u; some (.int (nI (cntR (cdF x0 y0 dx dy V0 V1 XS YS FM TM WO s_) sgm % 2)))) (fun (u : (Nat → Int)) => let ZZ2 := u; [(m0, .inr (9, [.int (nI thr), .ref kn, .ref pt, .ref pa, .ref bg, .ref xs_, .ref ys_, .int (nI sgm), .ref fr_, .ref tw, .ref wo_, .ref mt, .ref ha_, .long (lZ x0), .long (lZ y0), .long (lZ dx), .long (lZ dy), .ref zz, .int (nI ct), .ref ov, .ref un])), (zz, .inl (dA 1, 192, .inr (.inl fun j => lZ (ZZ2 j)))), (xs_, .inl (dA 0, 4096, .inl fun j => iZ (XS j))), (ys_, .inl (dA 0, 4096, .inl fun j => iZ (YS j))), (fr_, .inl (dA 0, 4096, .inl fun j => nI (FM j))), (tw, .inl (dA 0, 4096, .inl fun j => nI (TM j))), (wo_, .inl (dA 0, 4096, .inl fun j => nI (WO j)))]) A) [.ref m0, .int (nI s_)].toArray sG 0 0 A) (F0 mG 4 ls []) := by
    intro n4
    induction n4 with
    | zero => intro k n ZZ1 i1 i2 i3 hm; exact absurd hm (Nat.not_lt_zero _)
    | succ n4 ih4 =>
      intro k n ZZ1 i1 i2 i3 hm4 H locs hP hD hS ls hl
      have hcl := cntR_le (cdF x0 y0 dx dy V0 V1 XS YS FM TM WO s_) k
      refine lv_iload_n hx hb dX10_crossed_4 rfl (lv_at hl 0 rfl) ?_
      refine lv_aload_n hx hb dX10_crossed_5 rfl (lv_at hl 2 rfl) ?_
      refine va_get (D := D) (ci := 9) (v := .int (nI sgm)) (C := RX10) (T := TX10) (N := 21) hx hb hts in_X10 hown hK.1 hP 0 rfl rfl 7 (Nat.le_of_ble_eq_true rfl) (hts _ q976) (fun _ h9 => h9) rfl dX10_crossed_6 ?_
      refine zn_icmp_ge (tgt := 52) hx hb (by omega) (by omega) dX10_crossed_9 (by decide) (fun c_1 => ?_) (fun c_1 => ?_)
      · skip
        refine lv_iload_n hx hb dX10_crossed_52 rfl (lv_at hl 1 rfl) ?_
        refine lv_iconst (v := nI 2) hx hb dX10_crossed_53 (by decide) ?_
        refine zn_irem hx hb (by omega) (by decide) (by decide) dX10_crossed_54 ?_
        exact zr_wrI (u := (ZZ1)) (congrArg (fun z => some (Value.int (nI z))) (by rw [i2, show k = sgm by omega])) (show ptOK ZZ1 V0 V1 from (by first | assumption | omega)) (hP.sub [0, 1, 2, 3, 4, 5, 6] rfl) (hD.sub [0, 1, 2, 3, 4, 5, 6] (by decide) rfl) hS hx hb hr hlocks dX10_crossed_55
      · skip
        refine lv_iload_n hx hb dX10_crossed_12 rfl (lv_at hl 1 rfl) ?_
        refine lv_aload_n hx hb dX10_crossed_13 rfl (lv_at hl 2 rfl) ?_
        refine va_get (D := D) (ci := 9) (v := .ref wo_) (C := RX10) (T := TX10) (N := 21) hx hb hts in_X10 hown hK.1 hP 0 rfl rfl 10 (Nat.le_of_ble_eq_true rfl) (hts _ q979) (fun _ h9 => h9) rfl dX10_crossed_14 ?_
        refine lv_iload_n hx hb dX10_crossed_17 rfl (lv_at hl 0 rfl) ?_
        refine zn_iaload (f := WO) (i := k) hx hb hK.1 hP 6 0 rfl rfl (by omega) (by decide) dX10_crossed_18 ?_
        refine lv_iload_n hx hb dX10_crossed_19 rfl (lv_at hl 3 rfl) ?_
        refine zn_icmp_ne (tgt := 43) hx hb (by have := hWO k (by omega); omega) (by omega) dX10_crossed_20 (by decide) (fun c_2 => ?_) (fun c_2 => ?_)
        · skip
          refine lv_iconst (v := nI 0) hx hb dX10_crossed_43 (by decide) ?_
          refine zn_iadd hx hb dX10_crossed_44 ?_
          refine lv_istore_n (lv' := [(2, .int (nI (n + 0))), (3, .int (nI k)), (0, .ref m0), (1, .int (nI s_))]) hx hb dX10_crossed_45 rfl hl (by decide) rfl (fun ls hl => ?_)
          refine lv_iinc (v := nI (k + 1)) (lv' := [(3, .int (nI (k + 1))), (2, .int (nI (n + 0))), (0, .ref m0), (1, .int (nI s_))]) hx hb dX10_crossed_46 hl (k := 1) rfl (nI_add _ _) (by decide) rfl (fun ls hl => ?_)
          refine lv_goto (tgt := 4) hx hb dX10_crossed_49 (by decide) ?_
          exact ih4 (k + 1) (n + 0) ZZ1 (by first | assumption | omega) (by first | exact cnt_f i2 (cd_w (by assumption)) | exact cnt_f i2 (cd_o (by assumption) (by assumption)) | exact cnt_t i2 (cd_c (by assumption) (by assumption) (by assumption)) | exact cnt_f i2 (cd_c (by assumption) (by assumption) (by assumption))) (by first | assumption | omega) (by omega) _ _ (hP.sub [0, 1, 2, 3, 4, 5, 6] rfl) (hD.sub [0, 1, 2, 3, 4, 5, 6] (by decide) rfl) hS _ (lv_sub hl [0, 1, 2, 3] rfl)
        · skip
          refine lv_aload_n hx hb dX10_crossed_23 rfl (lv_at hl 2 rfl) ?_
          refine lv_iload_n hx hb dX10_crossed_24 rfl (lv_at hl 0 rfl) ?_
          refine zc_wrV (rest := [.int (nI n)]) (wr := []) ⟨hx, hb, hml, hown, hts⟩ (metX10_isOn lG D dA m0 thr kn pt pa bg xs_ ys_ sgm fr_ tw wo_ mt ha_ x0 y0 dx dy zz ct ov un ZZ1 V0 V1 XS YS FM TM WO k (by first | assumption | omega) (by first | assumption | omega) (by first | assumption | omega) (by first | assumption | omega) (by first | assumption | omega) (by first | assumption | omega) (by first | assumption | omega) (by first | assumption | omega) (by first | assumption | omega) (by first | assumption | omega) (by first | assumption | omega)) (cwV 1 hts (lw_V q1146 q1148 qs49 q80 q1149) rfl rfl rfl (by decide +kernel) ⟨Nat.le_of_ble_eq_true rfl, Nat.le_of_ble_eq_true rfl⟩) (va_recv hK.1 hP (ci := 9) (q0 := 0) rfl rfl) hP hK hD hS hA [0, 1, 2, 3, 4, 5, 6] [] rfl rfl (by decide) (by decide) (by decide) rfl hl.1 rfl (Nat.le_of_ble_eq_true rfl) dX10_crossed_25 ⟨Nat.zero_le _, Nat.zero_le _⟩ (fun u H locs hp_4 hP hD hS => ?_)
          obtain ⟨ZZ2_3, rfl⟩ : ∃ z, z = u := ⟨_, rfl⟩
          have hP : va_P D zCl [(m0, .inr (9, [.int (nI thr), .ref kn, .ref pt, .ref pa, .ref bg, .ref xs_, .ref ys_, .int (nI sgm), .ref fr_, .ref tw, .ref wo_, .ref mt, .ref ha_, .long (lZ x0), .long (lZ y0), .long (lZ dx), .long (lZ dy), .ref zz, .int (nI ct), .ref ov, .ref un])), (zz, .inl (dA 1, 192, .inr (.inl fun j => lZ (ZZ2_3 j)))), (xs_, .inl (dA 0, 4096, .inl fun j => iZ (XS j))), (ys_, .inl (dA 0, 4096, .inl fun j => iZ (YS j))), (fr_, .inl (dA 0, 4096, .inl fun j => nI (FM j))), (tw, .inl (dA 0, 4096, .inl fun j => nI (TM j))), (wo_, .inl (dA 0, 4096, .inl fun j => nI (WO j)))] H := hP
          have hD : va_D A [(m0, .inr (9, [.int (nI thr), .ref kn, .ref pt, .ref pa, .ref bg, .ref xs_, .ref ys_, .int (nI sgm), .ref fr_, .ref tw, .ref wo_, .ref mt, .ref ha_, .long (lZ x0), .long (lZ y0), .long (lZ dx), .long (lZ dy), .ref zz, .int (nI ct), .ref ov, .ref un])), (zz, .inl (dA 1, 192, .inr (.inl fun j => lZ (ZZ2_3 j)))), (xs_, .inl (dA 0, 4096, .inl fun j => iZ (XS j))), (ys_, .inl (dA 0, 4096, .inl fun j => iZ (YS j))), (fr_, .inl (dA 0, 4096, .inl fun j => nI (FM j))), (tw, .inl (dA 0, 4096, .inl fun j => nI (TM j))), (wo_, .inl (dA 0, 4096, .inl fun j => nI (WO j)))] := hD
          have hp_4 : ptOK ZZ2_3 V0 V1 := hp_4
          show W _ _ _ _ _ _ _ _ _ _ _ _ 0 0 _ (F0 mG 28 ls [.int (bI (onK x0 y0 dx dy V0 V1 XS YS FM TM k)), .int (nI n)])
          refine zb_if_ne (tgt := 43) hx hb dX10_crossed_28 (by decide) (fun c_5 => ?_) (fun c_5 => ?_)
          · skip
            refine lv_iconst (v := nI 0) hx hb dX10_crossed_43 (by decide) ?_
            refine zn_iadd hx hb dX10_crossed_44 ?_
            refine lv_istore_n (lv' := [(2, .int (nI (n + 0))), (3, .int (nI k)), (0, .ref m0), (1, .int (nI s_))]) hx hb dX10_crossed_45 rfl hl (by decide) rfl (fun ls hl => ?_)
            refine lv_iinc (v := nI (k + 1)) (lv' := [(3, .int (nI (k + 1))), (2, .int (nI (n + 0))), (0, .ref m0), (1, .int (nI s_))]) hx hb dX10_crossed_46 hl (k := 1) rfl (nI_add _ _) (by decide) rfl (fun ls hl => ?_)
            refine lv_goto (tgt := 4) hx hb dX10_crossed_49 (by decide) ?_
            exact ih4 (k + 1) (n + 0) ZZ2_3 (by first | assumption | omega) (by first | exact cnt_f i2 (cd_w (by assumption)) | exact cnt_f i2 (cd_o (by assumption) (by assumption)) | exact cnt_t i2 (cd_c (by assumption) (by assumption) (by assumption)) | exact cnt_f i2 (cd_c (by assumption) (by assumption) (by assumption))) (by first | assumption | omega) (by omega) _ _ (hP.sub [0, 1, 2, 3, 4, 5, 6] rfl) (hD.sub [0, 1, 2, 3, 4, 5, 6] (by decide) rfl) hS _ (lv_sub hl [0, 1, 2, 3] rfl)
          · skip
            refine lv_aload_n hx hb dX10_crossed_31 rfl (lv_at hl 2 rfl) ?_
            refine lv_iload_n hx hb dX10_crossed_32 rfl (lv_at hl 0 rfl) ?_
            refine zc_wrV (rest := [.int (nI n)]) (wr := []) ⟨hx, hb, hml, hown, hts⟩ (metX10_crosses lG D dA m0 thr kn pt pa bg xs_ ys_ sgm fr_ tw wo_ mt ha_ x0 y0 dx dy zz ct ov un ZZ2_3 V0 V1 XS YS FM TM WO k (by first | assumption | omega) (by first | assumption | omega) (by first | assumption | omega) (by first | assumption | omega) (by first | assumption | omega) (by first | assumption | omega) (by first | assumption | omega) (by first | assumption | omega) (by first | assumption | omega) (by first | assumption | omega) (by first | assumption | omega)) (cwV 1 hts (lw_V q1162 q1164 qs53 q80 q1165) rfl rfl rfl (by decide +kernel) ⟨Nat.le_of_ble_eq_true rfl, Nat.le_of_ble_eq_true rfl⟩) (va_recv hK.1 hP (ci := 9) (q0 := 0) rfl rfl) hP hK hD hS hA [0, 1, 2, 3, 4, 5, 6] [] rfl rfl (by decide) (by decide) (by decide) rfl hl.1 rfl (Nat.le_of_ble_eq_true rfl) dX10_crossed_33 ⟨Nat.zero_le _, Nat.zero_le _⟩ (fun u H locs hp_7 hP hD hS => ?_)
            obtain ⟨ZZ2_6, rfl⟩ : ∃ z, z = u := ⟨_, rfl⟩
            have hP : va_P D zCl [(m0, .inr (9, [.int (nI thr), .ref kn, .ref pt, .ref pa, .ref bg, .ref xs_, .ref ys_, .int (nI sgm), .ref fr_, .ref tw, .ref wo_, .ref mt, .ref ha_, .long (lZ x0), .long (lZ y0), .long (lZ dx), .long (lZ dy), .ref zz, .int (nI ct), .ref ov, .ref un])), (zz, .inl (dA 1, 192, .inr (.inl fun j => lZ (ZZ2_6 j)))), (xs_, .inl (dA 0, 4096, .inl fun j => iZ (XS j))), (ys_, .inl (dA 0, 4096, .inl fun j => iZ (YS j))), (fr_, .inl (dA 0, 4096, .inl fun j => nI (FM j))), (tw, .inl (dA 0, 4096, .inl fun j => nI (TM j))), (wo_, .inl (dA 0, 4096, .inl fun j => nI (WO j)))] H := hP
            have hD : va_D A [(m0, .inr (9, [.int (nI thr), .ref kn, .ref pt, .ref pa, .ref bg, .ref xs_, .ref ys_, .int (nI sgm), .ref fr_, .ref tw, .ref wo_, .ref mt, .ref ha_, .long (lZ x0), .long (lZ y0), .long (lZ dx), .long (lZ dy), .ref zz, .int (nI ct), .ref ov, .ref un])), (zz, .inl (dA 1, 192, .inr (.inl fun j => lZ (ZZ2_6 j)))), (xs_, .inl (dA 0, 4096, .inl fun j => iZ (XS j))), (ys_, .inl (dA 0, 4096, .inl fun j => iZ (YS j))), (fr_, .inl (dA 0, 4096, .inl fun j => nI (FM j))), (tw, .inl (dA 0, 4096, .inl fun j => nI (TM j))), (wo_, .inl (dA 0, 4096, .inl fun j => nI (WO j)))] := hD
            have hp_7 : ptOK ZZ2_6 V0 V1 := hp_7
            show W _ _ _ _ _ _ _ _ _ _ _ _ 0 0 _ (F0 mG 36 ls [.int (bI (crK x0 y0 dx dy V0 V1 XS YS FM TM k)), .int (nI n)])
            refine zb_if_eq (tgt := 43) hx hb dX10_crossed_36 (by decide) (fun c_8 => ?_) (fun c_8 => ?_)
            · skip
              refine lv_iconst (v := nI 0) hx hb dX10_crossed_43 (by decide) ?_
              refine zn_iadd hx hb dX10_crossed_44 ?_
              refine lv_istore_n (lv' := [(2, .int (nI (n + 0))), (3, .int (nI k)), (0, .ref m0), (1, .int (nI s_))]) hx hb dX10_crossed_45 rfl hl (by decide) rfl (fun ls hl => ?_)
              refine lv_iinc (v := nI (k + 1)) (lv' := [(3, .int (nI (k + 1))), (2, .int (nI (n + 0))), (0, .ref m0), (1, .int (nI s_))]) hx hb dX10_crossed_46 hl (k := 1) rfl (nI_add _ _) (by decide) rfl (fun ls hl => ?_)
              refine lv_goto (tgt := 4) hx hb dX10_crossed_49 (by decide) ?_
              exact ih4 (k + 1) (n + 0) ZZ2_6 (by first | assumption | omega) (by first | exact cnt_f i2 (cd_w (by assumption)) | exact cnt_f i2 (cd_o (by assumption) (by assumption)) | exact cnt_t i2 (cd_c (by assumption) (by assumption) (by assumption)) | exact cnt_f i2 (cd_c (by assumption) (by assumption) (by assumption))) (by first | assumption | omega) (by omega) _ _ (hP.sub [0, 1, 2, 3, 4, 5, 6] rfl) (hD.sub [0, 1, 2, 3, 4, 5, 6] (by decide) rfl) hS _ (lv_sub hl [0, 1, 2, 3] rfl)
            · skip
              refine lv_iconst (v := nI 1) hx hb dX10_crossed_39 (by decide) ?_
              refine lv_goto (tgt := 44) hx hb dX10_crossed_40 (by decide) ?_
              refine zn_iadd hx hb dX10_crossed_44 ?_
              refine lv_istore_n (lv' := [(2, .int (nI (n + 1))), (3, .int (nI k)), (0, .ref m0), (1, .int (nI s_))]) hx hb dX10_crossed_45 rfl hl (by decide) rfl (fun ls hl => ?_)
              refine lv_iinc (v := nI (k + 1)) (lv' := [(3, .int (nI (k + 1))), (2, .int (nI (n + 1))), (0, .ref m0), (1, .int (nI s_))]) hx hb dX10_crossed_46 hl (k := 1) rfl (nI_add _ _) (by decide) rfl (fun ls hl => ?_)
              refine lv_goto (tgt := 4) hx hb dX10_crossed_49 (by decide) ?_
              exact ih4 (k + 1) (n + 1) ZZ2_6 (by first | assumption | omega) (by first | exact cnt_f i2 (cd_w (by assumption)) | exact cnt_f i2 (cd_o (by assumption) (by assumption)) | exact cnt_t i2 (cd_c (by assumption) (by assumption) (by assumption)) | exact cnt_f i2 (cd_c (by assumption) (by assumption) (by assumption))) (by first | assumption | omega) (by omega) _ _ (hP.sub [0, 1, 2, 3, 4, 5, 6] rfl) (hD.sub [0, 1, 2, 3, 4, 5, 6] (by decide) rfl) hS _ (lv_sub hl [0, 1, 2, 3] rfl)
  exact loop4 (sgm - 0 + 1) 0 0 ZZ (by first | assumption | omega) rfl (by first | assumption | omega) (Nat.lt_succ_self _) _ _ (hP.sub [0, 1, 2, 3, 4, 5, 6] rfl) (hD.sub [0, 1, 2, 3, 4, 5, 6] (by decide) rfl) hS _ (lv_sub hl [0, 1, 2, 3] rfl)
theorem exR_step {f : Nat → Bool} {a k : Nat} (h : a ≤ k) (hf : exR f a k = false) : f k = exR f a (k + 1) := by
  cases hk : f k
  · refine (exR_f (fun j h1 h2 => ?_)).symm
    rcases (show j < k ∨ j = k by omega) with w | w
    · cases hj : f j
      · rfl
      · rw [exR_t h1 w hj] at hf; cases hf
    · rw [w]; exact hk
  · exact (exR_t h (Nat.lt_succ_self _) hk).symm
theorem exR_more {f : Nat → Bool} {a k n : Nat} (h : k ≤ n) (hf : exR f a k = true) : exR f a n = true := by
  unfold exR at hf ⊢
  rw [List.any_eq_true] at hf ⊢
  obtain ⟨x, h1, h2⟩ := hf
  exact ⟨x, List.mem_range.mpr (Nat.lt_of_lt_of_le (List.mem_range.mp h1) h), h2⟩
set_option maxHeartbeats 4000000 in
set_option maxRecDepth 100000 in
theorem metX10_hasPoint (lG : Launch) (D : va_G) (dA : Nat → ClassId) (m0 : Nat) (thr : Nat) (kn : Nat) (pt : Nat) (pa : Nat) (bg : Nat) (xs_ : Nat) (ys_ : Nat) (sgm : Nat) (fr_ : Nat) (tw : Nat) (wo_ : Nat) (mt : Nat) (ha_ : Nat) (x0 : Int) (y0 : Int) (dx : Int) (dy : Int) (zz : Nat) (ct : Nat) (ov : Nat) (un : Nat) (ZZ : Nat → Int) (V0 : Int) (V1 : Int) (XS : Nat → Int) (YS : Nat → Int) (KD : Nat → Nat) (PT : Nat → Nat) (PN : Nat → Nat) (BG : Nat → Nat) (s_ : Nat) (hp : ptOK ZZ V0 V1) (hx0 : cB x0) (hy0 : cB y0) (hdx : dB dx) (hdy : dB dy) (hXS : ∀ k, cB (XS k)) (hYS : ∀ k, cB (YS k)) (hKD : ∀ s, s < 2 → KD s < 4) (hPT : ∀ s, s < 2 → PT s ≤ 2048) (hPN : ∀ s, s < 2 → PN s ≤ 1024) (hBG : ∀ s p, s < 2 → p < PN s → BG (1025 * s + p) ≤ PT s) (hs : s_ < 2) : Wr lG yX10_hasPoint (ws_ yX10_hasPoint cX10_hasPoint 4 (some .boolean)) 5 118 D dA [.ref m0, .int (nI s_)] [(m0, .inr (9, [.int (nI thr), .ref kn, .ref pt, .ref pa, .ref bg, .ref xs_, .ref ys_, .int (nI sgm), .ref fr_, .ref tw, .ref wo_, .ref mt, .ref ha_, .long (lZ x0), .long (lZ y0), .long (lZ dx), .long (lZ dy), .ref zz, .int (nI ct), .ref ov, .ref un])), (zz, .inl (dA 1, 192, .inr (.inl fun j => lZ (ZZ j)))), (xs_, .inl (dA 0, 4096, .inl fun j => iZ (XS j))), (ys_, .inl (dA 0, 4096, .inl fun j => iZ (YS j))), (kn, .inl (dA 0, 2, .inl fun j => nI (KD j))), (pt, .inl (dA 0, 2, .inl fun j => nI (PT j))), (pa, .inl (dA 0, 2, .inl fun j => nI (PN j))), (bg, .inl (dA 0, 2050, .inl fun j => nI (BG j)))] 0 0 (fun (u : (Nat → Int)) => let ZZ2 := u; ptOK ZZ2 V0 V1) (fun (u : (Nat → Int)) => let ZZ2 := u; some (.int (bI (exR (ptK x0 y0 dx dy V0 V1 XS YS) (2048 * s_) (2048 * s_ + PT s_))))) (fun (u : (Nat → Int)) => let ZZ2 := u; [(m0, .inr (9, [.int (nI thr), .ref kn, .ref pt, .ref pa, .ref bg, .ref xs_, .ref ys_, .int (nI sgm), .ref fr_, .ref tw, .ref wo_, .ref mt, .ref ha_, .long (lZ x0), .long (lZ y0), .long (lZ dx), .long (lZ dy), .ref zz, .int (nI ct), .ref ov, .ref un])), (zz, .inl (dA 1, 192, .inr (.inl fun j => lZ (ZZ2 j)))), (xs_, .inl (dA 0, 4096, .inl fun j => iZ (XS j))), (ys_, .inl (dA 0, 4096, .inl fun j => iZ (YS j))), (kn, .inl (dA 0, 2, .inl fun j => nI (KD j))), (pt, .inl (dA 0, 2, .inl fun j => nI (PT j))), (pa, .inl (dA 0, 2, .inl fun j => nI (PN j))), (bg, .inl (dA 0, 2050, .inl fun j => nI (BG j)))]) := by
  refine Wr.of (by decide) (Nat.le_of_ble_eq_true rfl) ?_
  intro pG eG sG mG bG tG cG ls A hx hb hr hml hown hts hlocks hnm hP hK hD hS hA hl
  have hK1 := hK.1
  have hown : sG.vm.findClass RX10 = some mG.cls := hown
  have hl : lv_has ls 4 [(0, .ref m0), (1, .int (nI s_))] := hl
  have hPs := hPT s_ hs
  refine lv_iconst (v := bI false) hx hb dX10_hasPoint_0 (by decide) ?_
  refine lv_istore_n (lv' := [(2, .int (bI false)), (0, .ref m0), (1, .int (nI s_))]) hx hb dX10_hasPoint_1 rfl hl (by decide) rfl (fun ls hl => ?_)
  refine lv_sipush (v := nI 2048) hx hb dX10_hasPoint_2 (by decide) ?_
  refine lv_iload_n hx hb dX10_hasPoint_5 rfl (lv_at hl 2 rfl) ?_
  refine zn_imul hx hb dX10_hasPoint_6 ?_
  refine lv_istore_n (lv' := [(3, .int (nI (2048 * s_))), (2, .int (bI false)), (0, .ref m0), (1, .int (nI s_))]) hx hb dX10_hasPoint_7 rfl hl (by decide) rfl (fun ls hl => ?_)
  have loop8 : ∀ (n8 : Nat) (k : Nat) (b : Bool) (ZZ1 : Nat → Int), (2048 * s_ ≤ k) → (k ≤ 2048 * s_ + PT s_) → (b = exR (ptK x0 y0 dx dy V0 V1 XS YS) (2048 * s_) k) → (ptOK ZZ1 V0 V1) → 2048 * s_ + PT s_ - k < n8 → ∀ (H : Heap) (locs : List Loc), va_P D zCl [(m0, .inr (9, [.int (nI thr), .ref kn, .ref pt, .ref pa, .ref bg, .ref xs_, .ref ys_, .int (nI sgm), .ref fr_, .ref tw, .ref wo_, .ref mt, .ref ha_, .long (lZ x0), .long (lZ y0), .long (lZ dx), .long (lZ dy), .ref zz, .int (nI ct), .ref ov, .ref un])), (zz, .inl (dA 1, 192, .inr (.inl fun j => lZ (ZZ1 j)))), (xs_, .inl (dA 0, 4096, .inl fun j => iZ (XS j))), (ys_, .inl (dA 0, 4096, .inl fun j => iZ (YS j))), (kn, .inl (dA 0, 2, .inl fun j => nI (KD j))), (pt, .inl (dA 0, 2, .inl fun j => nI (PT j))), (pa, .inl (dA 0, 2, .inl fun j => nI (PN j))), (bg, .inl (dA 0, 2050, .inl fun j => nI (BG j)))] H → va_D A [(m0, .inr (9, [.int (nI thr), .ref kn, .ref pt, .ref pa, .ref bg, .ref xs_, .ref ys_, .int (nI sgm), .ref fr_, .ref tw, .ref wo_, .ref mt, .ref ha_, .long (lZ x0), .long (lZ y0), .long (lZ dx), .long (lZ dy), .ref zz, .int (nI ct), .ref ov, .ref un])), (zz, .inl (dA 1, 192, .inr (.inl fun j => lZ (ZZ1 j)))), (xs_, .inl (dA 0, 4096, .inl fun j => iZ (XS j))), (ys_, .inl (dA 0, 4096, .inl fun j => iZ (YS j))), (kn, .inl (dA 0, 2, .inl fun j => nI (KD j))), (pt, .inl (dA 0, 2, .inl fun j => nI (PT j))), (pa, .inl (dA 0, 2, .inl fun j => nI (PN j))), (bg, .inl (dA 0, 2050, .inl fun j => nI (BG j)))] → va_S A sG.heap H locs → ∀ (ls : Array Slot), lv_has ls 4 [(3, .int (nI k)), (2, .int (bI b)), (0, .ref m0), (1, .int (nI s_))] → W pG lG eG (zRoom 5 0 0 118) sG mG [.ref m0, .int (nI s_)].toArray bG tG cG H locs 0 0 (MQ bG (wrQ D (fun (u : (Nat → Int)) => let ZZ2 := u; ptOK ZZ2 V0 V1) (fun (u : (Nat → Int)) => let ZZ2 := u; some (.int (bI (exR (ptK x0 y0 dx dy V0 V1 XS YS) (2048 * s_) (2048 * s_ + PT s_))))) (fun (u : (Nat → Int)) => let ZZ2 := u; [(m0, .inr (9, [.int (nI thr), .ref kn, .ref pt, .ref pa, .ref bg, .ref xs_, .ref ys_, .int (nI sgm), .ref fr_, .ref tw, .ref wo_, .ref mt, .ref ha_, .long (lZ x0), .long (lZ y0), .long (lZ dx), .long (lZ dy), .ref zz, .int (nI ct), .ref ov, .ref un])), (zz, .inl (dA 1, 192, .inr (.inl fun j => lZ (ZZ2 j)))), (xs_, .inl (dA 0, 4096, .inl fun j => iZ (XS j))), (ys_, .inl (dA 0, 4096, .inl fun j => iZ (YS j))), (kn, .inl (dA 0, 2, .inl fun j => nI (KD j))), (pt, .inl (dA 0, 2, .inl fun j => nI (PT j))), (pa, .inl (dA 0, 2, .inl fun j => nI (PN j))), (bg, .inl (dA 0, 2050, .inl fun j => nI (BG j)))]) A) [.ref m0, .int (nI s_)].toArray sG 0 0 A) (F0 mG 8 ls []) := by
    intro n8
    induction n8 with
    | zero => intro k b ZZ1 i1 i2 i3 i4 hm; exact absurd hm (Nat.not_lt_zero _)
    | succ n8 ih8 =>
      intro k b ZZ1 i1 i2 i3 i4 hm8 H locs hP hD hS ls hl
      refine lv_iload_n hx hb dX10_hasPoint_8 rfl (lv_at hl 0 rfl) ?_
      refine lv_sipush (v := nI 2048) hx hb dX10_hasPoint_9 (by decide) ?_
      refine lv_iload_n hx hb dX10_hasPoint_12 rfl (lv_at hl 3 rfl) ?_
      refine zn_imul hx hb dX10_hasPoint_13 ?_
      refine lv_aload_n hx hb dX10_hasPoint_14 rfl (lv_at hl 2 rfl) ?_
      refine va_get (D := D) (ci := 9) (v := .ref pt) (C := RX10) (T := TX10) (N := 21) hx hb hts in_X10 hown hK.1 hP 0 rfl rfl 2 (Nat.le_of_ble_eq_true rfl) (hts _ q971) (fun _ h9 => h9) rfl dX10_hasPoint_15 ?_
      refine lv_iload_n hx hb dX10_hasPoint_18 rfl (lv_at hl 3 rfl) ?_
      refine zn_iaload (f := PT) (i := s_) hx hb hK.1 hP 5 0 rfl rfl (by omega) (by decide) dX10_hasPoint_19 ?_
      refine zn_iadd hx hb dX10_hasPoint_20 ?_
      refine zn_icmp_ge (tgt := 40) hx hb (by omega) (by omega) dX10_hasPoint_21 (by decide) (fun c_1 => ?_) (fun c_1 => ?_)
      · skip
        refine lv_iload_n hx hb dX10_hasPoint_40 rfl (lv_at hl 1 rfl) ?_
        exact zr_wrB (u := (ZZ1)) (congrArg (fun z => some (Value.int (bI z))) (by first | (rw [i3, show k = 2048 * s_ + PT s_ by omega]) | (rw [show b = true from by assumption]; exact (exR_more i2 (i3.symm.trans (by assumption))).symm))) (show ptOK ZZ1 V0 V1 from (by first | assumption | omega)) (hP.sub [0, 1, 2, 3, 4, 5, 6, 7] rfl) (hD.sub [0, 1, 2, 3, 4, 5, 6, 7] (by decide) rfl) hS hx hb hr hlocks dX10_hasPoint_41
      · skip
        refine lv_iload_n hx hb dX10_hasPoint_24 rfl (lv_at hl 1 rfl) ?_
        refine zb_if_ne (tgt := 40) hx hb dX10_hasPoint_25 (by decide) (fun c_2 => ?_) (fun c_2 => ?_)
        · skip
          refine lv_iload_n hx hb dX10_hasPoint_40 rfl (lv_at hl 1 rfl) ?_
          exact zr_wrB (u := (ZZ1)) (congrArg (fun z => some (Value.int (bI z))) (by first | (rw [i3, show k = 2048 * s_ + PT s_ by omega]) | (rw [show b = true from by assumption]; exact (exR_more i2 (i3.symm.trans (by assumption))).symm))) (show ptOK ZZ1 V0 V1 from (by first | assumption | omega)) (hP.sub [0, 1, 2, 3, 4, 5, 6, 7] rfl) (hD.sub [0, 1, 2, 3, 4, 5, 6, 7] (by decide) rfl) hS hx hb hr hlocks dX10_hasPoint_41
        · skip
          refine lv_aload_n hx hb dX10_hasPoint_28 rfl (lv_at hl 2 rfl) ?_
          refine lv_iload_n hx hb dX10_hasPoint_29 rfl (lv_at hl 0 rfl) ?_
          refine zc_wrV (rest := []) (wr := [(kn, .inl (dA 0, 2, .inl fun j => nI (KD j))), (pt, .inl (dA 0, 2, .inl fun j => nI (PT j))), (pa, .inl (dA 0, 2, .inl fun j => nI (PN j))), (bg, .inl (dA 0, 2050, .inl fun j => nI (BG j)))]) ⟨hx, hb, hml, hown, hts⟩ (metX10_isPoint lG D dA m0 thr kn pt pa bg xs_ ys_ sgm fr_ tw wo_ mt ha_ x0 y0 dx dy zz ct ov un ZZ1 V0 V1 XS YS k (by first | assumption | omega) (by first | assumption | omega) (by first | assumption | omega) (by first | assumption | omega) (by first | assumption | omega) (by first | assumption | omega) (by first | assumption | omega) (by first | assumption | omega)) (cwV 1 hts (lw_V q1118 q1120 qs42 q80 q1121) rfl rfl rfl (by decide +kernel) ⟨Nat.le_of_ble_eq_true rfl, Nat.le_of_ble_eq_true rfl⟩) (va_recv hK.1 hP (ci := 9) (q0 := 0) rfl rfl) hP hK hD hS hA [0, 1, 2, 3] [4, 5, 6, 7] rfl rfl (by decide) (by decide) (by decide) rfl hl.1 rfl (Nat.le_of_ble_eq_true rfl) dX10_hasPoint_30 ⟨Nat.zero_le _, Nat.zero_le _⟩ (fun u H locs hp_4 hP hD hS => ?_)
          obtain ⟨ZZ2_3, rfl⟩ : ∃ z, z = u := ⟨_, rfl⟩
          have hP : va_P D zCl [(kn, .inl (dA 0, 2, .inl fun j => nI (KD j))), (pt, .inl (dA 0, 2, .inl fun j => nI (PT j))), (pa, .inl (dA 0, 2, .inl fun j => nI (PN j))), (bg, .inl (dA 0, 2050, .inl fun j => nI (BG j))), (m0, .inr (9, [.int (nI thr), .ref kn, .ref pt, .ref pa, .ref bg, .ref xs_, .ref ys_, .int (nI sgm), .ref fr_, .ref tw, .ref wo_, .ref mt, .ref ha_, .long (lZ x0), .long (lZ y0), .long (lZ dx), .long (lZ dy), .ref zz, .int (nI ct), .ref ov, .ref un])), (zz, .inl (dA 1, 192, .inr (.inl fun j => lZ (ZZ2_3 j)))), (xs_, .inl (dA 0, 4096, .inl fun j => iZ (XS j))), (ys_, .inl (dA 0, 4096, .inl fun j => iZ (YS j)))] H := hP
          have hD : va_D A [(kn, .inl (dA 0, 2, .inl fun j => nI (KD j))), (pt, .inl (dA 0, 2, .inl fun j => nI (PT j))), (pa, .inl (dA 0, 2, .inl fun j => nI (PN j))), (bg, .inl (dA 0, 2050, .inl fun j => nI (BG j))), (m0, .inr (9, [.int (nI thr), .ref kn, .ref pt, .ref pa, .ref bg, .ref xs_, .ref ys_, .int (nI sgm), .ref fr_, .ref tw, .ref wo_, .ref mt, .ref ha_, .long (lZ x0), .long (lZ y0), .long (lZ dx), .long (lZ dy), .ref zz, .int (nI ct), .ref ov, .ref un])), (zz, .inl (dA 1, 192, .inr (.inl fun j => lZ (ZZ2_3 j)))), (xs_, .inl (dA 0, 4096, .inl fun j => iZ (XS j))), (ys_, .inl (dA 0, 4096, .inl fun j => iZ (YS j)))] := hD
          have hp_4 : ptOK ZZ2_3 V0 V1 := hp_4
          show W _ _ _ _ _ _ _ _ _ _ _ _ 0 0 _ (F0 mG 33 ls [.int (bI (ptK x0 y0 dx dy V0 V1 XS YS k))])
          refine lv_istore_n (lv' := [(2, .int (bI (ptK x0 y0 dx dy V0 V1 XS YS k))), (3, .int (nI k)), (0, .ref m0), (1, .int (nI s_))]) hx hb dX10_hasPoint_33 rfl hl (by decide) rfl (fun ls hl => ?_)
          refine lv_iinc (v := nI (k + 1)) (lv' := [(3, .int (nI (k + 1))), (2, .int (bI (ptK x0 y0 dx dy V0 V1 XS YS k))), (0, .ref m0), (1, .int (nI s_))]) hx hb dX10_hasPoint_34 hl (k := 1) rfl (nI_add _ _) (by decide) rfl (fun ls hl => ?_)
          refine lv_goto (tgt := 8) hx hb dX10_hasPoint_37 (by decide) ?_
          exact ih8 (k + 1) (ptK x0 y0 dx dy V0 V1 XS YS k) ZZ2_3 (by first | assumption | omega) (by first | assumption | omega) (exR_step i1 (by rw [← i3]; assumption)) (by first | assumption | omega) (by omega) _ _ (hP.sub [4, 5, 6, 7, 0, 1, 2, 3] rfl) (hD.sub [4, 5, 6, 7, 0, 1, 2, 3] (by decide) rfl) hS _ (lv_sub hl [0, 1, 2, 3] rfl)
  exact loop8 (2048 * s_ + PT s_ - (2048 * s_) + 1) (2048 * s_) false ZZ (Nat.le_refl _) (by first | assumption | omega) ((exR_f (fun k h1 h2 => absurd h2 (Nat.not_lt.mpr h1))).symm) (by first | assumption | omega) (Nat.lt_succ_self _) _ _ (hP.sub [0, 1, 2, 3, 4, 5, 6, 7] rfl) (hD.sub [0, 1, 2, 3, 4, 5, 6, 7] (by decide) rfl) hS _ (lv_sub hl [0, 1, 2, 3] rfl)
set_option maxHeartbeats 4000000 in
set_option maxRecDepth 100000 in
theorem metX10_first (lG : Launch) (D : va_G) (dA : Nat → ClassId) (m0 : Nat) (thr : Nat) (kn : Nat) (pt : Nat) (pa : Nat) (bg : Nat) (xs_ : Nat) (ys_ : Nat) (sgm : Nat) (fr_ : Nat) (tw : Nat) (wo_ : Nat) (mt : Nat) (ha_ : Nat) (x0 : Int) (y0 : Int) (dx : Int) (dy : Int) (zz : Nat) (ct : Nat) (ov : Nat) (un : Nat) (BG : Nat → Nat) (s_ : Nat) (p : Nat) (hs : s_ < 2) (hp1 : p < 1025) : Ro lG yX10_first (ws_ yX10_first cX10_first 3 (some .int)) 0 0 D dA [.ref m0, .int (nI s_), .int (nI p)] [(m0, .inr (9, [.int (nI thr), .ref kn, .ref pt, .ref pa, .ref bg, .ref xs_, .ref ys_, .int (nI sgm), .ref fr_, .ref tw, .ref wo_, .ref mt, .ref ha_, .long (lZ x0), .long (lZ y0), .long (lZ dx), .long (lZ dy), .ref zz, .int (nI ct), .ref ov, .ref un])), (bg, .inl (dA 0, 2050, .inl fun j => nI (BG j)))] (some (.int (nI (bgF BG s_ p)))) := by
  refine Ro.of (by decide) (Nat.le_of_ble_eq_true rfl) ?_
  intro pG eG sG mG bG tG cG ls hx hb hr hml hown hts hlocks hP hK hl
  have hown : sG.vm.findClass RX10 = some mG.cls := hown
  have hl : lv_has ls 3 [(0, .ref m0), (1, .int (nI s_)), (2, .int (nI p))] := hl
  refine lv_sipush (v := nI 2048) hx hb dX10_first_0 (by decide) ?_
  refine lv_iload_n hx hb dX10_first_3 rfl (lv_at hl 1 rfl) ?_
  refine zn_imul hx hb dX10_first_4 ?_
  refine lv_aload_n hx hb dX10_first_5 rfl (lv_at hl 0 rfl) ?_
  refine va_get (D := D) (ci := 9) (v := .ref bg) (C := RX10) (T := TX10) (N := 21) hx hb hts in_X10 hown hK.1 hP 0 rfl rfl 4 (Nat.le_of_ble_eq_true rfl) (hts _ q973) (fun _ h9 => h9) rfl dX10_first_6 ?_
  refine lv_sipush (v := nI 1025) hx hb dX10_first_9 (by decide) ?_
  refine lv_iload_n hx hb dX10_first_12 rfl (lv_at hl 1 rfl) ?_
  refine zn_imul hx hb dX10_first_13 ?_
  refine lv_iload_n hx hb dX10_first_14 rfl (lv_at hl 2 rfl) ?_
  refine zn_iadd hx hb dX10_first_15 ?_
  refine zn_iaload (f := BG) (i := (1025 * s_) + p) hx hb hK.1 hP 1 0 rfl rfl (by omega) (by decide) dX10_first_16 ?_
  refine zn_iadd hx hb dX10_first_17 ?_
  exact zr_roI rfl hx hb hr hlocks dX10_first_18
set_option maxHeartbeats 4000000 in
set_option maxRecDepth 100000 in
theorem metX10_end (lG : Launch) (D : va_G) (dA : Nat → ClassId) (m0 : Nat) (thr : Nat) (kn : Nat) (pt : Nat) (pa : Nat) (bg : Nat) (xs_ : Nat) (ys_ : Nat) (sgm : Nat) (fr_ : Nat) (tw : Nat) (wo_ : Nat) (mt : Nat) (ha_ : Nat) (x0 : Int) (y0 : Int) (dx : Int) (dy : Int) (zz : Nat) (ct : Nat) (ov : Nat) (un : Nat) (PT : Nat → Nat) (PN : Nat → Nat) (BG : Nat → Nat) (s_ : Nat) (p : Nat) (hs : s_ < 2) (hp1 : p < 1024) (hPN : ∀ s, s < 2 → PN s ≤ 1024) : Ro lG yX10_end (ws_ yX10_end cX10_end 3 (some .int)) 0 0 D dA [.ref m0, .int (nI s_), .int (nI p)] [(m0, .inr (9, [.int (nI thr), .ref kn, .ref pt, .ref pa, .ref bg, .ref xs_, .ref ys_, .int (nI sgm), .ref fr_, .ref tw, .ref wo_, .ref mt, .ref ha_, .long (lZ x0), .long (lZ y0), .long (lZ dx), .long (lZ dy), .ref zz, .int (nI ct), .ref ov, .ref un])), (pt, .inl (dA 0, 2, .inl fun j => nI (PT j))), (pa, .inl (dA 0, 2, .inl fun j => nI (PN j))), (bg, .inl (dA 0, 2050, .inl fun j => nI (BG j)))] (some (.int (nI (enF BG PN PT s_ p)))) := by
  refine Ro.of (by decide) (Nat.le_of_ble_eq_true rfl) ?_
  intro pG eG sG mG bG tG cG ls hx hb hr hml hown hts hlocks hP hK hl
  have hown : sG.vm.findClass RX10 = some mG.cls := hown
  have hl : lv_has ls 3 [(0, .ref m0), (1, .int (nI s_)), (2, .int (nI p))] := hl
  have hpn := hPN s_ hs
  refine lv_sipush (v := nI 2048) hx hb dX10_end_0 (by decide) ?_
  refine lv_iload_n hx hb dX10_end_3 rfl (lv_at hl 1 rfl) ?_
  refine zn_imul hx hb dX10_end_4 ?_
  refine lv_iload_n hx hb dX10_end_5 rfl (lv_at hl 2 rfl) ?_
  refine lv_iconst (v := nI 1) hx hb dX10_end_6 (by decide) ?_
  refine zn_iadd hx hb dX10_end_7 ?_
  refine lv_aload_n hx hb dX10_end_8 rfl (lv_at hl 0 rfl) ?_
  refine va_get (D := D) (ci := 9) (v := .ref pa) (C := RX10) (T := TX10) (N := 21) hx hb hts in_X10 hown hK.1 hP 0 rfl rfl 3 (Nat.le_of_ble_eq_true rfl) (hts _ q972) (fun _ h9 => h9) rfl dX10_end_9 ?_
  refine lv_iload_n hx hb dX10_end_12 rfl (lv_at hl 1 rfl) ?_
  refine zn_iaload (f := PN) (i := s_) hx hb hK.1 hP 2 0 rfl rfl (by omega) (by decide) dX10_end_13 ?_
  refine zn_icmp_ge (tgt := 34) hx hb (by omega) (by omega) dX10_end_14 (by decide) (fun c_1 => ?_) (fun c_1 => ?_)
  · skip
    refine lv_aload_n hx hb dX10_end_34 rfl (lv_at hl 0 rfl) ?_
    refine va_get (D := D) (ci := 9) (v := .ref pt) (C := RX10) (T := TX10) (N := 21) hx hb hts in_X10 hown hK.1 hP 0 rfl rfl 2 (Nat.le_of_ble_eq_true rfl) (hts _ q971) (fun _ h9 => h9) rfl dX10_end_35 ?_
    refine lv_iload_n hx hb dX10_end_38 rfl (lv_at hl 1 rfl) ?_
    refine zn_iaload (f := PT) (i := s_) hx hb hK.1 hP 1 0 rfl rfl (by omega) (by decide) dX10_end_39 ?_
    refine zn_iadd hx hb dX10_end_40 ?_
    exact zr_roI (by unfold enF; first | rw [if_pos (by omega)] | rw [if_neg (by omega)]) hx hb hr hlocks dX10_end_41
  · skip
    refine lv_aload_n hx hb dX10_end_17 rfl (lv_at hl 0 rfl) ?_
    refine va_get (D := D) (ci := 9) (v := .ref bg) (C := RX10) (T := TX10) (N := 21) hx hb hts in_X10 hown hK.1 hP 0 rfl rfl 4 (Nat.le_of_ble_eq_true rfl) (hts _ q973) (fun _ h9 => h9) rfl dX10_end_18 ?_
    refine lv_sipush (v := nI 1025) hx hb dX10_end_21 (by decide) ?_
    refine lv_iload_n hx hb dX10_end_24 rfl (lv_at hl 1 rfl) ?_
    refine zn_imul hx hb dX10_end_25 ?_
    refine lv_iload_n hx hb dX10_end_26 rfl (lv_at hl 2 rfl) ?_
    refine zn_iadd hx hb dX10_end_27 ?_
    refine lv_iconst (v := nI 1) hx hb dX10_end_28 (by decide) ?_
    refine zn_iadd hx hb dX10_end_29 ?_
    refine zn_iaload (f := BG) (i := ((1025 * s_) + p) + 1) hx hb hK.1 hP 3 0 rfl rfl (by omega) (by decide) dX10_end_30 ?_
    refine lv_goto (tgt := 40) hx hb dX10_end_31 (by decide) ?_
    refine zn_iadd hx hb dX10_end_40 ?_
    exact zr_roI (by unfold enF; first | rw [if_pos (by omega)] | rw [if_neg (by omega)]) hx hb hr hlocks dX10_end_41
set_option maxHeartbeats 4000000 in
set_option maxRecDepth 100000 in
theorem metX10_isEnd (lG : Launch) (D : va_G) (dA : Nat → ClassId) (m0 : Nat) (thr : Nat) (kn : Nat) (pt : Nat) (pa : Nat) (bg : Nat) (xs_ : Nat) (ys_ : Nat) (sgm : Nat) (fr_ : Nat) (tw : Nat) (wo_ : Nat) (mt : Nat) (ha_ : Nat) (x0 : Int) (y0 : Int) (dx : Int) (dy : Int) (zz : Nat) (ct : Nat) (ov : Nat) (un : Nat) (ZZ : Nat → Int) (V0 : Int) (V1 : Int) (XS : Nat → Int) (YS : Nat → Int) (KD : Nat → Nat) (PT : Nat → Nat) (PN : Nat → Nat) (BG : Nat → Nat) (s_ : Nat) (hp : ptOK ZZ V0 V1) (hx0 : cB x0) (hy0 : cB y0) (hdx : dB dx) (hdy : dB dy) (hXS : ∀ k, cB (XS k)) (hYS : ∀ k, cB (YS k)) (hKD : ∀ s, s < 2 → KD s < 4) (hPT : ∀ s, s < 2 → PT s ≤ 2048) (hPN : ∀ s, s < 2 → PN s ≤ 1024) (hBG : ∀ s p, s < 2 → p < PN s → BG (1025 * s + p) ≤ PT s) (hs : s_ < 2) : Wr lG yX10_isEnd (ws_ yX10_isEnd cX10_isEnd 6 (some .boolean)) 5 118 D dA [.ref m0, .int (nI s_)] [(m0, .inr (9, [.int (nI thr), .ref kn, .ref pt, .ref pa, .ref bg, .ref xs_, .ref ys_, .int (nI sgm), .ref fr_, .ref tw, .ref wo_, .ref mt, .ref ha_, .long (lZ x0), .long (lZ y0), .long (lZ dx), .long (lZ dy), .ref zz, .int (nI ct), .ref ov, .ref un])), (zz, .inl (dA 1, 192, .inr (.inl fun j => lZ (ZZ j)))), (xs_, .inl (dA 0, 4096, .inl fun j => iZ (XS j))), (ys_, .inl (dA 0, 4096, .inl fun j => iZ (YS j))), (kn, .inl (dA 0, 2, .inl fun j => nI (KD j))), (pt, .inl (dA 0, 2, .inl fun j => nI (PT j))), (pa, .inl (dA 0, 2, .inl fun j => nI (PN j))), (bg, .inl (dA 0, 2050, .inl fun j => nI (BG j)))] 0 0 (fun (u : (Nat → Int)) => let ZZ2 := u; ptOK ZZ2 V0 V1) (fun (u : (Nat → Int)) => let ZZ2 := u; some (.int (bI (decide (enM (ptK x0 y0 dx dy V0 V1 XS YS) BG PN PT s_ (PN s_) % 2 = 1))))) (fun (u : (Nat → Int)) => let ZZ2 := u; [(m0, .inr (9, [.int (nI thr), .ref kn, .ref pt, .ref pa, .ref bg, .ref xs_, .ref ys_, .int (nI sgm), .ref fr_, .ref tw, .ref wo_, .ref mt, .ref ha_, .long (lZ x0), .long (lZ y0), .long (lZ dx), .long (lZ dy), .ref zz, .int (nI ct), .ref ov, .ref un])), (zz, .inl (dA 1, 192, .inr (.inl fun j => lZ (ZZ2 j)))), (xs_, .inl (dA 0, 4096, .inl fun j => iZ (XS j))), (ys_, .inl (dA 0, 4096, .inl fun j => iZ (YS j))), (kn, .inl (dA 0, 2, .inl fun j => nI (KD j))), (pt, .inl (dA 0, 2, .inl fun j => nI (PT j))), (pa, .inl (dA 0, 2, .inl fun j => nI (PN j))), (bg, .inl (dA 0, 2050, .inl fun j => nI (BG j)))]) := by
  refine Wr.of (by decide) (Nat.le_of_ble_eq_true rfl) ?_
  intro pG eG sG mG bG tG cG ls A hx hb hr hml hown hts hlocks hnm hP hK hD hS hA hl
  have hK1 := hK.1
  have hown : sG.vm.findClass RX10 = some mG.cls := hown
  have hl : lv_has ls 6 [(0, .ref m0), (1, .int (nI s_))] := hl
  have hPs := hPT s_ hs
  have hpn := hPN s_ hs
  refine lv_iconst (v := nI 0) hx hb dX10_isEnd_0 (by decide) ?_
  refine lv_istore_n (lv' := [(2, .int (nI 0)), (0, .ref m0), (1, .int (nI s_))]) hx hb dX10_isEnd_1 rfl hl (by decide) rfl (fun ls hl => ?_)
  refine lv_iconst (v := nI 0) hx hb dX10_isEnd_2 (by decide) ?_
  refine lv_istore_n (lv' := [(3, .int (nI 0)), (2, .int (nI 0)), (0, .ref m0), (1, .int (nI s_))]) hx hb dX10_isEnd_3 rfl hl (by decide) rfl (fun ls hl => ?_)
  have loop4 : ∀ (n4 : Nat) (p : Nat) (n : Nat) (ZZ1 : Nat → Int), (p ≤ PN s_) → (n = enM (ptK x0 y0 dx dy V0 V1 XS YS) BG PN PT s_ p) → (ptOK ZZ1 V0 V1) → PN s_ - p < n4 → ∀ (H : Heap) (locs : List Loc), va_P D zCl [(m0, .inr (9, [.int (nI thr), .ref kn, .ref pt, .ref pa, .ref bg, .ref xs_, .ref ys_, .int (nI sgm), .ref fr_, .ref tw, .ref wo_, .ref mt, .ref ha_, .long (lZ x0), .long (lZ y0), .long (lZ dx), .long (lZ dy), .ref zz, .int (nI ct), .ref ov, .ref un])), (zz, .inl (dA 1, 192, .inr (.inl fun j => lZ (ZZ1 j)))), (xs_, .inl (dA 0, 4096, .inl fun j => iZ (XS j))), (ys_, .inl (dA 0, 4096, .inl fun j => iZ (YS j))), (kn, .inl (dA 0, 2, .inl fun j => nI (KD j))), (pt, .inl (dA 0, 2, .inl fun j => nI (PT j))), (pa, .inl (dA 0, 2, .inl fun j => nI (PN j))), (bg, .inl (dA 0, 2050, .inl fun j => nI (BG j)))] H → va_D A [(m0, .inr (9, [.int (nI thr), .ref kn, .ref pt, .ref pa, .ref bg, .ref xs_, .ref ys_, .int (nI sgm), .ref fr_, .ref tw, .ref wo_, .ref mt, .ref ha_, .long (lZ x0), .long (lZ y0), .long (lZ dx), .long (lZ dy), .ref zz, .int (nI ct), .ref ov, .ref un])), (zz, .inl (dA 1, 192, .inr (.inl fun j => lZ (ZZ1 j)))), (xs_, .inl (dA 0, 4096, .inl fun j => iZ (XS j))), (ys_, .inl (dA 0, 4096, .inl fun j => iZ (YS j))), (kn, .inl (dA 0, 2, .inl fun j => nI (KD j))), (pt, .inl (dA 0, 2, .inl fun j => nI (PT j))), (pa, .inl (dA 0, 2, .inl fun j => nI (PN j))), (bg, .inl (dA 0, 2050, .inl fun j => nI (BG j)))] → va_S A sG.heap H locs → ∀ (ls : Array Slot), lv_has ls 6 [(3, .int (nI p)), (2, .int (nI n)), (0, .ref m0), (1, .int (nI s_))] → W pG lG eG (zRoom 5 0 0 118) sG mG [.ref m0, .int (nI s_)].toArray bG tG cG H locs 0 0 (MQ bG (wrQ D (fun (u : (Nat → Int)) => let ZZ2 := u; ptOK ZZ2 V0 V1) (fun (u : (Nat → Int)) => let ZZ2 := u; some (.int (bI (decide (enM (ptK x0 y0 dx dy V0 V1 XS YS) BG PN PT s_ (PN s_) % 2 = 1))))) (fun (u : (Nat → Int)) => let ZZ2 := u; [(m0, .inr (9, [.int (nI thr), .ref kn, .ref pt, .ref pa, .ref bg, .ref xs_, .ref ys_, .int (nI sgm), .ref fr_, .ref tw, .ref wo_, .ref mt, .ref ha_, .long (lZ x0), .long (lZ y0), .long (lZ dx), .long (lZ dy), .ref zz, .int (nI ct), .ref ov, .ref un])), (zz, .inl (dA 1, 192, .inr (.inl fun j => lZ (ZZ2 j)))), (xs_, .inl (dA 0, 4096, .inl fun j => iZ (XS j))), (ys_, .inl (dA 0, 4096, .inl fun j => iZ (YS j))), (kn, .inl (dA 0, 2, .inl fun j => nI (KD j))), (pt, .inl (dA 0, 2, .inl fun j => nI (PT j))), (pa, .inl (dA 0, 2, .inl fun j => nI (PN j))), (bg, .inl (dA 0, 2050, .inl fun j => nI (BG j)))]) A) [.ref m0, .int (nI s_)].toArray sG 0 0 A) (F0 mG 4 ls []) := by
    intro n4
    induction n4 with
    | zero => intro p n ZZ1 i1 i2 i3 hm; exact absurd hm (Nat.not_lt_zero _)
    | succ n4 ih4 =>
      intro p n ZZ1 i1 i2 i3 hm4 H locs hP hD hS ls hl
      have hel := enM_le (isP := (ptK x0 y0 dx dy V0 V1 XS YS)) (BG := BG) (PN := PN) (PT := PT) (s := s_) p
      refine lv_iload_n hx hb dX10_isEnd_4 rfl (lv_at hl 0 rfl) ?_
      refine lv_aload_n hx hb dX10_isEnd_5 rfl (lv_at hl 2 rfl) ?_
      refine va_get (D := D) (ci := 9) (v := .ref pa) (C := RX10) (T := TX10) (N := 21) hx hb hts in_X10 hown hK.1 hP 0 rfl rfl 3 (Nat.le_of_ble_eq_true rfl) (hts _ q972) (fun _ h9 => h9) rfl dX10_isEnd_6 ?_
      refine lv_iload_n hx hb dX10_isEnd_9 rfl (lv_at hl 3 rfl) ?_
      refine zn_iaload (f := PN) (i := s_) hx hb hK.1 hP 6 0 rfl rfl (by omega) (by decide) dX10_isEnd_10 ?_
      refine zn_icmp_ge (tgt := 77) hx hb (by omega) (by omega) dX10_isEnd_11 (by decide) (fun c_1 => ?_) (fun c_1 => ?_)
      · skip
        refine lv_iload_n hx hb dX10_isEnd_77 rfl (lv_at hl 1 rfl) ?_
        refine lv_iconst (v := nI 2) hx hb dX10_isEnd_78 (by decide) ?_
        refine zn_irem hx hb (by omega) (by decide) (by decide) dX10_isEnd_79 ?_
        refine lv_iconst (v := nI 1) hx hb dX10_isEnd_80 (by decide) ?_
        refine zn_icmp_ne (tgt := 88) hx hb (by omega) (by decide) dX10_isEnd_81 (by decide) (fun c_2 => ?_) (fun c_2 => ?_)
        · skip
          refine lv_iconst (v := bI false) hx hb dX10_isEnd_88 (by decide) ?_
          exact zr_wrB (u := (ZZ1)) (congrArg (fun z => some (Value.int (bI z))) (by rw [show p = PN s_ by omega] at i2; first | (rw [← i2, decide_eq_true (by omega)]) | (rw [← i2, decide_eq_false (by omega)]))) (show ptOK ZZ1 V0 V1 from (by first | assumption | omega)) (hP.sub [0, 1, 2, 3, 4, 5, 6, 7] rfl) (hD.sub [0, 1, 2, 3, 4, 5, 6, 7] (by decide) rfl) hS hx hb hr hlocks dX10_isEnd_89
        · skip
          refine lv_iconst (v := bI true) hx hb dX10_isEnd_84 (by decide) ?_
          refine lv_goto (tgt := 89) hx hb dX10_isEnd_85 (by decide) ?_
          exact zr_wrB (u := (ZZ1)) (congrArg (fun z => some (Value.int (bI z))) (by rw [show p = PN s_ by omega] at i2; first | (rw [← i2, decide_eq_true (by omega)]) | (rw [← i2, decide_eq_false (by omega)]))) (show ptOK ZZ1 V0 V1 from (by first | assumption | omega)) (hP.sub [0, 1, 2, 3, 4, 5, 6, 7] rfl) (hD.sub [0, 1, 2, 3, 4, 5, 6, 7] (by decide) rfl) hS hx hb hr hlocks dX10_isEnd_89
      · skip
        refine lv_aload_n hx hb dX10_isEnd_14 rfl (lv_at hl 2 rfl) ?_
        refine lv_iload_n hx hb dX10_isEnd_15 rfl (lv_at hl 3 rfl) ?_
        refine lv_iload_n hx hb dX10_isEnd_16 rfl (lv_at hl 0 rfl) ?_
        refine zc_roV (v := .int (nI (bgF BG s_ p))) (rest := []) ⟨hx, hb, hml, hown, hts⟩ (metX10_first lG D dA m0 thr kn pt pa bg xs_ ys_ sgm fr_ tw wo_ mt ha_ x0 y0 dx dy zz ct ov un BG s_ p (by first | assumption | omega) (by first | assumption | omega)) (cwV 2 hts (lw_V q1072 q1074 qs31 q80 q1075) rfl rfl rfl (by decide +kernel) ⟨Nat.le_of_ble_eq_true rfl, Nat.le_of_ble_eq_true rfl⟩) (va_recv hK.1 hP (ci := 9) (q0 := 0) rfl rfl) (hP.sub [0, 7] rfl) hK rfl hl.1 rfl (Nat.le_of_ble_eq_true rfl) dX10_isEnd_17 ⟨Nat.zero_le _, Nat.zero_le _⟩ ?_
        refine lv_istore (lv' := [(4, .int (nI (bgF BG s_ p))), (3, .int (nI p)), (2, .int (nI n)), (0, .ref m0), (1, .int (nI s_))]) hx hb dX10_isEnd_20 hl (by decide) rfl (fun ls hl => ?_)
        refine lv_aload_n hx hb dX10_isEnd_22 rfl (lv_at hl 3 rfl) ?_
        refine lv_iload_n hx hb dX10_isEnd_23 rfl (lv_at hl 4 rfl) ?_
        refine lv_iload_n hx hb dX10_isEnd_24 rfl (lv_at hl 1 rfl) ?_
        refine zc_roV (v := .int (nI (enF BG PN PT s_ p))) (rest := []) ⟨hx, hb, hml, hown, hts⟩ (metX10_end lG D dA m0 thr kn pt pa bg xs_ ys_ sgm fr_ tw wo_ mt ha_ x0 y0 dx dy zz ct ov un PT PN BG s_ p (by first | assumption | omega) (by first | assumption | omega) (by first | assumption | omega)) (cwV 2 hts (lw_V q1076 q1078 qs32 q80 q1079) rfl rfl rfl (by decide +kernel) ⟨Nat.le_of_ble_eq_true rfl, Nat.le_of_ble_eq_true rfl⟩) (va_recv hK.1 hP (ci := 9) (q0 := 0) rfl rfl) (hP.sub [0, 5, 6, 7] rfl) hK rfl hl.1 rfl (Nat.le_of_ble_eq_true rfl) dX10_isEnd_25 ⟨Nat.zero_le _, Nat.zero_le _⟩ ?_
        refine lv_istore (lv' := [(5, .int (nI (enF BG PN PT s_ p))), (4, .int (nI (bgF BG s_ p))), (3, .int (nI p)), (2, .int (nI n)), (0, .ref m0), (1, .int (nI s_))]) hx hb dX10_isEnd_28 hl (by decide) rfl (fun ls hl => ?_)
        have hb0 := hBG s_ p hs (by omega)
        have hbF : bgF BG s_ p ≤ 4096 := by unfold bgF; omega
        have heF : enF BG PN PT s_ p ≤ 4096 := by unfold enF; split; have := hBG s_ (p + 1) hs (by omega); rw [show 1025 * s_ + (p + 1) = 1025 * s_ + p + 1 by omega] at this; omega; omega
        refine lv_iload hx hb dX10_isEnd_30 (lv_at hl 0 rfl) ?_
        refine lv_iload hx hb dX10_isEnd_32 (lv_at hl 1 rfl) ?_
        refine zn_icmp_le (tgt := 71) hx hb (by omega) (by omega) dX10_isEnd_34 (by decide) (fun c_3 => ?_) (fun c_3 => ?_)
        · skip
          refine lv_iinc (v := nI (p + 1)) (lv' := [(3, .int (nI (p + 1))), (5, .int (nI (enF BG PN PT s_ p))), (4, .int (nI (bgF BG s_ p))), (2, .int (nI n)), (0, .ref m0), (1, .int (nI s_))]) hx hb dX10_isEnd_71 hl (k := 2) rfl (nI_add _ _) (by decide) rfl (fun ls hl => ?_)
          refine lv_goto (tgt := 4) hx hb dX10_isEnd_74 (by decide) ?_
          exact ih4 (p + 1) n ZZ1 (by first | assumption | omega) (by first | exact en_skip i2 (by omega) | exact en_step i2 (by assumption) (by rw [show ptK x0 y0 dx dy V0 V1 XS YS (bgF BG s_ p) = true from (by assumption)]; rfl) (by rw [show ptK x0 y0 dx dy V0 V1 XS YS (enF BG PN PT s_ p - 1) = true from (by assumption)]; rfl) | exact en_step i2 (by assumption) (by rw [show ptK x0 y0 dx dy V0 V1 XS YS (bgF BG s_ p) = true from (by assumption)]; rfl) (by rw [show ptK x0 y0 dx dy V0 V1 XS YS (enF BG PN PT s_ p - 1) = false from (by assumption)]; rfl) | exact en_step i2 (by assumption) (by rw [show ptK x0 y0 dx dy V0 V1 XS YS (bgF BG s_ p) = false from (by assumption)]; rfl) (by rw [show ptK x0 y0 dx dy V0 V1 XS YS (enF BG PN PT s_ p - 1) = true from (by assumption)]; rfl) | exact en_step i2 (by assumption) (by rw [show ptK x0 y0 dx dy V0 V1 XS YS (bgF BG s_ p) = false from (by assumption)]; rfl) (by rw [show ptK x0 y0 dx dy V0 V1 XS YS (enF BG PN PT s_ p - 1) = false from (by assumption)]; rfl)) (by first | assumption | omega) (by omega) _ _ (hP.sub [0, 1, 2, 3, 4, 5, 6, 7] rfl) (hD.sub [0, 1, 2, 3, 4, 5, 6, 7] (by decide) rfl) hS _ (lv_sub hl [0, 3, 4, 5] rfl)
        · skip
          refine lv_iload_n hx hb dX10_isEnd_37 rfl (lv_at hl 3 rfl) ?_
          refine lv_aload_n hx hb dX10_isEnd_38 rfl (lv_at hl 4 rfl) ?_
          refine lv_iload hx hb dX10_isEnd_39 (lv_at hl 1 rfl) ?_
          refine zc_wrV (rest := [.int (nI n)]) (wr := [(kn, .inl (dA 0, 2, .inl fun j => nI (KD j))), (pt, .inl (dA 0, 2, .inl fun j => nI (PT j))), (pa, .inl (dA 0, 2, .inl fun j => nI (PN j))), (bg, .inl (dA 0, 2050, .inl fun j => nI (BG j)))]) ⟨hx, hb, hml, hown, hts⟩ (metX10_isPoint lG D dA m0 thr kn pt pa bg xs_ ys_ sgm fr_ tw wo_ mt ha_ x0 y0 dx dy zz ct ov un ZZ1 V0 V1 XS YS (bgF BG s_ p) (by first | assumption | omega) (by first | assumption | omega) (by first | assumption | omega) (by first | assumption | omega) (by first | assumption | omega) (by first | assumption | omega) (by first | assumption | omega) (by first | assumption | omega)) (cwV 1 hts (lw_V q1118 q1120 qs42 q80 q1121) rfl rfl rfl (by decide +kernel) ⟨Nat.le_of_ble_eq_true rfl, Nat.le_of_ble_eq_true rfl⟩) (va_recv hK.1 hP (ci := 9) (q0 := 0) rfl rfl) hP hK hD hS hA [0, 1, 2, 3] [4, 5, 6, 7] rfl rfl (by decide) (by decide) (by decide) rfl hl.1 rfl (Nat.le_of_ble_eq_true rfl) dX10_isEnd_41 ⟨Nat.zero_le _, Nat.zero_le _⟩ (fun u H locs hp_5 hP hD hS => ?_)
          obtain ⟨ZZ2_4, rfl⟩ : ∃ z, z = u := ⟨_, rfl⟩
          have hP : va_P D zCl [(kn, .inl (dA 0, 2, .inl fun j => nI (KD j))), (pt, .inl (dA 0, 2, .inl fun j => nI (PT j))), (pa, .inl (dA 0, 2, .inl fun j => nI (PN j))), (bg, .inl (dA 0, 2050, .inl fun j => nI (BG j))), (m0, .inr (9, [.int (nI thr), .ref kn, .ref pt, .ref pa, .ref bg, .ref xs_, .ref ys_, .int (nI sgm), .ref fr_, .ref tw, .ref wo_, .ref mt, .ref ha_, .long (lZ x0), .long (lZ y0), .long (lZ dx), .long (lZ dy), .ref zz, .int (nI ct), .ref ov, .ref un])), (zz, .inl (dA 1, 192, .inr (.inl fun j => lZ (ZZ2_4 j)))), (xs_, .inl (dA 0, 4096, .inl fun j => iZ (XS j))), (ys_, .inl (dA 0, 4096, .inl fun j => iZ (YS j)))] H := hP
          have hD : va_D A [(kn, .inl (dA 0, 2, .inl fun j => nI (KD j))), (pt, .inl (dA 0, 2, .inl fun j => nI (PT j))), (pa, .inl (dA 0, 2, .inl fun j => nI (PN j))), (bg, .inl (dA 0, 2050, .inl fun j => nI (BG j))), (m0, .inr (9, [.int (nI thr), .ref kn, .ref pt, .ref pa, .ref bg, .ref xs_, .ref ys_, .int (nI sgm), .ref fr_, .ref tw, .ref wo_, .ref mt, .ref ha_, .long (lZ x0), .long (lZ y0), .long (lZ dx), .long (lZ dy), .ref zz, .int (nI ct), .ref ov, .ref un])), (zz, .inl (dA 1, 192, .inr (.inl fun j => lZ (ZZ2_4 j)))), (xs_, .inl (dA 0, 4096, .inl fun j => iZ (XS j))), (ys_, .inl (dA 0, 4096, .inl fun j => iZ (YS j)))] := hD
          have hp_5 : ptOK ZZ2_4 V0 V1 := hp_5
          show W _ _ _ _ _ _ _ _ _ _ _ _ 0 0 _ (F0 mG 44 ls [.int (bI (ptK x0 y0 dx dy V0 V1 XS YS (bgF BG s_ p))), .int (nI n)])
          refine zb_if_eq (tgt := 51) hx hb dX10_isEnd_44 (by decide) (fun c_6 => ?_) (fun c_6 => ?_)
          · skip
            refine lv_iconst (v := nI 0) hx hb dX10_isEnd_51 (by decide) ?_
            refine lv_aload_n hx hb dX10_isEnd_52 rfl (lv_at hl 4 rfl) ?_
            refine lv_iload hx hb dX10_isEnd_53 (lv_at hl 0 rfl) ?_
            refine lv_iconst (v := nI 1) hx hb dX10_isEnd_55 (by decide) ?_
            refine zn_isub hx hb (by omega) dX10_isEnd_56 ?_
            refine zc_wrV (rest := [.int (nI 0), .int (nI n)]) (wr := [(kn, .inl (dA 0, 2, .inl fun j => nI (KD j))), (pt, .inl (dA 0, 2, .inl fun j => nI (PT j))), (pa, .inl (dA 0, 2, .inl fun j => nI (PN j))), (bg, .inl (dA 0, 2050, .inl fun j => nI (BG j)))]) ⟨hx, hb, hml, hown, hts⟩ (metX10_isPoint lG D dA m0 thr kn pt pa bg xs_ ys_ sgm fr_ tw wo_ mt ha_ x0 y0 dx dy zz ct ov un ZZ2_4 V0 V1 XS YS ((enF BG PN PT s_ p) - 1) (by first | assumption | omega) (by first | assumption | omega) (by first | assumption | omega) (by first | assumption | omega) (by first | assumption | omega) (by first | assumption | omega) (by first | assumption | omega) (by first | assumption | omega)) (cwV 1 hts (lw_V q1118 q1120 qs42 q80 q1121) rfl rfl rfl (by decide +kernel) ⟨Nat.le_of_ble_eq_true rfl, Nat.le_of_ble_eq_true rfl⟩) (va_recv hK.1 hP (ci := 9) (q0 := 4) rfl rfl) hP hK hD hS hA [4, 5, 6, 7] [0, 1, 2, 3] rfl rfl (by decide) (by decide) (by decide) rfl hl.1 rfl (Nat.le_of_ble_eq_true rfl) dX10_isEnd_57 ⟨Nat.zero_le _, Nat.zero_le _⟩ (fun u H locs hp_8 hP hD hS => ?_)
            obtain ⟨ZZ2_7, rfl⟩ : ∃ z, z = u := ⟨_, rfl⟩
            have hP : va_P D zCl [(kn, .inl (dA 0, 2, .inl fun j => nI (KD j))), (pt, .inl (dA 0, 2, .inl fun j => nI (PT j))), (pa, .inl (dA 0, 2, .inl fun j => nI (PN j))), (bg, .inl (dA 0, 2050, .inl fun j => nI (BG j))), (m0, .inr (9, [.int (nI thr), .ref kn, .ref pt, .ref pa, .ref bg, .ref xs_, .ref ys_, .int (nI sgm), .ref fr_, .ref tw, .ref wo_, .ref mt, .ref ha_, .long (lZ x0), .long (lZ y0), .long (lZ dx), .long (lZ dy), .ref zz, .int (nI ct), .ref ov, .ref un])), (zz, .inl (dA 1, 192, .inr (.inl fun j => lZ (ZZ2_7 j)))), (xs_, .inl (dA 0, 4096, .inl fun j => iZ (XS j))), (ys_, .inl (dA 0, 4096, .inl fun j => iZ (YS j)))] H := hP
            have hD : va_D A [(kn, .inl (dA 0, 2, .inl fun j => nI (KD j))), (pt, .inl (dA 0, 2, .inl fun j => nI (PT j))), (pa, .inl (dA 0, 2, .inl fun j => nI (PN j))), (bg, .inl (dA 0, 2050, .inl fun j => nI (BG j))), (m0, .inr (9, [.int (nI thr), .ref kn, .ref pt, .ref pa, .ref bg, .ref xs_, .ref ys_, .int (nI sgm), .ref fr_, .ref tw, .ref wo_, .ref mt, .ref ha_, .long (lZ x0), .long (lZ y0), .long (lZ dx), .long (lZ dy), .ref zz, .int (nI ct), .ref ov, .ref un])), (zz, .inl (dA 1, 192, .inr (.inl fun j => lZ (ZZ2_7 j)))), (xs_, .inl (dA 0, 4096, .inl fun j => iZ (XS j))), (ys_, .inl (dA 0, 4096, .inl fun j => iZ (YS j)))] := hD
            have hp_8 : ptOK ZZ2_7 V0 V1 := hp_8
            show W _ _ _ _ _ _ _ _ _ _ _ _ 0 0 _ (F0 mG 60 ls [.int (bI (ptK x0 y0 dx dy V0 V1 XS YS ((enF BG PN PT s_ p) - 1))), .int (nI 0), .int (nI n)])
            refine zb_if_eq (tgt := 67) hx hb dX10_isEnd_60 (by decide) (fun c_9 => ?_) (fun c_9 => ?_)
            · skip
              refine lv_iconst (v := nI 0) hx hb dX10_isEnd_67 (by decide) ?_
              refine zn_iadd hx hb dX10_isEnd_68 ?_
              refine zn_iadd hx hb dX10_isEnd_69 ?_
              refine lv_istore_n (lv' := [(2, .int (nI (n + (0 + 0)))), (5, .int (nI (enF BG PN PT s_ p))), (4, .int (nI (bgF BG s_ p))), (3, .int (nI p)), (0, .ref m0), (1, .int (nI s_))]) hx hb dX10_isEnd_70 rfl hl (by decide) rfl (fun ls hl => ?_)
              refine lv_iinc (v := nI (p + 1)) (lv' := [(3, .int (nI (p + 1))), (2, .int (nI (n + (0 + 0)))), (5, .int (nI (enF BG PN PT s_ p))), (4, .int (nI (bgF BG s_ p))), (0, .ref m0), (1, .int (nI s_))]) hx hb dX10_isEnd_71 hl (k := 3) rfl (nI_add _ _) (by decide) rfl (fun ls hl => ?_)
              refine lv_goto (tgt := 4) hx hb dX10_isEnd_74 (by decide) ?_
              exact ih4 (p + 1) (n + (0 + 0)) ZZ2_7 (by first | assumption | omega) (by first | exact en_skip i2 (by omega) | exact en_step i2 (by assumption) (by rw [show ptK x0 y0 dx dy V0 V1 XS YS (bgF BG s_ p) = true from (by assumption)]; rfl) (by rw [show ptK x0 y0 dx dy V0 V1 XS YS (enF BG PN PT s_ p - 1) = true from (by assumption)]; rfl) | exact en_step i2 (by assumption) (by rw [show ptK x0 y0 dx dy V0 V1 XS YS (bgF BG s_ p) = true from (by assumption)]; rfl) (by rw [show ptK x0 y0 dx dy V0 V1 XS YS (enF BG PN PT s_ p - 1) = false from (by assumption)]; rfl) | exact en_step i2 (by assumption) (by rw [show ptK x0 y0 dx dy V0 V1 XS YS (bgF BG s_ p) = false from (by assumption)]; rfl) (by rw [show ptK x0 y0 dx dy V0 V1 XS YS (enF BG PN PT s_ p - 1) = true from (by assumption)]; rfl) | exact en_step i2 (by assumption) (by rw [show ptK x0 y0 dx dy V0 V1 XS YS (bgF BG s_ p) = false from (by assumption)]; rfl) (by rw [show ptK x0 y0 dx dy V0 V1 XS YS (enF BG PN PT s_ p - 1) = false from (by assumption)]; rfl)) (by first | assumption | omega) (by omega) _ _ (hP.sub [4, 5, 6, 7, 0, 1, 2, 3] rfl) (hD.sub [4, 5, 6, 7, 0, 1, 2, 3] (by decide) rfl) hS _ (lv_sub hl [0, 1, 4, 5] rfl)
            · skip
              refine lv_iconst (v := nI 1) hx hb dX10_isEnd_63 (by decide) ?_
              refine lv_goto (tgt := 68) hx hb dX10_isEnd_64 (by decide) ?_
              refine zn_iadd hx hb dX10_isEnd_68 ?_
              refine zn_iadd hx hb dX10_isEnd_69 ?_
              refine lv_istore_n (lv' := [(2, .int (nI (n + (0 + 1)))), (5, .int (nI (enF BG PN PT s_ p))), (4, .int (nI (bgF BG s_ p))), (3, .int (nI p)), (0, .ref m0), (1, .int (nI s_))]) hx hb dX10_isEnd_70 rfl hl (by decide) rfl (fun ls hl => ?_)
              refine lv_iinc (v := nI (p + 1)) (lv' := [(3, .int (nI (p + 1))), (2, .int (nI (n + (0 + 1)))), (5, .int (nI (enF BG PN PT s_ p))), (4, .int (nI (bgF BG s_ p))), (0, .ref m0), (1, .int (nI s_))]) hx hb dX10_isEnd_71 hl (k := 3) rfl (nI_add _ _) (by decide) rfl (fun ls hl => ?_)
              refine lv_goto (tgt := 4) hx hb dX10_isEnd_74 (by decide) ?_
              exact ih4 (p + 1) (n + (0 + 1)) ZZ2_7 (by first | assumption | omega) (by first | exact en_skip i2 (by omega) | exact en_step i2 (by assumption) (by rw [show ptK x0 y0 dx dy V0 V1 XS YS (bgF BG s_ p) = true from (by assumption)]; rfl) (by rw [show ptK x0 y0 dx dy V0 V1 XS YS (enF BG PN PT s_ p - 1) = true from (by assumption)]; rfl) | exact en_step i2 (by assumption) (by rw [show ptK x0 y0 dx dy V0 V1 XS YS (bgF BG s_ p) = true from (by assumption)]; rfl) (by rw [show ptK x0 y0 dx dy V0 V1 XS YS (enF BG PN PT s_ p - 1) = false from (by assumption)]; rfl) | exact en_step i2 (by assumption) (by rw [show ptK x0 y0 dx dy V0 V1 XS YS (bgF BG s_ p) = false from (by assumption)]; rfl) (by rw [show ptK x0 y0 dx dy V0 V1 XS YS (enF BG PN PT s_ p - 1) = true from (by assumption)]; rfl) | exact en_step i2 (by assumption) (by rw [show ptK x0 y0 dx dy V0 V1 XS YS (bgF BG s_ p) = false from (by assumption)]; rfl) (by rw [show ptK x0 y0 dx dy V0 V1 XS YS (enF BG PN PT s_ p - 1) = false from (by assumption)]; rfl)) (by first | assumption | omega) (by omega) _ _ (hP.sub [4, 5, 6, 7, 0, 1, 2, 3] rfl) (hD.sub [4, 5, 6, 7, 0, 1, 2, 3] (by decide) rfl) hS _ (lv_sub hl [0, 1, 4, 5] rfl)
          · skip
            refine lv_iconst (v := nI 1) hx hb dX10_isEnd_47 (by decide) ?_
            refine lv_goto (tgt := 52) hx hb dX10_isEnd_48 (by decide) ?_
            refine lv_aload_n hx hb dX10_isEnd_52 rfl (lv_at hl 4 rfl) ?_
            refine lv_iload hx hb dX10_isEnd_53 (lv_at hl 0 rfl) ?_
            refine lv_iconst (v := nI 1) hx hb dX10_isEnd_55 (by decide) ?_
            refine zn_isub hx hb (by omega) dX10_isEnd_56 ?_
            refine zc_wrV (rest := [.int (nI 1), .int (nI n)]) (wr := [(kn, .inl (dA 0, 2, .inl fun j => nI (KD j))), (pt, .inl (dA 0, 2, .inl fun j => nI (PT j))), (pa, .inl (dA 0, 2, .inl fun j => nI (PN j))), (bg, .inl (dA 0, 2050, .inl fun j => nI (BG j)))]) ⟨hx, hb, hml, hown, hts⟩ (metX10_isPoint lG D dA m0 thr kn pt pa bg xs_ ys_ sgm fr_ tw wo_ mt ha_ x0 y0 dx dy zz ct ov un ZZ2_4 V0 V1 XS YS ((enF BG PN PT s_ p) - 1) (by first | assumption | omega) (by first | assumption | omega) (by first | assumption | omega) (by first | assumption | omega) (by first | assumption | omega) (by first | assumption | omega) (by first | assumption | omega) (by first | assumption | omega)) (cwV 1 hts (lw_V q1118 q1120 qs42 q80 q1121) rfl rfl rfl (by decide +kernel) ⟨Nat.le_of_ble_eq_true rfl, Nat.le_of_ble_eq_true rfl⟩) (va_recv hK.1 hP (ci := 9) (q0 := 4) rfl rfl) hP hK hD hS hA [4, 5, 6, 7] [0, 1, 2, 3] rfl rfl (by decide) (by decide) (by decide) rfl hl.1 rfl (Nat.le_of_ble_eq_true rfl) dX10_isEnd_57 ⟨Nat.zero_le _, Nat.zero_le _⟩ (fun u H locs hp_11 hP hD hS => ?_)
            obtain ⟨ZZ2_10, rfl⟩ : ∃ z, z = u := ⟨_, rfl⟩
            have hP : va_P D zCl [(kn, .inl (dA 0, 2, .inl fun j => nI (KD j))), (pt, .inl (dA 0, 2, .inl fun j => nI (PT j))), (pa, .inl (dA 0, 2, .inl fun j => nI (PN j))), (bg, .inl (dA 0, 2050, .inl fun j => nI (BG j))), (m0, .inr (9, [.int (nI thr), .ref kn, .ref pt, .ref pa, .ref bg, .ref xs_, .ref ys_, .int (nI sgm), .ref fr_, .ref tw, .ref wo_, .ref mt, .ref ha_, .long (lZ x0), .long (lZ y0), .long (lZ dx), .long (lZ dy), .ref zz, .int (nI ct), .ref ov, .ref un])), (zz, .inl (dA 1, 192, .inr (.inl fun j => lZ (ZZ2_10 j)))), (xs_, .inl (dA 0, 4096, .inl fun j => iZ (XS j))), (ys_, .inl (dA 0, 4096, .inl fun j => iZ (YS j)))] H := hP
            have hD : va_D A [(kn, .inl (dA 0, 2, .inl fun j => nI (KD j))), (pt, .inl (dA 0, 2, .inl fun j => nI (PT j))), (pa, .inl (dA 0, 2, .inl fun j => nI (PN j))), (bg, .inl (dA 0, 2050, .inl fun j => nI (BG j))), (m0, .inr (9, [.int (nI thr), .ref kn, .ref pt, .ref pa, .ref bg, .ref xs_, .ref ys_, .int (nI sgm), .ref fr_, .ref tw, .ref wo_, .ref mt, .ref ha_, .long (lZ x0), .long (lZ y0), .long (lZ dx), .long (lZ dy), .ref zz, .int (nI ct), .ref ov, .ref un])), (zz, .inl (dA 1, 192, .inr (.inl fun j => lZ (ZZ2_10 j)))), (xs_, .inl (dA 0, 4096, .inl fun j => iZ (XS j))), (ys_, .inl (dA 0, 4096, .inl fun j => iZ (YS j)))] := hD
            have hp_11 : ptOK ZZ2_10 V0 V1 := hp_11
            show W _ _ _ _ _ _ _ _ _ _ _ _ 0 0 _ (F0 mG 60 ls [.int (bI (ptK x0 y0 dx dy V0 V1 XS YS ((enF BG PN PT s_ p) - 1))), .int (nI 1), .int (nI n)])
            refine zb_if_eq (tgt := 67) hx hb dX10_isEnd_60 (by decide) (fun c_12 => ?_) (fun c_12 => ?_)
            · skip
              refine lv_iconst (v := nI 0) hx hb dX10_isEnd_67 (by decide) ?_
              refine zn_iadd hx hb dX10_isEnd_68 ?_
              refine zn_iadd hx hb dX10_isEnd_69 ?_
              refine lv_istore_n (lv' := [(2, .int (nI (n + (1 + 0)))), (5, .int (nI (enF BG PN PT s_ p))), (4, .int (nI (bgF BG s_ p))), (3, .int (nI p)), (0, .ref m0), (1, .int (nI s_))]) hx hb dX10_isEnd_70 rfl hl (by decide) rfl (fun ls hl => ?_)
              refine lv_iinc (v := nI (p + 1)) (lv' := [(3, .int (nI (p + 1))), (2, .int (nI (n + (1 + 0)))), (5, .int (nI (enF BG PN PT s_ p))), (4, .int (nI (bgF BG s_ p))), (0, .ref m0), (1, .int (nI s_))]) hx hb dX10_isEnd_71 hl (k := 3) rfl (nI_add _ _) (by decide) rfl (fun ls hl => ?_)
              refine lv_goto (tgt := 4) hx hb dX10_isEnd_74 (by decide) ?_
              exact ih4 (p + 1) (n + (1 + 0)) ZZ2_10 (by first | assumption | omega) (by first | exact en_skip i2 (by omega) | exact en_step i2 (by assumption) (by rw [show ptK x0 y0 dx dy V0 V1 XS YS (bgF BG s_ p) = true from (by assumption)]; rfl) (by rw [show ptK x0 y0 dx dy V0 V1 XS YS (enF BG PN PT s_ p - 1) = true from (by assumption)]; rfl) | exact en_step i2 (by assumption) (by rw [show ptK x0 y0 dx dy V0 V1 XS YS (bgF BG s_ p) = true from (by assumption)]; rfl) (by rw [show ptK x0 y0 dx dy V0 V1 XS YS (enF BG PN PT s_ p - 1) = false from (by assumption)]; rfl) | exact en_step i2 (by assumption) (by rw [show ptK x0 y0 dx dy V0 V1 XS YS (bgF BG s_ p) = false from (by assumption)]; rfl) (by rw [show ptK x0 y0 dx dy V0 V1 XS YS (enF BG PN PT s_ p - 1) = true from (by assumption)]; rfl) | exact en_step i2 (by assumption) (by rw [show ptK x0 y0 dx dy V0 V1 XS YS (bgF BG s_ p) = false from (by assumption)]; rfl) (by rw [show ptK x0 y0 dx dy V0 V1 XS YS (enF BG PN PT s_ p - 1) = false from (by assumption)]; rfl)) (by first | assumption | omega) (by omega) _ _ (hP.sub [4, 5, 6, 7, 0, 1, 2, 3] rfl) (hD.sub [4, 5, 6, 7, 0, 1, 2, 3] (by decide) rfl) hS _ (lv_sub hl [0, 1, 4, 5] rfl)
            · skip
              refine lv_iconst (v := nI 1) hx hb dX10_isEnd_63 (by decide) ?_
              refine lv_goto (tgt := 68) hx hb dX10_isEnd_64 (by decide) ?_
              refine zn_iadd hx hb dX10_isEnd_68 ?_
              refine zn_iadd hx hb dX10_isEnd_69 ?_
              refine lv_istore_n (lv' := [(2, .int (nI (n + (1 + 1)))), (5, .int (nI (enF BG PN PT s_ p))), (4, .int (nI (bgF BG s_ p))), (3, .int (nI p)), (0, .ref m0), (1, .int (nI s_))]) hx hb dX10_isEnd_70 rfl hl (by decide) rfl (fun ls hl => ?_)
              refine lv_iinc (v := nI (p + 1)) (lv' := [(3, .int (nI (p + 1))), (2, .int (nI (n + (1 + 1)))), (5, .int (nI (enF BG PN PT s_ p))), (4, .int (nI (bgF BG s_ p))), (0, .ref m0), (1, .int (nI s_))]) hx hb dX10_isEnd_71 hl (k := 3) rfl (nI_add _ _) (by decide) rfl (fun ls hl => ?_)
              refine lv_goto (tgt := 4) hx hb dX10_isEnd_74 (by decide) ?_
              exact ih4 (p + 1) (n + (1 + 1)) ZZ2_10 (by first | assumption | omega) (by first | exact en_skip i2 (by omega) | exact en_step i2 (by assumption) (by rw [show ptK x0 y0 dx dy V0 V1 XS YS (bgF BG s_ p) = true from (by assumption)]; rfl) (by rw [show ptK x0 y0 dx dy V0 V1 XS YS (enF BG PN PT s_ p - 1) = true from (by assumption)]; rfl) | exact en_step i2 (by assumption) (by rw [show ptK x0 y0 dx dy V0 V1 XS YS (bgF BG s_ p) = true from (by assumption)]; rfl) (by rw [show ptK x0 y0 dx dy V0 V1 XS YS (enF BG PN PT s_ p - 1) = false from (by assumption)]; rfl) | exact en_step i2 (by assumption) (by rw [show ptK x0 y0 dx dy V0 V1 XS YS (bgF BG s_ p) = false from (by assumption)]; rfl) (by rw [show ptK x0 y0 dx dy V0 V1 XS YS (enF BG PN PT s_ p - 1) = true from (by assumption)]; rfl) | exact en_step i2 (by assumption) (by rw [show ptK x0 y0 dx dy V0 V1 XS YS (bgF BG s_ p) = false from (by assumption)]; rfl) (by rw [show ptK x0 y0 dx dy V0 V1 XS YS (enF BG PN PT s_ p - 1) = false from (by assumption)]; rfl)) (by first | assumption | omega) (by omega) _ _ (hP.sub [4, 5, 6, 7, 0, 1, 2, 3] rfl) (hD.sub [4, 5, 6, 7, 0, 1, 2, 3] (by decide) rfl) hS _ (lv_sub hl [0, 1, 4, 5] rfl)
  exact loop4 (PN s_ - 0 + 1) 0 0 ZZ (by first | assumption | omega) rfl (by first | assumption | omega) (Nat.lt_succ_self _) _ _ (hP.sub [0, 1, 2, 3, 4, 5, 6, 7] rfl) (hD.sub [0, 1, 2, 3, 4, 5, 6, 7] (by decide) rfl) hS _ (lv_sub hl [0, 1, 2, 3] rfl)
set_option maxHeartbeats 4000000 in
set_option maxRecDepth 100000 in
theorem metX10_where (lG : Launch) (D : va_G) (dA : Nat → ClassId) (m0 : Nat) (thr : Nat) (kn : Nat) (pt : Nat) (pa : Nat) (bg : Nat) (xs_ : Nat) (ys_ : Nat) (sgm : Nat) (fr_ : Nat) (tw : Nat) (wo_ : Nat) (mt : Nat) (ha_ : Nat) (x0 : Int) (y0 : Int) (dx : Int) (dy : Int) (zz : Nat) (ct : Nat) (ov : Nat) (un : Nat) (ZZ : Nat → Int) (V0 : Int) (V1 : Int) (XS : Nat → Int) (YS : Nat → Int) (FM : Nat → Nat) (TM : Nat → Nat) (WO : Nat → Nat) (KD : Nat → Nat) (PT : Nat → Nat) (PN : Nat → Nat) (BG : Nat → Nat) (s_ : Nat) (hp : ptOK ZZ V0 V1) (hx0 : cB x0) (hy0 : cB y0) (hdx : dB dx) (hdy : dB dy) (hXS : ∀ k, cB (XS k)) (hYS : ∀ k, cB (YS k)) (hFM : ∀ k, k < sgm → FM k < 4096) (hTM : ∀ k, k < sgm → TM k < 4096) (hsgm : sgm ≤ 4096) (hKD : ∀ s, s < 2 → KD s < 4) (hPT : ∀ s, s < 2 → PT s ≤ 2048) (hPN : ∀ s, s < 2 → PN s ≤ 1024) (hBG : ∀ s p, s < 2 → p < PN s → BG (1025 * s + p) ≤ PT s) (hs : s_ < 2) (hWO : ∀ k, k < sgm → WO k < 2) : Wr lG yX10_where (ws_ yX10_where cX10_where 3 (some .int)) 6 147 D dA [.ref m0, .int (nI s_)] [(m0, .inr (9, [.int (nI thr), .ref kn, .ref pt, .ref pa, .ref bg, .ref xs_, .ref ys_, .int (nI sgm), .ref fr_, .ref tw, .ref wo_, .ref mt, .ref ha_, .long (lZ x0), .long (lZ y0), .long (lZ dx), .long (lZ dy), .ref zz, .int (nI ct), .ref ov, .ref un])), (zz, .inl (dA 1, 192, .inr (.inl fun j => lZ (ZZ j)))), (xs_, .inl (dA 0, 4096, .inl fun j => iZ (XS j))), (ys_, .inl (dA 0, 4096, .inl fun j => iZ (YS j))), (fr_, .inl (dA 0, 4096, .inl fun j => nI (FM j))), (tw, .inl (dA 0, 4096, .inl fun j => nI (TM j))), (wo_, .inl (dA 0, 4096, .inl fun j => nI (WO j))), (kn, .inl (dA 0, 2, .inl fun j => nI (KD j))), (pt, .inl (dA 0, 2, .inl fun j => nI (PT j))), (pa, .inl (dA 0, 2, .inl fun j => nI (PN j))), (bg, .inl (dA 0, 2050, .inl fun j => nI (BG j)))] 0 0 (fun (u : (Nat → Int)) => let ZZ2 := u; ptOK ZZ2 V0 V1) (fun (u : (Nat → Int)) => let ZZ2 := u; some (.int (nI (whM x0 y0 dx dy V0 V1 XS YS FM TM WO KD PT PN BG sgm s_)))) (fun (u : (Nat → Int)) => let ZZ2 := u; [(m0, .inr (9, [.int (nI thr), .ref kn, .ref pt, .ref pa, .ref bg, .ref xs_, .ref ys_, .int (nI sgm), .ref fr_, .ref tw, .ref wo_, .ref mt, .ref ha_, .long (lZ x0), .long (lZ y0), .long (lZ dx), .long (lZ dy), .ref zz, .int (nI ct), .ref ov, .ref un])), (zz, .inl (dA 1, 192, .inr (.inl fun j => lZ (ZZ2 j)))), (xs_, .inl (dA 0, 4096, .inl fun j => iZ (XS j))), (ys_, .inl (dA 0, 4096, .inl fun j => iZ (YS j))), (fr_, .inl (dA 0, 4096, .inl fun j => nI (FM j))), (tw, .inl (dA 0, 4096, .inl fun j => nI (TM j))), (wo_, .inl (dA 0, 4096, .inl fun j => nI (WO j))), (kn, .inl (dA 0, 2, .inl fun j => nI (KD j))), (pt, .inl (dA 0, 2, .inl fun j => nI (PT j))), (pa, .inl (dA 0, 2, .inl fun j => nI (PN j))), (bg, .inl (dA 0, 2050, .inl fun j => nI (BG j)))]) := by
  refine Wr.of (by decide) (Nat.le_of_ble_eq_true rfl) ?_
  intro pG eG sG mG bG tG cG ls A hx hb hr hml hown hts hlocks hnm hP hK hD hS hA hl
  have hK1 := hK.1
  have hown : sG.vm.findClass RX10 = some mG.cls := hown
  have hl : lv_has ls 3 [(0, .ref m0), (1, .int (nI s_))] := hl
  have hkd := hKD s_ hs
  have hc1 := cntR_le (hvF x0 y0 dx dy V0 V1 XS YS FM TM WO s_) sgm
  refine lv_aload_n hx hb dX10_where_0 rfl (lv_at hl 0 rfl) ?_
  refine va_get (D := D) (ci := 9) (v := .ref kn) (C := RX10) (T := TX10) (N := 21) hx hb hts in_X10 hown hK.1 hP 0 rfl rfl 1 (Nat.le_of_ble_eq_true rfl) (hts _ q970) (fun _ h9 => h9) rfl dX10_where_1 ?_
  refine lv_iload_n hx hb dX10_where_4 rfl (lv_at hl 1 rfl) ?_
  refine zn_iaload (f := KD) (i := s_) hx hb hK.1 hP 7 0 rfl rfl (by omega) (by decide) dX10_where_5 ?_
  refine lv_iconst (v := nI 1) hx hb dX10_where_6 (by decide) ?_
  refine zn_icmp_ne (tgt := 24) hx hb (by omega) (by decide) dX10_where_7 (by decide) (fun c_1 => ?_) (fun c_1 => ?_)
  · skip
    refine lv_aload_n hx hb dX10_where_24 rfl (lv_at hl 0 rfl) ?_
    refine lv_iload_n hx hb dX10_where_25 rfl (lv_at hl 1 rfl) ?_
    refine zc_wrV (rest := []) (wr := [(kn, .inl (dA 0, 2, .inl fun j => nI (KD j))), (pt, .inl (dA 0, 2, .inl fun j => nI (PT j))), (pa, .inl (dA 0, 2, .inl fun j => nI (PN j))), (bg, .inl (dA 0, 2050, .inl fun j => nI (BG j)))]) ⟨hx, hb, hml, hown, hts⟩ (metX10_having lG D dA m0 thr kn pt pa bg xs_ ys_ sgm fr_ tw wo_ mt ha_ x0 y0 dx dy zz ct ov un ZZ V0 V1 XS YS FM TM WO s_ (by first | assumption | omega) (by first | assumption | omega) (by first | assumption | omega) (by first | assumption | omega) (by first | assumption | omega) (by first | assumption | omega) (by first | assumption | omega) (by first | assumption | omega) (by first | assumption | omega) (by first | assumption | omega) (by first | assumption | omega) (by first | assumption | omega)) (cwV 1 hts (lw_V q1142 q1144 qs48 q80 q1145) rfl rfl rfl (by decide +kernel) ⟨Nat.le_of_ble_eq_true rfl, Nat.le_of_ble_eq_true rfl⟩) (va_recv hK.1 hP (ci := 9) (q0 := 0) rfl rfl) hP hK hD hS hA [0, 1, 2, 3, 4, 5, 6] [7, 8, 9, 10] rfl rfl (by decide) (by decide) (by decide) rfl hl.1 rfl (Nat.le_of_ble_eq_true rfl) dX10_where_26 ⟨Nat.zero_le _, Nat.zero_le _⟩ (fun u H locs hp_3 hP hD hS => ?_)
    obtain ⟨ZZ2_2, rfl⟩ : ∃ z, z = u := ⟨_, rfl⟩
    have hP : va_P D zCl [(kn, .inl (dA 0, 2, .inl fun j => nI (KD j))), (pt, .inl (dA 0, 2, .inl fun j => nI (PT j))), (pa, .inl (dA 0, 2, .inl fun j => nI (PN j))), (bg, .inl (dA 0, 2050, .inl fun j => nI (BG j))), (m0, .inr (9, [.int (nI thr), .ref kn, .ref pt, .ref pa, .ref bg, .ref xs_, .ref ys_, .int (nI sgm), .ref fr_, .ref tw, .ref wo_, .ref mt, .ref ha_, .long (lZ x0), .long (lZ y0), .long (lZ dx), .long (lZ dy), .ref zz, .int (nI ct), .ref ov, .ref un])), (zz, .inl (dA 1, 192, .inr (.inl fun j => lZ (ZZ2_2 j)))), (xs_, .inl (dA 0, 4096, .inl fun j => iZ (XS j))), (ys_, .inl (dA 0, 4096, .inl fun j => iZ (YS j))), (fr_, .inl (dA 0, 4096, .inl fun j => nI (FM j))), (tw, .inl (dA 0, 4096, .inl fun j => nI (TM j))), (wo_, .inl (dA 0, 4096, .inl fun j => nI (WO j)))] H := hP
    have hD : va_D A [(kn, .inl (dA 0, 2, .inl fun j => nI (KD j))), (pt, .inl (dA 0, 2, .inl fun j => nI (PT j))), (pa, .inl (dA 0, 2, .inl fun j => nI (PN j))), (bg, .inl (dA 0, 2050, .inl fun j => nI (BG j))), (m0, .inr (9, [.int (nI thr), .ref kn, .ref pt, .ref pa, .ref bg, .ref xs_, .ref ys_, .int (nI sgm), .ref fr_, .ref tw, .ref wo_, .ref mt, .ref ha_, .long (lZ x0), .long (lZ y0), .long (lZ dx), .long (lZ dy), .ref zz, .int (nI ct), .ref ov, .ref un])), (zz, .inl (dA 1, 192, .inr (.inl fun j => lZ (ZZ2_2 j)))), (xs_, .inl (dA 0, 4096, .inl fun j => iZ (XS j))), (ys_, .inl (dA 0, 4096, .inl fun j => iZ (YS j))), (fr_, .inl (dA 0, 4096, .inl fun j => nI (FM j))), (tw, .inl (dA 0, 4096, .inl fun j => nI (TM j))), (wo_, .inl (dA 0, 4096, .inl fun j => nI (WO j)))] := hD
    have hp_3 : ptOK ZZ2_2 V0 V1 := hp_3
    show W _ _ _ _ _ _ _ _ _ _ _ _ 0 0 _ (F0 mG 29 ls [.int (nI (cntR (hvF x0 y0 dx dy V0 V1 XS YS FM TM WO s_) sgm))])
    refine zn_if_le (tgt := 36) hx hb (by omega) dX10_where_29 (by decide) (fun c_4 => ?_) (fun c_4 => ?_)
    · skip
      refine lv_iconst (v := nI 0) hx hb dX10_where_36 (by decide) ?_
      refine lv_istore_n (lv' := [(2, .int (nI 0)), (0, .ref m0), (1, .int (nI s_))]) hx hb dX10_where_37 rfl hl (by decide) rfl (fun ls hl => ?_)
      refine lv_aload_n hx hb dX10_where_38 rfl (lv_at hl 1 rfl) ?_
      refine va_get (D := D) (ci := 9) (v := .ref kn) (C := RX10) (T := TX10) (N := 21) hx hb hts in_X10 hown hK.1 hP 4 rfl rfl 1 (Nat.le_of_ble_eq_true rfl) (hts _ q970) (fun _ h9 => h9) rfl dX10_where_39 ?_
      refine lv_iload_n hx hb dX10_where_42 rfl (lv_at hl 2 rfl) ?_
      refine zn_iaload (f := KD) (i := s_) hx hb hK.1 hP 0 0 rfl rfl (by omega) (by decide) dX10_where_43 ?_
      refine lv_iconst (v := nI 2) hx hb dX10_where_44 (by decide) ?_
      refine zn_icmp_ne (tgt := 70) hx hb (by omega) (by decide) dX10_where_45 (by decide) (fun c_5 => ?_) (fun c_5 => ?_)
      · skip
        refine lv_iload_n hx hb dX10_where_70 rfl (lv_at hl 0 rfl) ?_
        refine zn_if_eq (tgt := 78) hx hb (by decide) dX10_where_71 (by decide) (fun c_6 => ?_) (fun c_6 => ?_)
        · skip
          refine lv_aload_n hx hb dX10_where_78 rfl (lv_at hl 1 rfl) ?_
          refine lv_iload_n hx hb dX10_where_79 rfl (lv_at hl 2 rfl) ?_
          refine zc_wrV (rest := []) (wr := [(kn, .inl (dA 0, 2, .inl fun j => nI (KD j))), (pt, .inl (dA 0, 2, .inl fun j => nI (PT j))), (pa, .inl (dA 0, 2, .inl fun j => nI (PN j))), (bg, .inl (dA 0, 2050, .inl fun j => nI (BG j)))]) ⟨hx, hb, hml, hown, hts⟩ (metX10_crossed lG D dA m0 thr kn pt pa bg xs_ ys_ sgm fr_ tw wo_ mt ha_ x0 y0 dx dy zz ct ov un ZZ2_2 V0 V1 XS YS FM TM WO s_ (by first | assumption | omega) (by first | assumption | omega) (by first | assumption | omega) (by first | assumption | omega) (by first | assumption | omega) (by first | assumption | omega) (by first | assumption | omega) (by first | assumption | omega) (by first | assumption | omega) (by first | assumption | omega) (by first | assumption | omega) (by first | assumption | omega)) (cwV 1 hts (lw_V q1158 q1160 qs52 q80 q1161) rfl rfl rfl (by decide +kernel) ⟨Nat.le_of_ble_eq_true rfl, Nat.le_of_ble_eq_true rfl⟩) (va_recv hK.1 hP (ci := 9) (q0 := 4) rfl rfl) hP hK hD hS hA [4, 5, 6, 7, 8, 9, 10] [0, 1, 2, 3] rfl rfl (by decide) (by decide) (by decide) rfl hl.1 rfl (Nat.le_of_ble_eq_true rfl) dX10_where_80 ⟨Nat.zero_le _, Nat.zero_le _⟩ (fun u H locs hp_8 hP hD hS => ?_)
          obtain ⟨ZZ2_7, rfl⟩ : ∃ z, z = u := ⟨_, rfl⟩
          have hP : va_P D zCl [(kn, .inl (dA 0, 2, .inl fun j => nI (KD j))), (pt, .inl (dA 0, 2, .inl fun j => nI (PT j))), (pa, .inl (dA 0, 2, .inl fun j => nI (PN j))), (bg, .inl (dA 0, 2050, .inl fun j => nI (BG j))), (m0, .inr (9, [.int (nI thr), .ref kn, .ref pt, .ref pa, .ref bg, .ref xs_, .ref ys_, .int (nI sgm), .ref fr_, .ref tw, .ref wo_, .ref mt, .ref ha_, .long (lZ x0), .long (lZ y0), .long (lZ dx), .long (lZ dy), .ref zz, .int (nI ct), .ref ov, .ref un])), (zz, .inl (dA 1, 192, .inr (.inl fun j => lZ (ZZ2_7 j)))), (xs_, .inl (dA 0, 4096, .inl fun j => iZ (XS j))), (ys_, .inl (dA 0, 4096, .inl fun j => iZ (YS j))), (fr_, .inl (dA 0, 4096, .inl fun j => nI (FM j))), (tw, .inl (dA 0, 4096, .inl fun j => nI (TM j))), (wo_, .inl (dA 0, 4096, .inl fun j => nI (WO j)))] H := hP
          have hD : va_D A [(kn, .inl (dA 0, 2, .inl fun j => nI (KD j))), (pt, .inl (dA 0, 2, .inl fun j => nI (PT j))), (pa, .inl (dA 0, 2, .inl fun j => nI (PN j))), (bg, .inl (dA 0, 2050, .inl fun j => nI (BG j))), (m0, .inr (9, [.int (nI thr), .ref kn, .ref pt, .ref pa, .ref bg, .ref xs_, .ref ys_, .int (nI sgm), .ref fr_, .ref tw, .ref wo_, .ref mt, .ref ha_, .long (lZ x0), .long (lZ y0), .long (lZ dx), .long (lZ dy), .ref zz, .int (nI ct), .ref ov, .ref un])), (zz, .inl (dA 1, 192, .inr (.inl fun j => lZ (ZZ2_7 j)))), (xs_, .inl (dA 0, 4096, .inl fun j => iZ (XS j))), (ys_, .inl (dA 0, 4096, .inl fun j => iZ (YS j))), (fr_, .inl (dA 0, 4096, .inl fun j => nI (FM j))), (tw, .inl (dA 0, 4096, .inl fun j => nI (TM j))), (wo_, .inl (dA 0, 4096, .inl fun j => nI (WO j)))] := hD
          have hp_8 : ptOK ZZ2_7 V0 V1 := hp_8
          show W _ _ _ _ _ _ _ _ _ _ _ _ 0 0 _ (F0 mG 83 ls [.int (nI (cntR (cdF x0 y0 dx dy V0 V1 XS YS FM TM WO s_) sgm % 2))])
          refine lv_iconst (v := nI 1) hx hb dX10_where_83 (by decide) ?_
          refine zn_icmp_ne (tgt := 91) hx hb (by omega) (by decide) dX10_where_84 (by decide) (fun c_9 => ?_) (fun c_9 => ?_)
          · skip
            refine lv_iconst (v := nI 2) hx hb dX10_where_91 (by decide) ?_
            exact zr_wrI (u := (ZZ2_7)) (congrArg (fun z => some (Value.int (nI z))) (show _ = whM x0 y0 dx dy V0 V1 XS YS FM TM WO KD PT PN BG sgm s_ from (by unfold whM; first | (rw [if_pos (by assumption), if_pos (by assumption)]; done) | (rw [if_pos (by assumption), if_neg (by rw [show exR (ptK x0 y0 dx dy V0 V1 XS YS) (2048 * s_) (2048 * s_ + PT s_) = false from (by assumption)]; decide)]; done) | (rw [if_neg (by assumption), if_pos (by assumption), if_pos (of_decide_eq_true (by assumption))]; done) | (rw [if_neg (by assumption), if_pos (by assumption), if_neg (of_decide_eq_false (by assumption)), if_pos (by assumption)]; done) | (rw [if_neg (by assumption), if_pos (by assumption), if_neg (of_decide_eq_false (by assumption)), if_neg (by omega)]; done) | (rw [if_neg (by assumption), if_neg (by assumption), if_pos (by assumption)]; done) | (rw [if_neg (by assumption), if_neg (by assumption), if_neg (by omega), if_pos (by assumption)]; done) | (rw [if_neg (by assumption), if_neg (by assumption), if_neg (by omega), if_neg (by assumption)]; done)))) (show ptOK ZZ2_7 V0 V1 from (by first | assumption | omega)) (hP.sub [4, 5, 6, 7, 8, 9, 10, 0, 1, 2, 3] rfl) (hD.sub [4, 5, 6, 7, 8, 9, 10, 0, 1, 2, 3] (by decide) rfl) hS hx hb hr hlocks dX10_where_92
          · skip
            refine lv_iconst (v := nI 0) hx hb dX10_where_87 (by decide) ?_
            refine lv_goto (tgt := 92) hx hb dX10_where_88 (by decide) ?_
            exact zr_wrI (u := (ZZ2_7)) (congrArg (fun z => some (Value.int (nI z))) (show _ = whM x0 y0 dx dy V0 V1 XS YS FM TM WO KD PT PN BG sgm s_ from (by unfold whM; first | (rw [if_pos (by assumption), if_pos (by assumption)]; done) | (rw [if_pos (by assumption), if_neg (by rw [show exR (ptK x0 y0 dx dy V0 V1 XS YS) (2048 * s_) (2048 * s_ + PT s_) = false from (by assumption)]; decide)]; done) | (rw [if_neg (by assumption), if_pos (by assumption), if_pos (of_decide_eq_true (by assumption))]; done) | (rw [if_neg (by assumption), if_pos (by assumption), if_neg (of_decide_eq_false (by assumption)), if_pos (by assumption)]; done) | (rw [if_neg (by assumption), if_pos (by assumption), if_neg (of_decide_eq_false (by assumption)), if_neg (by omega)]; done) | (rw [if_neg (by assumption), if_neg (by assumption), if_pos (by assumption)]; done) | (rw [if_neg (by assumption), if_neg (by assumption), if_neg (by omega), if_pos (by assumption)]; done) | (rw [if_neg (by assumption), if_neg (by assumption), if_neg (by omega), if_neg (by assumption)]; done)))) (show ptOK ZZ2_7 V0 V1 from (by first | assumption | omega)) (hP.sub [4, 5, 6, 7, 8, 9, 10, 0, 1, 2, 3] rfl) (hD.sub [4, 5, 6, 7, 8, 9, 10, 0, 1, 2, 3] (by decide) rfl) hS hx hb hr hlocks dX10_where_92
        · skip
          exfalso; omega
      · skip
        refine lv_aload_n hx hb dX10_where_48 rfl (lv_at hl 1 rfl) ?_
        refine lv_iload_n hx hb dX10_where_49 rfl (lv_at hl 2 rfl) ?_
        refine zc_wrV (rest := []) (wr := [(fr_, .inl (dA 0, 4096, .inl fun j => nI (FM j))), (tw, .inl (dA 0, 4096, .inl fun j => nI (TM j))), (wo_, .inl (dA 0, 4096, .inl fun j => nI (WO j)))]) ⟨hx, hb, hml, hown, hts⟩ (metX10_isEnd lG D dA m0 thr kn pt pa bg xs_ ys_ sgm fr_ tw wo_ mt ha_ x0 y0 dx dy zz ct ov un ZZ2_2 V0 V1 XS YS KD PT PN BG s_ (by first | assumption | omega) (by first | assumption | omega) (by first | assumption | omega) (by first | assumption | omega) (by first | assumption | omega) (by first | assumption | omega) (by first | assumption | omega) (by first | assumption | omega) (by first | assumption | omega) (by first | assumption | omega) (by first | assumption | omega) (by first | assumption | omega)) (cwV 1 hts (lw_V q1154 q1156 qs51 q80 q1157) rfl rfl rfl (by decide +kernel) ⟨Nat.le_of_ble_eq_true rfl, Nat.le_of_ble_eq_true rfl⟩) (va_recv hK.1 hP (ci := 9) (q0 := 4) rfl rfl) hP hK hD hS hA [4, 5, 6, 7, 0, 1, 2, 3] [8, 9, 10] rfl rfl (by decide) (by decide) (by decide) rfl hl.1 rfl (Nat.le_of_ble_eq_true rfl) dX10_where_50 ⟨Nat.zero_le _, Nat.zero_le _⟩ (fun u H locs hp_11 hP hD hS => ?_)
        obtain ⟨ZZ2_10, rfl⟩ : ∃ z, z = u := ⟨_, rfl⟩
        have hP : va_P D zCl [(fr_, .inl (dA 0, 4096, .inl fun j => nI (FM j))), (tw, .inl (dA 0, 4096, .inl fun j => nI (TM j))), (wo_, .inl (dA 0, 4096, .inl fun j => nI (WO j))), (m0, .inr (9, [.int (nI thr), .ref kn, .ref pt, .ref pa, .ref bg, .ref xs_, .ref ys_, .int (nI sgm), .ref fr_, .ref tw, .ref wo_, .ref mt, .ref ha_, .long (lZ x0), .long (lZ y0), .long (lZ dx), .long (lZ dy), .ref zz, .int (nI ct), .ref ov, .ref un])), (zz, .inl (dA 1, 192, .inr (.inl fun j => lZ (ZZ2_10 j)))), (xs_, .inl (dA 0, 4096, .inl fun j => iZ (XS j))), (ys_, .inl (dA 0, 4096, .inl fun j => iZ (YS j))), (kn, .inl (dA 0, 2, .inl fun j => nI (KD j))), (pt, .inl (dA 0, 2, .inl fun j => nI (PT j))), (pa, .inl (dA 0, 2, .inl fun j => nI (PN j))), (bg, .inl (dA 0, 2050, .inl fun j => nI (BG j)))] H := hP
        have hD : va_D A [(fr_, .inl (dA 0, 4096, .inl fun j => nI (FM j))), (tw, .inl (dA 0, 4096, .inl fun j => nI (TM j))), (wo_, .inl (dA 0, 4096, .inl fun j => nI (WO j))), (m0, .inr (9, [.int (nI thr), .ref kn, .ref pt, .ref pa, .ref bg, .ref xs_, .ref ys_, .int (nI sgm), .ref fr_, .ref tw, .ref wo_, .ref mt, .ref ha_, .long (lZ x0), .long (lZ y0), .long (lZ dx), .long (lZ dy), .ref zz, .int (nI ct), .ref ov, .ref un])), (zz, .inl (dA 1, 192, .inr (.inl fun j => lZ (ZZ2_10 j)))), (xs_, .inl (dA 0, 4096, .inl fun j => iZ (XS j))), (ys_, .inl (dA 0, 4096, .inl fun j => iZ (YS j))), (kn, .inl (dA 0, 2, .inl fun j => nI (KD j))), (pt, .inl (dA 0, 2, .inl fun j => nI (PT j))), (pa, .inl (dA 0, 2, .inl fun j => nI (PN j))), (bg, .inl (dA 0, 2050, .inl fun j => nI (BG j)))] := hD
        have hp_11 : ptOK ZZ2_10 V0 V1 := hp_11
        show W _ _ _ _ _ _ _ _ _ _ _ _ 0 0 _ (F0 mG 53 ls [.int (bI (decide (enM (ptK x0 y0 dx dy V0 V1 XS YS) BG PN PT s_ (PN s_) % 2 = 1)))])
        refine zb_if_eq (tgt := 60) hx hb dX10_where_53 (by decide) (fun c_12 => ?_) (fun c_12 => ?_)
        · skip
          refine lv_iload_n hx hb dX10_where_60 rfl (lv_at hl 0 rfl) ?_
          refine zn_if_eq (tgt := 68) hx hb (by decide) dX10_where_61 (by decide) (fun c_13 => ?_) (fun c_13 => ?_)
          · skip
            refine lv_iconst (v := nI 2) hx hb dX10_where_68 (by decide) ?_
            exact zr_wrI (u := (ZZ2_10)) (congrArg (fun z => some (Value.int (nI z))) (show _ = whM x0 y0 dx dy V0 V1 XS YS FM TM WO KD PT PN BG sgm s_ from (by unfold whM; first | (rw [if_pos (by assumption), if_pos (by assumption)]; done) | (rw [if_pos (by assumption), if_neg (by rw [show exR (ptK x0 y0 dx dy V0 V1 XS YS) (2048 * s_) (2048 * s_ + PT s_) = false from (by assumption)]; decide)]; done) | (rw [if_neg (by assumption), if_pos (by assumption), if_pos (of_decide_eq_true (by assumption))]; done) | (rw [if_neg (by assumption), if_pos (by assumption), if_neg (of_decide_eq_false (by assumption)), if_pos (by assumption)]; done) | (rw [if_neg (by assumption), if_pos (by assumption), if_neg (of_decide_eq_false (by assumption)), if_neg (by omega)]; done) | (rw [if_neg (by assumption), if_neg (by assumption), if_pos (by assumption)]; done) | (rw [if_neg (by assumption), if_neg (by assumption), if_neg (by omega), if_pos (by assumption)]; done) | (rw [if_neg (by assumption), if_neg (by assumption), if_neg (by omega), if_neg (by assumption)]; done)))) (show ptOK ZZ2_10 V0 V1 from (by first | assumption | omega)) (hP.sub [3, 4, 5, 6, 0, 1, 2, 7, 8, 9, 10] rfl) (hD.sub [3, 4, 5, 6, 0, 1, 2, 7, 8, 9, 10] (by decide) rfl) hS hx hb hr hlocks dX10_where_69
          · skip
            exfalso; omega
        · skip
          refine lv_iconst (v := nI 1) hx hb dX10_where_56 (by decide) ?_
          refine lv_goto (tgt := 69) hx hb dX10_where_57 (by decide) ?_
          exact zr_wrI (u := (ZZ2_10)) (congrArg (fun z => some (Value.int (nI z))) (show _ = whM x0 y0 dx dy V0 V1 XS YS FM TM WO KD PT PN BG sgm s_ from (by unfold whM; first | (rw [if_pos (by assumption), if_pos (by assumption)]; done) | (rw [if_pos (by assumption), if_neg (by rw [show exR (ptK x0 y0 dx dy V0 V1 XS YS) (2048 * s_) (2048 * s_ + PT s_) = false from (by assumption)]; decide)]; done) | (rw [if_neg (by assumption), if_pos (by assumption), if_pos (of_decide_eq_true (by assumption))]; done) | (rw [if_neg (by assumption), if_pos (by assumption), if_neg (of_decide_eq_false (by assumption)), if_pos (by assumption)]; done) | (rw [if_neg (by assumption), if_pos (by assumption), if_neg (of_decide_eq_false (by assumption)), if_neg (by omega)]; done) | (rw [if_neg (by assumption), if_neg (by assumption), if_pos (by assumption)]; done) | (rw [if_neg (by assumption), if_neg (by assumption), if_neg (by omega), if_pos (by assumption)]; done) | (rw [if_neg (by assumption), if_neg (by assumption), if_neg (by omega), if_neg (by assumption)]; done)))) (show ptOK ZZ2_10 V0 V1 from (by first | assumption | omega)) (hP.sub [3, 4, 5, 6, 0, 1, 2, 7, 8, 9, 10] rfl) (hD.sub [3, 4, 5, 6, 0, 1, 2, 7, 8, 9, 10] (by decide) rfl) hS hx hb hr hlocks dX10_where_69
    · skip
      refine lv_iconst (v := nI 1) hx hb dX10_where_32 (by decide) ?_
      refine lv_goto (tgt := 37) hx hb dX10_where_33 (by decide) ?_
      refine lv_istore_n (lv' := [(2, .int (nI 1)), (0, .ref m0), (1, .int (nI s_))]) hx hb dX10_where_37 rfl hl (by decide) rfl (fun ls hl => ?_)
      refine lv_aload_n hx hb dX10_where_38 rfl (lv_at hl 1 rfl) ?_
      refine va_get (D := D) (ci := 9) (v := .ref kn) (C := RX10) (T := TX10) (N := 21) hx hb hts in_X10 hown hK.1 hP 4 rfl rfl 1 (Nat.le_of_ble_eq_true rfl) (hts _ q970) (fun _ h9 => h9) rfl dX10_where_39 ?_
      refine lv_iload_n hx hb dX10_where_42 rfl (lv_at hl 2 rfl) ?_
      refine zn_iaload (f := KD) (i := s_) hx hb hK.1 hP 0 0 rfl rfl (by omega) (by decide) dX10_where_43 ?_
      refine lv_iconst (v := nI 2) hx hb dX10_where_44 (by decide) ?_
      refine zn_icmp_ne (tgt := 70) hx hb (by omega) (by decide) dX10_where_45 (by decide) (fun c_14 => ?_) (fun c_14 => ?_)
      · skip
        refine lv_iload_n hx hb dX10_where_70 rfl (lv_at hl 0 rfl) ?_
        refine zn_if_eq (tgt := 78) hx hb (by decide) dX10_where_71 (by decide) (fun c_15 => ?_) (fun c_15 => ?_)
        · skip
          exfalso; omega
        · skip
          refine lv_iconst (v := nI 1) hx hb dX10_where_74 (by decide) ?_
          refine lv_goto (tgt := 92) hx hb dX10_where_75 (by decide) ?_
          exact zr_wrI (u := (ZZ2_2)) (congrArg (fun z => some (Value.int (nI z))) (show _ = whM x0 y0 dx dy V0 V1 XS YS FM TM WO KD PT PN BG sgm s_ from (by unfold whM; first | (rw [if_pos (by assumption), if_pos (by assumption)]; done) | (rw [if_pos (by assumption), if_neg (by rw [show exR (ptK x0 y0 dx dy V0 V1 XS YS) (2048 * s_) (2048 * s_ + PT s_) = false from (by assumption)]; decide)]; done) | (rw [if_neg (by assumption), if_pos (by assumption), if_pos (of_decide_eq_true (by assumption))]; done) | (rw [if_neg (by assumption), if_pos (by assumption), if_neg (of_decide_eq_false (by assumption)), if_pos (by assumption)]; done) | (rw [if_neg (by assumption), if_pos (by assumption), if_neg (of_decide_eq_false (by assumption)), if_neg (by omega)]; done) | (rw [if_neg (by assumption), if_neg (by assumption), if_pos (by assumption)]; done) | (rw [if_neg (by assumption), if_neg (by assumption), if_neg (by omega), if_pos (by assumption)]; done) | (rw [if_neg (by assumption), if_neg (by assumption), if_neg (by omega), if_neg (by assumption)]; done)))) (show ptOK ZZ2_2 V0 V1 from (by first | assumption | omega)) (hP.sub [4, 5, 6, 7, 8, 9, 10, 0, 1, 2, 3] rfl) (hD.sub [4, 5, 6, 7, 8, 9, 10, 0, 1, 2, 3] (by decide) rfl) hS hx hb hr hlocks dX10_where_92
      · skip
        refine lv_aload_n hx hb dX10_where_48 rfl (lv_at hl 1 rfl) ?_
        refine lv_iload_n hx hb dX10_where_49 rfl (lv_at hl 2 rfl) ?_
        refine zc_wrV (rest := []) (wr := [(fr_, .inl (dA 0, 4096, .inl fun j => nI (FM j))), (tw, .inl (dA 0, 4096, .inl fun j => nI (TM j))), (wo_, .inl (dA 0, 4096, .inl fun j => nI (WO j)))]) ⟨hx, hb, hml, hown, hts⟩ (metX10_isEnd lG D dA m0 thr kn pt pa bg xs_ ys_ sgm fr_ tw wo_ mt ha_ x0 y0 dx dy zz ct ov un ZZ2_2 V0 V1 XS YS KD PT PN BG s_ (by first | assumption | omega) (by first | assumption | omega) (by first | assumption | omega) (by first | assumption | omega) (by first | assumption | omega) (by first | assumption | omega) (by first | assumption | omega) (by first | assumption | omega) (by first | assumption | omega) (by first | assumption | omega) (by first | assumption | omega) (by first | assumption | omega)) (cwV 1 hts (lw_V q1154 q1156 qs51 q80 q1157) rfl rfl rfl (by decide +kernel) ⟨Nat.le_of_ble_eq_true rfl, Nat.le_of_ble_eq_true rfl⟩) (va_recv hK.1 hP (ci := 9) (q0 := 4) rfl rfl) hP hK hD hS hA [4, 5, 6, 7, 0, 1, 2, 3] [8, 9, 10] rfl rfl (by decide) (by decide) (by decide) rfl hl.1 rfl (Nat.le_of_ble_eq_true rfl) dX10_where_50 ⟨Nat.zero_le _, Nat.zero_le _⟩ (fun u H locs hp_17 hP hD hS => ?_)
        obtain ⟨ZZ2_16, rfl⟩ : ∃ z, z = u := ⟨_, rfl⟩
        have hP : va_P D zCl [(fr_, .inl (dA 0, 4096, .inl fun j => nI (FM j))), (tw, .inl (dA 0, 4096, .inl fun j => nI (TM j))), (wo_, .inl (dA 0, 4096, .inl fun j => nI (WO j))), (m0, .inr (9, [.int (nI thr), .ref kn, .ref pt, .ref pa, .ref bg, .ref xs_, .ref ys_, .int (nI sgm), .ref fr_, .ref tw, .ref wo_, .ref mt, .ref ha_, .long (lZ x0), .long (lZ y0), .long (lZ dx), .long (lZ dy), .ref zz, .int (nI ct), .ref ov, .ref un])), (zz, .inl (dA 1, 192, .inr (.inl fun j => lZ (ZZ2_16 j)))), (xs_, .inl (dA 0, 4096, .inl fun j => iZ (XS j))), (ys_, .inl (dA 0, 4096, .inl fun j => iZ (YS j))), (kn, .inl (dA 0, 2, .inl fun j => nI (KD j))), (pt, .inl (dA 0, 2, .inl fun j => nI (PT j))), (pa, .inl (dA 0, 2, .inl fun j => nI (PN j))), (bg, .inl (dA 0, 2050, .inl fun j => nI (BG j)))] H := hP
        have hD : va_D A [(fr_, .inl (dA 0, 4096, .inl fun j => nI (FM j))), (tw, .inl (dA 0, 4096, .inl fun j => nI (TM j))), (wo_, .inl (dA 0, 4096, .inl fun j => nI (WO j))), (m0, .inr (9, [.int (nI thr), .ref kn, .ref pt, .ref pa, .ref bg, .ref xs_, .ref ys_, .int (nI sgm), .ref fr_, .ref tw, .ref wo_, .ref mt, .ref ha_, .long (lZ x0), .long (lZ y0), .long (lZ dx), .long (lZ dy), .ref zz, .int (nI ct), .ref ov, .ref un])), (zz, .inl (dA 1, 192, .inr (.inl fun j => lZ (ZZ2_16 j)))), (xs_, .inl (dA 0, 4096, .inl fun j => iZ (XS j))), (ys_, .inl (dA 0, 4096, .inl fun j => iZ (YS j))), (kn, .inl (dA 0, 2, .inl fun j => nI (KD j))), (pt, .inl (dA 0, 2, .inl fun j => nI (PT j))), (pa, .inl (dA 0, 2, .inl fun j => nI (PN j))), (bg, .inl (dA 0, 2050, .inl fun j => nI (BG j)))] := hD
        have hp_17 : ptOK ZZ2_16 V0 V1 := hp_17
        show W _ _ _ _ _ _ _ _ _ _ _ _ 0 0 _ (F0 mG 53 ls [.int (bI (decide (enM (ptK x0 y0 dx dy V0 V1 XS YS) BG PN PT s_ (PN s_) % 2 = 1)))])
        refine zb_if_eq (tgt := 60) hx hb dX10_where_53 (by decide) (fun c_18 => ?_) (fun c_18 => ?_)
        · skip
          refine lv_iload_n hx hb dX10_where_60 rfl (lv_at hl 0 rfl) ?_
          refine zn_if_eq (tgt := 68) hx hb (by decide) dX10_where_61 (by decide) (fun c_19 => ?_) (fun c_19 => ?_)
          · skip
            exfalso; omega
          · skip
            refine lv_iconst (v := nI 0) hx hb dX10_where_64 (by decide) ?_
            refine lv_goto (tgt := 69) hx hb dX10_where_65 (by decide) ?_
            exact zr_wrI (u := (ZZ2_16)) (congrArg (fun z => some (Value.int (nI z))) (show _ = whM x0 y0 dx dy V0 V1 XS YS FM TM WO KD PT PN BG sgm s_ from (by unfold whM; first | (rw [if_pos (by assumption), if_pos (by assumption)]; done) | (rw [if_pos (by assumption), if_neg (by rw [show exR (ptK x0 y0 dx dy V0 V1 XS YS) (2048 * s_) (2048 * s_ + PT s_) = false from (by assumption)]; decide)]; done) | (rw [if_neg (by assumption), if_pos (by assumption), if_pos (of_decide_eq_true (by assumption))]; done) | (rw [if_neg (by assumption), if_pos (by assumption), if_neg (of_decide_eq_false (by assumption)), if_pos (by assumption)]; done) | (rw [if_neg (by assumption), if_pos (by assumption), if_neg (of_decide_eq_false (by assumption)), if_neg (by omega)]; done) | (rw [if_neg (by assumption), if_neg (by assumption), if_pos (by assumption)]; done) | (rw [if_neg (by assumption), if_neg (by assumption), if_neg (by omega), if_pos (by assumption)]; done) | (rw [if_neg (by assumption), if_neg (by assumption), if_neg (by omega), if_neg (by assumption)]; done)))) (show ptOK ZZ2_16 V0 V1 from (by first | assumption | omega)) (hP.sub [3, 4, 5, 6, 0, 1, 2, 7, 8, 9, 10] rfl) (hD.sub [3, 4, 5, 6, 0, 1, 2, 7, 8, 9, 10] (by decide) rfl) hS hx hb hr hlocks dX10_where_69
        · skip
          refine lv_iconst (v := nI 1) hx hb dX10_where_56 (by decide) ?_
          refine lv_goto (tgt := 69) hx hb dX10_where_57 (by decide) ?_
          exact zr_wrI (u := (ZZ2_16)) (congrArg (fun z => some (Value.int (nI z))) (show _ = whM x0 y0 dx dy V0 V1 XS YS FM TM WO KD PT PN BG sgm s_ from (by unfold whM; first | (rw [if_pos (by assumption), if_pos (by assumption)]; done) | (rw [if_pos (by assumption), if_neg (by rw [show exR (ptK x0 y0 dx dy V0 V1 XS YS) (2048 * s_) (2048 * s_ + PT s_) = false from (by assumption)]; decide)]; done) | (rw [if_neg (by assumption), if_pos (by assumption), if_pos (of_decide_eq_true (by assumption))]; done) | (rw [if_neg (by assumption), if_pos (by assumption), if_neg (of_decide_eq_false (by assumption)), if_pos (by assumption)]; done) | (rw [if_neg (by assumption), if_pos (by assumption), if_neg (of_decide_eq_false (by assumption)), if_neg (by omega)]; done) | (rw [if_neg (by assumption), if_neg (by assumption), if_pos (by assumption)]; done) | (rw [if_neg (by assumption), if_neg (by assumption), if_neg (by omega), if_pos (by assumption)]; done) | (rw [if_neg (by assumption), if_neg (by assumption), if_neg (by omega), if_neg (by assumption)]; done)))) (show ptOK ZZ2_16 V0 V1 from (by first | assumption | omega)) (hP.sub [3, 4, 5, 6, 0, 1, 2, 7, 8, 9, 10] rfl) (hD.sub [3, 4, 5, 6, 0, 1, 2, 7, 8, 9, 10] (by decide) rfl) hS hx hb hr hlocks dX10_where_69
  · skip
    refine lv_aload_n hx hb dX10_where_10 rfl (lv_at hl 0 rfl) ?_
    refine lv_iload_n hx hb dX10_where_11 rfl (lv_at hl 1 rfl) ?_
    refine zc_wrV (rest := []) (wr := [(fr_, .inl (dA 0, 4096, .inl fun j => nI (FM j))), (tw, .inl (dA 0, 4096, .inl fun j => nI (TM j))), (wo_, .inl (dA 0, 4096, .inl fun j => nI (WO j)))]) ⟨hx, hb, hml, hown, hts⟩ (metX10_hasPoint lG D dA m0 thr kn pt pa bg xs_ ys_ sgm fr_ tw wo_ mt ha_ x0 y0 dx dy zz ct ov un ZZ V0 V1 XS YS KD PT PN BG s_ (by first | assumption | omega) (by first | assumption | omega) (by first | assumption | omega) (by first | assumption | omega) (by first | assumption | omega) (by first | assumption | omega) (by first | assumption | omega) (by first | assumption | omega) (by first | assumption | omega) (by first | assumption | omega) (by first | assumption | omega) (by first | assumption | omega)) (cwV 1 hts (lw_V q1114 q1116 qs41 q80 q1117) rfl rfl rfl (by decide +kernel) ⟨Nat.le_of_ble_eq_true rfl, Nat.le_of_ble_eq_true rfl⟩) (va_recv hK.1 hP (ci := 9) (q0 := 0) rfl rfl) hP hK hD hS hA [0, 1, 2, 3, 7, 8, 9, 10] [4, 5, 6] rfl rfl (by decide) (by decide) (by decide) rfl hl.1 rfl (Nat.le_of_ble_eq_true rfl) dX10_where_12 ⟨Nat.zero_le _, Nat.zero_le _⟩ (fun u H locs hp_21 hP hD hS => ?_)
    obtain ⟨ZZ2_20, rfl⟩ : ∃ z, z = u := ⟨_, rfl⟩
    have hP : va_P D zCl [(fr_, .inl (dA 0, 4096, .inl fun j => nI (FM j))), (tw, .inl (dA 0, 4096, .inl fun j => nI (TM j))), (wo_, .inl (dA 0, 4096, .inl fun j => nI (WO j))), (m0, .inr (9, [.int (nI thr), .ref kn, .ref pt, .ref pa, .ref bg, .ref xs_, .ref ys_, .int (nI sgm), .ref fr_, .ref tw, .ref wo_, .ref mt, .ref ha_, .long (lZ x0), .long (lZ y0), .long (lZ dx), .long (lZ dy), .ref zz, .int (nI ct), .ref ov, .ref un])), (zz, .inl (dA 1, 192, .inr (.inl fun j => lZ (ZZ2_20 j)))), (xs_, .inl (dA 0, 4096, .inl fun j => iZ (XS j))), (ys_, .inl (dA 0, 4096, .inl fun j => iZ (YS j))), (kn, .inl (dA 0, 2, .inl fun j => nI (KD j))), (pt, .inl (dA 0, 2, .inl fun j => nI (PT j))), (pa, .inl (dA 0, 2, .inl fun j => nI (PN j))), (bg, .inl (dA 0, 2050, .inl fun j => nI (BG j)))] H := hP
    have hD : va_D A [(fr_, .inl (dA 0, 4096, .inl fun j => nI (FM j))), (tw, .inl (dA 0, 4096, .inl fun j => nI (TM j))), (wo_, .inl (dA 0, 4096, .inl fun j => nI (WO j))), (m0, .inr (9, [.int (nI thr), .ref kn, .ref pt, .ref pa, .ref bg, .ref xs_, .ref ys_, .int (nI sgm), .ref fr_, .ref tw, .ref wo_, .ref mt, .ref ha_, .long (lZ x0), .long (lZ y0), .long (lZ dx), .long (lZ dy), .ref zz, .int (nI ct), .ref ov, .ref un])), (zz, .inl (dA 1, 192, .inr (.inl fun j => lZ (ZZ2_20 j)))), (xs_, .inl (dA 0, 4096, .inl fun j => iZ (XS j))), (ys_, .inl (dA 0, 4096, .inl fun j => iZ (YS j))), (kn, .inl (dA 0, 2, .inl fun j => nI (KD j))), (pt, .inl (dA 0, 2, .inl fun j => nI (PT j))), (pa, .inl (dA 0, 2, .inl fun j => nI (PN j))), (bg, .inl (dA 0, 2050, .inl fun j => nI (BG j)))] := hD
    have hp_21 : ptOK ZZ2_20 V0 V1 := hp_21
    show W _ _ _ _ _ _ _ _ _ _ _ _ 0 0 _ (F0 mG 15 ls [.int (bI (exR (ptK x0 y0 dx dy V0 V1 XS YS) (2048 * s_) (2048 * s_ + PT s_)))])
    refine zb_if_eq (tgt := 22) hx hb dX10_where_15 (by decide) (fun c_22 => ?_) (fun c_22 => ?_)
    · skip
      refine lv_iconst (v := nI 2) hx hb dX10_where_22 (by decide) ?_
      exact zr_wrI (u := (ZZ2_20)) (congrArg (fun z => some (Value.int (nI z))) (show _ = whM x0 y0 dx dy V0 V1 XS YS FM TM WO KD PT PN BG sgm s_ from (by unfold whM; first | (rw [if_pos (by assumption), if_pos (by assumption)]; done) | (rw [if_pos (by assumption), if_neg (by rw [show exR (ptK x0 y0 dx dy V0 V1 XS YS) (2048 * s_) (2048 * s_ + PT s_) = false from (by assumption)]; decide)]; done) | (rw [if_neg (by assumption), if_pos (by assumption), if_pos (of_decide_eq_true (by assumption))]; done) | (rw [if_neg (by assumption), if_pos (by assumption), if_neg (of_decide_eq_false (by assumption)), if_pos (by assumption)]; done) | (rw [if_neg (by assumption), if_pos (by assumption), if_neg (of_decide_eq_false (by assumption)), if_neg (by omega)]; done) | (rw [if_neg (by assumption), if_neg (by assumption), if_pos (by assumption)]; done) | (rw [if_neg (by assumption), if_neg (by assumption), if_neg (by omega), if_pos (by assumption)]; done) | (rw [if_neg (by assumption), if_neg (by assumption), if_neg (by omega), if_neg (by assumption)]; done)))) (show ptOK ZZ2_20 V0 V1 from (by first | assumption | omega)) (hP.sub [3, 4, 5, 6, 0, 1, 2, 7, 8, 9, 10] rfl) (hD.sub [3, 4, 5, 6, 0, 1, 2, 7, 8, 9, 10] (by decide) rfl) hS hx hb hr hlocks dX10_where_23
    · skip
      refine lv_iconst (v := nI 0) hx hb dX10_where_18 (by decide) ?_
      refine lv_goto (tgt := 23) hx hb dX10_where_19 (by decide) ?_
      exact zr_wrI (u := (ZZ2_20)) (congrArg (fun z => some (Value.int (nI z))) (show _ = whM x0 y0 dx dy V0 V1 XS YS FM TM WO KD PT PN BG sgm s_ from (by unfold whM; first | (rw [if_pos (by assumption), if_pos (by assumption)]; done) | (rw [if_pos (by assumption), if_neg (by rw [show exR (ptK x0 y0 dx dy V0 V1 XS YS) (2048 * s_) (2048 * s_ + PT s_) = false from (by assumption)]; decide)]; done) | (rw [if_neg (by assumption), if_pos (by assumption), if_pos (of_decide_eq_true (by assumption))]; done) | (rw [if_neg (by assumption), if_pos (by assumption), if_neg (of_decide_eq_false (by assumption)), if_pos (by assumption)]; done) | (rw [if_neg (by assumption), if_pos (by assumption), if_neg (of_decide_eq_false (by assumption)), if_neg (by omega)]; done) | (rw [if_neg (by assumption), if_neg (by assumption), if_pos (by assumption)]; done) | (rw [if_neg (by assumption), if_neg (by assumption), if_neg (by omega), if_pos (by assumption)]; done) | (rw [if_neg (by assumption), if_neg (by assumption), if_neg (by omega), if_neg (by assumption)]; done)))) (show ptOK ZZ2_20 V0 V1 from (by first | assumption | omega)) (hP.sub [3, 4, 5, 6, 0, 1, 2, 7, 8, 9, 10] rfl) (hD.sub [3, 4, 5, 6, 0, 1, 2, 7, 8, 9, 10] (by decide) rfl) hS hx hb hr hlocks dX10_where_23
