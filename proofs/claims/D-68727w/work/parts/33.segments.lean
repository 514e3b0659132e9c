/-! Segments: contracts (printed by wip gen/c33.py) -/
def sgB (SX SY EX EY : Nat → Int) : Prop := ∀ k, cB (SX k) ∧ cB (SY k) ∧ cB (EX k) ∧ cB (EY k)
def sgSide (x y tx ty px py : Int) : Int := (tx - x) * (py - y) - (ty - y) * (px - x)
def btw (v a b : Int) : Bool := if a < b then decide (a ≤ v) && decide (v ≤ b) else decide (b ≤ v) && decide (v ≤ a)
def sgOn (x y tx ty px py : Int) : Bool := btw px x tx && btw py y ty && decide (sgSide x y tx ty px py = 0)
def opp (a b : Int) : Bool := (decide (a < 0) && decide (0 < b)) || (decide (0 < a) && decide (b < 0))
def sgCross (x y tx ty x2 y2 tx2 ty2 : Int) : Bool := opp (sgSide x y tx ty x2 y2) (sgSide x y tx ty tx2 ty2) && opp (sgSide x2 y2 tx2 ty2 x y) (sgSide x2 y2 tx2 ty2 tx ty)
def stLeads (sx sy du dv px py : Int) : Bool := decide (0 < (px - sx) * du) || decide (0 < (py - sy) * dv)
def sgAlong (x y tx ty sx sy du dv : Int) : Bool := sgOn x y tx ty sx sy && decide ((tx - x) * dv - (ty - y) * du = 0) && (stLeads sx sy du dv x y || stLeads sx sy du dv tx ty)
def sgOdd (x y tx ty sx sy du dv lu lv : Int) : Bool := (stBelow y sy dv lv != stBelow ty sy dv lv) && (decide (0 < stSide sx sy du dv lu lv x y (tx - x) (ty - y)) == stBelow ty sy dv lv)
theorem bI_iff {b : Bool} {P : Prop} (h : b = true ↔ P) : (P → nI 1 = bI b) ∧ (¬ P → nI 0 = bI b) := by
  constructor
  · intro q; rw [h.mpr q]; rfl
  · intro q; rw [Bool.eq_false_iff.mpr (fun z => q (h.mp z))]; rfl
theorem opp_iff {a b : Int} : opp a b = true ↔ (a < 0 ∧ 0 < b) ∨ (0 < a ∧ b < 0) := by simp [opp]
theorem btw_iff {v a b : Int} : btw v a b = true ↔ (a < b ∧ a ≤ v ∧ v ≤ b) ∨ (b ≤ a ∧ b ≤ v ∧ v ≤ a) := by
  unfold btw
  by_cases h : a < b
  · simp [h]; omega
  · simp [h]; omega
theorem lt_step {P : Nat → Prop} {a k : Nat} (h : ∀ j, a ≤ j → j < k → P j) (hk : P k) : ∀ j, a ≤ j → j < k + 1 → P j := by
  intro j h1 h2
  rcases Nat.lt_succ_iff_lt_or_eq.mp h2 with q | q
  · exact h j h1 q
  · rw [q]; exact hk
theorem stSide_I (x y du dv lu lv px py dx dy : Int) : inI (stSide x y du dv lu lv px py dx dy) := by
  unfold stSide; split
  · exact sign_I _
  · split <;> exact sign_I _
/-- some place of a stretch -/
def exR (f : Nat → Bool) (a b : Nat) : Bool := (List.range b).any (fun k => decide (a ≤ k) && f k)
theorem exR_t {f : Nat → Bool} {a b k : Nat} (h1 : a ≤ k) (h2 : k < b) (h : f k = true) : exR f a b = true := by
  unfold exR; rw [List.any_eq_true]
  exact ⟨k, List.mem_range.mpr h2, by simp [h1, h]⟩
theorem exR_f {f : Nat → Bool} {a b : Nat} (h : ∀ k, a ≤ k → k < b → f k = false) : exR f a b = false := by
  unfold exR; rw [List.any_eq_false]
  intro k hk
  by_cases q : a ≤ k
  · simp [h k q (List.mem_range.mp hk)]
  · simp [q]
/-- odd or not, over n places from a on -/
def parR (f : Nat → Bool) (a : Nat) : Nat → Bool
  | 0 => false
  | n + 1 => (parR f a n) ^^ (f (a + n))
theorem sgSide_L {x y tx ty px py : Int} (h1 : cB x) (h2 : cB y) (h3 : cB tx) (h4 : cB ty) (h5 : cB px) (h6 : cB py) : inL (sgSide x y tx ty px py) := inL_cross (h3.sub h1) (h6.sub h2) (h4.sub h2) (h5.sub h1)
/-- a list of segments by four rows -/
abbrev Sg : Type := (Int × Int) × (Int × Int)
def sgAt (SX SY EX EY : Nat → Int) (k : Nat) : Sg := ((SX k, SY k), (EX k, EY k))
def sgList (SX SY EX EY : Nat → Int) (n : Nat) : List Sg := (List.range n).map (sgAt SX SY EX EY)
theorem sgList_len {SX SY EX EY : Nat → Int} {n : Nat} : (sgList SX SY EX EY n).length = n := by simp [sgList]
theorem sgList_cong {SX SY EX EY A B C D : Nat → Int} {n : Nat} (h : ∀ k, k < n → A k = SX k ∧ B k = SY k ∧ C k = EX k ∧ D k = EY k) : sgList A B C D n = sgList SX SY EX EY n := by
  unfold sgList
  apply List.map_congr_left
  intro k hk
  obtain ⟨h1, h2, h3, h4⟩ := h k (List.mem_range.mp hk)
  simp [sgAt, h1, h2, h3, h4]
theorem sgList_succ {SX SY EX EY : Nat → Int} {n : Nat} : sgList SX SY EX EY (n + 1) = sgList SX SY EX EY n ++ [sgAt SX SY EX EY n] := by
  simp [sgList, List.range_succ]
/-- the segment between two points, if they differ -/
def segOf (X Y : Nat → Int) (a b : Nat) : List Sg := if ptAt X Y a (X b) (Y b) then [] else [((X a, Y a), (X b, Y b))]
/-- the segments of n steps from a point on -/
def runSegs (X Y : Nat → Int) (a : Nat) : Nat → List Sg
  | 0 => []
  | n + 1 => runSegs X Y a n ++ segOf X Y (a + n) (a + n + 1)
def partSegs (kd : Nat) (X Y : Nat → Int) (st en : Nat) : List Sg := runSegs X Y st (en - st - 1) ++ (if kd = 3 ∧ st < en then segOf X Y (en - 1) st else [])
def allSegs (kd : Nat) (X Y : Nat → Int) (ST : Nat → Nat) (np nq : Nat) : Nat → List Sg
  | 0 => []
  | p + 1 => allSegs kd X Y ST np nq p ++ partSegs kd X Y (ST p) (olEnd ST np nq p)
def shapeSegs (kd : Nat) (X Y : Nat → Int) (ST : Nat → Nat) (np nq : Nat) : List Sg := if 1 < kd then allSegs kd X Y ST np nq np else []
theorem segOf_len (X Y : Nat → Int) (a b : Nat) : (segOf X Y a b).length ≤ 1 := by unfold segOf; split <;> simp
theorem runSegs_len (X Y : Nat → Int) (a : Nat) : ∀ n, (runSegs X Y a n).length ≤ n := by
  intro n
  induction n with
  | zero => exact Nat.le_refl _
  | succ n ih => rw [runSegs, List.length_append]; have := segOf_len X Y (a + n) (a + n + 1); omega
theorem partSegs_len (kd : Nat) (X Y : Nat → Int) (st en : Nat) : (partSegs kd X Y st en).length ≤ en - st := by
  unfold partSegs
  rw [List.length_append]
  have h1 := runSegs_len X Y st (en - st - 1)
  split
  · have := segOf_len X Y (en - 1) st; omega
  · simp; omega
set_option maxHeartbeats 4000000 in
set_option maxRecDepth 100000 in
theorem metX4_init (lG : Launch) (D : va_G) (dA : Nat → ClassId) (h0 : Nat)  : Wr lG yX4_init (ws_ yX4_init cX4_init 1 none) 1 12 D dA [.ref h0] [(h0, .inr (3, [.null, .null, .null, .null, .int (nI 0), .int (nI 0)]))] 4 64 (fun (u : Nat × Nat × Nat × Nat) => let b1 := u.1; let b2 := u.2.1; let b3 := u.2.2.1; let b4 := u.2.2.2; True) (fun (u : Nat × Nat × Nat × Nat) => let b1 := u.1; let b2 := u.2.1; let b3 := u.2.2.1; let b4 := u.2.2.2; none) (fun (u : Nat × Nat × Nat × Nat) => let b1 := u.1; let b2 := u.2.1; let b3 := u.2.2.1; let b4 := u.2.2.2; [(h0, .inr (3, [.ref b1, .ref b2, .ref b3, .ref b4, .int (nI 0), .int (nI 0)])), (b1, .inl (dA 0, 16, .inl fun j => iZ ((fun _ => 0) j))), (b2, .inl (dA 0, 16, .inl fun j => iZ ((fun _ => 0) j))), (b3, .inl (dA 0, 16, .inl fun j => iZ ((fun _ => 0) j))), (b4, .inl (dA 0, 16, .inl fun j => iZ ((fun _ => 0) j)))]) := by
  refine Wr.of (by decide) (Nat.le_of_ble_eq_true rfl) ?_
  intro pG eG sG mG bG tG cG ls A hx hb hr hml hown hts hlocks hnm hP hK hD hS hA hl
  have hK1 := hK.1
  have hown : sG.vm.findClass RX4 = some mG.cls := hown
  have hl : lv_has ls 1 [(0, .ref h0)] := hl
  refine lv_aload_n hx hb dX4_init_0 rfl (lv_at hl 0 rfl) ?_
  refine W.objInit hx hb hown (hts _ q150) (hts _ q98) (hts _ q99) rfl (by rw [hml]; exact hl.1) rfl dX4_init_1 (Nat.le_of_ble_eq_true rfl) (Nat.le_of_ble_eq_true rfl) ?_
  refine W.eq (g2 := F0 mG 4 ls []) rfl ?_
  refine lv_aload_n hx hb dX4_init_4 rfl (lv_at hl 0 rfl) ?_
  refine lv_bipush (v := nI 16) hx hb dX4_init_5 (by decide) ?_
  refine zy_newa (atype := .int) (k := 0) (ty := .int) (N' := 16) (a0 := (16, .inl fun j => iZ ((fun _ => (0 : Int)) j))) hx hb (hts _ q144) rfl (fun C h => by cases h) rfl hK hP hD hS hA (fun cA => rfl) (by decide) (show 16 * 4 ≤ 536870912 by omega) (show 0 + 1 ≤ 4 by omega) (show 0 + 16 ≤ 64 by omega) dX4_init_7 (fun q_1 H hP hD hS => ?_)
  have hP : va_P D zCl [(h0, .inr (3, [.null, .null, .null, .null, .int (nI 0), .int (nI 0)])), (q_1, .inl (dA 0, 16, .inl fun j => iZ ((fun _ => (0 : Int)) j)))] H := hP
  have hD : va_D A [(h0, .inr (3, [.null, .null, .null, .null, .int (nI 0), .int (nI 0)])), (q_1, .inl (dA 0, 16, .inl fun j => iZ ((fun _ => (0 : Int)) j)))] := hD
  refine va_put (D := D) (ci := 3) (v := .ref q_1) (ty := .array .int) (C := RX4) (T := TX4) (N := 6) hx hb hts in_X4 tyX4 tyX4_ok nmX4 hown hK.1 hP hD hS 0 rfl rfl 0 (Nat.le_of_ble_eq_true rfl) (hts _ q151) (fun _ h9 => h9) rfl (by decide +kernel) rfl rfl (Nat.le_of_ble_eq_true rfl) dX4_init_9 (fun H locs hP hD hS => ?_)
  have hP : va_P D zCl [(h0, .inr (3, [.ref q_1, .null, .null, .null, .int (nI 0), .int (nI 0)])), (q_1, .inl (dA 0, 16, .inl fun j => iZ ((fun _ => (0 : Int)) j)))] H := hP
  have hD : va_D A [(h0, .inr (3, [.ref q_1, .null, .null, .null, .int (nI 0), .int (nI 0)])), (q_1, .inl (dA 0, 16, .inl fun j => iZ ((fun _ => (0 : Int)) j)))] := hD
  refine lv_aload_n hx hb dX4_init_12 rfl (lv_at hl 0 rfl) ?_
  refine lv_bipush (v := nI 16) hx hb dX4_init_13 (by decide) ?_
  refine zy_newa (atype := .int) (k := 0) (ty := .int) (N' := 16) (a0 := (16, .inl fun j => iZ ((fun _ => (0 : Int)) j))) hx hb (hts _ q144) rfl (fun C h => by cases h) rfl hK hP hD hS hA (fun cA => rfl) (by decide) (show 16 * 4 ≤ 536870912 by omega) (show 1 + 1 ≤ 4 by omega) (show 16 + 16 ≤ 64 by omega) dX4_init_15 (fun q_2 H hP hD hS => ?_)
  have hP : va_P D zCl [(h0, .inr (3, [.ref q_1, .null, .null, .null, .int (nI 0), .int (nI 0)])), (q_1, .inl (dA 0, 16, .inl fun j => iZ ((fun _ => (0 : Int)) j))), (q_2, .inl (dA 0, 16, .inl fun j => iZ ((fun _ => (0 : Int)) j)))] H := hP
  have hD : va_D A [(h0, .inr (3, [.ref q_1, .null, .null, .null, .int (nI 0), .int (nI 0)])), (q_1, .inl (dA 0, 16, .inl fun j => iZ ((fun _ => (0 : Int)) j))), (q_2, .inl (dA 0, 16, .inl fun j => iZ ((fun _ => (0 : Int)) j)))] := hD
  refine va_put (D := D) (ci := 3) (v := .ref q_2) (ty := .array .int) (C := RX4) (T := TX4) (N := 6) hx hb hts in_X4 tyX4 tyX4_ok nmX4 hown hK.1 hP hD hS 0 rfl rfl 1 (Nat.le_of_ble_eq_true rfl) (hts _ q153) (fun _ h9 => h9) rfl (by decide +kernel) rfl rfl (Nat.le_of_ble_eq_true rfl) dX4_init_17 (fun H locs hP hD hS => ?_)
  have hP : va_P D zCl [(h0, .inr (3, [.ref q_1, .ref q_2, .null, .null, .int (nI 0), .int (nI 0)])), (q_1, .inl (dA 0, 16, .inl fun j => iZ ((fun _ => (0 : Int)) j))), (q_2, .inl (dA 0, 16, .inl fun j => iZ ((fun _ => (0 : Int)) j)))] H := hP
  have hD : va_D A [(h0, .inr (3, [.ref q_1, .ref q_2, .null, .null, .int (nI 0), .int (nI 0)])), (q_1, .inl (dA 0, 16, .inl fun j => iZ ((fun _ => (0 : Int)) j))), (q_2, .inl (dA 0, 16, .inl fun j => iZ ((fun _ => (0 : Int)) j)))] := hD
  refine lv_aload_n hx hb dX4_init_20 rfl (lv_at hl 0 rfl) ?_
  refine lv_bipush (v := nI 16) hx hb dX4_init_21 (by decide) ?_
  refine zy_newa (atype := .int) (k := 0) (ty := .int) (N' := 16) (a0 := (16, .inl fun j => iZ ((fun _ => (0 : Int)) j))) hx hb (hts _ q144) rfl (fun C h => by cases h) rfl hK hP hD hS hA (fun cA => rfl) (by decide) (show 16 * 4 ≤ 536870912 by omega) (show 2 + 1 ≤ 4 by omega) (show 32 + 16 ≤ 64 by omega) dX4_init_23 (fun q_3 H hP hD hS => ?_)
  have hP : va_P D zCl [(h0, .inr (3, [.ref q_1, .ref q_2, .null, .null, .int (nI 0), .int (nI 0)])), (q_1, .inl (dA 0, 16, .inl fun j => iZ ((fun _ => (0 : Int)) j))), (q_2, .inl (dA 0, 16, .inl fun j => iZ ((fun _ => (0 : Int)) j))), (q_3, .inl (dA 0, 16, .inl fun j => iZ ((fun _ => (0 : Int)) j)))] H := hP
  have hD : va_D A [(h0, .inr (3, [.ref q_1, .ref q_2, .null, .null, .int (nI 0), .int (nI 0)])), (q_1, .inl (dA 0, 16, .inl fun j => iZ ((fun _ => (0 : Int)) j))), (q_2, .inl (dA 0, 16, .inl fun j => iZ ((fun _ => (0 : Int)) j))), (q_3, .inl (dA 0, 16, .inl fun j => iZ ((fun _ => (0 : Int)) j)))] := hD
  refine va_put (D := D) (ci := 3) (v := .ref q_3) (ty := .array .int) (C := RX4) (T := TX4) (N := 6) hx hb hts in_X4 tyX4 tyX4_ok nmX4 hown hK.1 hP hD hS 0 rfl rfl 2 (Nat.le_of_ble_eq_true rfl) (hts _ q155) (fun _ h9 => h9) rfl (by decide +kernel) rfl rfl (Nat.le_of_ble_eq_true rfl) dX4_init_25 (fun H locs hP hD hS => ?_)
  have hP : va_P D zCl [(h0, .inr (3, [.ref q_1, .ref q_2, .ref q_3, .null, .int (nI 0), .int (nI 0)])), (q_1, .inl (dA 0, 16, .inl fun j => iZ ((fun _ => (0 : Int)) j))), (q_2, .inl (dA 0, 16, .inl fun j => iZ ((fun _ => (0 : Int)) j))), (q_3, .inl (dA 0, 16, .inl fun j => iZ ((fun _ => (0 : Int)) j)))] H := hP
  have hD : va_D A [(h0, .inr (3, [.ref q_1, .ref q_2, .ref q_3, .null, .int (nI 0), .int (nI 0)])), (q_1, .inl (dA 0, 16, .inl fun j => iZ ((fun _ => (0 : Int)) j))), (q_2, .inl (dA 0, 16, .inl fun j => iZ ((fun _ => (0 : Int)) j))), (q_3, .inl (dA 0, 16, .inl fun j => iZ ((fun _ => (0 : Int)) j)))] := hD
  refine lv_aload_n hx hb dX4_init_28 rfl (lv_at hl 0 rfl) ?_
  refine lv_bipush (v := nI 16) hx hb dX4_init_29 (by decide) ?_
  refine zy_newa (atype := .int) (k := 0) (ty := .int) (N' := 16) (a0 := (16, .inl fun j => iZ ((fun _ => (0 : Int)) j))) hx hb (hts _ q144) rfl (fun C h => by cases h) rfl hK hP hD hS hA (fun cA => rfl) (by decide) (show 16 * 4 ≤ 536870912 by omega) (show 3 + 1 ≤ 4 by omega) (show 48 + 16 ≤ 64 by omega) dX4_init_31 (fun q_4 H hP hD hS => ?_)
  have hP : va_P D zCl [(h0, .inr (3, [.ref q_1, .ref q_2, .ref q_3, .null, .int (nI 0), .int (nI 0)])), (q_1, .inl (dA 0, 16, .inl fun j => iZ ((fun _ => (0 : Int)) j))), (q_2, .inl (dA 0, 16, .inl fun j => iZ ((fun _ => (0 : Int)) j))), (q_3, .inl (dA 0, 16, .inl fun j => iZ ((fun _ => (0 : Int)) j))), (q_4, .inl (dA 0, 16, .inl fun j => iZ ((fun _ => (0 : Int)) j)))] H := hP
  have hD : va_D A [(h0, .inr (3, [.ref q_1, .ref q_2, .ref q_3, .null, .int (nI 0), .int (nI 0)])), (q_1, .inl (dA 0, 16, .inl fun j => iZ ((fun _ => (0 : Int)) j))), (q_2, .inl (dA 0, 16, .inl fun j => iZ ((fun _ => (0 : Int)) j))), (q_3, .inl (dA 0, 16, .inl fun j => iZ ((fun _ => (0 : Int)) j))), (q_4, .inl (dA 0, 16, .inl fun j => iZ ((fun _ => (0 : Int)) j)))] := hD
  refine va_put (D := D) (ci := 3) (v := .ref q_4) (ty := .array .int) (C := RX4) (T := TX4) (N := 6) hx hb hts in_X4 tyX4 tyX4_ok nmX4 hown hK.1 hP hD hS 0 rfl rfl 3 (Nat.le_of_ble_eq_true rfl) (hts _ q157) (fun _ h9 => h9) rfl (by decide +kernel) rfl rfl (Nat.le_of_ble_eq_true rfl) dX4_init_33 (fun H locs hP hD hS => ?_)
  have hP : va_P D zCl [(h0, .inr (3, [.ref q_1, .ref q_2, .ref q_3, .ref q_4, .int (nI 0), .int (nI 0)])), (q_1, .inl (dA 0, 16, .inl fun j => iZ ((fun _ => (0 : Int)) j))), (q_2, .inl (dA 0, 16, .inl fun j => iZ ((fun _ => (0 : Int)) j))), (q_3, .inl (dA 0, 16, .inl fun j => iZ ((fun _ => (0 : Int)) j))), (q_4, .inl (dA 0, 16, .inl fun j => iZ ((fun _ => (0 : Int)) j)))] H := hP
  have hD : va_D A [(h0, .inr (3, [.ref q_1, .ref q_2, .ref q_3, .ref q_4, .int (nI 0), .int (nI 0)])), (q_1, .inl (dA 0, 16, .inl fun j => iZ ((fun _ => (0 : Int)) j))), (q_2, .inl (dA 0, 16, .inl fun j => iZ ((fun _ => (0 : Int)) j))), (q_3, .inl (dA 0, 16, .inl fun j => iZ ((fun _ => (0 : Int)) j))), (q_4, .inl (dA 0, 16, .inl fun j => iZ ((fun _ => (0 : Int)) j)))] := hD
  exact zr_wrV (u := (q_1, q_2, q_3, q_4)) rfl trivial (hP.sub [0, 1, 2, 3, 4] rfl) (hD.sub [0, 1, 2, 3, 4] (by decide) rfl) hS hx hb hr hlocks dX4_init_36
set_option maxHeartbeats 4000000 in
set_option maxRecDepth 100000 in
theorem metX4_from (lG : Launch) (D : va_G) (dA : Nat → ClassId) (h0 : Nat) (e1 : Nat) (e2 : Nat) (e3 : Nat) (e4 : Nat) (sz : Nat) (of_ : Nat) (nc : Nat) (SX : Nat → Int) (SY : Nat → Int) (EX : Nat → Int) (EY : Nat → Int) (w : Nat) (hw : w < 2) : Ro lG yX4_from (ws_ yX4_from cX4_from 2 (some .int)) 0 0 D dA [.ref h0, .int (nI w)] [(h0, .inr (3, [.ref e1, .ref e2, .ref e3, .ref e4, .int (nI sz), .int (nI of_)])), (e1, .inl (dA 0, nc, .inl fun j => iZ (SX j))), (e2, .inl (dA 0, nc, .inl fun j => iZ (SY j))), (e3, .inl (dA 0, nc, .inl fun j => iZ (EX j))), (e4, .inl (dA 0, nc, .inl fun j => iZ (EY j)))] (some (.int (nI (if w = 0 then 0 else of_)))) := by
  refine Ro.of (by decide) (Nat.le_of_ble_eq_true rfl) ?_
  intro pG eG sG mG bG tG cG ls hx hb hr hml hown hts hlocks hP hK hl
  have hown : sG.vm.findClass RX4 = some mG.cls := hown
  have hl : lv_has ls 2 [(0, .ref h0), (1, .int (nI w))] := hl
  refine lv_iload_n hx hb dX4_from_0 rfl (lv_at hl 1 rfl) ?_
  refine zn_if_ne (tgt := 8) hx hb (by omega) dX4_from_1 (by decide) (fun c_1 => ?_) (fun c_1 => ?_)
  · skip
    refine lv_aload_n hx hb dX4_from_8 rfl (lv_at hl 0 rfl) ?_
    refine va_get (D := D) (ci := 3) (v := .int (nI of_)) (C := RX4) (T := TX4) (N := 6) hx hb hts in_X4 hown hK.1 hP 0 rfl rfl 5 (Nat.le_of_ble_eq_true rfl) (hts _ q161) (fun _ h9 => h9) rfl dX4_from_9 ?_
    exact zr_roI (by simp_all) hx hb hr hlocks dX4_from_12
  · skip
    refine lv_iconst (v := nI 0) hx hb dX4_from_4 (by decide) ?_
    refine lv_goto (tgt := 12) hx hb dX4_from_5 (by decide) ?_
    exact zr_roI (by simp_all) hx hb hr hlocks dX4_from_12
set_option maxHeartbeats 4000000 in
set_option maxRecDepth 100000 in
theorem metX4_to (lG : Launch) (D : va_G) (dA : Nat → ClassId) (h0 : Nat) (e1 : Nat) (e2 : Nat) (e3 : Nat) (e4 : Nat) (sz : Nat) (of_ : Nat) (nc : Nat) (SX : Nat → Int) (SY : Nat → Int) (EX : Nat → Int) (EY : Nat → Int) (w : Nat) (hw : w < 2) : Ro lG yX4_to (ws_ yX4_to cX4_to 2 (some .int)) 0 0 D dA [.ref h0, .int (nI w)] [(h0, .inr (3, [.ref e1, .ref e2, .ref e3, .ref e4, .int (nI sz), .int (nI of_)])), (e1, .inl (dA 0, nc, .inl fun j => iZ (SX j))), (e2, .inl (dA 0, nc, .inl fun j => iZ (SY j))), (e3, .inl (dA 0, nc, .inl fun j => iZ (EX j))), (e4, .inl (dA 0, nc, .inl fun j => iZ (EY j)))] (some (.int (nI (if w = 0 then of_ else sz)))) := by
  refine Ro.of (by decide) (Nat.le_of_ble_eq_true rfl) ?_
  intro pG eG sG mG bG tG cG ls hx hb hr hml hown hts hlocks hP hK hl
  have hown : sG.vm.findClass RX4 = some mG.cls := hown
  have hl : lv_has ls 2 [(0, .ref h0), (1, .int (nI w))] := hl
  refine lv_iload_n hx hb dX4_to_0 rfl (lv_at hl 1 rfl) ?_
  refine zn_if_ne (tgt := 11) hx hb (by omega) dX4_to_1 (by decide) (fun c_1 => ?_) (fun c_1 => ?_)
  · skip
    refine lv_aload_n hx hb dX4_to_11 rfl (lv_at hl 0 rfl) ?_
    refine va_get (D := D) (ci := 3) (v := .int (nI sz)) (C := RX4) (T := TX4) (N := 6) hx hb hts in_X4 hown hK.1 hP 0 rfl rfl 4 (Nat.le_of_ble_eq_true rfl) (hts _ q159) (fun _ h9 => h9) rfl dX4_to_12 ?_
    exact zr_roI (by simp_all) hx hb hr hlocks dX4_to_15
  · skip
    refine lv_aload_n hx hb dX4_to_4 rfl (lv_at hl 0 rfl) ?_
    refine va_get (D := D) (ci := 3) (v := .int (nI of_)) (C := RX4) (T := TX4) (N := 6) hx hb hts in_X4 hown hK.1 hP 0 rfl rfl 5 (Nat.le_of_ble_eq_true rfl) (hts _ q161) (fun _ h9 => h9) rfl dX4_to_5 ?_
    refine lv_goto (tgt := 15) hx hb dX4_to_8 (by decide) ?_
    exact zr_roI (by simp_all) hx hb hr hlocks dX4_to_15
set_option maxHeartbeats 4000000 in
set_option maxRecDepth 100000 in
theorem metX4_byX (lG : Launch) (D : va_G) (dA : Nat → ClassId) (h0 : Nat) (e1 : Nat) (e2 : Nat) (e3 : Nat) (e4 : Nat) (sz : Nat) (of_ : Nat) (nc : Nat) (SX : Nat → Int) (SY : Nat → Int) (EX : Nat → Int) (EY : Nat → Int) (k : Nat) (hnc : nc ≤ 4096) (hk : k < nc) (hC : sgB SX SY EX EY) : Ro lG yX4_byX (ws_ yX4_byX cX4_byX 2 (some .long)) 0 0 D dA [.ref h0, .int (nI k)] [(h0, .inr (3, [.ref e1, .ref e2, .ref e3, .ref e4, .int (nI sz), .int (nI of_)])), (e1, .inl (dA 0, nc, .inl fun j => iZ (SX j))), (e2, .inl (dA 0, nc, .inl fun j => iZ (SY j))), (e3, .inl (dA 0, nc, .inl fun j => iZ (EX j))), (e4, .inl (dA 0, nc, .inl fun j => iZ (EY j)))] (some (.long (lZ (EX k - SX k)))) := by
  refine Ro.of (by decide) (Nat.le_of_ble_eq_true rfl) ?_
  intro pG eG sG mG bG tG cG ls hx hb hr hml hown hts hlocks hP hK hl
  have hown : sG.vm.findClass RX4 = some mG.cls := hown
  have hl : lv_has ls 2 [(0, .ref h0), (1, .int (nI k))] := hl
  refine lv_aload_n hx hb dX4_byX_0 rfl (lv_at hl 0 rfl) ?_
  refine va_get (D := D) (ci := 3) (v := .ref e3) (C := RX4) (T := TX4) (N := 6) hx hb hts in_X4 hown hK.1 hP 0 rfl rfl 2 (Nat.le_of_ble_eq_true rfl) (hts _ q155) (fun _ h9 => h9) rfl dX4_byX_1 ?_
  refine lv_iload_n hx hb dX4_byX_4 rfl (lv_at hl 1 rfl) ?_
  refine zz_iaload (f := EX) (i := k) hx hb hK.1 hP 3 0 rfl rfl (by omega) (by omega) dX4_byX_5 ?_
  refine zz_i2l hx hb (hC _).2.2.1.i dX4_byX_6 ?_
  refine lv_aload_n hx hb dX4_byX_7 rfl (lv_at hl 0 rfl) ?_
  refine va_get (D := D) (ci := 3) (v := .ref e1) (C := RX4) (T := TX4) (N := 6) hx hb hts in_X4 hown hK.1 hP 0 rfl rfl 0 (Nat.le_of_ble_eq_true rfl) (hts _ q151) (fun _ h9 => h9) rfl dX4_byX_8 ?_
  refine lv_iload_n hx hb dX4_byX_11 rfl (lv_at hl 1 rfl) ?_
  refine zz_iaload (f := SX) (i := k) hx hb hK.1 hP 1 0 rfl rfl (by omega) (by omega) dX4_byX_12 ?_
  refine zz_i2l hx hb (hC _).1.i dX4_byX_13 ?_
  refine zz_lsub hx hb dX4_byX_14 ?_
  exact zr_roL (by first | rfl | (congr 1; omega) | (simp_all; done) | grind) hx hb hr hlocks dX4_byX_15
set_option maxHeartbeats 4000000 in
set_option maxRecDepth 100000 in
theorem metX4_byY (lG : Launch) (D : va_G) (dA : Nat → ClassId) (h0 : Nat) (e1 : Nat) (e2 : Nat) (e3 : Nat) (e4 : Nat) (sz : Nat) (of_ : Nat) (nc : Nat) (SX : Nat → Int) (SY : Nat → Int) (EX : Nat → Int) (EY : Nat → Int) (k : Nat) (hnc : nc ≤ 4096) (hk : k < nc) (hC : sgB SX SY EX EY) : Ro lG yX4_byY (ws_ yX4_byY cX4_byY 2 (some .long)) 0 0 D dA [.ref h0, .int (nI k)] [(h0, .inr (3, [.ref e1, .ref e2, .ref e3, .ref e4, .int (nI sz), .int (nI of_)])), (e1, .inl (dA 0, nc, .inl fun j => iZ (SX j))), (e2, .inl (dA 0, nc, .inl fun j => iZ (SY j))), (e3, .inl (dA 0, nc, .inl fun j => iZ (EX j))), (e4, .inl (dA 0, nc, .inl fun j => iZ (EY j)))] (some (.long (lZ (EY k - SY k)))) := by
  refine Ro.of (by decide) (Nat.le_of_ble_eq_true rfl) ?_
  intro pG eG sG mG bG tG cG ls hx hb hr hml hown hts hlocks hP hK hl
  have hown : sG.vm.findClass RX4 = some mG.cls := hown
  have hl : lv_has ls 2 [(0, .ref h0), (1, .int (nI k))] := hl
  refine lv_aload_n hx hb dX4_byY_0 rfl (lv_at hl 0 rfl) ?_
  refine va_get (D := D) (ci := 3) (v := .ref e4) (C := RX4) (T := TX4) (N := 6) hx hb hts in_X4 hown hK.1 hP 0 rfl rfl 3 (Nat.le_of_ble_eq_true rfl) (hts _ q157) (fun _ h9 => h9) rfl dX4_byY_1 ?_
  refine lv_iload_n hx hb dX4_byY_4 rfl (lv_at hl 1 rfl) ?_
  refine zz_iaload (f := EY) (i := k) hx hb hK.1 hP 4 0 rfl rfl (by omega) (by omega) dX4_byY_5 ?_
  refine zz_i2l hx hb (hC _).2.2.2.i dX4_byY_6 ?_
  refine lv_aload_n hx hb dX4_byY_7 rfl (lv_at hl 0 rfl) ?_
  refine va_get (D := D) (ci := 3) (v := .ref e2) (C := RX4) (T := TX4) (N := 6) hx hb hts in_X4 hown hK.1 hP 0 rfl rfl 1 (Nat.le_of_ble_eq_true rfl) (hts _ q153) (fun _ h9 => h9) rfl dX4_byY_8 ?_
  refine lv_iload_n hx hb dX4_byY_11 rfl (lv_at hl 1 rfl) ?_
  refine zz_iaload (f := SY) (i := k) hx hb hK.1 hP 2 0 rfl rfl (by omega) (by omega) dX4_byY_12 ?_
  refine zz_i2l hx hb (hC _).2.1.i dX4_byY_13 ?_
  refine zz_lsub hx hb dX4_byY_14 ?_
  exact zr_roL (by first | rfl | (congr 1; omega) | (simp_all; done) | grind) hx hb hr hlocks dX4_byY_15
set_option maxHeartbeats 4000000 in
set_option maxRecDepth 100000 in
theorem metX4_side (lG : Launch) (D : va_G) (dA : Nat → ClassId) (h0 : Nat) (e1 : Nat) (e2 : Nat) (e3 : Nat) (e4 : Nat) (sz : Nat) (of_ : Nat) (nc : Nat) (SX : Nat → Int) (SY : Nat → Int) (EX : Nat → Int) (EY : Nat → Int) (k : Nat) (px : Int) (py : Int) (hnc : nc ≤ 4096) (hk : k < nc) (hC : sgB SX SY EX EY) (hpx : cB px) (hpy : cB py) : Ro lG yX4_side (ws_ yX4_side cX4_side 4 (some .long)) 1 21 D dA [.ref h0, .int (nI k), .int (iZ px), .int (iZ py)] [(h0, .inr (3, [.ref e1, .ref e2, .ref e3, .ref e4, .int (nI sz), .int (nI of_)])), (e1, .inl (dA 0, nc, .inl fun j => iZ (SX j))), (e2, .inl (dA 0, nc, .inl fun j => iZ (SY j))), (e3, .inl (dA 0, nc, .inl fun j => iZ (EX j))), (e4, .inl (dA 0, nc, .inl fun j => iZ (EY j)))] (some (.long (lZ (sgSide (SX k) (SY k) (EX k) (EY k) px py)))) := by
  refine Ro.of (by decide) (Nat.le_of_ble_eq_true rfl) ?_
  intro pG eG sG mG bG tG cG ls hx hb hr hml hown hts hlocks hP hK hl
  have hown : sG.vm.findClass RX4 = some mG.cls := hown
  have hl : lv_has ls 4 [(0, .ref h0), (1, .int (nI k)), (2, .int (iZ px)), (3, .int (iZ py))] := hl
  refine lv_aload_n hx hb dX4_side_0 rfl (lv_at hl 0 rfl) ?_
  refine lv_iload_n hx hb dX4_side_1 rfl (lv_at hl 1 rfl) ?_
  refine zc_roV (v := .long (lZ (EX k - SX k))) (rest := []) ⟨hx, hb, hml, hown, hts⟩ (metX4_byX lG D dA h0 e1 e2 e3 e4 sz of_ nc SX SY EX EY k (by first | assumption | omega) (by first | assumption | omega) (by first | assumption | omega)) (cwV 1 hts (lw_V q522 q523 q524 q74 q525) rfl rfl rfl (by decide +kernel) ⟨Nat.le_of_ble_eq_true rfl, Nat.le_of_ble_eq_true rfl⟩) (va_recv hK.1 hP (ci := 3) (q0 := 0) rfl rfl) (hP.sub [0, 1, 2, 3, 4] rfl) hK rfl hl.1 rfl (Nat.le_of_ble_eq_true rfl) dX4_side_2 ⟨Nat.zero_le _, Nat.zero_le _⟩ ?_
  refine lv_iload_n hx hb dX4_side_5 rfl (lv_at hl 3 rfl) ?_
  refine zz_i2l hx hb hpy.i dX4_side_6 ?_
  refine lv_aload_n hx hb dX4_side_7 rfl (lv_at hl 0 rfl) ?_
  refine va_get (D := D) (ci := 3) (v := .ref e2) (C := RX4) (T := TX4) (N := 6) hx hb hts in_X4 hown hK.1 hP 0 rfl rfl 1 (Nat.le_of_ble_eq_true rfl) (hts _ q153) (fun _ h9 => h9) rfl dX4_side_8 ?_
  refine lv_iload_n hx hb dX4_side_11 rfl (lv_at hl 1 rfl) ?_
  refine zz_iaload (f := SY) (i := k) hx hb hK.1 hP 2 0 rfl rfl (by omega) (by omega) dX4_side_12 ?_
  refine zz_i2l hx hb (hC _).2.1.i dX4_side_13 ?_
  refine zz_lsub hx hb dX4_side_14 ?_
  refine zz_lmul hx hb dX4_side_15 ?_
  refine lv_aload_n hx hb dX4_side_16 rfl (lv_at hl 0 rfl) ?_
  refine lv_iload_n hx hb dX4_side_17 rfl (lv_at hl 1 rfl) ?_
  refine zc_roV (v := .long (lZ (EY k - SY k))) (rest := [.long (lZ ((EX k - SX k) * (py - (SY k))))]) ⟨hx, hb, hml, hown, hts⟩ (metX4_byY lG D dA h0 e1 e2 e3 e4 sz of_ nc SX SY EX EY k (by first | assumption | omega) (by first | assumption | omega) (by first | assumption | omega)) (cwV 1 hts (lw_V q526 q527 q528 q74 q529) rfl rfl rfl (by decide +kernel) ⟨Nat.le_of_ble_eq_true rfl, Nat.le_of_ble_eq_true rfl⟩) (va_recv hK.1 hP (ci := 3) (q0 := 0) rfl rfl) (hP.sub [0, 1, 2, 3, 4] rfl) hK rfl hl.1 rfl (Nat.le_of_ble_eq_true rfl) dX4_side_18 ⟨Nat.zero_le _, Nat.zero_le _⟩ ?_
  refine lv_iload_n hx hb dX4_side_21 rfl (lv_at hl 2 rfl) ?_
  refine zz_i2l hx hb hpx.i dX4_side_22 ?_
  refine lv_aload_n hx hb dX4_side_23 rfl (lv_at hl 0 rfl) ?_
  refine va_get (D := D) (ci := 3) (v := .ref e1) (C := RX4) (T := TX4) (N := 6) hx hb hts in_X4 hown hK.1 hP 0 rfl rfl 0 (Nat.le_of_ble_eq_true rfl) (hts _ q151) (fun _ h9 => h9) rfl dX4_side_24 ?_
  refine lv_iload_n hx hb dX4_side_27 rfl (lv_at hl 1 rfl) ?_
  refine zz_iaload (f := SX) (i := k) hx hb hK.1 hP 1 0 rfl rfl (by omega) (by omega) dX4_side_28 ?_
  refine zz_i2l hx hb (hC _).1.i dX4_side_29 ?_
  refine zz_lsub hx hb dX4_side_30 ?_
  refine zz_lmul hx hb dX4_side_31 ?_
  refine zz_lsub hx hb dX4_side_32 ?_
  exact zr_roL (by first | rfl | (congr 1; omega) | (simp_all; done) | grind) hx hb hr hlocks dX4_side_33
set_option maxHeartbeats 4000000 in
set_option maxRecDepth 100000 in
theorem metX4_between (lG : Launch) (D : va_G) (dA : Nat → ClassId) (v : Int) (a : Int) (b : Int) (hv : inI v) (ha : inI a) (hb0 : inI b) : Ro lG yX4_between (ws_ yX4_between cX4_between 3 (some .boolean)) 0 0 D dA [.int (iZ v), .int (iZ a), .int (iZ b)] [] (some (.int (bI (btw v a b)))) := by
  refine Ro.of (by decide) (Nat.le_of_ble_eq_true rfl) ?_
  intro pG eG sG mG bG tG cG ls hx hb hr hml hown hts hlocks hP hK hl
  have hown : sG.vm.findClass RX4 = some mG.cls := hown
  have hl : lv_has ls 3 [(0, .int (iZ v)), (1, .int (iZ a)), (2, .int (iZ b))] := hl
  refine lv_iload_n hx hb dX4_between_0 rfl (lv_at hl 1 rfl) ?_
  refine lv_iload_n hx hb dX4_between_1 rfl (lv_at hl 2 rfl) ?_
  refine zz_icmp_ge (tgt := 23) hx hb ha hb0 dX4_between_2 (by decide) (fun c_1 => ?_) (fun c_1 => ?_)
  · skip
    refine lv_iload_n hx hb dX4_between_23 rfl (lv_at hl 0 rfl) ?_
    refine lv_iload_n hx hb dX4_between_24 rfl (lv_at hl 2 rfl) ?_
    refine zz_icmp_lt (tgt := 37) hx hb hv hb0 dX4_between_25 (by decide) (fun c_2 => ?_) (fun c_2 => ?_)
    · skip
      refine lv_iconst (v := nI 0) hx hb dX4_between_37 (by decide) ?_
      exact zr_roB (by first | exact (bI_iff btw_iff).1 (by omega) | exact (bI_iff btw_iff).2 (by omega)) hx hb hr hlocks dX4_between_38
    · skip
      refine lv_iload_n hx hb dX4_between_28 rfl (lv_at hl 0 rfl) ?_
      refine lv_iload_n hx hb dX4_between_29 rfl (lv_at hl 1 rfl) ?_
      refine zz_icmp_gt (tgt := 37) hx hb hv ha dX4_between_30 (by decide) (fun c_3 => ?_) (fun c_3 => ?_)
      · skip
        refine lv_iconst (v := nI 0) hx hb dX4_between_37 (by decide) ?_
        exact zr_roB (by first | exact (bI_iff btw_iff).1 (by omega) | exact (bI_iff btw_iff).2 (by omega)) hx hb hr hlocks dX4_between_38
      · skip
        refine lv_iconst (v := nI 1) hx hb dX4_between_33 (by decide) ?_
        refine lv_goto (tgt := 38) hx hb dX4_between_34 (by decide) ?_
        exact zr_roB (by first | exact (bI_iff btw_iff).1 (by omega) | exact (bI_iff btw_iff).2 (by omega)) hx hb hr hlocks dX4_between_38
  · skip
    refine lv_iload_n hx hb dX4_between_5 rfl (lv_at hl 0 rfl) ?_
    refine lv_iload_n hx hb dX4_between_6 rfl (lv_at hl 1 rfl) ?_
    refine zz_icmp_lt (tgt := 19) hx hb hv ha dX4_between_7 (by decide) (fun c_4 => ?_) (fun c_4 => ?_)
    · skip
      refine lv_iconst (v := nI 0) hx hb dX4_between_19 (by decide) ?_
      refine lv_goto (tgt := 38) hx hb dX4_between_20 (by decide) ?_
      exact zr_roB (by first | exact (bI_iff btw_iff).1 (by omega) | exact (bI_iff btw_iff).2 (by omega)) hx hb hr hlocks dX4_between_38
    · skip
      refine lv_iload_n hx hb dX4_between_10 rfl (lv_at hl 0 rfl) ?_
      refine lv_iload_n hx hb dX4_between_11 rfl (lv_at hl 2 rfl) ?_
      refine zz_icmp_gt (tgt := 19) hx hb hv hb0 dX4_between_12 (by decide) (fun c_5 => ?_) (fun c_5 => ?_)
      · skip
        refine lv_iconst (v := nI 0) hx hb dX4_between_19 (by decide) ?_
        refine lv_goto (tgt := 38) hx hb dX4_between_20 (by decide) ?_
        exact zr_roB (by first | exact (bI_iff btw_iff).1 (by omega) | exact (bI_iff btw_iff).2 (by omega)) hx hb hr hlocks dX4_between_38
      · skip
        refine lv_iconst (v := nI 1) hx hb dX4_between_15 (by decide) ?_
        refine lv_goto (tgt := 38) hx hb dX4_between_16 (by decide) ?_
        exact zr_roB (by first | exact (bI_iff btw_iff).1 (by omega) | exact (bI_iff btw_iff).2 (by omega)) hx hb hr hlocks dX4_between_38
set_option maxHeartbeats 4000000 in
set_option maxRecDepth 100000 in
theorem metX4_isOn (lG : Launch) (D : va_G) (dA : Nat → ClassId) (h0 : Nat) (e1 : Nat) (e2 : Nat) (e3 : Nat) (e4 : Nat) (sz : Nat) (of_ : Nat) (nc : Nat) (SX : Nat → Int) (SY : Nat → Int) (EX : Nat → Int) (EY : Nat → Int) (k : Nat) (px : Int) (py : Int) (hnc : nc ≤ 4096) (hk : k < nc) (hC : sgB SX SY EX EY) (hpx : cB px) (hpy : cB py) : Ro lG yX4_isOn (ws_ yX4_isOn cX4_isOn 4 (some .boolean)) 2 44 D dA [.ref h0, .int (nI k), .int (iZ px), .int (iZ py)] [(h0, .inr (3, [.ref e1, .ref e2, .ref e3, .ref e4, .int (nI sz), .int (nI of_)])), (e1, .inl (dA 0, nc, .inl fun j => iZ (SX j))), (e2, .inl (dA 0, nc, .inl fun j => iZ (SY j))), (e3, .inl (dA 0, nc, .inl fun j => iZ (EX j))), (e4, .inl (dA 0, nc, .inl fun j => iZ (EY j)))] (some (.int (bI (sgOn (SX k) (SY k) (EX k) (EY k) px py)))) := by
  refine Ro.of (by decide) (Nat.le_of_ble_eq_true rfl) ?_
  intro pG eG sG mG bG tG cG ls hx hb hr hml hown hts hlocks hP hK hl
  have hown : sG.vm.findClass RX4 = some mG.cls := hown
  have hl : lv_has ls 4 [(0, .ref h0), (1, .int (nI k)), (2, .int (iZ px)), (3, .int (iZ py))] := hl
  refine lv_iload_n hx hb dX4_isOn_0 rfl (lv_at hl 2 rfl) ?_
  refine lv_aload_n hx hb dX4_isOn_1 rfl (lv_at hl 0 rfl) ?_
  refine va_get (D := D) (ci := 3) (v := .ref e1) (C := RX4) (T := TX4) (N := 6) hx hb hts in_X4 hown hK.1 hP 0 rfl rfl 0 (Nat.le_of_ble_eq_true rfl) (hts _ q151) (fun _ h9 => h9) rfl dX4_isOn_2 ?_
  refine lv_iload_n hx hb dX4_isOn_5 rfl (lv_at hl 1 rfl) ?_
  refine zz_iaload (f := SX) (i := k) hx hb hK.1 hP 1 0 rfl rfl (by omega) (by omega) dX4_isOn_6 ?_
  refine lv_aload_n hx hb dX4_isOn_7 rfl (lv_at hl 0 rfl) ?_
  refine va_get (D := D) (ci := 3) (v := .ref e3) (C := RX4) (T := TX4) (N := 6) hx hb hts in_X4 hown hK.1 hP 0 rfl rfl 2 (Nat.le_of_ble_eq_true rfl) (hts _ q155) (fun _ h9 => h9) rfl dX4_isOn_8 ?_
  refine lv_iload_n hx hb dX4_isOn_11 rfl (lv_at hl 1 rfl) ?_
  refine zz_iaload (f := EX) (i := k) hx hb hK.1 hP 3 0 rfl rfl (by omega) (by omega) dX4_isOn_12 ?_
  refine zc_roS (v := .int (bI (btw px (SX k) (EX k)))) (rest := []) ⟨hx, hb, hml, hown, hts⟩ (metX4_between lG D dA px (SX k) (EX k) (hpx.i) ((hC _).1.i) ((hC _).2.2.1.i)) (va_cwS 3 hts (lw_S q558 q559 q74 q560) rfl rfl rfl (by decide +kernel) ⟨Nat.le_of_ble_eq_true rfl, Nat.le_of_ble_eq_true rfl⟩) (hP.sub [] rfl) hK rfl hl.1 rfl (Nat.le_of_ble_eq_true rfl) dX4_isOn_13 ⟨Nat.zero_le _, Nat.zero_le _⟩ ?_
  refine zb_if_eq (tgt := 54) hx hb dX4_isOn_16 (by decide) (fun c_1 => ?_) (fun c_1 => ?_)
  · skip
    refine lv_iconst (v := nI 0) hx hb dX4_isOn_54 (by decide) ?_
    exact zr_roB (by unfold sgOn; simp_all [bI, nI]) hx hb hr hlocks dX4_isOn_55
  · skip
    refine lv_iload_n hx hb dX4_isOn_19 rfl (lv_at hl 3 rfl) ?_
    refine lv_aload_n hx hb dX4_isOn_20 rfl (lv_at hl 0 rfl) ?_
    refine va_get (D := D) (ci := 3) (v := .ref e2) (C := RX4) (T := TX4) (N := 6) hx hb hts in_X4 hown hK.1 hP 0 rfl rfl 1 (Nat.le_of_ble_eq_true rfl) (hts _ q153) (fun _ h9 => h9) rfl dX4_isOn_21 ?_
    refine lv_iload_n hx hb dX4_isOn_24 rfl (lv_at hl 1 rfl) ?_
    refine zz_iaload (f := SY) (i := k) hx hb hK.1 hP 2 0 rfl rfl (by omega) (by omega) dX4_isOn_25 ?_
    refine lv_aload_n hx hb dX4_isOn_26 rfl (lv_at hl 0 rfl) ?_
    refine va_get (D := D) (ci := 3) (v := .ref e4) (C := RX4) (T := TX4) (N := 6) hx hb hts in_X4 hown hK.1 hP 0 rfl rfl 3 (Nat.le_of_ble_eq_true rfl) (hts _ q157) (fun _ h9 => h9) rfl dX4_isOn_27 ?_
    refine lv_iload_n hx hb dX4_isOn_30 rfl (lv_at hl 1 rfl) ?_
    refine zz_iaload (f := EY) (i := k) hx hb hK.1 hP 4 0 rfl rfl (by omega) (by omega) dX4_isOn_31 ?_
    refine zc_roS (v := .int (bI (btw py (SY k) (EY k)))) (rest := []) ⟨hx, hb, hml, hown, hts⟩ (metX4_between lG D dA py (SY k) (EY k) (hpy.i) ((hC _).2.1.i) ((hC _).2.2.2.i)) (va_cwS 3 hts (lw_S q558 q559 q74 q560) rfl rfl rfl (by decide +kernel) ⟨Nat.le_of_ble_eq_true rfl, Nat.le_of_ble_eq_true rfl⟩) (hP.sub [] rfl) hK rfl hl.1 rfl (Nat.le_of_ble_eq_true rfl) dX4_isOn_32 ⟨Nat.zero_le _, Nat.zero_le _⟩ ?_
    refine zb_if_eq (tgt := 54) hx hb dX4_isOn_35 (by decide) (fun c_2 => ?_) (fun c_2 => ?_)
    · skip
      refine lv_iconst (v := nI 0) hx hb dX4_isOn_54 (by decide) ?_
      exact zr_roB (by unfold sgOn; simp_all [bI, nI]) hx hb hr hlocks dX4_isOn_55
    · skip
      refine lv_aload_n hx hb dX4_isOn_38 rfl (lv_at hl 0 rfl) ?_
      refine lv_iload_n hx hb dX4_isOn_39 rfl (lv_at hl 1 rfl) ?_
      refine lv_iload_n hx hb dX4_isOn_40 rfl (lv_at hl 2 rfl) ?_
      refine lv_iload_n hx hb dX4_isOn_41 rfl (lv_at hl 3 rfl) ?_
      refine zc_roV (v := .long (lZ (sgSide (SX k) (SY k) (EX k) (EY k) px py))) (rest := []) ⟨hx, hb, hml, hown, hts⟩ (metX4_side lG D dA h0 e1 e2 e3 e4 sz of_ nc SX SY EX EY k px py (by first | assumption | omega) (by first | assumption | omega) (by first | assumption | omega) (by first | assumption | omega) (by first | assumption | omega)) (cwV 3 hts (lw_V q518 q519 q520 q74 q521) rfl rfl rfl (by decide +kernel) ⟨Nat.le_of_ble_eq_true rfl, Nat.le_of_ble_eq_true rfl⟩) (va_recv hK.1 hP (ci := 3) (q0 := 0) rfl rfl) (hP.sub [0, 1, 2, 3, 4] rfl) hK rfl hl.1 rfl (Nat.le_of_ble_eq_true rfl) dX4_isOn_42 ⟨Nat.zero_le _, Nat.zero_le _⟩ ?_
      refine zz_lconst hx hb 0 dX4_isOn_45 rfl ?_
      refine zz_lc_ne (tgt := 54) hx hb (sgSide_L (hC _).1 (hC _).2.1 (hC _).2.2.1 (hC _).2.2.2 hpx hpy) ⟨by decide, by decide⟩ dX4_isOn_46 dX4_isOn_47 (by decide) (fun c_3 => ?_) (fun c_3 => ?_)
      · skip
        refine lv_iconst (v := nI 0) hx hb dX4_isOn_54 (by decide) ?_
        exact zr_roB (by unfold sgOn; simp_all [bI, nI]) hx hb hr hlocks dX4_isOn_55
      · skip
        refine lv_iconst (v := nI 1) hx hb dX4_isOn_50 (by decide) ?_
        refine lv_goto (tgt := 55) hx hb dX4_isOn_51 (by decide) ?_
        exact zr_roB (by unfold sgOn; simp_all [bI, nI]) hx hb hr hlocks dX4_isOn_55
set_option maxHeartbeats 4000000 in
set_option maxRecDepth 100000 in
theorem metX4_differ (lG : Launch) (D : va_G) (dA : Nat → ClassId) (a : Int) (b : Int) (ha : inL a) (hb0 : inL b) : Ro lG yX4_differ (ws_ yX4_differ cX4_differ 4 (some .boolean)) 0 0 D dA [.long (lZ a), .long (lZ b)] [] (some (.int (bI (opp a b)))) := by
  refine Ro.of (by decide) (Nat.le_of_ble_eq_true rfl) ?_
  intro pG eG sG mG bG tG cG ls hx hb hr hml hown hts hlocks hP hK hl
  have hown : sG.vm.findClass RX4 = some mG.cls := hown
  have hl : lv_has ls 4 [(0, .long (lZ a)), (2, .long (lZ b))] := hl
  refine lv_lload_n hx hb dX4_differ_0 rfl (lv_at hl 0 rfl) ?_
  refine zz_lconst hx hb 0 dX4_differ_1 rfl ?_
  refine zz_lc_ge (tgt := 12) hx hb ha ⟨by decide, by decide⟩ dX4_differ_2 dX4_differ_3 (by decide) (fun c_1 => ?_) (fun c_1 => ?_)
  · skip
    refine lv_lload_n hx hb dX4_differ_12 rfl (lv_at hl 0 rfl) ?_
    refine zz_lconst hx hb 0 dX4_differ_13 rfl ?_
    refine zz_lc_le (tgt := 28) hx hb ha ⟨by decide, by decide⟩ dX4_differ_14 dX4_differ_15 (by decide) (fun c_2 => ?_) (fun c_2 => ?_)
    · skip
      refine lv_iconst (v := nI 0) hx hb dX4_differ_28 (by decide) ?_
      exact zr_roB (by first | exact (bI_iff opp_iff).1 (by omega) | exact (bI_iff opp_iff).2 (by omega)) hx hb hr hlocks dX4_differ_29
    · skip
      refine lv_lload_n hx hb dX4_differ_18 rfl (lv_at hl 1 rfl) ?_
      refine zz_lconst hx hb 0 dX4_differ_19 rfl ?_
      refine zz_lc_ge (tgt := 28) hx hb hb0 ⟨by decide, by decide⟩ dX4_differ_20 dX4_differ_21 (by decide) (fun c_3 => ?_) (fun c_3 => ?_)
      · skip
        refine lv_iconst (v := nI 0) hx hb dX4_differ_28 (by decide) ?_
        exact zr_roB (by first | exact (bI_iff opp_iff).1 (by omega) | exact (bI_iff opp_iff).2 (by omega)) hx hb hr hlocks dX4_differ_29
      · skip
        refine lv_iconst (v := nI 1) hx hb dX4_differ_24 (by decide) ?_
        refine lv_goto (tgt := 29) hx hb dX4_differ_25 (by decide) ?_
        exact zr_roB (by first | exact (bI_iff opp_iff).1 (by omega) | exact (bI_iff opp_iff).2 (by omega)) hx hb hr hlocks dX4_differ_29
  · skip
    refine lv_lload_n hx hb dX4_differ_6 rfl (lv_at hl 1 rfl) ?_
    refine zz_lconst hx hb 0 dX4_differ_7 rfl ?_
    refine zz_lc_gt (tgt := 24) hx hb hb0 ⟨by decide, by decide⟩ dX4_differ_8 dX4_differ_9 (by decide) (fun c_4 => ?_) (fun c_4 => ?_)
    · skip
      refine lv_iconst (v := nI 1) hx hb dX4_differ_24 (by decide) ?_
      refine lv_goto (tgt := 29) hx hb dX4_differ_25 (by decide) ?_
      exact zr_roB (by first | exact (bI_iff opp_iff).1 (by omega) | exact (bI_iff opp_iff).2 (by omega)) hx hb hr hlocks dX4_differ_29
    · skip
      refine lv_lload_n hx hb dX4_differ_12 rfl (lv_at hl 0 rfl) ?_
      refine zz_lconst hx hb 0 dX4_differ_13 rfl ?_
      refine zz_lc_le (tgt := 28) hx hb ha ⟨by decide, by decide⟩ dX4_differ_14 dX4_differ_15 (by decide) (fun c_5 => ?_) (fun c_5 => ?_)
      · skip
        refine lv_iconst (v := nI 0) hx hb dX4_differ_28 (by decide) ?_
        exact zr_roB (by first | exact (bI_iff opp_iff).1 (by omega) | exact (bI_iff opp_iff).2 (by omega)) hx hb hr hlocks dX4_differ_29
      · skip
        refine lv_lload_n hx hb dX4_differ_18 rfl (lv_at hl 1 rfl) ?_
        refine zz_lconst hx hb 0 dX4_differ_19 rfl ?_
        refine zz_lc_ge (tgt := 28) hx hb hb0 ⟨by decide, by decide⟩ dX4_differ_20 dX4_differ_21 (by decide) (fun c_6 => ?_) (fun c_6 => ?_)
        · skip
          refine lv_iconst (v := nI 0) hx hb dX4_differ_28 (by decide) ?_
          exact zr_roB (by first | exact (bI_iff opp_iff).1 (by omega) | exact (bI_iff opp_iff).2 (by omega)) hx hb hr hlocks dX4_differ_29
        · skip
          refine lv_iconst (v := nI 1) hx hb dX4_differ_24 (by decide) ?_
          refine lv_goto (tgt := 29) hx hb dX4_differ_25 (by decide) ?_
          exact zr_roB (by first | exact (bI_iff opp_iff).1 (by omega) | exact (bI_iff opp_iff).2 (by omega)) hx hb hr hlocks dX4_differ_29
set_option maxHeartbeats 4000000 in
set_option maxRecDepth 100000 in
theorem metX4_cross (lG : Launch) (D : va_G) (dA : Nat → ClassId) (h0 : Nat) (e1 : Nat) (e2 : Nat) (e3 : Nat) (e4 : Nat) (sz : Nat) (of_ : Nat) (nc : Nat) (SX : Nat → Int) (SY : Nat → Int) (EX : Nat → Int) (EY : Nat → Int) (k : Nat) (t : Nat) (hnc : nc ≤ 4096) (hk : k < nc) (ht : t < nc) (hC : sgB SX SY EX EY) : Ro lG yX4_cross (ws_ yX4_cross cX4_cross 3 (some .boolean)) 2 44 D dA [.ref h0, .int (nI k), .int (nI t)] [(h0, .inr (3, [.ref e1, .ref e2, .ref e3, .ref e4, .int (nI sz), .int (nI of_)])), (e1, .inl (dA 0, nc, .inl fun j => iZ (SX j))), (e2, .inl (dA 0, nc, .inl fun j => iZ (SY j))), (e3, .inl (dA 0, nc, .inl fun j => iZ (EX j))), (e4, .inl (dA 0, nc, .inl fun j => iZ (EY j)))] (some (.int (bI (sgCross (SX k) (SY k) (EX k) (EY k) (SX t) (SY t) (EX t) (EY t))))) := by
  refine Ro.of (by decide) (Nat.le_of_ble_eq_true rfl) ?_
  intro pG eG sG mG bG tG cG ls hx hb hr hml hown hts hlocks hP hK hl
  have hown : sG.vm.findClass RX4 = some mG.cls := hown
  have hl : lv_has ls 3 [(0, .ref h0), (1, .int (nI k)), (2, .int (nI t))] := hl
  refine lv_aload_n hx hb dX4_cross_0 rfl (lv_at hl 0 rfl) ?_
  refine lv_iload_n hx hb dX4_cross_1 rfl (lv_at hl 1 rfl) ?_
  refine lv_aload_n hx hb dX4_cross_2 rfl (lv_at hl 0 rfl) ?_
  refine va_get (D := D) (ci := 3) (v := .ref e1) (C := RX4) (T := TX4) (N := 6) hx hb hts in_X4 hown hK.1 hP 0 rfl rfl 0 (Nat.le_of_ble_eq_true rfl) (hts _ q151) (fun _ h9 => h9) rfl dX4_cross_3 ?_
  refine lv_iload_n hx hb dX4_cross_6 rfl (lv_at hl 2 rfl) ?_
  refine zz_iaload (f := SX) (i := t) hx hb hK.1 hP 1 0 rfl rfl (by omega) (by omega) dX4_cross_7 ?_
  refine lv_aload_n hx hb dX4_cross_8 rfl (lv_at hl 0 rfl) ?_
  refine va_get (D := D) (ci := 3) (v := .ref e2) (C := RX4) (T := TX4) (N := 6) hx hb hts in_X4 hown hK.1 hP 0 rfl rfl 1 (Nat.le_of_ble_eq_true rfl) (hts _ q153) (fun _ h9 => h9) rfl dX4_cross_9 ?_
  refine lv_iload_n hx hb dX4_cross_12 rfl (lv_at hl 2 rfl) ?_
  refine zz_iaload (f := SY) (i := t) hx hb hK.1 hP 2 0 rfl rfl (by omega) (by omega) dX4_cross_13 ?_
  refine zc_roV (v := .long (lZ (sgSide (SX k) (SY k) (EX k) (EY k) (SX t) (SY t)))) (rest := []) ⟨hx, hb, hml, hown, hts⟩ (metX4_side lG D dA h0 e1 e2 e3 e4 sz of_ nc SX SY EX EY k (SX t) (SY t) (by first | assumption | omega) (by first | assumption | omega) (by first | assumption | omega) ((hC _).1) ((hC _).2.1)) (cwV 3 hts (lw_V q518 q519 q520 q74 q521) rfl rfl rfl (by decide +kernel) ⟨Nat.le_of_ble_eq_true rfl, Nat.le_of_ble_eq_true rfl⟩) (va_recv hK.1 hP (ci := 3) (q0 := 0) rfl rfl) (hP.sub [0, 1, 2, 3, 4] rfl) hK rfl hl.1 rfl (Nat.le_of_ble_eq_true rfl) dX4_cross_14 ⟨Nat.zero_le _, Nat.zero_le _⟩ ?_
  refine lv_aload_n hx hb dX4_cross_17 rfl (lv_at hl 0 rfl) ?_
  refine lv_iload_n hx hb dX4_cross_18 rfl (lv_at hl 1 rfl) ?_
  refine lv_aload_n hx hb dX4_cross_19 rfl (lv_at hl 0 rfl) ?_
  refine va_get (D := D) (ci := 3) (v := .ref e3) (C := RX4) (T := TX4) (N := 6) hx hb hts in_X4 hown hK.1 hP 0 rfl rfl 2 (Nat.le_of_ble_eq_true rfl) (hts _ q155) (fun _ h9 => h9) rfl dX4_cross_20 ?_
  refine lv_iload_n hx hb dX4_cross_23 rfl (lv_at hl 2 rfl) ?_
  refine zz_iaload (f := EX) (i := t) hx hb hK.1 hP 3 0 rfl rfl (by omega) (by omega) dX4_cross_24 ?_
  refine lv_aload_n hx hb dX4_cross_25 rfl (lv_at hl 0 rfl) ?_
  refine va_get (D := D) (ci := 3) (v := .ref e4) (C := RX4) (T := TX4) (N := 6) hx hb hts in_X4 hown hK.1 hP 0 rfl rfl 3 (Nat.le_of_ble_eq_true rfl) (hts _ q157) (fun _ h9 => h9) rfl dX4_cross_26 ?_
  refine lv_iload_n hx hb dX4_cross_29 rfl (lv_at hl 2 rfl) ?_
  refine zz_iaload (f := EY) (i := t) hx hb hK.1 hP 4 0 rfl rfl (by omega) (by omega) dX4_cross_30 ?_
  refine zc_roV (v := .long (lZ (sgSide (SX k) (SY k) (EX k) (EY k) (EX t) (EY t)))) (rest := [.long (lZ (sgSide (SX k) (SY k) (EX k) (EY k) (SX t) (SY t)))]) ⟨hx, hb, hml, hown, hts⟩ (metX4_side lG D dA h0 e1 e2 e3 e4 sz of_ nc SX SY EX EY k (EX t) (EY t) (by first | assumption | omega) (by first | assumption | omega) (by first | assumption | omega) ((hC _).2.2.1) ((hC _).2.2.2)) (cwV 3 hts (lw_V q518 q519 q520 q74 q521) rfl rfl rfl (by decide +kernel) ⟨Nat.le_of_ble_eq_true rfl, Nat.le_of_ble_eq_true rfl⟩) (va_recv hK.1 hP (ci := 3) (q0 := 0) rfl rfl) (hP.sub [0, 1, 2, 3, 4] rfl) hK rfl hl.1 rfl (Nat.le_of_ble_eq_true rfl) dX4_cross_31 ⟨Nat.zero_le _, Nat.zero_le _⟩ ?_
  refine zc_roS (v := .int (bI (opp (sgSide (SX k) (SY k) (EX k) (EY k) (SX t) (SY t)) (sgSide (SX k) (SY k) (EX k) (EY k) (EX t) (EY t))))) (rest := []) ⟨hx, hb, hml, hown, hts⟩ (metX4_differ lG D dA (sgSide (SX k) (SY k) (EX k) (EY k) (SX t) (SY t)) (sgSide (SX k) (SY k) (EX k) (EY k) (EX t) (EY t)) ((sgSide_L (hC _).1 (hC _).2.1 (hC _).2.2.1 (hC _).2.2.2 (hC _).1 (hC _).2.1)) ((sgSide_L (hC _).1 (hC _).2.1 (hC _).2.2.1 (hC _).2.2.2 (hC _).2.2.1 (hC _).2.2.2))) (va_cwS 2 hts (lw_S q530 q531 q74 q532) rfl rfl rfl (by decide +kernel) ⟨Nat.le_of_ble_eq_true rfl, Nat.le_of_ble_eq_true rfl⟩) (hP.sub [] rfl) hK rfl hl.1 rfl (Nat.le_of_ble_eq_true rfl) dX4_cross_34 ⟨Nat.zero_le _, Nat.zero_le _⟩ ?_
  refine zb_if_eq (tgt := 84) hx hb dX4_cross_37 (by decide) (fun c_1 => ?_) (fun c_1 => ?_)
  · skip
    refine lv_iconst (v := nI 0) hx hb dX4_cross_84 (by decide) ?_
    exact zr_roB (by unfold sgCross; simp_all [bI, nI]) hx hb hr hlocks dX4_cross_85
  · skip
    refine lv_aload_n hx hb dX4_cross_40 rfl (lv_at hl 0 rfl) ?_
    refine lv_iload_n hx hb dX4_cross_41 rfl (lv_at hl 2 rfl) ?_
    refine lv_aload_n hx hb dX4_cross_42 rfl (lv_at hl 0 rfl) ?_
    refine va_get (D := D) (ci := 3) (v := .ref e1) (C := RX4) (T := TX4) (N := 6) hx hb hts in_X4 hown hK.1 hP 0 rfl rfl 0 (Nat.le_of_ble_eq_true rfl) (hts _ q151) (fun _ h9 => h9) rfl dX4_cross_43 ?_
    refine lv_iload_n hx hb dX4_cross_46 rfl (lv_at hl 1 rfl) ?_
    refine zz_iaload (f := SX) (i := k) hx hb hK.1 hP 1 0 rfl rfl (by omega) (by omega) dX4_cross_47 ?_
    refine lv_aload_n hx hb dX4_cross_48 rfl (lv_at hl 0 rfl) ?_
    refine va_get (D := D) (ci := 3) (v := .ref e2) (C := RX4) (T := TX4) (N := 6) hx hb hts in_X4 hown hK.1 hP 0 rfl rfl 1 (Nat.le_of_ble_eq_true rfl) (hts _ q153) (fun _ h9 => h9) rfl dX4_cross_49 ?_
    refine lv_iload_n hx hb dX4_cross_52 rfl (lv_at hl 1 rfl) ?_
    refine zz_iaload (f := SY) (i := k) hx hb hK.1 hP 2 0 rfl rfl (by omega) (by omega) dX4_cross_53 ?_
    refine zc_roV (v := .long (lZ (sgSide (SX t) (SY t) (EX t) (EY t) (SX k) (SY k)))) (rest := []) ⟨hx, hb, hml, hown, hts⟩ (metX4_side lG D dA h0 e1 e2 e3 e4 sz of_ nc SX SY EX EY t (SX k) (SY k) (by first | assumption | omega) (by first | assumption | omega) (by first | assumption | omega) ((hC _).1) ((hC _).2.1)) (cwV 3 hts (lw_V q518 q519 q520 q74 q521) rfl rfl rfl (by decide +kernel) ⟨Nat.le_of_ble_eq_true rfl, Nat.le_of_ble_eq_true rfl⟩) (va_recv hK.1 hP (ci := 3) (q0 := 0) rfl rfl) (hP.sub [0, 1, 2, 3, 4] rfl) hK rfl hl.1 rfl (Nat.le_of_ble_eq_true rfl) dX4_cross_54 ⟨Nat.zero_le _, Nat.zero_le _⟩ ?_
    refine lv_aload_n hx hb dX4_cross_57 rfl (lv_at hl 0 rfl) ?_
    refine lv_iload_n hx hb dX4_cross_58 rfl (lv_at hl 2 rfl) ?_
    refine lv_aload_n hx hb dX4_cross_59 rfl (lv_at hl 0 rfl) ?_
    refine va_get (D := D) (ci := 3) (v := .ref e3) (C := RX4) (T := TX4) (N := 6) hx hb hts in_X4 hown hK.1 hP 0 rfl rfl 2 (Nat.le_of_ble_eq_true rfl) (hts _ q155) (fun _ h9 => h9) rfl dX4_cross_60 ?_
    refine lv_iload_n hx hb dX4_cross_63 rfl (lv_at hl 1 rfl) ?_
    refine zz_iaload (f := EX) (i := k) hx hb hK.1 hP 3 0 rfl rfl (by omega) (by omega) dX4_cross_64 ?_
    refine lv_aload_n hx hb dX4_cross_65 rfl (lv_at hl 0 rfl) ?_
    refine va_get (D := D) (ci := 3) (v := .ref e4) (C := RX4) (T := TX4) (N := 6) hx hb hts in_X4 hown hK.1 hP 0 rfl rfl 3 (Nat.le_of_ble_eq_true rfl) (hts _ q157) (fun _ h9 => h9) rfl dX4_cross_66 ?_
    refine lv_iload_n hx hb dX4_cross_69 rfl (lv_at hl 1 rfl) ?_
    refine zz_iaload (f := EY) (i := k) hx hb hK.1 hP 4 0 rfl rfl (by omega) (by omega) dX4_cross_70 ?_
    refine zc_roV (v := .long (lZ (sgSide (SX t) (SY t) (EX t) (EY t) (EX k) (EY k)))) (rest := [.long (lZ (sgSide (SX t) (SY t) (EX t) (EY t) (SX k) (SY k)))]) ⟨hx, hb, hml, hown, hts⟩ (metX4_side lG D dA h0 e1 e2 e3 e4 sz of_ nc SX SY EX EY t (EX k) (EY k) (by first | assumption | omega) (by first | assumption | omega) (by first | assumption | omega) ((hC _).2.2.1) ((hC _).2.2.2)) (cwV 3 hts (lw_V q518 q519 q520 q74 q521) rfl rfl rfl (by decide +kernel) ⟨Nat.le_of_ble_eq_true rfl, Nat.le_of_ble_eq_true rfl⟩) (va_recv hK.1 hP (ci := 3) (q0 := 0) rfl rfl) (hP.sub [0, 1, 2, 3, 4] rfl) hK rfl hl.1 rfl (Nat.le_of_ble_eq_true rfl) dX4_cross_71 ⟨Nat.zero_le _, Nat.zero_le _⟩ ?_
    refine zc_roS (v := .int (bI (opp (sgSide (SX t) (SY t) (EX t) (EY t) (SX k) (SY k)) (sgSide (SX t) (SY t) (EX t) (EY t) (EX k) (EY k))))) (rest := []) ⟨hx, hb, hml, hown, hts⟩ (metX4_differ lG D dA (sgSide (SX t) (SY t) (EX t) (EY t) (SX k) (SY k)) (sgSide (SX t) (SY t) (EX t) (EY t) (EX k) (EY k)) ((sgSide_L (hC _).1 (hC _).2.1 (hC _).2.2.1 (hC _).2.2.2 (hC _).1 (hC _).2.1)) ((sgSide_L (hC _).1 (hC _).2.1 (hC _).2.2.1 (hC _).2.2.2 (hC _).2.2.1 (hC _).2.2.2))) (va_cwS 2 hts (lw_S q530 q531 q74 q532) rfl rfl rfl (by decide +kernel) ⟨Nat.le_of_ble_eq_true rfl, Nat.le_of_ble_eq_true rfl⟩) (hP.sub [] rfl) hK rfl hl.1 rfl (Nat.le_of_ble_eq_true rfl) dX4_cross_74 ⟨Nat.zero_le _, Nat.zero_le _⟩ ?_
    refine zb_if_eq (tgt := 84) hx hb dX4_cross_77 (by decide) (fun c_2 => ?_) (fun c_2 => ?_)
    · skip
      refine lv_iconst (v := nI 0) hx hb dX4_cross_84 (by decide) ?_
      exact zr_roB (by unfold sgCross; simp_all [bI, nI]) hx hb hr hlocks dX4_cross_85
    · skip
      refine lv_iconst (v := nI 1) hx hb dX4_cross_80 (by decide) ?_
      refine lv_goto (tgt := 85) hx hb dX4_cross_81 (by decide) ?_
      exact zr_roB (by unfold sgCross; simp_all [bI, nI]) hx hb hr hlocks dX4_cross_85
set_option maxHeartbeats 4000000 in
set_option maxRecDepth 100000 in
theorem metX4_isOnAny (lG : Launch) (D : va_G) (dA : Nat → ClassId) (h0 : Nat) (e1 : Nat) (e2 : Nat) (e3 : Nat) (e4 : Nat) (sz : Nat) (of_ : Nat) (nc : Nat) (SX : Nat → Int) (SY : Nat → Int) (EX : Nat → Int) (EY : Nat → Int) (w : Nat) (px : Int) (py : Int) (hnc : nc ≤ 4096) (hof : of_ ≤ sz) (hsz : sz ≤ nc) (hw : w < 2) (hC : sgB SX SY EX EY) (hpx : cB px) (hpy : cB py) : Ro lG yX4_isOnAny (ws_ yX4_isOnAny cX4_isOnAny 5 (some .boolean)) 3 67 D dA [.ref h0, .int (nI w), .int (iZ px), .int (iZ py)] [(h0, .inr (3, [.ref e1, .ref e2, .ref e3, .ref e4, .int (nI sz), .int (nI of_)])), (e1, .inl (dA 0, nc, .inl fun j => iZ (SX j))), (e2, .inl (dA 0, nc, .inl fun j => iZ (SY j))), (e3, .inl (dA 0, nc, .inl fun j => iZ (EX j))), (e4, .inl (dA 0, nc, .inl fun j => iZ (EY j)))] (some (.int (bI (exR (fun k => sgOn (SX k) (SY k) (EX k) (EY k) px py) (if w = 0 then 0 else of_) (if w = 0 then of_ else sz))))) := by
  refine Ro.of (by decide) (Nat.le_of_ble_eq_true rfl) ?_
  intro pG eG sG mG bG tG cG ls hx hb hr hml hown hts hlocks hP hK hl
  have hown : sG.vm.findClass RX4 = some mG.cls := hown
  have hl : lv_has ls 5 [(0, .ref h0), (1, .int (nI w)), (2, .int (iZ px)), (3, .int (iZ py))] := hl
  have hfr : (if w = 0 then 0 else of_) < 2 ^ 31 := by split <;> omega
  have hto : (if w = 0 then of_ else sz) ≤ sz := by split <;> omega
  refine lv_aload_n hx hb dX4_isOnAny_0 rfl (lv_at hl 0 rfl) ?_
  refine lv_iload_n hx hb dX4_isOnAny_1 rfl (lv_at hl 1 rfl) ?_
  refine zc_roV (v := .int (nI (if w = 0 then 0 else of_))) (rest := []) ⟨hx, hb, hml, hown, hts⟩ (metX4_from lG D dA h0 e1 e2 e3 e4 sz of_ nc SX SY EX EY w (by first | assumption | omega)) (cwV 1 hts (lw_V q610 q611 q612 q74 q613) rfl rfl rfl (by decide +kernel) ⟨Nat.le_of_ble_eq_true rfl, Nat.le_of_ble_eq_true rfl⟩) (va_recv hK.1 hP (ci := 3) (q0 := 0) rfl rfl) (hP.sub [0, 1, 2, 3, 4] rfl) hK rfl hl.1 rfl (Nat.le_of_ble_eq_true rfl) dX4_isOnAny_2 ⟨Nat.zero_le _, Nat.zero_le _⟩ ?_
  refine lv_istore (lv' := [(4, .int (nI (if w = 0 then 0 else of_))), (0, .ref h0), (1, .int (nI w)), (2, .int (iZ px)), (3, .int (iZ py))]) hx hb dX4_isOnAny_5 hl (by decide) rfl (fun ls hl => ?_)
  have loop7 : ∀ (n7 : Nat) (k : Nat), ((if w = 0 then 0 else of_) ≤ k) → (k ≤ max (if w = 0 then 0 else of_) (if w = 0 then of_ else sz)) → (∀ j, (if w = 0 then 0 else of_) ≤ j → j < k → sgOn (SX j) (SY j) (EX j) (EY j) px py = false) → sz - k < n7 → ∀ (ls : Array Slot), lv_has ls 5 [(4, .int (nI k)), (0, .ref h0), (1, .int (nI w)), (2, .int (iZ px)), (3, .int (iZ py))] → W pG lG eG (zRoom 3 0 0 67) sG mG [.ref h0, .int (nI w), .int (iZ px), .int (iZ py)].toArray bG tG cG sG.heap [] 0 0 (MQ bG (roQ (some (.int (bI (exR (fun k => sgOn (SX k) (SY k) (EX k) (EY k) px py) (if w = 0 then 0 else of_) (if w = 0 then of_ else sz))))) sG.heap) [.ref h0, .int (nI w), .int (iZ px), .int (iZ py)].toArray sG 0 0 (fun _ => False)) (F0 mG 7 ls []) := by
    intro n7
    induction n7 with
    | zero => intro k h1 h0k h2 hm; exact absurd hm (Nat.not_lt_zero _)
    | succ n7 ih7 =>
      intro k h1 h0k h2 hm7 ls hl
      refine lv_iload hx hb dX4_isOnAny_7 (lv_at hl 0 rfl) ?_
      refine lv_aload_n hx hb dX4_isOnAny_9 rfl (lv_at hl 1 rfl) ?_
      refine lv_iload_n hx hb dX4_isOnAny_10 rfl (lv_at hl 2 rfl) ?_
      refine zc_roV (v := .int (nI (if w = 0 then of_ else sz))) (rest := [.int (nI k)]) ⟨hx, hb, hml, hown, hts⟩ (metX4_to lG D dA h0 e1 e2 e3 e4 sz of_ nc SX SY EX EY w (by first | assumption | omega)) (cwV 1 hts (lw_V q614 q615 q616 q74 q617) rfl rfl rfl (by decide +kernel) ⟨Nat.le_of_ble_eq_true rfl, Nat.le_of_ble_eq_true rfl⟩) (va_recv hK.1 hP (ci := 3) (q0 := 0) rfl rfl) (hP.sub [0, 1, 2, 3, 4] rfl) hK rfl hl.1 rfl (Nat.le_of_ble_eq_true rfl) dX4_isOnAny_11 ⟨Nat.zero_le _, Nat.zero_le _⟩ ?_
      refine zn_icmp_ge (tgt := 36) hx hb (by omega) (by omega) dX4_isOnAny_14 (by decide) (fun c_1 => ?_) (fun c_1 => ?_)
      · skip
        refine lv_iconst (v := nI 0) hx hb dX4_isOnAny_36 (by decide) ?_
        exact zr_roB (by rw [exR_f (fun j a b => h2 j a (by omega))]; rfl) hx hb hr hlocks dX4_isOnAny_37
      · skip
        refine lv_aload_n hx hb dX4_isOnAny_17 rfl (lv_at hl 1 rfl) ?_
        refine lv_iload hx hb dX4_isOnAny_18 (lv_at hl 0 rfl) ?_
        refine lv_iload_n hx hb dX4_isOnAny_20 rfl (lv_at hl 3 rfl) ?_
        refine lv_iload_n hx hb dX4_isOnAny_21 rfl (lv_at hl 4 rfl) ?_
        refine zc_roV (v := .int (bI (sgOn (SX k) (SY k) (EX k) (EY k) px py))) (rest := []) ⟨hx, hb, hml, hown, hts⟩ (metX4_isOn lG D dA h0 e1 e2 e3 e4 sz of_ nc SX SY EX EY k px py (by first | assumption | omega) (by first | assumption | omega) (by first | assumption | omega) (by first | assumption | omega) (by first | assumption | omega)) (cwV 3 hts (lw_V q618 q555 q556 q74 q557) rfl rfl rfl (by decide +kernel) ⟨Nat.le_of_ble_eq_true rfl, Nat.le_of_ble_eq_true rfl⟩) (va_recv hK.1 hP (ci := 3) (q0 := 0) rfl rfl) (hP.sub [0, 1, 2, 3, 4] rfl) hK rfl hl.1 rfl (Nat.le_of_ble_eq_true rfl) dX4_isOnAny_22 ⟨Nat.zero_le _, Nat.zero_le _⟩ ?_
        refine zb_if_eq (tgt := 30) hx hb dX4_isOnAny_25 (by decide) (fun c_2 => ?_) (fun c_2 => ?_)
        · skip
          refine lv_iinc (v := nI (k + 1)) (lv' := [(4, .int (nI (k + 1))), (0, .ref h0), (1, .int (nI w)), (2, .int (iZ px)), (3, .int (iZ py))]) hx hb dX4_isOnAny_30 hl (k := 0) rfl (nI_add _ _) (by decide) rfl (fun ls hl => ?_)
          refine lv_goto (tgt := 7) hx hb dX4_isOnAny_33 (by decide) ?_
          exact ih7 (k + 1) (by first | assumption | omega) (by first | assumption | omega) (lt_step h2 (by assumption)) (by omega) _ (lv_sub hl [0, 1, 2, 3, 4] rfl)
        · skip
          refine lv_iconst (v := nI 1) hx hb dX4_isOnAny_28 (by decide) ?_
          exact zr_roB (by rw [exR_t (f := fun k => sgOn (SX k) (SY k) (EX k) (EY k) px py) h1 (by assumption) (by assumption)]; rfl) hx hb hr hlocks dX4_isOnAny_29
  exact loop7 (sz - (if w = 0 then 0 else of_) + 1) (if w = 0 then 0 else of_) (Nat.le_refl _) (by omega) (fun j a b => absurd b (Nat.not_lt.mpr a)) (Nat.lt_succ_self _) _ (lv_sub hl [0, 1, 2, 3, 4] rfl)
set_option maxHeartbeats 4000000 in
set_option maxRecDepth 100000 in
theorem metX4_leads (lG : Launch) (D : va_G) (dA : Nat → ClassId) (g0 : Nat) (sx : Int) (sy : Int) (du : Int) (dv : Int) (lu : Int) (lv : Int) (px : Int) (py : Int) (hsx : cB sx) (hsy : cB sy) (hdu : dB du) (hdv : dB dv) (hpx : cB px) (hpy : cB py) : Ro lG yX4_leads (ws_ yX4_leads cX4_leads 7 (some .boolean)) 0 0 D dA [.ref g0, .int (iZ px), .int (iZ py)] [(g0, .inr (8, [.int (iZ sx), .int (iZ sy), .long (lZ du), .long (lZ dv), .long (lZ lu), .long (lZ lv)]))] (some (.int (bI (stLeads sx sy du dv px py)))) := by
  refine Ro.of (by decide) (Nat.le_of_ble_eq_true rfl) ?_
  intro pG eG sG mG bG tG cG ls hx hb hr hml hown hts hlocks hP hK hl
  have hown : sG.vm.findClass RX4 = some mG.cls := hown
  have hl : lv_has ls 7 [(0, .ref g0), (1, .int (iZ px)), (2, .int (iZ py))] := hl
  refine lv_iload_n hx hb dX4_leads_0 rfl (lv_at hl 1 rfl) ?_
  refine zz_i2l hx hb hpx.i dX4_leads_1 ?_
  refine lv_aload_n hx hb dX4_leads_2 rfl (lv_at hl 0 rfl) ?_
  refine va_getN (D := D) (ci := 8) (v := .int (iZ sx)) (C := RX9) (T := TX9) (N := 6) hx hb hts in_X9 hown hK.1 hP 0 rfl rfl 0 (Nat.le_of_ble_eq_true rfl) (hK.use zq293) (fun _ h9 => h9) rfl dX4_leads_3 ?_
  refine zz_i2l hx hb hsx.i dX4_leads_6 ?_
  refine zz_lsub hx hb dX4_leads_7 ?_
  refine lv_lstore_n (lv' := [(3, .long (lZ (px - sx))), (0, .ref g0), (1, .int (iZ px)), (2, .int (iZ py))]) hx hb dX4_leads_8 rfl hl (by decide) rfl (fun ls hl => ?_)
  refine lv_iload_n hx hb dX4_leads_9 rfl (lv_at hl 3 rfl) ?_
  refine zz_i2l hx hb hpy.i dX4_leads_10 ?_
  refine lv_aload_n hx hb dX4_leads_11 rfl (lv_at hl 1 rfl) ?_
  refine va_getN (D := D) (ci := 8) (v := .int (iZ sy)) (C := RX9) (T := TX9) (N := 6) hx hb hts in_X9 hown hK.1 hP 0 rfl rfl 1 (Nat.le_of_ble_eq_true rfl) (hK.use zq295) (fun _ h9 => h9) rfl dX4_leads_12 ?_
  refine zz_i2l hx hb hsy.i dX4_leads_15 ?_
  refine zz_lsub hx hb dX4_leads_16 ?_
  refine lv_lstore (lv' := [(5, .long (lZ (py - sy))), (3, .long (lZ (px - sx))), (0, .ref g0), (1, .int (iZ px)), (2, .int (iZ py))]) hx hb dX4_leads_17 hl (by decide) rfl (fun ls hl => ?_)
  refine lv_lload_n hx hb dX4_leads_19 rfl (lv_at hl 1 rfl) ?_
  refine lv_aload_n hx hb dX4_leads_20 rfl (lv_at hl 2 rfl) ?_
  refine va_getN (D := D) (ci := 8) (v := .long (lZ du)) (C := RX9) (T := TX9) (N := 6) hx hb hts in_X9 hown hK.1 hP 0 rfl rfl 2 (Nat.le_of_ble_eq_true rfl) (hK.use zq297) (fun _ h9 => h9) rfl dX4_leads_21 ?_
  refine zz_lmul hx hb dX4_leads_24 ?_
  refine zz_lconst hx hb 0 dX4_leads_25 rfl ?_
  refine zz_lc_gt (tgt := 42) hx hb (inL_mul (hpx.sub hsx) hdu) ⟨by decide, by decide⟩ dX4_leads_26 dX4_leads_27 (by decide) (fun c_1 => ?_) (fun c_1 => ?_)
  · skip
    refine lv_iconst (v := nI 1) hx hb dX4_leads_42 (by decide) ?_
    refine lv_goto (tgt := 47) hx hb dX4_leads_43 (by decide) ?_
    exact zr_roB (by unfold stLeads; simp_all [bI, nI]) hx hb hr hlocks dX4_leads_47
  · skip
    refine lv_lload hx hb dX4_leads_30 (lv_at hl 0 rfl) ?_
    refine lv_aload_n hx hb dX4_leads_32 rfl (lv_at hl 2 rfl) ?_
    refine va_getN (D := D) (ci := 8) (v := .long (lZ dv)) (C := RX9) (T := TX9) (N := 6) hx hb hts in_X9 hown hK.1 hP 0 rfl rfl 3 (Nat.le_of_ble_eq_true rfl) (hK.use zq299) (fun _ h9 => h9) rfl dX4_leads_33 ?_
    refine zz_lmul hx hb dX4_leads_36 ?_
    refine zz_lconst hx hb 0 dX4_leads_37 rfl ?_
    refine zz_lc_le (tgt := 46) hx hb (inL_mul (hpy.sub hsy) hdv) ⟨by decide, by decide⟩ dX4_leads_38 dX4_leads_39 (by decide) (fun c_2 => ?_) (fun c_2 => ?_)
    · skip
      refine lv_iconst (v := nI 0) hx hb dX4_leads_46 (by decide) ?_
      exact zr_roB (by unfold stLeads; simp_all [bI, nI]) hx hb hr hlocks dX4_leads_47
    · skip
      refine lv_iconst (v := nI 1) hx hb dX4_leads_42 (by decide) ?_
      refine lv_goto (tgt := 47) hx hb dX4_leads_43 (by decide) ?_
      exact zr_roB (by unfold stLeads; simp_all [bI, nI]) hx hb hr hlocks dX4_leads_47
set_option maxHeartbeats 4000000 in
set_option maxRecDepth 100000 in
theorem metX4_goesAlong (lG : Launch) (D : va_G) (dA : Nat → ClassId) (h0 : Nat) (e1 : Nat) (e2 : Nat) (e3 : Nat) (e4 : Nat) (sz : Nat) (of_ : Nat) (nc : Nat) (SX : Nat → Int) (SY : Nat → Int) (EX : Nat → Int) (EY : Nat → Int) (g0 : Nat) (sx : Int) (sy : Int) (du : Int) (dv : Int) (lu : Int) (lv : Int) (k : Nat) (hnc : nc ≤ 4096) (hk : k < nc) (hC : sgB SX SY EX EY) (hsx : cB sx) (hsy : cB sy) (hdu : dB du) (hdv : dB dv) : Ro lG yX4_goesAlong (ws_ yX4_goesAlong cX4_goesAlong 3 (some .boolean)) 3 67 D dA [.ref h0, .int (nI k), .ref g0] [(h0, .inr (3, [.ref e1, .ref e2, .ref e3, .ref e4, .int (nI sz), .int (nI of_)])), (e1, .inl (dA 0, nc, .inl fun j => iZ (SX j))), (e2, .inl (dA 0, nc, .inl fun j => iZ (SY j))), (e3, .inl (dA 0, nc, .inl fun j => iZ (EX j))), (e4, .inl (dA 0, nc, .inl fun j => iZ (EY j))), (g0, .inr (8, [.int (iZ sx), .int (iZ sy), .long (lZ du), .long (lZ dv), .long (lZ lu), .long (lZ lv)]))] (some (.int (bI (sgAlong (SX k) (SY k) (EX k) (EY k) sx sy du dv)))) := by
  refine Ro.of (by decide) (Nat.le_of_ble_eq_true rfl) ?_
  intro pG eG sG mG bG tG cG ls hx hb hr hml hown hts hlocks hP hK hl
  have hown : sG.vm.findClass RX4 = some mG.cls := hown
  have hl : lv_has ls 3 [(0, .ref h0), (1, .int (nI k)), (2, .ref g0)] := hl
  refine lv_aload_n hx hb dX4_goesAlong_0 rfl (lv_at hl 0 rfl) ?_
  refine lv_iload_n hx hb dX4_goesAlong_1 rfl (lv_at hl 1 rfl) ?_
  refine lv_aload_n hx hb dX4_goesAlong_2 rfl (lv_at hl 2 rfl) ?_
  refine va_getN (D := D) (ci := 8) (v := .int (iZ sx)) (C := RX9) (T := TX9) (N := 6) hx hb hts in_X9 hown hK.1 hP 5 rfl rfl 0 (Nat.le_of_ble_eq_true rfl) (hK.use zq293) (fun _ h9 => h9) rfl dX4_goesAlong_3 ?_
  refine lv_aload_n hx hb dX4_goesAlong_6 rfl (lv_at hl 2 rfl) ?_
  refine va_getN (D := D) (ci := 8) (v := .int (iZ sy)) (C := RX9) (T := TX9) (N := 6) hx hb hts in_X9 hown hK.1 hP 5 rfl rfl 1 (Nat.le_of_ble_eq_true rfl) (hK.use zq295) (fun _ h9 => h9) rfl dX4_goesAlong_7 ?_
  refine zc_roV (v := .int (bI (sgOn (SX k) (SY k) (EX k) (EY k) sx sy))) (rest := []) ⟨hx, hb, hml, hown, hts⟩ (metX4_isOn lG D dA h0 e1 e2 e3 e4 sz of_ nc SX SY EX EY k sx sy (by first | assumption | omega) (by first | assumption | omega) (by first | assumption | omega) hsx hsy) (cwV 3 hts (lw_V q618 q555 q556 q74 q557) rfl rfl rfl (by decide +kernel) ⟨Nat.le_of_ble_eq_true rfl, Nat.le_of_ble_eq_true rfl⟩) (va_recv hK.1 hP (ci := 3) (q0 := 0) rfl rfl) (hP.sub [0, 1, 2, 3, 4] rfl) hK rfl hl.1 rfl (Nat.le_of_ble_eq_true rfl) dX4_goesAlong_10 ⟨Nat.zero_le _, Nat.zero_le _⟩ ?_
  refine zb_if_eq (tgt := 42) hx hb dX4_goesAlong_13 (by decide) (fun c_1 => ?_) (fun c_1 => ?_)
  · skip
    refine lv_iconst (v := nI 0) hx hb dX4_goesAlong_42 (by decide) ?_
    exact zr_roB (by unfold sgAlong; simp_all [bI, nI]) hx hb hr hlocks dX4_goesAlong_43
  · skip
    refine lv_aload_n hx hb dX4_goesAlong_16 rfl (lv_at hl 0 rfl) ?_
    refine lv_iload_n hx hb dX4_goesAlong_17 rfl (lv_at hl 1 rfl) ?_
    refine zc_roV (v := .long (lZ (EX k - SX k))) (rest := []) ⟨hx, hb, hml, hown, hts⟩ (metX4_byX lG D dA h0 e1 e2 e3 e4 sz of_ nc SX SY EX EY k (by first | assumption | omega) (by first | assumption | omega) (by first | assumption | omega)) (cwV 1 hts (lw_V q522 q523 q524 q74 q525) rfl rfl rfl (by decide +kernel) ⟨Nat.le_of_ble_eq_true rfl, Nat.le_of_ble_eq_true rfl⟩) (va_recv hK.1 hP (ci := 3) (q0 := 0) rfl rfl) (hP.sub [0, 1, 2, 3, 4] rfl) hK rfl hl.1 rfl (Nat.le_of_ble_eq_true rfl) dX4_goesAlong_18 ⟨Nat.zero_le _, Nat.zero_le _⟩ ?_
    refine lv_aload_n hx hb dX4_goesAlong_21 rfl (lv_at hl 2 rfl) ?_
    refine va_getN (D := D) (ci := 8) (v := .long (lZ dv)) (C := RX9) (T := TX9) (N := 6) hx hb hts in_X9 hown hK.1 hP 5 rfl rfl 3 (Nat.le_of_ble_eq_true rfl) (hK.use zq299) (fun _ h9 => h9) rfl dX4_goesAlong_22 ?_
    refine zz_lmul hx hb dX4_goesAlong_25 ?_
    refine lv_aload_n hx hb dX4_goesAlong_26 rfl (lv_at hl 0 rfl) ?_
    refine lv_iload_n hx hb dX4_goesAlong_27 rfl (lv_at hl 1 rfl) ?_
    refine zc_roV (v := .long (lZ (EY k - SY k))) (rest := [.long (lZ ((EX k - SX k) * dv))]) ⟨hx, hb, hml, hown, hts⟩ (metX4_byY lG D dA h0 e1 e2 e3 e4 sz of_ nc SX SY EX EY k (by first | assumption | omega) (by first | assumption | omega) (by first | assumption | omega)) (cwV 1 hts (lw_V q526 q527 q528 q74 q529) rfl rfl rfl (by decide +kernel) ⟨Nat.le_of_ble_eq_true rfl, Nat.le_of_ble_eq_true rfl⟩) (va_recv hK.1 hP (ci := 3) (q0 := 0) rfl rfl) (hP.sub [0, 1, 2, 3, 4] rfl) hK rfl hl.1 rfl (Nat.le_of_ble_eq_true rfl) dX4_goesAlong_28 ⟨Nat.zero_le _, Nat.zero_le _⟩ ?_
    refine lv_aload_n hx hb dX4_goesAlong_31 rfl (lv_at hl 2 rfl) ?_
    refine va_getN (D := D) (ci := 8) (v := .long (lZ du)) (C := RX9) (T := TX9) (N := 6) hx hb hts in_X9 hown hK.1 hP 5 rfl rfl 2 (Nat.le_of_ble_eq_true rfl) (hK.use zq297) (fun _ h9 => h9) rfl dX4_goesAlong_32 ?_
    refine zz_lmul hx hb dX4_goesAlong_35 ?_
    refine zz_lsub hx hb dX4_goesAlong_36 ?_
    refine zz_lconst hx hb 0 dX4_goesAlong_37 rfl ?_
    refine zz_lc_eq (tgt := 44) hx hb (inL_cross ((hC _).2.2.1.sub (hC _).1) hdv ((hC _).2.2.2.sub (hC _).2.1) hdu) ⟨by decide, by decide⟩ dX4_goesAlong_38 dX4_goesAlong_39 (by decide) (fun c_2 => ?_) (fun c_2 => ?_)
    · skip
      refine lv_aload_n hx hb dX4_goesAlong_44 rfl (lv_at hl 2 rfl) ?_
      refine lv_aload_n hx hb dX4_goesAlong_45 rfl (lv_at hl 0 rfl) ?_
      refine va_get (D := D) (ci := 3) (v := .ref e1) (C := RX4) (T := TX4) (N := 6) hx hb hts in_X4 hown hK.1 hP 0 rfl rfl 0 (Nat.le_of_ble_eq_true rfl) (hts _ q151) (fun _ h9 => h9) rfl dX4_goesAlong_46 ?_
      refine lv_iload_n hx hb dX4_goesAlong_49 rfl (lv_at hl 1 rfl) ?_
      refine zz_iaload (f := SX) (i := k) hx hb hK.1 hP 1 0 rfl rfl (by omega) (by omega) dX4_goesAlong_50 ?_
      refine lv_aload_n hx hb dX4_goesAlong_51 rfl (lv_at hl 0 rfl) ?_
      refine va_get (D := D) (ci := 3) (v := .ref e2) (C := RX4) (T := TX4) (N := 6) hx hb hts in_X4 hown hK.1 hP 0 rfl rfl 1 (Nat.le_of_ble_eq_true rfl) (hts _ q153) (fun _ h9 => h9) rfl dX4_goesAlong_52 ?_
      refine lv_iload_n hx hb dX4_goesAlong_55 rfl (lv_at hl 1 rfl) ?_
      refine zz_iaload (f := SY) (i := k) hx hb hK.1 hP 2 0 rfl rfl (by omega) (by omega) dX4_goesAlong_56 ?_
      refine zc_roS (v := .int (bI (stLeads sx sy du dv (SX k) (SY k)))) (rest := []) ⟨hx, hb, hml, hown, hts⟩ (metX4_leads lG D dA g0 sx sy du dv lu lv (SX k) (SY k) (by first | assumption | omega) (by first | assumption | omega) (by first | assumption | omega) (by first | assumption | omega) ((hC _).1) ((hC _).2.1)) (va_cwS 3 hts (lw_S q654 q655 q74 q656) rfl rfl rfl (by decide +kernel) ⟨Nat.le_of_ble_eq_true rfl, Nat.le_of_ble_eq_true rfl⟩) (hP.sub [5] rfl) hK rfl hl.1 rfl (Nat.le_of_ble_eq_true rfl) dX4_goesAlong_57 ⟨Nat.zero_le _, Nat.zero_le _⟩ ?_
      refine zb_if_ne (tgt := 82) hx hb dX4_goesAlong_60 (by decide) (fun c_3 => ?_) (fun c_3 => ?_)
      · skip
        refine lv_iconst (v := nI 1) hx hb dX4_goesAlong_82 (by decide) ?_
        refine lv_goto (tgt := 87) hx hb dX4_goesAlong_83 (by decide) ?_
        exact zr_roB (by unfold sgAlong; simp_all [bI, nI]) hx hb hr hlocks dX4_goesAlong_87
      · skip
        refine lv_aload_n hx hb dX4_goesAlong_63 rfl (lv_at hl 2 rfl) ?_
        refine lv_aload_n hx hb dX4_goesAlong_64 rfl (lv_at hl 0 rfl) ?_
        refine va_get (D := D) (ci := 3) (v := .ref e3) (C := RX4) (T := TX4) (N := 6) hx hb hts in_X4 hown hK.1 hP 0 rfl rfl 2 (Nat.le_of_ble_eq_true rfl) (hts _ q155) (fun _ h9 => h9) rfl dX4_goesAlong_65 ?_
        refine lv_iload_n hx hb dX4_goesAlong_68 rfl (lv_at hl 1 rfl) ?_
        refine zz_iaload (f := EX) (i := k) hx hb hK.1 hP 3 0 rfl rfl (by omega) (by omega) dX4_goesAlong_69 ?_
        refine lv_aload_n hx hb dX4_goesAlong_70 rfl (lv_at hl 0 rfl) ?_
        refine va_get (D := D) (ci := 3) (v := .ref e4) (C := RX4) (T := TX4) (N := 6) hx hb hts in_X4 hown hK.1 hP 0 rfl rfl 3 (Nat.le_of_ble_eq_true rfl) (hts _ q157) (fun _ h9 => h9) rfl dX4_goesAlong_71 ?_
        refine lv_iload_n hx hb dX4_goesAlong_74 rfl (lv_at hl 1 rfl) ?_
        refine zz_iaload (f := EY) (i := k) hx hb hK.1 hP 4 0 rfl rfl (by omega) (by omega) dX4_goesAlong_75 ?_
        refine zc_roS (v := .int (bI (stLeads sx sy du dv (EX k) (EY k)))) (rest := []) ⟨hx, hb, hml, hown, hts⟩ (metX4_leads lG D dA g0 sx sy du dv lu lv (EX k) (EY k) (by first | assumption | omega) (by first | assumption | omega) (by first | assumption | omega) (by first | assumption | omega) ((hC _).2.2.1) ((hC _).2.2.2)) (va_cwS 3 hts (lw_S q654 q655 q74 q656) rfl rfl rfl (by decide +kernel) ⟨Nat.le_of_ble_eq_true rfl, Nat.le_of_ble_eq_true rfl⟩) (hP.sub [5] rfl) hK rfl hl.1 rfl (Nat.le_of_ble_eq_true rfl) dX4_goesAlong_76 ⟨Nat.zero_le _, Nat.zero_le _⟩ ?_
        refine zb_if_eq (tgt := 86) hx hb dX4_goesAlong_79 (by decide) (fun c_4 => ?_) (fun c_4 => ?_)
        · skip
          refine lv_iconst (v := nI 0) hx hb dX4_goesAlong_86 (by decide) ?_
          exact zr_roB (by unfold sgAlong; simp_all [bI, nI]) hx hb hr hlocks dX4_goesAlong_87
        · skip
          refine lv_iconst (v := nI 1) hx hb dX4_goesAlong_82 (by decide) ?_
          refine lv_goto (tgt := 87) hx hb dX4_goesAlong_83 (by decide) ?_
          exact zr_roB (by unfold sgAlong; simp_all [bI, nI]) hx hb hr hlocks dX4_goesAlong_87
    · skip
      refine lv_iconst (v := nI 0) hx hb dX4_goesAlong_42 (by decide) ?_
      exact zr_roB (by unfold sgAlong; simp_all [bI, nI]) hx hb hr hlocks dX4_goesAlong_43
set_option maxHeartbeats 4000000 in
set_option maxRecDepth 100000 in
theorem metX4_isAlong (lG : Launch) (D : va_G) (dA : Nat → ClassId) (h0 : Nat) (e1 : Nat) (e2 : Nat) (e3 : Nat) (e4 : Nat) (sz : Nat) (of_ : Nat) (nc : Nat) (SX : Nat → Int) (SY : Nat → Int) (EX : Nat → Int) (EY : Nat → Int) (g0 : Nat) (sx : Int) (sy : Int) (du : Int) (dv : Int) (lu : Int) (lv : Int) (w : Nat) (hnc : nc ≤ 4096) (hof : of_ ≤ sz) (hsz : sz ≤ nc) (hw : w < 2) (hC : sgB SX SY EX EY) (hsx : cB sx) (hsy : cB sy) (hdu : dB du) (hdv : dB dv) : Ro lG yX4_isAlong (ws_ yX4_isAlong cX4_isAlong 4 (some .boolean)) 4 89 D dA [.ref h0, .int (nI w), .ref g0] [(h0, .inr (3, [.ref e1, .ref e2, .ref e3, .ref e4, .int (nI sz), .int (nI of_)])), (e1, .inl (dA 0, nc, .inl fun j => iZ (SX j))), (e2, .inl (dA 0, nc, .inl fun j => iZ (SY j))), (e3, .inl (dA 0, nc, .inl fun j => iZ (EX j))), (e4, .inl (dA 0, nc, .inl fun j => iZ (EY j))), (g0, .inr (8, [.int (iZ sx), .int (iZ sy), .long (lZ du), .long (lZ dv), .long (lZ lu), .long (lZ lv)]))] (some (.int (bI (exR (fun k => sgAlong (SX k) (SY k) (EX k) (EY k) sx sy du dv) (if w = 0 then 0 else of_) (if w = 0 then of_ else sz))))) := by
  refine Ro.of (by decide) (Nat.le_of_ble_eq_true rfl) ?_
  intro pG eG sG mG bG tG cG ls hx hb hr hml hown hts hlocks hP hK hl
  have hown : sG.vm.findClass RX4 = some mG.cls := hown
  have hl : lv_has ls 4 [(0, .ref h0), (1, .int (nI w)), (2, .ref g0)] := hl
  have hfr : (if w = 0 then 0 else of_) < 2 ^ 31 := by split <;> omega
  have hto : (if w = 0 then of_ else sz) ≤ sz := by split <;> omega
  refine lv_aload_n hx hb dX4_isAlong_0 rfl (lv_at hl 0 rfl) ?_
  refine lv_iload_n hx hb dX4_isAlong_1 rfl (lv_at hl 1 rfl) ?_
  refine zc_roV (v := .int (nI (if w = 0 then 0 else of_))) (rest := []) ⟨hx, hb, hml, hown, hts⟩ (metX4_from lG D dA h0 e1 e2 e3 e4 sz of_ nc SX SY EX EY w (by first | assumption | omega)) (cwV 1 hts (lw_V q610 q611 q612 q74 q613) rfl rfl rfl (by decide +kernel) ⟨Nat.le_of_ble_eq_true rfl, Nat.le_of_ble_eq_true rfl⟩) (va_recv hK.1 hP (ci := 3) (q0 := 0) rfl rfl) (hP.sub [0, 1, 2, 3, 4] rfl) hK rfl hl.1 rfl (Nat.le_of_ble_eq_true rfl) dX4_isAlong_2 ⟨Nat.zero_le _, Nat.zero_le _⟩ ?_
  refine lv_istore_n (lv' := [(3, .int (nI (if w = 0 then 0 else of_))), (0, .ref h0), (1, .int (nI w)), (2, .ref g0)]) hx hb dX4_isAlong_5 rfl hl (by decide) rfl (fun ls hl => ?_)
  have loop6 : ∀ (n6 : Nat) (k : Nat), ((if w = 0 then 0 else of_) ≤ k) → (k ≤ max (if w = 0 then 0 else of_) (if w = 0 then of_ else sz)) → (∀ j, (if w = 0 then 0 else of_) ≤ j → j < k → sgAlong (SX j) (SY j) (EX j) (EY j) sx sy du dv = false) → sz - k < n6 → ∀ (ls : Array Slot), lv_has ls 4 [(3, .int (nI k)), (0, .ref h0), (1, .int (nI w)), (2, .ref g0)] → W pG lG eG (zRoom 4 0 0 89) sG mG [.ref h0, .int (nI w), .ref g0].toArray bG tG cG sG.heap [] 0 0 (MQ bG (roQ (some (.int (bI (exR (fun k => sgAlong (SX k) (SY k) (EX k) (EY k) sx sy du dv) (if w = 0 then 0 else of_) (if w = 0 then of_ else sz))))) sG.heap) [.ref h0, .int (nI w), .ref g0].toArray sG 0 0 (fun _ => False)) (F0 mG 6 ls []) := by
    intro n6
    induction n6 with
    | zero => intro k h1 h0k h2 hm; exact absurd hm (Nat.not_lt_zero _)
    | succ n6 ih6 =>
      intro k h1 h0k h2 hm6 ls hl
      refine lv_iload_n hx hb dX4_isAlong_6 rfl (lv_at hl 0 rfl) ?_
      refine lv_aload_n hx hb dX4_isAlong_7 rfl (lv_at hl 1 rfl) ?_
      refine lv_iload_n hx hb dX4_isAlong_8 rfl (lv_at hl 2 rfl) ?_
      refine zc_roV (v := .int (nI (if w = 0 then of_ else sz))) (rest := [.int (nI k)]) ⟨hx, hb, hml, hown, hts⟩ (metX4_to lG D dA h0 e1 e2 e3 e4 sz of_ nc SX SY EX EY w (by first | assumption | omega)) (cwV 1 hts (lw_V q614 q615 q616 q74 q617) rfl rfl rfl (by decide +kernel) ⟨Nat.le_of_ble_eq_true rfl, Nat.le_of_ble_eq_true rfl⟩) (va_recv hK.1 hP (ci := 3) (q0 := 0) rfl rfl) (hP.sub [0, 1, 2, 3, 4] rfl) hK rfl hl.1 rfl (Nat.le_of_ble_eq_true rfl) dX4_isAlong_9 ⟨Nat.zero_le _, Nat.zero_le _⟩ ?_
      refine zn_icmp_ge (tgt := 32) hx hb (by omega) (by omega) dX4_isAlong_12 (by decide) (fun c_1 => ?_) (fun c_1 => ?_)
      · skip
        refine lv_iconst (v := nI 0) hx hb dX4_isAlong_32 (by decide) ?_
        exact zr_roB (by rw [exR_f (fun j a b => h2 j a (by omega))]; rfl) hx hb hr hlocks dX4_isAlong_33
      · skip
        refine lv_aload_n hx hb dX4_isAlong_15 rfl (lv_at hl 1 rfl) ?_
        refine lv_iload_n hx hb dX4_isAlong_16 rfl (lv_at hl 0 rfl) ?_
        refine lv_aload_n hx hb dX4_isAlong_17 rfl (lv_at hl 3 rfl) ?_
        refine zc_roV (v := .int (bI (sgAlong (SX k) (SY k) (EX k) (EY k) sx sy du dv))) (rest := []) ⟨hx, hb, hml, hown, hts⟩ (metX4_goesAlong lG D dA h0 e1 e2 e3 e4 sz of_ nc SX SY EX EY g0 sx sy du dv lu lv k (by first | assumption | omega) (by first | assumption | omega) (by first | assumption | omega) (by first | assumption | omega) (by first | assumption | omega) (by first | assumption | omega) (by first | assumption | omega)) (cwV 2 hts (lw_V q650 q652 qs20 q74 q653) rfl rfl rfl (by decide +kernel) ⟨Nat.le_of_ble_eq_true rfl, Nat.le_of_ble_eq_true rfl⟩) (va_recv hK.1 hP (ci := 3) (q0 := 0) rfl rfl) (hP.sub [0, 1, 2, 3, 4, 5] rfl) hK rfl hl.1 rfl (Nat.le_of_ble_eq_true rfl) dX4_isAlong_18 ⟨Nat.zero_le _, Nat.zero_le _⟩ ?_
        refine zb_if_eq (tgt := 26) hx hb dX4_isAlong_21 (by decide) (fun c_2 => ?_) (fun c_2 => ?_)
        · skip
          refine lv_iinc (v := nI (k + 1)) (lv' := [(3, .int (nI (k + 1))), (0, .ref h0), (1, .int (nI w)), (2, .ref g0)]) hx hb dX4_isAlong_26 hl (k := 0) rfl (nI_add _ _) (by decide) rfl (fun ls hl => ?_)
          refine lv_goto (tgt := 6) hx hb dX4_isAlong_29 (by decide) ?_
          exact ih6 (k + 1) (by first | assumption | omega) (by first | assumption | omega) (lt_step h2 (by assumption)) (by omega) _ (lv_sub hl [0, 1, 2, 3] rfl)
        · skip
          refine lv_iconst (v := nI 1) hx hb dX4_isAlong_24 (by decide) ?_
          exact zr_roB (by rw [exR_t (f := fun k => sgAlong (SX k) (SY k) (EX k) (EY k) sx sy du dv) h1 (by assumption) (by assumption)]; rfl) hx hb hr hlocks dX4_isAlong_25
  exact loop6 (sz - (if w = 0 then 0 else of_) + 1) (if w = 0 then 0 else of_) (Nat.le_refl _) (by omega) (fun j a b => absurd b (Nat.not_lt.mpr a)) (Nat.lt_succ_self _) _ (lv_sub hl [0, 1, 2, 3] rfl)
set_option maxHeartbeats 4000000 in
set_option maxRecDepth 100000 in
theorem metX4_isOdd (lG : Launch) (D : va_G) (dA : Nat → ClassId) (h0 : Nat) (e1 : Nat) (e2 : Nat) (e3 : Nat) (e4 : Nat) (sz : Nat) (of_ : Nat) (nc : Nat) (SX : Nat → Int) (SY : Nat → Int) (EX : Nat → Int) (EY : Nat → Int) (g0 : Nat) (sx : Int) (sy : Int) (du : Int) (dv : Int) (lu : Int) (lv : Int) (w : Nat) (hnc : nc ≤ 4096) (hof : of_ ≤ sz) (hsz : sz ≤ nc) (hw : w < 2) (hC : sgB SX SY EX EY) (hsx : cB sx) (hsy : cB sy) (hdu : dB du) (hdv : dB dv) (hlu : dB lu) (hlv : dB lv) : Ro lG yX4_isOdd (ws_ yX4_isOdd cX4_isOdd 7 (some .boolean)) 2 48 D dA [.ref h0, .int (nI w), .ref g0] [(h0, .inr (3, [.ref e1, .ref e2, .ref e3, .ref e4, .int (nI sz), .int (nI of_)])), (e1, .inl (dA 0, nc, .inl fun j => iZ (SX j))), (e2, .inl (dA 0, nc, .inl fun j => iZ (SY j))), (e3, .inl (dA 0, nc, .inl fun j => iZ (EX j))), (e4, .inl (dA 0, nc, .inl fun j => iZ (EY j))), (g0, .inr (8, [.int (iZ sx), .int (iZ sy), .long (lZ du), .long (lZ dv), .long (lZ lu), .long (lZ lv)]))] (some (.int (bI (parR (fun k => sgOdd (SX k) (SY k) (EX k) (EY k) sx sy du dv lu lv) (if w = 0 then 0 else of_) ((if w = 0 then of_ else sz) - (if w = 0 then 0 else of_)))))) := by
  refine Ro.of (by decide) (Nat.le_of_ble_eq_true rfl) ?_
  intro pG eG sG mG bG tG cG ls hx hb hr hml hown hts hlocks hP hK hl
  have hown : sG.vm.findClass RX4 = some mG.cls := hown
  have hl : lv_has ls 7 [(0, .ref h0), (1, .int (nI w)), (2, .ref g0)] := hl
  have hfr : (if w = 0 then 0 else of_) < 2 ^ 31 := by split <;> omega
  have hto : (if w = 0 then of_ else sz) ≤ sz := by split <;> omega
  refine lv_iconst (v := bI false) hx hb dX4_isOdd_0 (by decide) ?_
  refine lv_istore_n (lv' := [(3, .int (bI false)), (0, .ref h0), (1, .int (nI w)), (2, .ref g0)]) hx hb dX4_isOdd_1 rfl hl (by decide) rfl (fun ls hl => ?_)
  refine lv_aload_n hx hb dX4_isOdd_2 rfl (lv_at hl 1 rfl) ?_
  refine lv_iload_n hx hb dX4_isOdd_3 rfl (lv_at hl 2 rfl) ?_
  refine zc_roV (v := .int (nI (if w = 0 then 0 else of_))) (rest := []) ⟨hx, hb, hml, hown, hts⟩ (metX4_from lG D dA h0 e1 e2 e3 e4 sz of_ nc SX SY EX EY w (by first | assumption | omega)) (cwV 1 hts (lw_V q610 q611 q612 q74 q613) rfl rfl rfl (by decide +kernel) ⟨Nat.le_of_ble_eq_true rfl, Nat.le_of_ble_eq_true rfl⟩) (va_recv hK.1 hP (ci := 3) (q0 := 0) rfl rfl) (hP.sub [0, 1, 2, 3, 4] rfl) hK rfl hl.1 rfl (Nat.le_of_ble_eq_true rfl) dX4_isOdd_4 ⟨Nat.zero_le _, Nat.zero_le _⟩ ?_
  refine lv_istore (lv' := [(4, .int (nI (if w = 0 then 0 else of_))), (3, .int (bI false)), (0, .ref h0), (1, .int (nI w)), (2, .ref g0)]) hx hb dX4_isOdd_7 hl (by decide) rfl (fun ls hl => ?_)
  have loop9 : ∀ (n9 : Nat) (k : Nat) (od : Bool), ((if w = 0 then 0 else of_) ≤ k) → (k ≤ max (if w = 0 then 0 else of_) (if w = 0 then of_ else sz)) → (od = parR (fun k => sgOdd (SX k) (SY k) (EX k) (EY k) sx sy du dv lu lv) (if w = 0 then 0 else of_) (k - (if w = 0 then 0 else of_))) → sz - k < n9 → ∀ (ls : Array Slot), lv_has ls 7 [(4, .int (nI k)), (3, .int (bI od)), (0, .ref h0), (1, .int (nI w)), (2, .ref g0)] → W pG lG eG (zRoom 2 0 0 48) sG mG [.ref h0, .int (nI w), .ref g0].toArray bG tG cG sG.heap [] 0 0 (MQ bG (roQ (some (.int (bI (parR (fun k => sgOdd (SX k) (SY k) (EX k) (EY k) sx sy du dv lu lv) (if w = 0 then 0 else of_) ((if w = 0 then of_ else sz) - (if w = 0 then 0 else of_)))))) sG.heap) [.ref h0, .int (nI w), .ref g0].toArray sG 0 0 (fun _ => False)) (F0 mG 9 ls []) := by
    intro n9
    induction n9 with
    | zero => intro k od h1 h2 h3 hm; exact absurd hm (Nat.not_lt_zero _)
    | succ n9 ih9 =>
      intro k od h1 h2 h3 hm9 ls hl
      refine lv_iload hx hb dX4_isOdd_9 (lv_at hl 0 rfl) ?_
      refine lv_aload_n hx hb dX4_isOdd_11 rfl (lv_at hl 2 rfl) ?_
      refine lv_iload_n hx hb dX4_isOdd_12 rfl (lv_at hl 3 rfl) ?_
      refine zc_roV (v := .int (nI (if w = 0 then of_ else sz))) (rest := [.int (nI k)]) ⟨hx, hb, hml, hown, hts⟩ (metX4_to lG D dA h0 e1 e2 e3 e4 sz of_ nc SX SY EX EY w (by first | assumption | omega)) (cwV 1 hts (lw_V q614 q615 q616 q74 q617) rfl rfl rfl (by decide +kernel) ⟨Nat.le_of_ble_eq_true rfl, Nat.le_of_ble_eq_true rfl⟩) (va_recv hK.1 hP (ci := 3) (q0 := 0) rfl rfl) (hP.sub [0, 1, 2, 3, 4] rfl) hK rfl hl.1 rfl (Nat.le_of_ble_eq_true rfl) dX4_isOdd_13 ⟨Nat.zero_le _, Nat.zero_le _⟩ ?_
      refine zn_icmp_ge (tgt := 111) hx hb (by omega) (by omega) dX4_isOdd_16 (by decide) (fun c_1 => ?_) (fun c_1 => ?_)
      · skip
        refine lv_iload_n hx hb dX4_isOdd_111 rfl (lv_at hl 1 rfl) ?_
        exact zr_roB (by rw [h3, show k - (if w = 0 then 0 else of_) = (if w = 0 then of_ else sz) - (if w = 0 then 0 else of_) by omega]) hx hb hr hlocks dX4_isOdd_112
      · skip
        refine lv_aload_n hx hb dX4_isOdd_19 rfl (lv_at hl 4 rfl) ?_
        refine lv_aload_n hx hb dX4_isOdd_20 rfl (lv_at hl 2 rfl) ?_
        refine va_get (D := D) (ci := 3) (v := .ref e2) (C := RX4) (T := TX4) (N := 6) hx hb hts in_X4 hown hK.1 hP 0 rfl rfl 1 (Nat.le_of_ble_eq_true rfl) (hts _ q153) (fun _ h9 => h9) rfl dX4_isOdd_21 ?_
        refine lv_iload hx hb dX4_isOdd_24 (lv_at hl 0 rfl) ?_
        refine zz_iaload (f := SY) (i := k) hx hb hK.1 hP 2 0 rfl rfl (by omega) (by omega) dX4_isOdd_26 ?_
        refine zc_roV (v := .int (bI (stBelow (SY k) sy dv lv))) (rest := []) ⟨hx, hb, hml, hown, hts⟩ (metX9_isBelow lG D dA g0 sx sy du dv lu lv (SY k) ((hC _).2.1.i) (hsy.i) (hdv.l) (hlv.l)) (cwV 1 hts (lw_V q627 q628 q629 q79 q630) rfl rfl rfl (by decide +kernel) ⟨Nat.le_of_ble_eq_true rfl, Nat.le_of_ble_eq_true rfl⟩) (va_recv hK.1 hP (ci := 8) (q0 := 5) rfl rfl) (hP.sub [5] rfl) hK rfl hl.1 rfl (Nat.le_of_ble_eq_true rfl) dX4_isOdd_27 ⟨Nat.zero_le _, Nat.zero_le _⟩ ?_
        refine lv_istore (lv' := [(5, .int (bI (stBelow (SY k) sy dv lv))), (4, .int (nI k)), (3, .int (bI od)), (0, .ref h0), (1, .int (nI w)), (2, .ref g0)]) hx hb dX4_isOdd_30 hl (by decide) rfl (fun ls hl => ?_)
        refine lv_aload_n hx hb dX4_isOdd_32 rfl (lv_at hl 5 rfl) ?_
        refine lv_aload_n hx hb dX4_isOdd_33 rfl (lv_at hl 3 rfl) ?_
        refine va_get (D := D) (ci := 3) (v := .ref e4) (C := RX4) (T := TX4) (N := 6) hx hb hts in_X4 hown hK.1 hP 0 rfl rfl 3 (Nat.le_of_ble_eq_true rfl) (hts _ q157) (fun _ h9 => h9) rfl dX4_isOdd_34 ?_
        refine lv_iload hx hb dX4_isOdd_37 (lv_at hl 1 rfl) ?_
        refine zz_iaload (f := EY) (i := k) hx hb hK.1 hP 4 0 rfl rfl (by omega) (by omega) dX4_isOdd_39 ?_
        refine zc_roV (v := .int (bI (stBelow (EY k) sy dv lv))) (rest := []) ⟨hx, hb, hml, hown, hts⟩ (metX9_isBelow lG D dA g0 sx sy du dv lu lv (EY k) ((hC _).2.2.2.i) (hsy.i) (hdv.l) (hlv.l)) (cwV 1 hts (lw_V q627 q628 q629 q79 q630) rfl rfl rfl (by decide +kernel) ⟨Nat.le_of_ble_eq_true rfl, Nat.le_of_ble_eq_true rfl⟩) (va_recv hK.1 hP (ci := 8) (q0 := 5) rfl rfl) (hP.sub [5] rfl) hK rfl hl.1 rfl (Nat.le_of_ble_eq_true rfl) dX4_isOdd_40 ⟨Nat.zero_le _, Nat.zero_le _⟩ ?_
        refine lv_istore (lv' := [(6, .int (bI (stBelow (EY k) sy dv lv))), (5, .int (bI (stBelow (SY k) sy dv lv))), (4, .int (nI k)), (3, .int (bI od)), (0, .ref h0), (1, .int (nI w)), (2, .ref g0)]) hx hb dX4_isOdd_43 hl (by decide) rfl (fun ls hl => ?_)
        refine lv_iload hx hb dX4_isOdd_45 (lv_at hl 1 rfl) ?_
        refine lv_iload hx hb dX4_isOdd_47 (lv_at hl 0 rfl) ?_
        refine zb_icmp_eq (tgt := 105) hx hb dX4_isOdd_49 (by decide) (fun c_2 => ?_) (fun c_2 => ?_)
        · skip
          refine lv_iinc (v := nI (k + 1)) (lv' := [(4, .int (nI (k + 1))), (6, .int (bI (stBelow (EY k) sy dv lv))), (5, .int (bI (stBelow (SY k) sy dv lv))), (3, .int (bI od)), (0, .ref h0), (1, .int (nI w)), (2, .ref g0)]) hx hb dX4_isOdd_105 hl (k := 2) rfl (nI_add _ _) (by decide) rfl (fun ls hl => ?_)
          refine lv_goto (tgt := 9) hx hb dX4_isOdd_108 (by decide) ?_
          exact ih9 (k + 1) od (by first | assumption | omega) (by first | assumption | omega) (by rw [show k + 1 - (if w = 0 then 0 else of_) = (k - (if w = 0 then 0 else of_)) + 1 by omega, parR, ← h3, show (if w = 0 then 0 else of_) + (k - (if w = 0 then 0 else of_)) = k by omega]; unfold sgOdd; first | (rw [c4]; simp_all; done) | (simp_all; done)) (by omega) _ (lv_sub hl [0, 3, 4, 5, 6] rfl)
        · skip
          refine lv_aload_n hx hb dX4_isOdd_52 rfl (lv_at hl 6 rfl) ?_
          refine lv_aload_n hx hb dX4_isOdd_53 rfl (lv_at hl 4 rfl) ?_
          refine va_get (D := D) (ci := 3) (v := .ref e1) (C := RX4) (T := TX4) (N := 6) hx hb hts in_X4 hown hK.1 hP 0 rfl rfl 0 (Nat.le_of_ble_eq_true rfl) (hts _ q151) (fun _ h9 => h9) rfl dX4_isOdd_54 ?_
          refine lv_iload hx hb dX4_isOdd_57 (lv_at hl 2 rfl) ?_
          refine zz_iaload (f := SX) (i := k) hx hb hK.1 hP 1 0 rfl rfl (by omega) (by omega) dX4_isOdd_59 ?_
          refine lv_aload_n hx hb dX4_isOdd_60 rfl (lv_at hl 4 rfl) ?_
          refine va_get (D := D) (ci := 3) (v := .ref e2) (C := RX4) (T := TX4) (N := 6) hx hb hts in_X4 hown hK.1 hP 0 rfl rfl 1 (Nat.le_of_ble_eq_true rfl) (hts _ q153) (fun _ h9 => h9) rfl dX4_isOdd_61 ?_
          refine lv_iload hx hb dX4_isOdd_64 (lv_at hl 2 rfl) ?_
          refine zz_iaload (f := SY) (i := k) hx hb hK.1 hP 2 0 rfl rfl (by omega) (by omega) dX4_isOdd_66 ?_
          refine lv_aload_n hx hb dX4_isOdd_67 rfl (lv_at hl 4 rfl) ?_
          refine lv_iload hx hb dX4_isOdd_68 (lv_at hl 2 rfl) ?_
          refine zc_roV (v := .long (lZ (EX k - SX k))) (rest := [.int (iZ (SY k)), .int (iZ (SX k)), .ref g0]) ⟨hx, hb, hml, hown, hts⟩ (metX4_byX lG D dA h0 e1 e2 e3 e4 sz of_ nc SX SY EX EY k (by first | assumption | omega) (by first | assumption | omega) (by first | assumption | omega)) (cwV 1 hts (lw_V q522 q523 q524 q74 q525) rfl rfl rfl (by decide +kernel) ⟨Nat.le_of_ble_eq_true rfl, Nat.le_of_ble_eq_true rfl⟩) (va_recv hK.1 hP (ci := 3) (q0 := 0) rfl rfl) (hP.sub [0, 1, 2, 3, 4] rfl) hK rfl hl.1 rfl (Nat.le_of_ble_eq_true rfl) dX4_isOdd_70 ⟨Nat.zero_le _, Nat.zero_le _⟩ ?_
          refine lv_aload_n hx hb dX4_isOdd_73 rfl (lv_at hl 4 rfl) ?_
          refine lv_iload hx hb dX4_isOdd_74 (lv_at hl 2 rfl) ?_
          refine zc_roV (v := .long (lZ (EY k - SY k))) (rest := [.long (lZ (EX k - SX k)), .int (iZ (SY k)), .int (iZ (SX k)), .ref g0]) ⟨hx, hb, hml, hown, hts⟩ (metX4_byY lG D dA h0 e1 e2 e3 e4 sz of_ nc SX SY EX EY k (by first | assumption | omega) (by first | assumption | omega) (by first | assumption | omega)) (cwV 1 hts (lw_V q526 q527 q528 q74 q529) rfl rfl rfl (by decide +kernel) ⟨Nat.le_of_ble_eq_true rfl, Nat.le_of_ble_eq_true rfl⟩) (va_recv hK.1 hP (ci := 3) (q0 := 0) rfl rfl) (hP.sub [0, 1, 2, 3, 4] rfl) hK rfl hl.1 rfl (Nat.le_of_ble_eq_true rfl) dX4_isOdd_76 ⟨Nat.zero_le _, Nat.zero_le _⟩ ?_
          refine zc_roV (v := .int (iZ (stSide sx sy du dv lu lv (SX k) (SY k) (EX k - SX k) (EY k - SY k)))) (rest := []) ⟨hx, hb, hml, hown, hts⟩ (metX9_side lG D dA g0 sx sy du dv lu lv (SX k) (SY k) (EX k - SX k) (EY k - SY k) hsx hsy ((hC _).1) ((hC _).2.1) ((hC _).2.2.1.sub (hC _).1) ((hC _).2.2.2.sub (hC _).2.1) (by first | assumption | omega) (by first | assumption | omega) (by first | assumption | omega) (by first | assumption | omega)) (cwV 4 hts (lw_V q631 q632 q633 q79 q634) rfl rfl rfl (by decide +kernel) ⟨Nat.le_of_ble_eq_true rfl, Nat.le_of_ble_eq_true rfl⟩) (va_recv hK.1 hP (ci := 8) (q0 := 5) rfl rfl) (hP.sub [5] rfl) hK rfl hl.1 rfl (Nat.le_of_ble_eq_true rfl) dX4_isOdd_79 ⟨Nat.zero_le _, Nat.zero_le _⟩ ?_
          refine zz_if_le (tgt := 89) hx hb (stSide_I _ _ _ _ _ _ _ _ _ _) dX4_isOdd_82 (by decide) (fun c3 => ?_) (fun c3 => ?_)
          · skip
            have c4 := decide_eq_false (Int.not_lt.mpr c3)
            refine lv_iconst (v := bI false) hx hb dX4_isOdd_89 (by decide) ?_
            refine lv_iload hx hb dX4_isOdd_90 (lv_at hl 0 rfl) ?_
            refine zb_icmp_ne (tgt := 105) hx hb dX4_isOdd_92 (by decide) (fun c_3 => ?_) (fun c_3 => ?_)
            · skip
              refine lv_iinc (v := nI (k + 1)) (lv' := [(4, .int (nI (k + 1))), (6, .int (bI (stBelow (EY k) sy dv lv))), (5, .int (bI (stBelow (SY k) sy dv lv))), (3, .int (bI od)), (0, .ref h0), (1, .int (nI w)), (2, .ref g0)]) hx hb dX4_isOdd_105 hl (k := 2) rfl (nI_add _ _) (by decide) rfl (fun ls hl => ?_)
              refine lv_goto (tgt := 9) hx hb dX4_isOdd_108 (by decide) ?_
              exact ih9 (k + 1) od (by first | assumption | omega) (by first | assumption | omega) (by rw [show k + 1 - (if w = 0 then 0 else of_) = (k - (if w = 0 then 0 else of_)) + 1 by omega, parR, ← h3, show (if w = 0 then 0 else of_) + (k - (if w = 0 then 0 else of_)) = k by omega]; unfold sgOdd; first | (rw [c4]; simp_all; done) | (simp_all; done)) (by omega) _ (lv_sub hl [0, 3, 4, 5, 6] rfl)
            · skip
              refine lv_iload_n hx hb dX4_isOdd_95 rfl (lv_at hl 3 rfl) ?_
              refine zb_if_ne (tgt := 103) hx hb dX4_isOdd_96 (by decide) (fun c_4 => ?_) (fun c_4 => ?_)
              · skip
                refine lv_iconst (v := bI false) hx hb dX4_isOdd_103 (by decide) ?_
                refine lv_istore_n (lv' := [(3, .int (bI false)), (6, .int (bI (stBelow (EY k) sy dv lv))), (5, .int (bI (stBelow (SY k) sy dv lv))), (4, .int (nI k)), (0, .ref h0), (1, .int (nI w)), (2, .ref g0)]) hx hb dX4_isOdd_104 rfl hl (by decide) rfl (fun ls hl => ?_)
                refine lv_iinc (v := nI (k + 1)) (lv' := [(4, .int (nI (k + 1))), (3, .int (bI false)), (6, .int (bI (stBelow (EY k) sy dv lv))), (5, .int (bI (stBelow (SY k) sy dv lv))), (0, .ref h0), (1, .int (nI w)), (2, .ref g0)]) hx hb dX4_isOdd_105 hl (k := 3) rfl (nI_add _ _) (by decide) rfl (fun ls hl => ?_)
                refine lv_goto (tgt := 9) hx hb dX4_isOdd_108 (by decide) ?_
                exact ih9 (k + 1) false (by first | assumption | omega) (by first | assumption | omega) (by rw [show k + 1 - (if w = 0 then 0 else of_) = (k - (if w = 0 then 0 else of_)) + 1 by omega, parR, ← h3, show (if w = 0 then 0 else of_) + (k - (if w = 0 then 0 else of_)) = k by omega]; unfold sgOdd; first | (rw [c4]; simp_all; done) | (simp_all; done)) (by omega) _ (lv_sub hl [0, 1, 4, 5, 6] rfl)
              · skip
                refine lv_iconst (v := bI true) hx hb dX4_isOdd_99 (by decide) ?_
                refine lv_goto (tgt := 104) hx hb dX4_isOdd_100 (by decide) ?_
                refine lv_istore_n (lv' := [(3, .int (bI true)), (6, .int (bI (stBelow (EY k) sy dv lv))), (5, .int (bI (stBelow (SY k) sy dv lv))), (4, .int (nI k)), (0, .ref h0), (1, .int (nI w)), (2, .ref g0)]) hx hb dX4_isOdd_104 rfl hl (by decide) rfl (fun ls hl => ?_)
                refine lv_iinc (v := nI (k + 1)) (lv' := [(4, .int (nI (k + 1))), (3, .int (bI true)), (6, .int (bI (stBelow (EY k) sy dv lv))), (5, .int (bI (stBelow (SY k) sy dv lv))), (0, .ref h0), (1, .int (nI w)), (2, .ref g0)]) hx hb dX4_isOdd_105 hl (k := 3) rfl (nI_add _ _) (by decide) rfl (fun ls hl => ?_)
                refine lv_goto (tgt := 9) hx hb dX4_isOdd_108 (by decide) ?_
                exact ih9 (k + 1) true (by first | assumption | omega) (by first | assumption | omega) (by rw [show k + 1 - (if w = 0 then 0 else of_) = (k - (if w = 0 then 0 else of_)) + 1 by omega, parR, ← h3, show (if w = 0 then 0 else of_) + (k - (if w = 0 then 0 else of_)) = k by omega]; unfold sgOdd; first | (rw [c4]; simp_all; done) | (simp_all; done)) (by omega) _ (lv_sub hl [0, 1, 4, 5, 6] rfl)
          · skip
            have c4 := decide_eq_true c3
            refine lv_iconst (v := bI true) hx hb dX4_isOdd_85 (by decide) ?_
            refine lv_goto (tgt := 90) hx hb dX4_isOdd_86 (by decide) ?_
            refine lv_iload hx hb dX4_isOdd_90 (lv_at hl 0 rfl) ?_
            refine zb_icmp_ne (tgt := 105) hx hb dX4_isOdd_92 (by decide) (fun c_5 => ?_) (fun c_5 => ?_)
            · skip
              refine lv_iinc (v := nI (k + 1)) (lv' := [(4, .int (nI (k + 1))), (6, .int (bI (stBelow (EY k) sy dv lv))), (5, .int (bI (stBelow (SY k) sy dv lv))), (3, .int (bI od)), (0, .ref h0), (1, .int (nI w)), (2, .ref g0)]) hx hb dX4_isOdd_105 hl (k := 2) rfl (nI_add _ _) (by decide) rfl (fun ls hl => ?_)
              refine lv_goto (tgt := 9) hx hb dX4_isOdd_108 (by decide) ?_
              exact ih9 (k + 1) od (by first | assumption | omega) (by first | assumption | omega) (by rw [show k + 1 - (if w = 0 then 0 else of_) = (k - (if w = 0 then 0 else of_)) + 1 by omega, parR, ← h3, show (if w = 0 then 0 else of_) + (k - (if w = 0 then 0 else of_)) = k by omega]; unfold sgOdd; first | (rw [c4]; simp_all; done) | (simp_all; done)) (by omega) _ (lv_sub hl [0, 3, 4, 5, 6] rfl)
            · skip
              refine lv_iload_n hx hb dX4_isOdd_95 rfl (lv_at hl 3 rfl) ?_
              refine zb_if_ne (tgt := 103) hx hb dX4_isOdd_96 (by decide) (fun c_6 => ?_) (fun c_6 => ?_)
              · skip
                refine lv_iconst (v := bI false) hx hb dX4_isOdd_103 (by decide) ?_
                refine lv_istore_n (lv' := [(3, .int (bI false)), (6, .int (bI (stBelow (EY k) sy dv lv))), (5, .int (bI (stBelow (SY k) sy dv lv))), (4, .int (nI k)), (0, .ref h0), (1, .int (nI w)), (2, .ref g0)]) hx hb dX4_isOdd_104 rfl hl (by decide) rfl (fun ls hl => ?_)
                refine lv_iinc (v := nI (k + 1)) (lv' := [(4, .int (nI (k + 1))), (3, .int (bI false)), (6, .int (bI (stBelow (EY k) sy dv lv))), (5, .int (bI (stBelow (SY k) sy dv lv))), (0, .ref h0), (1, .int (nI w)), (2, .ref g0)]) hx hb dX4_isOdd_105 hl (k := 3) rfl (nI_add _ _) (by decide) rfl (fun ls hl => ?_)
                refine lv_goto (tgt := 9) hx hb dX4_isOdd_108 (by decide) ?_
                exact ih9 (k + 1) false (by first | assumption | omega) (by first | assumption | omega) (by rw [show k + 1 - (if w = 0 then 0 else of_) = (k - (if w = 0 then 0 else of_)) + 1 by omega, parR, ← h3, show (if w = 0 then 0 else of_) + (k - (if w = 0 then 0 else of_)) = k by omega]; unfold sgOdd; first | (rw [c4]; simp_all; done) | (simp_all; done)) (by omega) _ (lv_sub hl [0, 1, 4, 5, 6] rfl)
              · skip
                refine lv_iconst (v := bI true) hx hb dX4_isOdd_99 (by decide) ?_
                refine lv_goto (tgt := 104) hx hb dX4_isOdd_100 (by decide) ?_
                refine lv_istore_n (lv' := [(3, .int (bI true)), (6, .int (bI (stBelow (EY k) sy dv lv))), (5, .int (bI (stBelow (SY k) sy dv lv))), (4, .int (nI k)), (0, .ref h0), (1, .int (nI w)), (2, .ref g0)]) hx hb dX4_isOdd_104 rfl hl (by decide) rfl (fun ls hl => ?_)
                refine lv_iinc (v := nI (k + 1)) (lv' := [(4, .int (nI (k + 1))), (3, .int (bI true)), (6, .int (bI (stBelow (EY k) sy dv lv))), (5, .int (bI (stBelow (SY k) sy dv lv))), (0, .ref h0), (1, .int (nI w)), (2, .ref g0)]) hx hb dX4_isOdd_105 hl (k := 3) rfl (nI_add _ _) (by decide) rfl (fun ls hl => ?_)
                refine lv_goto (tgt := 9) hx hb dX4_isOdd_108 (by decide) ?_
                exact ih9 (k + 1) true (by first | assumption | omega) (by first | assumption | omega) (by rw [show k + 1 - (if w = 0 then 0 else of_) = (k - (if w = 0 then 0 else of_)) + 1 by omega, parR, ← h3, show (if w = 0 then 0 else of_) + (k - (if w = 0 then 0 else of_)) = k by omega]; unfold sgOdd; first | (rw [c4]; simp_all; done) | (simp_all; done)) (by omega) _ (lv_sub hl [0, 1, 4, 5, 6] rfl)
  exact loop9 (sz - (if w = 0 then 0 else of_) + 1) (if w = 0 then 0 else of_) false (Nat.le_refl _) (by omega) (by rw [Nat.sub_self]; rfl) (Nat.lt_succ_self _) _ (lv_sub hl [0, 1, 2, 3, 4] rfl)
