/-! Events: contracts (printed by wip gen/c42.py) -/
abbrev Ev : Type := Int × Int × Nat × Int × Int
def evAt (PA WH : Nat → Int) (WT : Nat → Nat) (VX VY : Nat → Int) (k : Nat) : Ev := (PA k, WH k, WT k, VX k, VY k)
/-- events by their rows -/
def evList (PA WH : Nat → Int) (WT : Nat → Nat) (VX VY : Nat → Int) (n : Nat) : List Ev := plist (evAt PA WH WT VX VY) n
def evB (PA WH : Nat → Int) : Prop := ∀ k, (0 ≤ PA k ∧ PA k < 4611686018427387904) ∧ (0 ≤ WH k ∧ WH k < 4611686018427387904)
theorem evB_upd {PA WH : Nat → Int} {n : Nat} {a b : Int} (h : evB PA WH) (ha : 0 ≤ a ∧ a < 4611686018427387904) (hb : 0 ≤ b ∧ b < 4611686018427387904) : evB (updZ PA n a) (updZ WH n b) := fun k =>
  ⟨updZ_all (P := fun z => 0 ≤ z ∧ z < 4611686018427387904) (fun j => (h j).1) ha k, updZ_all (P := fun z => 0 ≤ z ∧ z < 4611686018427387904) (fun j => (h j).2) hb k⟩
theorem evB_cpy {PA WH : Nat → Int} {n : Nat} (h : evB PA WH) : evB (zcpy PA (fun _ => 0) n) (zcpy WH (fun _ => 0) n) := fun k =>
  ⟨zcpy_all (P := fun z => 0 ≤ z ∧ z < 4611686018427387904) (fun j => (h j).1) ⟨by decide, by decide⟩ k, zcpy_all (P := fun z => 0 ≤ z ∧ z < 4611686018427387904) (fun j => (h j).2) ⟨by decide, by decide⟩ k⟩
theorem evList_push {PA WH VX VY : Nat → Int} {WT : Nat → Nat} {n : Nat} {a b x y : Int} {t : Nat} : evList (updZ PA n a) (updZ WH n b) (updZ WT n t) (updZ VX n x) (updZ VY n y) (n + 1) = evList PA WH WT VX VY n ++ [(a, b, t, x, y)] := by
  unfold evList
  rw [plist_succ]
  congr 1
  · apply plist_cong
    intro k hk
    have hn : k ≠ n := by omega
    simp [evAt, updZ_n hn]
  · simp [evAt, updZ_s]
theorem evList_cpy {PA WH VX VY : Nat → Int} {WT : Nat → Nat} {n : Nat} : evList (zcpy PA (fun _ => 0) n) (zcpy WH (fun _ => 0) n) (zcpy WT (fun _ => 0) n) (zcpy VX (fun _ => 0) n) (zcpy VY (fun _ => 0) n) n = evList PA WH WT VX VY n := by
  apply plist_cong
  intro k hk
  simp [evAt, zcpy_lt hk]
/-- whether an event comes behind another one -/
def bhE (PA WH : Nat → Int) (WT : Nat → Nat) (a b : Nat) : Bool := if cmpF (PA a) (WH a) (PA b) (WH b) ≠ 0 then decide (0 < cmpF (PA a) (WH a) (PA b) (WH b)) else decide (WT a < WT b)
def bhS (PA WH : Nat → Int) (WT : Nat → Nat) (n a b : Nat) : Bool := if a < n then (if b < n then bhE PA WH WT a b else false) else decide (b < n)
theorem cmpF_lt {n d m e : Int} : cmpF n d m e < 0 ↔ n * e < m * d := by unfold cmpF; split <;> (try split) <;> omega
theorem cmpF_gt {n d m e : Int} : 0 < cmpF n d m e ↔ m * d < n * e := by unfold cmpF; split <;> (try split) <;> omega
theorem cmpF_eq {n d m e : Int} : cmpF n d m e = 0 ↔ n * e = m * d := by unfold cmpF; split <;> (try split) <;> omega
theorem cmpF_I (n d m e : Int) : inI (cmpF n d m e) := by unfold cmpF; split <;> (try split) <;> exact ⟨by decide, by decide⟩
theorem frac_le_trans {n d m e p q : Int} (hd : 0 < d) (he : 0 < e) (hq : 0 < q) (h1 : n * e ≤ m * d) (h2 : m * q ≤ p * e) : n * q ≤ p * d := by
  have a1 := Int.mul_le_mul_of_nonneg_right h1 (Int.le_of_lt hq)
  have a2 := Int.mul_le_mul_of_nonneg_right h2 (Int.le_of_lt hd)
  have a3 : n * q * e ≤ p * d * e := by
    have e1 : n * e * q = n * q * e := by rw [Int.mul_assoc, Int.mul_comm e q, ← Int.mul_assoc]
    have e2 : m * d * q = m * q * d := by rw [Int.mul_assoc, Int.mul_comm d q, ← Int.mul_assoc]
    have e3 : p * e * d = p * d * e := by rw [Int.mul_assoc, Int.mul_comm e d, ← Int.mul_assoc]
    omega
  exact Int.le_of_mul_le_mul_right a3 he
theorem frac_lt_trans {n d m e p q : Int} (hd : 0 < d) (he : 0 < e) (hq : 0 < q) (h1 : n * e ≤ m * d) (h2 : m * q < p * e) : n * q < p * d := by
  have a1 := Int.mul_le_mul_of_nonneg_right h1 (Int.le_of_lt hq)
  have a2 := Int.mul_lt_mul_of_pos_right h2 hd
  have a3 : n * q * e < p * d * e := by
    have e1 : n * e * q = n * q * e := by rw [Int.mul_assoc, Int.mul_comm e q, ← Int.mul_assoc]
    have e2 : m * d * q = m * q * d := by rw [Int.mul_assoc, Int.mul_comm d q, ← Int.mul_assoc]
    have e3 : p * e * d = p * d * e := by rw [Int.mul_assoc, Int.mul_comm e d, ← Int.mul_assoc]
    omega
  exact Int.lt_of_mul_lt_mul_right a3 (Int.le_of_lt he)
theorem bhE_f {PA WH : Nat → Int} {WT : Nat → Nat} {a b : Nat} : bhE PA WH WT a b = false ↔ PA a * WH b < PA b * WH a ∨ (PA a * WH b = PA b * WH a ∧ WT b ≤ WT a) := by
  unfold bhE
  have h1 := cmpF_gt (n := PA a) (d := WH a) (m := PA b) (e := WH b)
  have h2 := cmpF_eq (n := PA a) (d := WH a) (m := PA b) (e := WH b)
  split
  · rw [decide_eq_false_iff_not]; omega
  · rw [decide_eq_false_iff_not]; omega
theorem bhS_ord {PA WH : Nat → Int} {WT : Nat → Nat} {n : Nat} (hp : ∀ k, k < n → 0 < WH k) : ordOK (bhS PA WH WT n) := by
  constructor
  · intro a b h
    unfold bhS at h ⊢
    by_cases ha : a < n <;> by_cases hb : b < n
    · rw [if_pos ha, if_pos hb] at h
      rw [if_pos hb, if_pos ha]
      cases hz : bhE PA WH WT b a
      · rfl
      · exfalso
        have e1 : ¬ bhE PA WH WT a b = false := by rw [h]; decide
        have e2 : ¬ bhE PA WH WT b a = false := by rw [hz]; decide
        rw [bhE_f] at e1 e2
        omega
    · rw [if_pos ha, if_neg hb] at h; cases h
    · rw [if_pos hb, if_neg ha]
    · rw [if_neg ha, decide_eq_false hb] at h; cases h
  · intro a b c h1 h2
    unfold bhS at h1 h2 ⊢
    by_cases ha : a < n
    · rw [if_pos ha] at h1 ⊢
      by_cases hc : c < n
      · rw [if_pos hc]
        by_cases hb : b < n
        · rw [if_pos hb] at h1 h2
          rw [if_pos hc] at h2
          rw [bhE_f] at h1 h2 ⊢
          have pa := hp a ha; have pb := hp b hb; have pc := hp c hc
          rcases h1 with h1 | ⟨h1, h1'⟩ <;> rcases h2 with h2 | ⟨h2, h2'⟩
          · exact Or.inl (frac_lt_trans pa pb pc (Int.le_of_lt h1) h2)
          · have q := frac_le_trans pa pb pc (Int.le_of_lt h1) (Int.le_of_eq h2)
            have r : PA a * WH c ≠ PA c * WH a := fun z => by
              have := frac_le_trans pb pc pa (Int.le_of_eq h2) (Int.le_of_eq z.symm)
              omega
            exact Or.inl (by omega)
          · exact Or.inl (frac_lt_trans pa pb pc (Int.le_of_eq h1) h2)
          · have q := frac_le_trans pa pb pc (Int.le_of_eq h1) (Int.le_of_eq h2)
            have r := frac_le_trans pc pb pa (Int.le_of_eq h2.symm) (Int.le_of_eq h1.symm)
            exact Or.inr ⟨by omega, by omega⟩
        · rw [if_neg hb, decide_eq_true hc] at h2; cases h2
      · rw [if_neg hc]
    · rw [if_neg ha] at h1 ⊢
      have hb : ¬ b < n := of_decide_eq_false h1
      rw [if_neg hb] at h2
      exact h2
theorem bhS_in {PA WH : Nat → Int} {WT : Nat → Nat} {n a b : Nat} (ha : a < n) (hb : b < n) : bhS PA WH WT n a b = bhE PA WH WT a b := by unfold bhS; rw [if_pos ha, if_pos hb]
theorem isTop_1 {bh : Nat → Nat → Bool} (ho : ordOK bh) {f : Nat → Nat} {n x : Nat} (h1 : 2 * x + 1 < n) (h2 : n ≤ 2 * x + 1 + 1) : isTop bh f n x (2 * x + 1) :=
  ⟨h1, Or.inl rfl, fun j a b c => by rw [show j = 2 * x + 1 by omega]; exact ho.irr _⟩
theorem isTop_2 {bh : Nat → Nat → Bool} (ho : ordOK bh) {f : Nat → Nat} {n x : Nat} (h1 : 2 * x + 1 + 1 < n) (h2 : bh (f (2 * x + 1 + 1)) (f (2 * x + 1)) = false) : isTop bh f n x (2 * x + 1) :=
  ⟨by omega, Or.inl rfl, fun j a b c => by
    rcases (show j = 2 * x + 1 ∨ j = 2 * x + 1 + 1 by omega) with q | q
    · rw [q]; exact ho.irr _
    · rw [q]; exact h2⟩
theorem isTop_3 {bh : Nat → Nat → Bool} (ho : ordOK bh) {f : Nat → Nat} {n x : Nat} (h1 : 2 * x + 1 + 1 < n) (h2 : bh (f (2 * x + 1 + 1)) (f (2 * x + 1)) = true) : isTop bh f n x (2 * x + 1 + 1) :=
  ⟨h1, Or.inr rfl, fun j a b c => by
    rcases (show j = 2 * x + 1 ∨ j = 2 * x + 1 + 1 by omega) with q | q
    · rw [q]; exact ho.1 _ _ h2
    · rw [q]; exact ho.irr _⟩
theorem perm_lt {f g : Nat → Nat} {n b : Nat} (h : (plist g n).Perm (plist f n)) (hf : ∀ k, k < n → f k < b) : ∀ k, k < n → g k < b := by
  intro k hk
  obtain ⟨j, h1, h2⟩ := plist_mem.mp (h.mem_iff.mp (plist_mem.mpr ⟨k, hk, rfl⟩))
  rw [← h2]; exact hf j h1
set_option maxHeartbeats 4000000 in
set_option maxRecDepth 100000 in
theorem metX8_init (lG : Launch) (D : va_G) (dA : Nat → ClassId) (h0 : Nat)  : Wr lG yX8_init (ws_ yX8_init cX8_init 1 none) 1 12 D dA [.ref h0] [(h0, .inr (7, [.null, .null, .null, .null, .null, .null, .int (nI 0)]))] 6 96 (fun (u : Nat × Nat × Nat × Nat × Nat × Nat) => let b1 := u.1; let b2 := u.2.1; let b3 := u.2.2.1; let b4 := u.2.2.2.1; let b5 := u.2.2.2.2.1; let b6 := u.2.2.2.2.2; True) (fun (u : Nat × Nat × Nat × Nat × Nat × Nat) => let b1 := u.1; let b2 := u.2.1; let b3 := u.2.2.1; let b4 := u.2.2.2.1; let b5 := u.2.2.2.2.1; let b6 := u.2.2.2.2.2; none) (fun (u : Nat × Nat × Nat × Nat × Nat × Nat) => let b1 := u.1; let b2 := u.2.1; let b3 := u.2.2.1; let b4 := u.2.2.2.1; let b5 := u.2.2.2.2.1; let b6 := u.2.2.2.2.2; [(h0, .inr (7, [.ref b1, .ref b2, .ref b3, .ref b4, .ref b5, .ref b6, .int (nI 0)])), (b1, .inl (dA 1, 16, .inr (.inl fun j => lZ ((fun _ => 0) j)))), (b2, .inl (dA 1, 16, .inr (.inl fun j => lZ ((fun _ => 0) j)))), (b3, .inl (dA 0, 16, .inl fun j => nI ((fun _ => 0) j))), (b4, .inl (dA 0, 16, .inl fun j => iZ ((fun _ => 0) j))), (b5, .inl (dA 0, 16, .inl fun j => iZ ((fun _ => 0) j))), (b6, .inl (dA 0, 16, .inl fun j => nI ((fun _ => 0) j)))]) := by
  refine Wr.of (by decide) (Nat.le_of_ble_eq_true rfl) ?_
  intro pG eG sG mG bG tG cG ls A hx hb hr hml hown hts hlocks hnm hP hK hD hS hA hl
  have hK1 := hK.1
  have hown : sG.vm.findClass RX8 = some mG.cls := hown
  have hl : lv_has ls 1 [(0, .ref h0)] := hl
  refine lv_aload_n hx hb dX8_init_0 rfl (lv_at hl 0 rfl) ?_
  refine W.objInit hx hb hown (hts _ q258) (hts _ q98) (hts _ q99) rfl (by rw [hml]; exact hl.1) rfl dX8_init_1 (Nat.le_of_ble_eq_true rfl) (Nat.le_of_ble_eq_true rfl) ?_
  refine W.eq (g2 := F0 mG 4 ls []) rfl ?_
  refine lv_aload_n hx hb dX8_init_4 rfl (lv_at hl 0 rfl) ?_
  refine lv_bipush (v := nI 16) hx hb dX8_init_5 (by decide) ?_
  refine zy_newa (atype := .long) (k := 1) (ty := .long) (N' := 16) (a0 := (16, .inr (.inl fun j => lZ ((fun _ => (0 : Int)) j)))) hx hb (hts _ q222) rfl (fun C h => by cases h) rfl hK hP hD hS hA (fun cA => rfl) (by decide) (show 16 * 8 ≤ 536870912 by omega) (show 0 + 1 ≤ 6 by omega) (show 0 + 16 ≤ 96 by omega) dX8_init_7 (fun q_1 H hP hD hS => ?_)
  have hP : va_P D zCl [(h0, .inr (7, [.null, .null, .null, .null, .null, .null, .int (nI 0)])), (q_1, .inl (dA 1, 16, .inr (.inl fun j => lZ ((fun _ => (0 : Int)) j))))] H := hP
  have hD : va_D A [(h0, .inr (7, [.null, .null, .null, .null, .null, .null, .int (nI 0)])), (q_1, .inl (dA 1, 16, .inr (.inl fun j => lZ ((fun _ => (0 : Int)) j))))] := hD
  refine va_put (D := D) (ci := 7) (v := .ref q_1) (ty := .array .long) (C := RX8) (T := TX8) (N := 7) hx hb hts in_X8 tyX8 tyX8_ok nmX8 hown hK.1 hP hD hS 0 rfl rfl 0 (Nat.le_of_ble_eq_true rfl) (hts _ q259) (fun _ h9 => h9) rfl (by decide +kernel) rfl rfl (Nat.le_of_ble_eq_true rfl) dX8_init_9 (fun H locs hP hD hS => ?_)
  have hP : va_P D zCl [(h0, .inr (7, [.ref q_1, .null, .null, .null, .null, .null, .int (nI 0)])), (q_1, .inl (dA 1, 16, .inr (.inl fun j => lZ ((fun _ => (0 : Int)) j))))] H := hP
  have hD : va_D A [(h0, .inr (7, [.ref q_1, .null, .null, .null, .null, .null, .int (nI 0)])), (q_1, .inl (dA 1, 16, .inr (.inl fun j => lZ ((fun _ => (0 : Int)) j))))] := hD
  refine lv_aload_n hx hb dX8_init_12 rfl (lv_at hl 0 rfl) ?_
  refine lv_bipush (v := nI 16) hx hb dX8_init_13 (by decide) ?_
  refine zy_newa (atype := .long) (k := 1) (ty := .long) (N' := 16) (a0 := (16, .inr (.inl fun j => lZ ((fun _ => (0 : Int)) j)))) hx hb (hts _ q222) rfl (fun C h => by cases h) rfl hK hP hD hS hA (fun cA => rfl) (by decide) (show 16 * 8 ≤ 536870912 by omega) (show 1 + 1 ≤ 6 by omega) (show 16 + 16 ≤ 96 by omega) dX8_init_15 (fun q_2 H hP hD hS => ?_)
  have hP : va_P D zCl [(h0, .inr (7, [.ref q_1, .null, .null, .null, .null, .null, .int (nI 0)])), (q_1, .inl (dA 1, 16, .inr (.inl fun j => lZ ((fun _ => (0 : Int)) j)))), (q_2, .inl (dA 1, 16, .inr (.inl fun j => lZ ((fun _ => (0 : Int)) j))))] H := hP
  have hD : va_D A [(h0, .inr (7, [.ref q_1, .null, .null, .null, .null, .null, .int (nI 0)])), (q_1, .inl (dA 1, 16, .inr (.inl fun j => lZ ((fun _ => (0 : Int)) j)))), (q_2, .inl (dA 1, 16, .inr (.inl fun j => lZ ((fun _ => (0 : Int)) j))))] := hD
  refine va_put (D := D) (ci := 7) (v := .ref q_2) (ty := .array .long) (C := RX8) (T := TX8) (N := 7) hx hb hts in_X8 tyX8 tyX8_ok nmX8 hown hK.1 hP hD hS 0 rfl rfl 1 (Nat.le_of_ble_eq_true rfl) (hts _ q260) (fun _ h9 => h9) rfl (by decide +kernel) rfl rfl (Nat.le_of_ble_eq_true rfl) dX8_init_17 (fun H locs hP hD hS => ?_)
  have hP : va_P D zCl [(h0, .inr (7, [.ref q_1, .ref q_2, .null, .null, .null, .null, .int (nI 0)])), (q_1, .inl (dA 1, 16, .inr (.inl fun j => lZ ((fun _ => (0 : Int)) j)))), (q_2, .inl (dA 1, 16, .inr (.inl fun j => lZ ((fun _ => (0 : Int)) j))))] H := hP
  have hD : va_D A [(h0, .inr (7, [.ref q_1, .ref q_2, .null, .null, .null, .null, .int (nI 0)])), (q_1, .inl (dA 1, 16, .inr (.inl fun j => lZ ((fun _ => (0 : Int)) j)))), (q_2, .inl (dA 1, 16, .inr (.inl fun j => lZ ((fun _ => (0 : Int)) j))))] := hD
  refine lv_aload_n hx hb dX8_init_20 rfl (lv_at hl 0 rfl) ?_
  refine lv_bipush (v := nI 16) hx hb dX8_init_21 (by decide) ?_
  refine zy_newa (atype := .int) (k := 0) (ty := .int) (N' := 16) (a0 := (16, .inl fun j => nI ((fun _ => (0 : Nat)) j))) hx hb (hts _ q144) rfl (fun C h => by cases h) rfl hK hP hD hS hA (fun cA => rfl) (by decide) (show 16 * 4 ≤ 536870912 by omega) (show 2 + 1 ≤ 6 by omega) (show 32 + 16 ≤ 96 by omega) dX8_init_23 (fun q_3 H hP hD hS => ?_)
  have hP : va_P D zCl [(h0, .inr (7, [.ref q_1, .ref q_2, .null, .null, .null, .null, .int (nI 0)])), (q_1, .inl (dA 1, 16, .inr (.inl fun j => lZ ((fun _ => (0 : Int)) j)))), (q_2, .inl (dA 1, 16, .inr (.inl fun j => lZ ((fun _ => (0 : Int)) j)))), (q_3, .inl (dA 0, 16, .inl fun j => nI ((fun _ => (0 : Nat)) j)))] H := hP
  have hD : va_D A [(h0, .inr (7, [.ref q_1, .ref q_2, .null, .null, .null, .null, .int (nI 0)])), (q_1, .inl (dA 1, 16, .inr (.inl fun j => lZ ((fun _ => (0 : Int)) j)))), (q_2, .inl (dA 1, 16, .inr (.inl fun j => lZ ((fun _ => (0 : Int)) j)))), (q_3, .inl (dA 0, 16, .inl fun j => nI ((fun _ => (0 : Nat)) j)))] := hD
  refine va_put (D := D) (ci := 7) (v := .ref q_3) (ty := .array .int) (C := RX8) (T := TX8) (N := 7) hx hb hts in_X8 tyX8 tyX8_ok nmX8 hown hK.1 hP hD hS 0 rfl rfl 2 (Nat.le_of_ble_eq_true rfl) (hts _ q261) (fun _ h9 => h9) rfl (by decide +kernel) rfl rfl (Nat.le_of_ble_eq_true rfl) dX8_init_25 (fun H locs hP hD hS => ?_)
  have hP : va_P D zCl [(h0, .inr (7, [.ref q_1, .ref q_2, .ref q_3, .null, .null, .null, .int (nI 0)])), (q_1, .inl (dA 1, 16, .inr (.inl fun j => lZ ((fun _ => (0 : Int)) j)))), (q_2, .inl (dA 1, 16, .inr (.inl fun j => lZ ((fun _ => (0 : Int)) j)))), (q_3, .inl (dA 0, 16, .inl fun j => nI ((fun _ => (0 : Nat)) j)))] H := hP
  have hD : va_D A [(h0, .inr (7, [.ref q_1, .ref q_2, .ref q_3, .null, .null, .null, .int (nI 0)])), (q_1, .inl (dA 1, 16, .inr (.inl fun j => lZ ((fun _ => (0 : Int)) j)))), (q_2, .inl (dA 1, 16, .inr (.inl fun j => lZ ((fun _ => (0 : Int)) j)))), (q_3, .inl (dA 0, 16, .inl fun j => nI ((fun _ => (0 : Nat)) j)))] := hD
  refine lv_aload_n hx hb dX8_init_28 rfl (lv_at hl 0 rfl) ?_
  refine lv_bipush (v := nI 16) hx hb dX8_init_29 (by decide) ?_
  refine zy_newa (atype := .int) (k := 0) (ty := .int) (N' := 16) (a0 := (16, .inl fun j => iZ ((fun _ => (0 : Int)) j))) hx hb (hts _ q144) rfl (fun C h => by cases h) rfl hK hP hD hS hA (fun cA => rfl) (by decide) (show 16 * 4 ≤ 536870912 by omega) (show 3 + 1 ≤ 6 by omega) (show 48 + 16 ≤ 96 by omega) dX8_init_31 (fun q_4 H hP hD hS => ?_)
  have hP : va_P D zCl [(h0, .inr (7, [.ref q_1, .ref q_2, .ref q_3, .null, .null, .null, .int (nI 0)])), (q_1, .inl (dA 1, 16, .inr (.inl fun j => lZ ((fun _ => (0 : Int)) j)))), (q_2, .inl (dA 1, 16, .inr (.inl fun j => lZ ((fun _ => (0 : Int)) j)))), (q_3, .inl (dA 0, 16, .inl fun j => nI ((fun _ => (0 : Nat)) j))), (q_4, .inl (dA 0, 16, .inl fun j => iZ ((fun _ => (0 : Int)) j)))] H := hP
  have hD : va_D A [(h0, .inr (7, [.ref q_1, .ref q_2, .ref q_3, .null, .null, .null, .int (nI 0)])), (q_1, .inl (dA 1, 16, .inr (.inl fun j => lZ ((fun _ => (0 : Int)) j)))), (q_2, .inl (dA 1, 16, .inr (.inl fun j => lZ ((fun _ => (0 : Int)) j)))), (q_3, .inl (dA 0, 16, .inl fun j => nI ((fun _ => (0 : Nat)) j))), (q_4, .inl (dA 0, 16, .inl fun j => iZ ((fun _ => (0 : Int)) j)))] := hD
  refine va_put (D := D) (ci := 7) (v := .ref q_4) (ty := .array .int) (C := RX8) (T := TX8) (N := 7) hx hb hts in_X8 tyX8 tyX8_ok nmX8 hown hK.1 hP hD hS 0 rfl rfl 3 (Nat.le_of_ble_eq_true rfl) (hts _ q263) (fun _ h9 => h9) rfl (by decide +kernel) rfl rfl (Nat.le_of_ble_eq_true rfl) dX8_init_33 (fun H locs hP hD hS => ?_)
  have hP : va_P D zCl [(h0, .inr (7, [.ref q_1, .ref q_2, .ref q_3, .ref q_4, .null, .null, .int (nI 0)])), (q_1, .inl (dA 1, 16, .inr (.inl fun j => lZ ((fun _ => (0 : Int)) j)))), (q_2, .inl (dA 1, 16, .inr (.inl fun j => lZ ((fun _ => (0 : Int)) j)))), (q_3, .inl (dA 0, 16, .inl fun j => nI ((fun _ => (0 : Nat)) j))), (q_4, .inl (dA 0, 16, .inl fun j => iZ ((fun _ => (0 : Int)) j)))] H := hP
  have hD : va_D A [(h0, .inr (7, [.ref q_1, .ref q_2, .ref q_3, .ref q_4, .null, .null, .int (nI 0)])), (q_1, .inl (dA 1, 16, .inr (.inl fun j => lZ ((fun _ => (0 : Int)) j)))), (q_2, .inl (dA 1, 16, .inr (.inl fun j => lZ ((fun _ => (0 : Int)) j)))), (q_3, .inl (dA 0, 16, .inl fun j => nI ((fun _ => (0 : Nat)) j))), (q_4, .inl (dA 0, 16, .inl fun j => iZ ((fun _ => (0 : Int)) j)))] := hD
  refine lv_aload_n hx hb dX8_init_36 rfl (lv_at hl 0 rfl) ?_
  refine lv_bipush (v := nI 16) hx hb dX8_init_37 (by decide) ?_
  refine zy_newa (atype := .int) (k := 0) (ty := .int) (N' := 16) (a0 := (16, .inl fun j => iZ ((fun _ => (0 : Int)) j))) hx hb (hts _ q144) rfl (fun C h => by cases h) rfl hK hP hD hS hA (fun cA => rfl) (by decide) (show 16 * 4 ≤ 536870912 by omega) (show 4 + 1 ≤ 6 by omega) (show 64 + 16 ≤ 96 by omega) dX8_init_39 (fun q_5 H hP hD hS => ?_)
  have hP : va_P D zCl [(h0, .inr (7, [.ref q_1, .ref q_2, .ref q_3, .ref q_4, .null, .null, .int (nI 0)])), (q_1, .inl (dA 1, 16, .inr (.inl fun j => lZ ((fun _ => (0 : Int)) j)))), (q_2, .inl (dA 1, 16, .inr (.inl fun j => lZ ((fun _ => (0 : Int)) j)))), (q_3, .inl (dA 0, 16, .inl fun j => nI ((fun _ => (0 : Nat)) j))), (q_4, .inl (dA 0, 16, .inl fun j => iZ ((fun _ => (0 : Int)) j))), (q_5, .inl (dA 0, 16, .inl fun j => iZ ((fun _ => (0 : Int)) j)))] H := hP
  have hD : va_D A [(h0, .inr (7, [.ref q_1, .ref q_2, .ref q_3, .ref q_4, .null, .null, .int (nI 0)])), (q_1, .inl (dA 1, 16, .inr (.inl fun j => lZ ((fun _ => (0 : Int)) j)))), (q_2, .inl (dA 1, 16, .inr (.inl fun j => lZ ((fun _ => (0 : Int)) j)))), (q_3, .inl (dA 0, 16, .inl fun j => nI ((fun _ => (0 : Nat)) j))), (q_4, .inl (dA 0, 16, .inl fun j => iZ ((fun _ => (0 : Int)) j))), (q_5, .inl (dA 0, 16, .inl fun j => iZ ((fun _ => (0 : Int)) j)))] := hD
  refine va_put (D := D) (ci := 7) (v := .ref q_5) (ty := .array .int) (C := RX8) (T := TX8) (N := 7) hx hb hts in_X8 tyX8 tyX8_ok nmX8 hown hK.1 hP hD hS 0 rfl rfl 4 (Nat.le_of_ble_eq_true rfl) (hts _ q265) (fun _ h9 => h9) rfl (by decide +kernel) rfl rfl (Nat.le_of_ble_eq_true rfl) dX8_init_41 (fun H locs hP hD hS => ?_)
  have hP : va_P D zCl [(h0, .inr (7, [.ref q_1, .ref q_2, .ref q_3, .ref q_4, .ref q_5, .null, .int (nI 0)])), (q_1, .inl (dA 1, 16, .inr (.inl fun j => lZ ((fun _ => (0 : Int)) j)))), (q_2, .inl (dA 1, 16, .inr (.inl fun j => lZ ((fun _ => (0 : Int)) j)))), (q_3, .inl (dA 0, 16, .inl fun j => nI ((fun _ => (0 : Nat)) j))), (q_4, .inl (dA 0, 16, .inl fun j => iZ ((fun _ => (0 : Int)) j))), (q_5, .inl (dA 0, 16, .inl fun j => iZ ((fun _ => (0 : Int)) j)))] H := hP
  have hD : va_D A [(h0, .inr (7, [.ref q_1, .ref q_2, .ref q_3, .ref q_4, .ref q_5, .null, .int (nI 0)])), (q_1, .inl (dA 1, 16, .inr (.inl fun j => lZ ((fun _ => (0 : Int)) j)))), (q_2, .inl (dA 1, 16, .inr (.inl fun j => lZ ((fun _ => (0 : Int)) j)))), (q_3, .inl (dA 0, 16, .inl fun j => nI ((fun _ => (0 : Nat)) j))), (q_4, .inl (dA 0, 16, .inl fun j => iZ ((fun _ => (0 : Int)) j))), (q_5, .inl (dA 0, 16, .inl fun j => iZ ((fun _ => (0 : Int)) j)))] := hD
  refine lv_aload_n hx hb dX8_init_44 rfl (lv_at hl 0 rfl) ?_
  refine lv_bipush (v := nI 16) hx hb dX8_init_45 (by decide) ?_
  refine zy_newa (atype := .int) (k := 0) (ty := .int) (N' := 16) (a0 := (16, .inl fun j => nI ((fun _ => (0 : Nat)) j))) hx hb (hts _ q144) rfl (fun C h => by cases h) rfl hK hP hD hS hA (fun cA => rfl) (by decide) (show 16 * 4 ≤ 536870912 by omega) (show 5 + 1 ≤ 6 by omega) (show 80 + 16 ≤ 96 by omega) dX8_init_47 (fun q_6 H hP hD hS => ?_)
  have hP : va_P D zCl [(h0, .inr (7, [.ref q_1, .ref q_2, .ref q_3, .ref q_4, .ref q_5, .null, .int (nI 0)])), (q_1, .inl (dA 1, 16, .inr (.inl fun j => lZ ((fun _ => (0 : Int)) j)))), (q_2, .inl (dA 1, 16, .inr (.inl fun j => lZ ((fun _ => (0 : Int)) j)))), (q_3, .inl (dA 0, 16, .inl fun j => nI ((fun _ => (0 : Nat)) j))), (q_4, .inl (dA 0, 16, .inl fun j => iZ ((fun _ => (0 : Int)) j))), (q_5, .inl (dA 0, 16, .inl fun j => iZ ((fun _ => (0 : Int)) j))), (q_6, .inl (dA 0, 16, .inl fun j => nI ((fun _ => (0 : Nat)) j)))] H := hP
  have hD : va_D A [(h0, .inr (7, [.ref q_1, .ref q_2, .ref q_3, .ref q_4, .ref q_5, .null, .int (nI 0)])), (q_1, .inl (dA 1, 16, .inr (.inl fun j => lZ ((fun _ => (0 : Int)) j)))), (q_2, .inl (dA 1, 16, .inr (.inl fun j => lZ ((fun _ => (0 : Int)) j)))), (q_3, .inl (dA 0, 16, .inl fun j => nI ((fun _ => (0 : Nat)) j))), (q_4, .inl (dA 0, 16, .inl fun j => iZ ((fun _ => (0 : Int)) j))), (q_5, .inl (dA 0, 16, .inl fun j => iZ ((fun _ => (0 : Int)) j))), (q_6, .inl (dA 0, 16, .inl fun j => nI ((fun _ => (0 : Nat)) j)))] := hD
  refine va_put (D := D) (ci := 7) (v := .ref q_6) (ty := .array .int) (C := RX8) (T := TX8) (N := 7) hx hb hts in_X8 tyX8 tyX8_ok nmX8 hown hK.1 hP hD hS 0 rfl rfl 5 (Nat.le_of_ble_eq_true rfl) (hts _ q267) (fun _ h9 => h9) rfl (by decide +kernel) rfl rfl (Nat.le_of_ble_eq_true rfl) dX8_init_49 (fun H locs hP hD hS => ?_)
  have hP : va_P D zCl [(h0, .inr (7, [.ref q_1, .ref q_2, .ref q_3, .ref q_4, .ref q_5, .ref q_6, .int (nI 0)])), (q_1, .inl (dA 1, 16, .inr (.inl fun j => lZ ((fun _ => (0 : Int)) j)))), (q_2, .inl (dA 1, 16, .inr (.inl fun j => lZ ((fun _ => (0 : Int)) j)))), (q_3, .inl (dA 0, 16, .inl fun j => nI ((fun _ => (0 : Nat)) j))), (q_4, .inl (dA 0, 16, .inl fun j => iZ ((fun _ => (0 : Int)) j))), (q_5, .inl (dA 0, 16, .inl fun j => iZ ((fun _ => (0 : Int)) j))), (q_6, .inl (dA 0, 16, .inl fun j => nI ((fun _ => (0 : Nat)) j)))] H := hP
  have hD : va_D A [(h0, .inr (7, [.ref q_1, .ref q_2, .ref q_3, .ref q_4, .ref q_5, .ref q_6, .int (nI 0)])), (q_1, .inl (dA 1, 16, .inr (.inl fun j => lZ ((fun _ => (0 : Int)) j)))), (q_2, .inl (dA 1, 16, .inr (.inl fun j => lZ ((fun _ => (0 : Int)) j)))), (q_3, .inl (dA 0, 16, .inl fun j => nI ((fun _ => (0 : Nat)) j))), (q_4, .inl (dA 0, 16, .inl fun j => iZ ((fun _ => (0 : Int)) j))), (q_5, .inl (dA 0, 16, .inl fun j => iZ ((fun _ => (0 : Int)) j))), (q_6, .inl (dA 0, 16, .inl fun j => nI ((fun _ => (0 : Nat)) j)))] := hD
  exact zr_wrV (u := (q_1, q_2, q_3, q_4, q_5, q_6)) rfl trivial (hP.sub [0, 1, 2, 3, 4, 5, 6] rfl) (hD.sub [0, 1, 2, 3, 4, 5, 6] (by decide) rfl) hS hx hb hr hlocks dX8_init_52
set_option maxHeartbeats 4000000 in
set_option maxRecDepth 100000 in
theorem metX8_clear (lG : Launch) (D : va_G) (dA : Nat → ClassId) (h0 : Nat) (p1 : Nat) (p2 : Nat) (p3 : Nat) (p4 : Nat) (p5 : Nat) (p6 : Nat) (nc : Nat) (sz : Nat) (PA : Nat → Int) (WH : Nat → Int) (WT : Nat → Nat) (VX : Nat → Int) (VY : Nat → Int) (OR_ : Nat → Nat)  : Wr lG yX8_clear (ws_ yX8_clear cX8_clear 1 none) 0 0 D dA [.ref h0] [(h0, .inr (7, [.ref p1, .ref p2, .ref p3, .ref p4, .ref p5, .ref p6, .int (nI sz)])), (p1, .inl (dA 1, nc, .inr (.inl fun j => lZ (PA j)))), (p2, .inl (dA 1, nc, .inr (.inl fun j => lZ (WH j)))), (p3, .inl (dA 0, nc, .inl fun j => nI (WT j))), (p4, .inl (dA 0, nc, .inl fun j => iZ (VX j))), (p5, .inl (dA 0, nc, .inl fun j => iZ (VY j))), (p6, .inl (dA 0, nc, .inl fun j => nI (OR_ j)))] 0 0 (fun (_u : Unit) => True) (fun (_u : Unit) => none) (fun (_u : Unit) => [(h0, .inr (7, [.ref p1, .ref p2, .ref p3, .ref p4, .ref p5, .ref p6, .int (nI 0)])), (p1, .inl (dA 1, nc, .inr (.inl fun j => lZ (PA j)))), (p2, .inl (dA 1, nc, .inr (.inl fun j => lZ (WH j)))), (p3, .inl (dA 0, nc, .inl fun j => nI (WT j))), (p4, .inl (dA 0, nc, .inl fun j => iZ (VX j))), (p5, .inl (dA 0, nc, .inl fun j => iZ (VY j))), (p6, .inl (dA 0, nc, .inl fun j => nI (OR_ j)))]) := by
  refine Wr.of (by decide) (Nat.le_of_ble_eq_true rfl) ?_
  intro pG eG sG mG bG tG cG ls A hx hb hr hml hown hts hlocks hnm hP hK hD hS hA hl
  have hK1 := hK.1
  have hown : sG.vm.findClass RX8 = some mG.cls := hown
  have hl : lv_has ls 1 [(0, .ref h0)] := hl
  refine lv_aload_n hx hb dX8_clear_0 rfl (lv_at hl 0 rfl) ?_
  refine lv_iconst (v := nI 0) hx hb dX8_clear_1 (by decide) ?_
  refine va_put (D := D) (ci := 7) (v := .int (nI 0)) (ty := .int) (C := RX8) (T := TX8) (N := 7) hx hb hts in_X8 tyX8 tyX8_ok nmX8 hown hK.1 hP hD hS 0 rfl rfl 6 (Nat.le_of_ble_eq_true rfl) (hts _ q269) (fun _ h9 => h9) rfl (by decide +kernel) rfl rfl (Nat.le_of_ble_eq_true rfl) dX8_clear_2 (fun H locs hP hD hS => ?_)
  have hP : va_P D zCl [(h0, .inr (7, [.ref p1, .ref p2, .ref p3, .ref p4, .ref p5, .ref p6, .int (nI 0)])), (p1, .inl (dA 1, nc, .inr (.inl fun j => lZ (PA j)))), (p2, .inl (dA 1, nc, .inr (.inl fun j => lZ (WH j)))), (p3, .inl (dA 0, nc, .inl fun j => nI (WT j))), (p4, .inl (dA 0, nc, .inl fun j => iZ (VX j))), (p5, .inl (dA 0, nc, .inl fun j => iZ (VY j))), (p6, .inl (dA 0, nc, .inl fun j => nI (OR_ j)))] H := hP
  have hD : va_D A [(h0, .inr (7, [.ref p1, .ref p2, .ref p3, .ref p4, .ref p5, .ref p6, .int (nI 0)])), (p1, .inl (dA 1, nc, .inr (.inl fun j => lZ (PA j)))), (p2, .inl (dA 1, nc, .inr (.inl fun j => lZ (WH j)))), (p3, .inl (dA 0, nc, .inl fun j => nI (WT j))), (p4, .inl (dA 0, nc, .inl fun j => iZ (VX j))), (p5, .inl (dA 0, nc, .inl fun j => iZ (VY j))), (p6, .inl (dA 0, nc, .inl fun j => nI (OR_ j)))] := hD
  exact zr_wrV (u := ()) rfl trivial (hP.sub [0, 1, 2, 3, 4, 5, 6] rfl) (hD.sub [0, 1, 2, 3, 4, 5, 6] (by decide) rfl) hS hx hb hr hlocks dX8_clear_5
set_option maxHeartbeats 4000000 in
set_option maxRecDepth 100000 in
theorem metX8_longer (lG : Launch) (D : va_G) (dA : Nat → ClassId) (h0 : Nat) (n0 : Nat) (f : Nat → Int) (n : Nat) (hn : n0 ≤ n) (hn2 : n ≤ 65536) : Wr lG yX8_longer (ws_ yX8_longer cX8_longer 3 (some (.array .long))) 1 40 D dA [.ref h0, .int (nI n)] [(h0, .inl (dA 1, n0, .inr (.inl fun j => lZ (f j))))] 1 n (fun (u : Nat) => let qn := u; True) (fun (u : Nat) => let qn := u; some (.ref qn)) (fun (u : Nat) => let qn := u; [(h0, .inl (dA 1, n0, .inr (.inl fun j => lZ (f j)))), (qn, .inl (dA 1, n, .inr (.inl fun j => lZ ((zcpy f (fun _ => 0) n0) j))))]) := by
  refine Wr.of (by decide) (Nat.le_of_ble_eq_true rfl) ?_
  intro pG eG sG mG bG tG cG ls A hx hb hr hml hown hts hlocks hnm hP hK hD hS hA hl
  have hK1 := hK.1
  have hown : sG.vm.findClass RX8 = some mG.cls := hown
  have hl : lv_has ls 3 [(0, .ref h0), (1, .int (nI n))] := hl
  refine lv_iload_n hx hb dX8_longer_0 rfl (lv_at hl 1 rfl) ?_
  refine zy_newa (atype := .long) (k := 1) (ty := .long) (N' := n) (a0 := (n, .inr (.inl fun j => lZ ((fun _ => (0 : Int)) j)))) hx hb (hts _ q222) rfl (fun C h => by cases h) rfl hK hP hD hS hA (fun cA => rfl) (by omega) (show n * 8 ≤ 536870912 by omega) (show 0 + 1 ≤ 1 by omega) (show 0 + n ≤ n by omega) dX8_longer_1 (fun q_1 H hP hD hS => ?_)
  have hP : va_P D zCl [(h0, .inl (dA 1, n0, .inr (.inl fun j => lZ (f j)))), (q_1, .inl (dA 1, n, .inr (.inl fun j => lZ ((fun _ => (0 : Int)) j))))] H := hP
  have hD : va_D A [(h0, .inl (dA 1, n0, .inr (.inl fun j => lZ (f j)))), (q_1, .inl (dA 1, n, .inr (.inl fun j => lZ ((fun _ => (0 : Int)) j))))] := hD
  refine lv_astore_n (lv' := [(2, .ref q_1), (0, .ref h0), (1, .int (nI n))]) hx hb dX8_longer_3 rfl hl (by decide) rfl (fun ls hl => ?_)
  refine lv_aload_n hx hb dX8_longer_4 rfl (lv_at hl 1 rfl) ?_
  refine lv_iconst (v := nI 0) hx hb dX8_longer_5 (by decide) ?_
  refine lv_aload_n hx hb dX8_longer_6 rfl (lv_at hl 0 rfl) ?_
  refine lv_iconst (v := nI 0) hx hb dX8_longer_7 (by decide) ?_
  refine lv_aload_n hx hb dX8_longer_8 rfl (lv_at hl 1 rfl) ?_
  refine va_alen (v := nI n0) hx hb hK.1 hP 0 1 rfl rfl rfl dX8_longer_9 ?_
  refine zz_copyl (k := n0) hx hb (by rw [hml]; exact hl.1.symm) hown (hts _ q548) (hts _ q399) (hts _ q398) (hts _ q89) hK hP hD hS 0 1 rfl rfl (by omega) (by omega) (by omega) (Nat.le_of_ble_eq_true rfl) (Nat.le_of_ble_eq_true rfl) dX8_longer_10 (fun H locs hP hD hS => ?_)
  have hP : va_P D zCl [(h0, .inl (dA 1, n0, .inr (.inl fun j => lZ (f j)))), (q_1, .inl (dA 1, n, .inr (.inl fun j => lZ ((zcpy f (fun _ => (0 : Int)) n0) j))))] H := hP
  have hD : va_D A [(h0, .inl (dA 1, n0, .inr (.inl fun j => lZ (f j)))), (q_1, .inl (dA 1, n, .inr (.inl fun j => lZ ((zcpy f (fun _ => (0 : Int)) n0) j))))] := hD
  refine lv_aload_n hx hb dX8_longer_13 rfl (lv_at hl 0 rfl) ?_
  refine W.widen (k := 1) (n := n) (by omega) (by omega) ?_
  exact zr_wrA (u := (q_1)) rfl trivial (hP.sub [0, 1] rfl) (hD.sub [0, 1] (by decide) rfl) hS (Or.inr ⟨_, rfl⟩) hx hb hr hlocks dX8_longer_14
set_option maxHeartbeats 4000000 in
set_option maxRecDepth 100000 in
theorem metX8_grow (lG : Launch) (D : va_G) (dA : Nat → ClassId) (h0 : Nat) (p1 : Nat) (p2 : Nat) (p3 : Nat) (p4 : Nat) (p5 : Nat) (p6 : Nat) (nc : Nat) (sz : Nat) (PA : Nat → Int) (WH : Nat → Int) (WT : Nat → Nat) (VX : Nat → Int) (VY : Nat → Int) (OR_ : Nat → Nat) (hnc : nc ≤ 4096) (hsz : sz = nc) : Wr lG yX8_grow (ws_ yX8_grow cX8_grow 2 none) 2 62 D dA [.ref h0] [(h0, .inr (7, [.ref p1, .ref p2, .ref p3, .ref p4, .ref p5, .ref p6, .int (nI sz)])), (p1, .inl (dA 1, nc, .inr (.inl fun j => lZ (PA j)))), (p2, .inl (dA 1, nc, .inr (.inl fun j => lZ (WH j)))), (p3, .inl (dA 0, nc, .inl fun j => nI (WT j))), (p4, .inl (dA 0, nc, .inl fun j => iZ (VX j))), (p5, .inl (dA 0, nc, .inl fun j => iZ (VY j))), (p6, .inl (dA 0, nc, .inl fun j => nI (OR_ j)))] 6 (12 * sz) (fun (u : Nat × Nat × Nat × Nat × Nat × Nat) => let b1 := u.1; let b2 := u.2.1; let b3 := u.2.2.1; let b4 := u.2.2.2.1; let b5 := u.2.2.2.2.1; let b6 := u.2.2.2.2.2; True) (fun (u : Nat × Nat × Nat × Nat × Nat × Nat) => let b1 := u.1; let b2 := u.2.1; let b3 := u.2.2.1; let b4 := u.2.2.2.1; let b5 := u.2.2.2.2.1; let b6 := u.2.2.2.2.2; none) (fun (u : Nat × Nat × Nat × Nat × Nat × Nat) => let b1 := u.1; let b2 := u.2.1; let b3 := u.2.2.1; let b4 := u.2.2.2.1; let b5 := u.2.2.2.2.1; let b6 := u.2.2.2.2.2; [(h0, .inr (7, [.ref b1, .ref b2, .ref b3, .ref b4, .ref b5, .ref b6, .int (nI sz)])), (b1, .inl (dA 1, 2 * sz, .inr (.inl fun j => lZ ((zcpy PA (fun _ => 0) nc) j)))), (b2, .inl (dA 1, 2 * sz, .inr (.inl fun j => lZ ((zcpy WH (fun _ => 0) nc) j)))), (b3, .inl (dA 0, 2 * sz, .inl fun j => nI ((zcpy WT (fun _ => 0) nc) j))), (b4, .inl (dA 0, 2 * sz, .inl fun j => iZ ((zcpy VX (fun _ => 0) nc) j))), (b5, .inl (dA 0, 2 * sz, .inl fun j => iZ ((zcpy VY (fun _ => 0) nc) j))), (b6, .inl (dA 0, 2 * sz, .inl fun j => nI ((zcpy OR_ (fun _ => 0) nc) j)))]) := by
  refine Wr.of (by decide) (Nat.le_of_ble_eq_true rfl) ?_
  intro pG eG sG mG bG tG cG ls A hx hb hr hml hown hts hlocks hnm hP hK hD hS hA hl
  have hK1 := hK.1
  have hown : sG.vm.findClass RX8 = some mG.cls := hown
  have hl : lv_has ls 2 [(0, .ref h0)] := hl
  refine lv_iconst (v := nI 2) hx hb dX8_grow_0 (by decide) ?_
  refine lv_aload_n hx hb dX8_grow_1 rfl (lv_at hl 0 rfl) ?_
  refine va_get (D := D) (ci := 7) (v := .int (nI sz)) (C := RX8) (T := TX8) (N := 7) hx hb hts in_X8 hown hK.1 hP 0 rfl rfl 6 (Nat.le_of_ble_eq_true rfl) (hts _ q269) (fun _ h9 => h9) rfl dX8_grow_2 ?_
  refine zn_imul hx hb dX8_grow_5 ?_
  refine lv_istore_n (lv' := [(1, .int (nI (2 * sz))), (0, .ref h0)]) hx hb dX8_grow_6 rfl hl (by decide) rfl (fun ls hl => ?_)
  refine lv_aload_n hx hb dX8_grow_7 rfl (lv_at hl 1 rfl) ?_
  refine lv_aload_n hx hb dX8_grow_8 rfl (lv_at hl 1 rfl) ?_
  refine va_get (D := D) (ci := 7) (v := .ref p1) (C := RX8) (T := TX8) (N := 7) hx hb hts in_X8 hown hK.1 hP 0 rfl rfl 0 (Nat.le_of_ble_eq_true rfl) (hts _ q259) (fun _ h9 => h9) rfl dX8_grow_9 ?_
  refine lv_iload_n hx hb dX8_grow_12 rfl (lv_at hl 0 rfl) ?_
  refine zc_wrS (rest := [.ref h0]) (wr := [(h0, .inr (7, [.ref p1, .ref p2, .ref p3, .ref p4, .ref p5, .ref p6, .int (nI sz)])), (p2, .inl (dA 1, nc, .inr (.inl fun j => lZ (WH j)))), (p3, .inl (dA 0, nc, .inl fun j => nI (WT j))), (p4, .inl (dA 0, nc, .inl fun j => iZ (VX j))), (p5, .inl (dA 0, nc, .inl fun j => iZ (VY j))), (p6, .inl (dA 0, nc, .inl fun j => nI (OR_ j)))]) ⟨hx, hb, hml, hown, hts⟩ (metX8_longer lG D dA p1 nc PA (2 * sz) (by first | assumption | omega) (by first | assumption | omega)) (va_cwS 2 hts (lw_S q545 q546 q78 q547) rfl rfl rfl (by decide +kernel) ⟨Nat.le_of_ble_eq_true rfl, Nat.le_of_ble_eq_true rfl⟩) hP hK hD hS hA [1] [0, 2, 3, 4, 5, 6] rfl rfl (by decide) (by decide) (by decide) rfl hl.1 rfl (Nat.le_of_ble_eq_true rfl) dX8_grow_13 ⟨show 0 + 1 ≤ 6 by omega, show 0 + ((2 * sz)) ≤ (12 * sz) by omega⟩ (fun u H locs hp_2 hP hD hS => ?_)
  obtain ⟨qn_1, rfl⟩ : ∃ z, z = u := ⟨_, rfl⟩
  have hP : va_P D zCl [(h0, .inr (7, [.ref p1, .ref p2, .ref p3, .ref p4, .ref p5, .ref p6, .int (nI sz)])), (p2, .inl (dA 1, nc, .inr (.inl fun j => lZ (WH j)))), (p3, .inl (dA 0, nc, .inl fun j => nI (WT j))), (p4, .inl (dA 0, nc, .inl fun j => iZ (VX j))), (p5, .inl (dA 0, nc, .inl fun j => iZ (VY j))), (p6, .inl (dA 0, nc, .inl fun j => nI (OR_ j))), (p1, .inl (dA 1, nc, .inr (.inl fun j => lZ (PA j)))), (qn_1, .inl (dA 1, (2 * sz), .inr (.inl fun j => lZ ((zcpy PA (fun _ => 0) nc) j))))] H := hP
  have hD : va_D A [(h0, .inr (7, [.ref p1, .ref p2, .ref p3, .ref p4, .ref p5, .ref p6, .int (nI sz)])), (p2, .inl (dA 1, nc, .inr (.inl fun j => lZ (WH j)))), (p3, .inl (dA 0, nc, .inl fun j => nI (WT j))), (p4, .inl (dA 0, nc, .inl fun j => iZ (VX j))), (p5, .inl (dA 0, nc, .inl fun j => iZ (VY j))), (p6, .inl (dA 0, nc, .inl fun j => nI (OR_ j))), (p1, .inl (dA 1, nc, .inr (.inl fun j => lZ (PA j)))), (qn_1, .inl (dA 1, (2 * sz), .inr (.inl fun j => lZ ((zcpy PA (fun _ => 0) nc) j))))] := hD
  show W _ _ _ _ _ _ _ _ _ _ _ _ 1 (0 + ((2 * sz))) _ (F0 mG 16 ls [.ref qn_1, .ref h0])
  refine va_put (D := D) (ci := 7) (v := .ref qn_1) (ty := .array .long) (C := RX8) (T := TX8) (N := 7) hx hb hts in_X8 tyX8 tyX8_ok nmX8 hown hK.1 hP hD hS 0 rfl rfl 0 (Nat.le_of_ble_eq_true rfl) (hts _ q259) (fun _ h9 => h9) rfl (by decide +kernel) rfl rfl (Nat.le_of_ble_eq_true rfl) dX8_grow_16 (fun H locs hP hD hS => ?_)
  have hP : va_P D zCl [(h0, .inr (7, [.ref qn_1, .ref p2, .ref p3, .ref p4, .ref p5, .ref p6, .int (nI sz)])), (p2, .inl (dA 1, nc, .inr (.inl fun j => lZ (WH j)))), (p3, .inl (dA 0, nc, .inl fun j => nI (WT j))), (p4, .inl (dA 0, nc, .inl fun j => iZ (VX j))), (p5, .inl (dA 0, nc, .inl fun j => iZ (VY j))), (p6, .inl (dA 0, nc, .inl fun j => nI (OR_ j))), (p1, .inl (dA 1, nc, .inr (.inl fun j => lZ (PA j)))), (qn_1, .inl (dA 1, (2 * sz), .inr (.inl fun j => lZ ((zcpy PA (fun _ => 0) nc) j))))] H := hP
  have hD : va_D A [(h0, .inr (7, [.ref qn_1, .ref p2, .ref p3, .ref p4, .ref p5, .ref p6, .int (nI sz)])), (p2, .inl (dA 1, nc, .inr (.inl fun j => lZ (WH j)))), (p3, .inl (dA 0, nc, .inl fun j => nI (WT j))), (p4, .inl (dA 0, nc, .inl fun j => iZ (VX j))), (p5, .inl (dA 0, nc, .inl fun j => iZ (VY j))), (p6, .inl (dA 0, nc, .inl fun j => nI (OR_ j))), (p1, .inl (dA 1, nc, .inr (.inl fun j => lZ (PA j)))), (qn_1, .inl (dA 1, (2 * sz), .inr (.inl fun j => lZ ((zcpy PA (fun _ => 0) nc) j))))] := hD
  refine lv_aload_n hx hb dX8_grow_19 rfl (lv_at hl 1 rfl) ?_
  refine lv_aload_n hx hb dX8_grow_20 rfl (lv_at hl 1 rfl) ?_
  refine va_get (D := D) (ci := 7) (v := .ref p2) (C := RX8) (T := TX8) (N := 7) hx hb hts in_X8 hown hK.1 hP 0 rfl rfl 1 (Nat.le_of_ble_eq_true rfl) (hts _ q260) (fun _ h9 => h9) rfl dX8_grow_21 ?_
  refine lv_iload_n hx hb dX8_grow_24 rfl (lv_at hl 0 rfl) ?_
  refine zc_wrS (rest := [.ref h0]) (wr := [(h0, .inr (7, [.ref qn_1, .ref p2, .ref p3, .ref p4, .ref p5, .ref p6, .int (nI sz)])), (p3, .inl (dA 0, nc, .inl fun j => nI (WT j))), (p4, .inl (dA 0, nc, .inl fun j => iZ (VX j))), (p5, .inl (dA 0, nc, .inl fun j => iZ (VY j))), (p6, .inl (dA 0, nc, .inl fun j => nI (OR_ j))), (p1, .inl (dA 1, nc, .inr (.inl fun j => lZ (PA j)))), (qn_1, .inl (dA 1, (2 * sz), .inr (.inl fun j => lZ ((zcpy PA (fun _ => 0) nc) j))))]) ⟨hx, hb, hml, hown, hts⟩ (metX8_longer lG D dA p2 nc WH (2 * sz) (by first | assumption | omega) (by first | assumption | omega)) (va_cwS 2 hts (lw_S q545 q546 q78 q547) rfl rfl rfl (by decide +kernel) ⟨Nat.le_of_ble_eq_true rfl, Nat.le_of_ble_eq_true rfl⟩) hP hK hD hS hA [1] [0, 2, 3, 4, 5, 6, 7] rfl rfl (by decide) (by decide) (by decide) rfl hl.1 rfl (Nat.le_of_ble_eq_true rfl) dX8_grow_25 ⟨show 1 + 1 ≤ 6 by omega, show (0 + ((2 * sz))) + ((2 * sz)) ≤ (12 * sz) by omega⟩ (fun u H locs hp_4 hP hD hS => ?_)
  obtain ⟨qn_3, rfl⟩ : ∃ z, z = u := ⟨_, rfl⟩
  have hP : va_P D zCl [(h0, .inr (7, [.ref qn_1, .ref p2, .ref p3, .ref p4, .ref p5, .ref p6, .int (nI sz)])), (p3, .inl (dA 0, nc, .inl fun j => nI (WT j))), (p4, .inl (dA 0, nc, .inl fun j => iZ (VX j))), (p5, .inl (dA 0, nc, .inl fun j => iZ (VY j))), (p6, .inl (dA 0, nc, .inl fun j => nI (OR_ j))), (p1, .inl (dA 1, nc, .inr (.inl fun j => lZ (PA j)))), (qn_1, .inl (dA 1, (2 * sz), .inr (.inl fun j => lZ ((zcpy PA (fun _ => 0) nc) j)))), (p2, .inl (dA 1, nc, .inr (.inl fun j => lZ (WH j)))), (qn_3, .inl (dA 1, (2 * sz), .inr (.inl fun j => lZ ((zcpy WH (fun _ => 0) nc) j))))] H := hP
  have hD : va_D A [(h0, .inr (7, [.ref qn_1, .ref p2, .ref p3, .ref p4, .ref p5, .ref p6, .int (nI sz)])), (p3, .inl (dA 0, nc, .inl fun j => nI (WT j))), (p4, .inl (dA 0, nc, .inl fun j => iZ (VX j))), (p5, .inl (dA 0, nc, .inl fun j => iZ (VY j))), (p6, .inl (dA 0, nc, .inl fun j => nI (OR_ j))), (p1, .inl (dA 1, nc, .inr (.inl fun j => lZ (PA j)))), (qn_1, .inl (dA 1, (2 * sz), .inr (.inl fun j => lZ ((zcpy PA (fun _ => 0) nc) j)))), (p2, .inl (dA 1, nc, .inr (.inl fun j => lZ (WH j)))), (qn_3, .inl (dA 1, (2 * sz), .inr (.inl fun j => lZ ((zcpy WH (fun _ => 0) nc) j))))] := hD
  show W _ _ _ _ _ _ _ _ _ _ _ _ 2 ((0 + ((2 * sz))) + ((2 * sz))) _ (F0 mG 28 ls [.ref qn_3, .ref h0])
  refine va_put (D := D) (ci := 7) (v := .ref qn_3) (ty := .array .long) (C := RX8) (T := TX8) (N := 7) hx hb hts in_X8 tyX8 tyX8_ok nmX8 hown hK.1 hP hD hS 0 rfl rfl 1 (Nat.le_of_ble_eq_true rfl) (hts _ q260) (fun _ h9 => h9) rfl (by decide +kernel) rfl rfl (Nat.le_of_ble_eq_true rfl) dX8_grow_28 (fun H locs hP hD hS => ?_)
  have hP : va_P D zCl [(h0, .inr (7, [.ref qn_1, .ref qn_3, .ref p3, .ref p4, .ref p5, .ref p6, .int (nI sz)])), (p3, .inl (dA 0, nc, .inl fun j => nI (WT j))), (p4, .inl (dA 0, nc, .inl fun j => iZ (VX j))), (p5, .inl (dA 0, nc, .inl fun j => iZ (VY j))), (p6, .inl (dA 0, nc, .inl fun j => nI (OR_ j))), (p1, .inl (dA 1, nc, .inr (.inl fun j => lZ (PA j)))), (qn_1, .inl (dA 1, (2 * sz), .inr (.inl fun j => lZ ((zcpy PA (fun _ => 0) nc) j)))), (p2, .inl (dA 1, nc, .inr (.inl fun j => lZ (WH j)))), (qn_3, .inl (dA 1, (2 * sz), .inr (.inl fun j => lZ ((zcpy WH (fun _ => 0) nc) j))))] H := hP
  have hD : va_D A [(h0, .inr (7, [.ref qn_1, .ref qn_3, .ref p3, .ref p4, .ref p5, .ref p6, .int (nI sz)])), (p3, .inl (dA 0, nc, .inl fun j => nI (WT j))), (p4, .inl (dA 0, nc, .inl fun j => iZ (VX j))), (p5, .inl (dA 0, nc, .inl fun j => iZ (VY j))), (p6, .inl (dA 0, nc, .inl fun j => nI (OR_ j))), (p1, .inl (dA 1, nc, .inr (.inl fun j => lZ (PA j)))), (qn_1, .inl (dA 1, (2 * sz), .inr (.inl fun j => lZ ((zcpy PA (fun _ => 0) nc) j)))), (p2, .inl (dA 1, nc, .inr (.inl fun j => lZ (WH j)))), (qn_3, .inl (dA 1, (2 * sz), .inr (.inl fun j => lZ ((zcpy WH (fun _ => 0) nc) j))))] := hD
  refine lv_aload_n hx hb dX8_grow_31 rfl (lv_at hl 1 rfl) ?_
  refine lv_aload_n hx hb dX8_grow_32 rfl (lv_at hl 1 rfl) ?_
  refine va_get (D := D) (ci := 7) (v := .ref p3) (C := RX8) (T := TX8) (N := 7) hx hb hts in_X8 hown hK.1 hP 0 rfl rfl 2 (Nat.le_of_ble_eq_true rfl) (hts _ q261) (fun _ h9 => h9) rfl dX8_grow_33 ?_
  refine lv_iload_n hx hb dX8_grow_36 rfl (lv_at hl 0 rfl) ?_
  refine zc_wrSN (rest := [.ref h0]) (wr := [(h0, .inr (7, [.ref qn_1, .ref qn_3, .ref p3, .ref p4, .ref p5, .ref p6, .int (nI sz)])), (p4, .inl (dA 0, nc, .inl fun j => iZ (VX j))), (p5, .inl (dA 0, nc, .inl fun j => iZ (VY j))), (p6, .inl (dA 0, nc, .inl fun j => nI (OR_ j))), (p1, .inl (dA 1, nc, .inr (.inl fun j => lZ (PA j)))), (qn_1, .inl (dA 1, (2 * sz), .inr (.inl fun j => lZ ((zcpy PA (fun _ => 0) nc) j)))), (p2, .inl (dA 1, nc, .inr (.inl fun j => lZ (WH j)))), (qn_3, .inl (dA 1, (2 * sz), .inr (.inl fun j => lZ ((zcpy WH (fun _ => 0) nc) j))))]) ⟨hx, hb, hml, hown, hts⟩ (metX5_longer_n lG D dA p3 nc WT (2 * sz) (by first | assumption | omega) (by first | assumption | omega)) ⟨(va_cnB 2 hts (lw_meth q396) rfl rfl rfl (hK.2.1 _ zq549) (hts _ q75) (by decide +kernel) ⟨Nat.le_of_ble_eq_true rfl, Nat.le_of_ble_eq_true rfl⟩), hts _ q395, trivial⟩ hP hK hD hS hA [1] [0, 2, 3, 4, 5, 6, 7, 8] rfl rfl (by decide) (by decide) (by decide) rfl hl.1 rfl (Nat.le_of_ble_eq_true rfl) dX8_grow_37 ⟨show 2 + 1 ≤ 6 by omega, show ((0 + ((2 * sz))) + ((2 * sz))) + ((2 * sz)) ≤ (12 * sz) by omega⟩ (fun u H locs hp_6 hP hD hS => ?_)
  obtain ⟨qn_5, rfl⟩ : ∃ z, z = u := ⟨_, rfl⟩
  have hP : va_P D zCl [(h0, .inr (7, [.ref qn_1, .ref qn_3, .ref p3, .ref p4, .ref p5, .ref p6, .int (nI sz)])), (p4, .inl (dA 0, nc, .inl fun j => iZ (VX j))), (p5, .inl (dA 0, nc, .inl fun j => iZ (VY j))), (p6, .inl (dA 0, nc, .inl fun j => nI (OR_ j))), (p1, .inl (dA 1, nc, .inr (.inl fun j => lZ (PA j)))), (qn_1, .inl (dA 1, (2 * sz), .inr (.inl fun j => lZ ((zcpy PA (fun _ => 0) nc) j)))), (p2, .inl (dA 1, nc, .inr (.inl fun j => lZ (WH j)))), (qn_3, .inl (dA 1, (2 * sz), .inr (.inl fun j => lZ ((zcpy WH (fun _ => 0) nc) j)))), (p3, .inl (dA 0, nc, .inl fun j => nI (WT j))), (qn_5, .inl (dA 0, (2 * sz), .inl fun j => nI ((zcpy WT (fun _ => 0) nc) j)))] H := hP
  have hD : va_D A [(h0, .inr (7, [.ref qn_1, .ref qn_3, .ref p3, .ref p4, .ref p5, .ref p6, .int (nI sz)])), (p4, .inl (dA 0, nc, .inl fun j => iZ (VX j))), (p5, .inl (dA 0, nc, .inl fun j => iZ (VY j))), (p6, .inl (dA 0, nc, .inl fun j => nI (OR_ j))), (p1, .inl (dA 1, nc, .inr (.inl fun j => lZ (PA j)))), (qn_1, .inl (dA 1, (2 * sz), .inr (.inl fun j => lZ ((zcpy PA (fun _ => 0) nc) j)))), (p2, .inl (dA 1, nc, .inr (.inl fun j => lZ (WH j)))), (qn_3, .inl (dA 1, (2 * sz), .inr (.inl fun j => lZ ((zcpy WH (fun _ => 0) nc) j)))), (p3, .inl (dA 0, nc, .inl fun j => nI (WT j))), (qn_5, .inl (dA 0, (2 * sz), .inl fun j => nI ((zcpy WT (fun _ => 0) nc) j)))] := hD
  show W _ _ _ _ _ _ _ _ _ _ _ _ 3 (((0 + ((2 * sz))) + ((2 * sz))) + ((2 * sz))) _ (F0 mG 40 ls [.ref qn_5, .ref h0])
  refine va_put (D := D) (ci := 7) (v := .ref qn_5) (ty := .array .int) (C := RX8) (T := TX8) (N := 7) hx hb hts in_X8 tyX8 tyX8_ok nmX8 hown hK.1 hP hD hS 0 rfl rfl 2 (Nat.le_of_ble_eq_true rfl) (hts _ q261) (fun _ h9 => h9) rfl (by decide +kernel) rfl rfl (Nat.le_of_ble_eq_true rfl) dX8_grow_40 (fun H locs hP hD hS => ?_)
  have hP : va_P D zCl [(h0, .inr (7, [.ref qn_1, .ref qn_3, .ref qn_5, .ref p4, .ref p5, .ref p6, .int (nI sz)])), (p4, .inl (dA 0, nc, .inl fun j => iZ (VX j))), (p5, .inl (dA 0, nc, .inl fun j => iZ (VY j))), (p6, .inl (dA 0, nc, .inl fun j => nI (OR_ j))), (p1, .inl (dA 1, nc, .inr (.inl fun j => lZ (PA j)))), (qn_1, .inl (dA 1, (2 * sz), .inr (.inl fun j => lZ ((zcpy PA (fun _ => 0) nc) j)))), (p2, .inl (dA 1, nc, .inr (.inl fun j => lZ (WH j)))), (qn_3, .inl (dA 1, (2 * sz), .inr (.inl fun j => lZ ((zcpy WH (fun _ => 0) nc) j)))), (p3, .inl (dA 0, nc, .inl fun j => nI (WT j))), (qn_5, .inl (dA 0, (2 * sz), .inl fun j => nI ((zcpy WT (fun _ => 0) nc) j)))] H := hP
  have hD : va_D A [(h0, .inr (7, [.ref qn_1, .ref qn_3, .ref qn_5, .ref p4, .ref p5, .ref p6, .int (nI sz)])), (p4, .inl (dA 0, nc, .inl fun j => iZ (VX j))), (p5, .inl (dA 0, nc, .inl fun j => iZ (VY j))), (p6, .inl (dA 0, nc, .inl fun j => nI (OR_ j))), (p1, .inl (dA 1, nc, .inr (.inl fun j => lZ (PA j)))), (qn_1, .inl (dA 1, (2 * sz), .inr (.inl fun j => lZ ((zcpy PA (fun _ => 0) nc) j)))), (p2, .inl (dA 1, nc, .inr (.inl fun j => lZ (WH j)))), (qn_3, .inl (dA 1, (2 * sz), .inr (.inl fun j => lZ ((zcpy WH (fun _ => 0) nc) j)))), (p3, .inl (dA 0, nc, .inl fun j => nI (WT j))), (qn_5, .inl (dA 0, (2 * sz), .inl fun j => nI ((zcpy WT (fun _ => 0) nc) j)))] := hD
  refine lv_aload_n hx hb dX8_grow_43 rfl (lv_at hl 1 rfl) ?_
  refine lv_aload_n hx hb dX8_grow_44 rfl (lv_at hl 1 rfl) ?_
  refine va_get (D := D) (ci := 7) (v := .ref p4) (C := RX8) (T := TX8) (N := 7) hx hb hts in_X8 hown hK.1 hP 0 rfl rfl 3 (Nat.le_of_ble_eq_true rfl) (hts _ q263) (fun _ h9 => h9) rfl dX8_grow_45 ?_
  refine lv_iload_n hx hb dX8_grow_48 rfl (lv_at hl 0 rfl) ?_
  refine zc_wrSN (rest := [.ref h0]) (wr := [(h0, .inr (7, [.ref qn_1, .ref qn_3, .ref qn_5, .ref p4, .ref p5, .ref p6, .int (nI sz)])), (p5, .inl (dA 0, nc, .inl fun j => iZ (VY j))), (p6, .inl (dA 0, nc, .inl fun j => nI (OR_ j))), (p1, .inl (dA 1, nc, .inr (.inl fun j => lZ (PA j)))), (qn_1, .inl (dA 1, (2 * sz), .inr (.inl fun j => lZ ((zcpy PA (fun _ => 0) nc) j)))), (p2, .inl (dA 1, nc, .inr (.inl fun j => lZ (WH j)))), (qn_3, .inl (dA 1, (2 * sz), .inr (.inl fun j => lZ ((zcpy WH (fun _ => 0) nc) j)))), (p3, .inl (dA 0, nc, .inl fun j => nI (WT j))), (qn_5, .inl (dA 0, (2 * sz), .inl fun j => nI ((zcpy WT (fun _ => 0) nc) j)))]) ⟨hx, hb, hml, hown, hts⟩ (metX5_longer_z lG D dA p4 nc VX (2 * sz) (by first | assumption | omega) (by first | assumption | omega)) ⟨(va_cnB 2 hts (lw_meth q396) rfl rfl rfl (hK.2.1 _ zq549) (hts _ q75) (by decide +kernel) ⟨Nat.le_of_ble_eq_true rfl, Nat.le_of_ble_eq_true rfl⟩), hts _ q395, trivial⟩ hP hK hD hS hA [1] [0, 2, 3, 4, 5, 6, 7, 8, 9] rfl rfl (by decide) (by decide) (by decide) rfl hl.1 rfl (Nat.le_of_ble_eq_true rfl) dX8_grow_49 ⟨show 3 + 1 ≤ 6 by omega, show (((0 + ((2 * sz))) + ((2 * sz))) + ((2 * sz))) + ((2 * sz)) ≤ (12 * sz) by omega⟩ (fun u H locs hp_8 hP hD hS => ?_)
  obtain ⟨qn_7, rfl⟩ : ∃ z, z = u := ⟨_, rfl⟩
  have hP : va_P D zCl [(h0, .inr (7, [.ref qn_1, .ref qn_3, .ref qn_5, .ref p4, .ref p5, .ref p6, .int (nI sz)])), (p5, .inl (dA 0, nc, .inl fun j => iZ (VY j))), (p6, .inl (dA 0, nc, .inl fun j => nI (OR_ j))), (p1, .inl (dA 1, nc, .inr (.inl fun j => lZ (PA j)))), (qn_1, .inl (dA 1, (2 * sz), .inr (.inl fun j => lZ ((zcpy PA (fun _ => 0) nc) j)))), (p2, .inl (dA 1, nc, .inr (.inl fun j => lZ (WH j)))), (qn_3, .inl (dA 1, (2 * sz), .inr (.inl fun j => lZ ((zcpy WH (fun _ => 0) nc) j)))), (p3, .inl (dA 0, nc, .inl fun j => nI (WT j))), (qn_5, .inl (dA 0, (2 * sz), .inl fun j => nI ((zcpy WT (fun _ => 0) nc) j))), (p4, .inl (dA 0, nc, .inl fun j => iZ (VX j))), (qn_7, .inl (dA 0, (2 * sz), .inl fun j => iZ ((zcpy VX (fun _ => 0) nc) j)))] H := hP
  have hD : va_D A [(h0, .inr (7, [.ref qn_1, .ref qn_3, .ref qn_5, .ref p4, .ref p5, .ref p6, .int (nI sz)])), (p5, .inl (dA 0, nc, .inl fun j => iZ (VY j))), (p6, .inl (dA 0, nc, .inl fun j => nI (OR_ j))), (p1, .inl (dA 1, nc, .inr (.inl fun j => lZ (PA j)))), (qn_1, .inl (dA 1, (2 * sz), .inr (.inl fun j => lZ ((zcpy PA (fun _ => 0) nc) j)))), (p2, .inl (dA 1, nc, .inr (.inl fun j => lZ (WH j)))), (qn_3, .inl (dA 1, (2 * sz), .inr (.inl fun j => lZ ((zcpy WH (fun _ => 0) nc) j)))), (p3, .inl (dA 0, nc, .inl fun j => nI (WT j))), (qn_5, .inl (dA 0, (2 * sz), .inl fun j => nI ((zcpy WT (fun _ => 0) nc) j))), (p4, .inl (dA 0, nc, .inl fun j => iZ (VX j))), (qn_7, .inl (dA 0, (2 * sz), .inl fun j => iZ ((zcpy VX (fun _ => 0) nc) j)))] := hD
  show W _ _ _ _ _ _ _ _ _ _ _ _ 4 ((((0 + ((2 * sz))) + ((2 * sz))) + ((2 * sz))) + ((2 * sz))) _ (F0 mG 52 ls [.ref qn_7, .ref h0])
  refine va_put (D := D) (ci := 7) (v := .ref qn_7) (ty := .array .int) (C := RX8) (T := TX8) (N := 7) hx hb hts in_X8 tyX8 tyX8_ok nmX8 hown hK.1 hP hD hS 0 rfl rfl 3 (Nat.le_of_ble_eq_true rfl) (hts _ q263) (fun _ h9 => h9) rfl (by decide +kernel) rfl rfl (Nat.le_of_ble_eq_true rfl) dX8_grow_52 (fun H locs hP hD hS => ?_)
  have hP : va_P D zCl [(h0, .inr (7, [.ref qn_1, .ref qn_3, .ref qn_5, .ref qn_7, .ref p5, .ref p6, .int (nI sz)])), (p5, .inl (dA 0, nc, .inl fun j => iZ (VY j))), (p6, .inl (dA 0, nc, .inl fun j => nI (OR_ j))), (p1, .inl (dA 1, nc, .inr (.inl fun j => lZ (PA j)))), (qn_1, .inl (dA 1, (2 * sz), .inr (.inl fun j => lZ ((zcpy PA (fun _ => 0) nc) j)))), (p2, .inl (dA 1, nc, .inr (.inl fun j => lZ (WH j)))), (qn_3, .inl (dA 1, (2 * sz), .inr (.inl fun j => lZ ((zcpy WH (fun _ => 0) nc) j)))), (p3, .inl (dA 0, nc, .inl fun j => nI (WT j))), (qn_5, .inl (dA 0, (2 * sz), .inl fun j => nI ((zcpy WT (fun _ => 0) nc) j))), (p4, .inl (dA 0, nc, .inl fun j => iZ (VX j))), (qn_7, .inl (dA 0, (2 * sz), .inl fun j => iZ ((zcpy VX (fun _ => 0) nc) j)))] H := hP
  have hD : va_D A [(h0, .inr (7, [.ref qn_1, .ref qn_3, .ref qn_5, .ref qn_7, .ref p5, .ref p6, .int (nI sz)])), (p5, .inl (dA 0, nc, .inl fun j => iZ (VY j))), (p6, .inl (dA 0, nc, .inl fun j => nI (OR_ j))), (p1, .inl (dA 1, nc, .inr (.inl fun j => lZ (PA j)))), (qn_1, .inl (dA 1, (2 * sz), .inr (.inl fun j => lZ ((zcpy PA (fun _ => 0) nc) j)))), (p2, .inl (dA 1, nc, .inr (.inl fun j => lZ (WH j)))), (qn_3, .inl (dA 1, (2 * sz), .inr (.inl fun j => lZ ((zcpy WH (fun _ => 0) nc) j)))), (p3, .inl (dA 0, nc, .inl fun j => nI (WT j))), (qn_5, .inl (dA 0, (2 * sz), .inl fun j => nI ((zcpy WT (fun _ => 0) nc) j))), (p4, .inl (dA 0, nc, .inl fun j => iZ (VX j))), (qn_7, .inl (dA 0, (2 * sz), .inl fun j => iZ ((zcpy VX (fun _ => 0) nc) j)))] := hD
  refine lv_aload_n hx hb dX8_grow_55 rfl (lv_at hl 1 rfl) ?_
  refine lv_aload_n hx hb dX8_grow_56 rfl (lv_at hl 1 rfl) ?_
  refine va_get (D := D) (ci := 7) (v := .ref p5) (C := RX8) (T := TX8) (N := 7) hx hb hts in_X8 hown hK.1 hP 0 rfl rfl 4 (Nat.le_of_ble_eq_true rfl) (hts _ q265) (fun _ h9 => h9) rfl dX8_grow_57 ?_
  refine lv_iload_n hx hb dX8_grow_60 rfl (lv_at hl 0 rfl) ?_
  refine zc_wrSN (rest := [.ref h0]) (wr := [(h0, .inr (7, [.ref qn_1, .ref qn_3, .ref qn_5, .ref qn_7, .ref p5, .ref p6, .int (nI sz)])), (p6, .inl (dA 0, nc, .inl fun j => nI (OR_ j))), (p1, .inl (dA 1, nc, .inr (.inl fun j => lZ (PA j)))), (qn_1, .inl (dA 1, (2 * sz), .inr (.inl fun j => lZ ((zcpy PA (fun _ => 0) nc) j)))), (p2, .inl (dA 1, nc, .inr (.inl fun j => lZ (WH j)))), (qn_3, .inl (dA 1, (2 * sz), .inr (.inl fun j => lZ ((zcpy WH (fun _ => 0) nc) j)))), (p3, .inl (dA 0, nc, .inl fun j => nI (WT j))), (qn_5, .inl (dA 0, (2 * sz), .inl fun j => nI ((zcpy WT (fun _ => 0) nc) j))), (p4, .inl (dA 0, nc, .inl fun j => iZ (VX j))), (qn_7, .inl (dA 0, (2 * sz), .inl fun j => iZ ((zcpy VX (fun _ => 0) nc) j)))]) ⟨hx, hb, hml, hown, hts⟩ (metX5_longer_z lG D dA p5 nc VY (2 * sz) (by first | assumption | omega) (by first | assumption | omega)) ⟨(va_cnB 2 hts (lw_meth q396) rfl rfl rfl (hK.2.1 _ zq549) (hts _ q75) (by decide +kernel) ⟨Nat.le_of_ble_eq_true rfl, Nat.le_of_ble_eq_true rfl⟩), hts _ q395, trivial⟩ hP hK hD hS hA [1] [0, 2, 3, 4, 5, 6, 7, 8, 9, 10] rfl rfl (by decide) (by decide) (by decide) rfl hl.1 rfl (Nat.le_of_ble_eq_true rfl) dX8_grow_61 ⟨show 4 + 1 ≤ 6 by omega, show ((((0 + ((2 * sz))) + ((2 * sz))) + ((2 * sz))) + ((2 * sz))) + ((2 * sz)) ≤ (12 * sz) by omega⟩ (fun u H locs hp_10 hP hD hS => ?_)
  obtain ⟨qn_9, rfl⟩ : ∃ z, z = u := ⟨_, rfl⟩
  have hP : va_P D zCl [(h0, .inr (7, [.ref qn_1, .ref qn_3, .ref qn_5, .ref qn_7, .ref p5, .ref p6, .int (nI sz)])), (p6, .inl (dA 0, nc, .inl fun j => nI (OR_ j))), (p1, .inl (dA 1, nc, .inr (.inl fun j => lZ (PA j)))), (qn_1, .inl (dA 1, (2 * sz), .inr (.inl fun j => lZ ((zcpy PA (fun _ => 0) nc) j)))), (p2, .inl (dA 1, nc, .inr (.inl fun j => lZ (WH j)))), (qn_3, .inl (dA 1, (2 * sz), .inr (.inl fun j => lZ ((zcpy WH (fun _ => 0) nc) j)))), (p3, .inl (dA 0, nc, .inl fun j => nI (WT j))), (qn_5, .inl (dA 0, (2 * sz), .inl fun j => nI ((zcpy WT (fun _ => 0) nc) j))), (p4, .inl (dA 0, nc, .inl fun j => iZ (VX j))), (qn_7, .inl (dA 0, (2 * sz), .inl fun j => iZ ((zcpy VX (fun _ => 0) nc) j))), (p5, .inl (dA 0, nc, .inl fun j => iZ (VY j))), (qn_9, .inl (dA 0, (2 * sz), .inl fun j => iZ ((zcpy VY (fun _ => 0) nc) j)))] H := hP
  have hD : va_D A [(h0, .inr (7, [.ref qn_1, .ref qn_3, .ref qn_5, .ref qn_7, .ref p5, .ref p6, .int (nI sz)])), (p6, .inl (dA 0, nc, .inl fun j => nI (OR_ j))), (p1, .inl (dA 1, nc, .inr (.inl fun j => lZ (PA j)))), (qn_1, .inl (dA 1, (2 * sz), .inr (.inl fun j => lZ ((zcpy PA (fun _ => 0) nc) j)))), (p2, .inl (dA 1, nc, .inr (.inl fun j => lZ (WH j)))), (qn_3, .inl (dA 1, (2 * sz), .inr (.inl fun j => lZ ((zcpy WH (fun _ => 0) nc) j)))), (p3, .inl (dA 0, nc, .inl fun j => nI (WT j))), (qn_5, .inl (dA 0, (2 * sz), .inl fun j => nI ((zcpy WT (fun _ => 0) nc) j))), (p4, .inl (dA 0, nc, .inl fun j => iZ (VX j))), (qn_7, .inl (dA 0, (2 * sz), .inl fun j => iZ ((zcpy VX (fun _ => 0) nc) j))), (p5, .inl (dA 0, nc, .inl fun j => iZ (VY j))), (qn_9, .inl (dA 0, (2 * sz), .inl fun j => iZ ((zcpy VY (fun _ => 0) nc) j)))] := hD
  show W _ _ _ _ _ _ _ _ _ _ _ _ 5 (((((0 + ((2 * sz))) + ((2 * sz))) + ((2 * sz))) + ((2 * sz))) + ((2 * sz))) _ (F0 mG 64 ls [.ref qn_9, .ref h0])
  refine va_put (D := D) (ci := 7) (v := .ref qn_9) (ty := .array .int) (C := RX8) (T := TX8) (N := 7) hx hb hts in_X8 tyX8 tyX8_ok nmX8 hown hK.1 hP hD hS 0 rfl rfl 4 (Nat.le_of_ble_eq_true rfl) (hts _ q265) (fun _ h9 => h9) rfl (by decide +kernel) rfl rfl (Nat.le_of_ble_eq_true rfl) dX8_grow_64 (fun H locs hP hD hS => ?_)
  have hP : va_P D zCl [(h0, .inr (7, [.ref qn_1, .ref qn_3, .ref qn_5, .ref qn_7, .ref qn_9, .ref p6, .int (nI sz)])), (p6, .inl (dA 0, nc, .inl fun j => nI (OR_ j))), (p1, .inl (dA 1, nc, .inr (.inl fun j => lZ (PA j)))), (qn_1, .inl (dA 1, (2 * sz), .inr (.inl fun j => lZ ((zcpy PA (fun _ => 0) nc) j)))), (p2, .inl (dA 1, nc, .inr (.inl fun j => lZ (WH j)))), (qn_3, .inl (dA 1, (2 * sz), .inr (.inl fun j => lZ ((zcpy WH (fun _ => 0) nc) j)))), (p3, .inl (dA 0, nc, .inl fun j => nI (WT j))), (qn_5, .inl (dA 0, (2 * sz), .inl fun j => nI ((zcpy WT (fun _ => 0) nc) j))), (p4, .inl (dA 0, nc, .inl fun j => iZ (VX j))), (qn_7, .inl (dA 0, (2 * sz), .inl fun j => iZ ((zcpy VX (fun _ => 0) nc) j))), (p5, .inl (dA 0, nc, .inl fun j => iZ (VY j))), (qn_9, .inl (dA 0, (2 * sz), .inl fun j => iZ ((zcpy VY (fun _ => 0) nc) j)))] H := hP
  have hD : va_D A [(h0, .inr (7, [.ref qn_1, .ref qn_3, .ref qn_5, .ref qn_7, .ref qn_9, .ref p6, .int (nI sz)])), (p6, .inl (dA 0, nc, .inl fun j => nI (OR_ j))), (p1, .inl (dA 1, nc, .inr (.inl fun j => lZ (PA j)))), (qn_1, .inl (dA 1, (2 * sz), .inr (.inl fun j => lZ ((zcpy PA (fun _ => 0) nc) j)))), (p2, .inl (dA 1, nc, .inr (.inl fun j => lZ (WH j)))), (qn_3, .inl (dA 1, (2 * sz), .inr (.inl fun j => lZ ((zcpy WH (fun _ => 0) nc) j)))), (p3, .inl (dA 0, nc, .inl fun j => nI (WT j))), (qn_5, .inl (dA 0, (2 * sz), .inl fun j => nI ((zcpy WT (fun _ => 0) nc) j))), (p4, .inl (dA 0, nc, .inl fun j => iZ (VX j))), (qn_7, .inl (dA 0, (2 * sz), .inl fun j => iZ ((zcpy VX (fun _ => 0) nc) j))), (p5, .inl (dA 0, nc, .inl fun j => iZ (VY j))), (qn_9, .inl (dA 0, (2 * sz), .inl fun j => iZ ((zcpy VY (fun _ => 0) nc) j)))] := hD
  refine lv_aload_n hx hb dX8_grow_67 rfl (lv_at hl 1 rfl) ?_
  refine lv_aload_n hx hb dX8_grow_68 rfl (lv_at hl 1 rfl) ?_
  refine va_get (D := D) (ci := 7) (v := .ref p6) (C := RX8) (T := TX8) (N := 7) hx hb hts in_X8 hown hK.1 hP 0 rfl rfl 5 (Nat.le_of_ble_eq_true rfl) (hts _ q267) (fun _ h9 => h9) rfl dX8_grow_69 ?_
  refine lv_iload_n hx hb dX8_grow_72 rfl (lv_at hl 0 rfl) ?_
  refine zc_wrSN (rest := [.ref h0]) (wr := [(h0, .inr (7, [.ref qn_1, .ref qn_3, .ref qn_5, .ref qn_7, .ref qn_9, .ref p6, .int (nI sz)])), (p1, .inl (dA 1, nc, .inr (.inl fun j => lZ (PA j)))), (qn_1, .inl (dA 1, (2 * sz), .inr (.inl fun j => lZ ((zcpy PA (fun _ => 0) nc) j)))), (p2, .inl (dA 1, nc, .inr (.inl fun j => lZ (WH j)))), (qn_3, .inl (dA 1, (2 * sz), .inr (.inl fun j => lZ ((zcpy WH (fun _ => 0) nc) j)))), (p3, .inl (dA 0, nc, .inl fun j => nI (WT j))), (qn_5, .inl (dA 0, (2 * sz), .inl fun j => nI ((zcpy WT (fun _ => 0) nc) j))), (p4, .inl (dA 0, nc, .inl fun j => iZ (VX j))), (qn_7, .inl (dA 0, (2 * sz), .inl fun j => iZ ((zcpy VX (fun _ => 0) nc) j))), (p5, .inl (dA 0, nc, .inl fun j => iZ (VY j))), (qn_9, .inl (dA 0, (2 * sz), .inl fun j => iZ ((zcpy VY (fun _ => 0) nc) j)))]) ⟨hx, hb, hml, hown, hts⟩ (metX5_longer_n lG D dA p6 nc OR_ (2 * sz) (by first | assumption | omega) (by first | assumption | omega)) ⟨(va_cnB 2 hts (lw_meth q396) rfl rfl rfl (hK.2.1 _ zq549) (hts _ q75) (by decide +kernel) ⟨Nat.le_of_ble_eq_true rfl, Nat.le_of_ble_eq_true rfl⟩), hts _ q395, trivial⟩ hP hK hD hS hA [1] [0, 2, 3, 4, 5, 6, 7, 8, 9, 10, 11] rfl rfl (by decide) (by decide) (by decide) rfl hl.1 rfl (Nat.le_of_ble_eq_true rfl) dX8_grow_73 ⟨show 5 + 1 ≤ 6 by omega, show (((((0 + ((2 * sz))) + ((2 * sz))) + ((2 * sz))) + ((2 * sz))) + ((2 * sz))) + ((2 * sz)) ≤ (12 * sz) by omega⟩ (fun u H locs hp_12 hP hD hS => ?_)
  obtain ⟨qn_11, rfl⟩ : ∃ z, z = u := ⟨_, rfl⟩
  have hP : va_P D zCl [(h0, .inr (7, [.ref qn_1, .ref qn_3, .ref qn_5, .ref qn_7, .ref qn_9, .ref p6, .int (nI sz)])), (p1, .inl (dA 1, nc, .inr (.inl fun j => lZ (PA j)))), (qn_1, .inl (dA 1, (2 * sz), .inr (.inl fun j => lZ ((zcpy PA (fun _ => 0) nc) j)))), (p2, .inl (dA 1, nc, .inr (.inl fun j => lZ (WH j)))), (qn_3, .inl (dA 1, (2 * sz), .inr (.inl fun j => lZ ((zcpy WH (fun _ => 0) nc) j)))), (p3, .inl (dA 0, nc, .inl fun j => nI (WT j))), (qn_5, .inl (dA 0, (2 * sz), .inl fun j => nI ((zcpy WT (fun _ => 0) nc) j))), (p4, .inl (dA 0, nc, .inl fun j => iZ (VX j))), (qn_7, .inl (dA 0, (2 * sz), .inl fun j => iZ ((zcpy VX (fun _ => 0) nc) j))), (p5, .inl (dA 0, nc, .inl fun j => iZ (VY j))), (qn_9, .inl (dA 0, (2 * sz), .inl fun j => iZ ((zcpy VY (fun _ => 0) nc) j))), (p6, .inl (dA 0, nc, .inl fun j => nI (OR_ j))), (qn_11, .inl (dA 0, (2 * sz), .inl fun j => nI ((zcpy OR_ (fun _ => 0) nc) j)))] H := hP
  have hD : va_D A [(h0, .inr (7, [.ref qn_1, .ref qn_3, .ref qn_5, .ref qn_7, .ref qn_9, .ref p6, .int (nI sz)])), (p1, .inl (dA 1, nc, .inr (.inl fun j => lZ (PA j)))), (qn_1, .inl (dA 1, (2 * sz), .inr (.inl fun j => lZ ((zcpy PA (fun _ => 0) nc) j)))), (p2, .inl (dA 1, nc, .inr (.inl fun j => lZ (WH j)))), (qn_3, .inl (dA 1, (2 * sz), .inr (.inl fun j => lZ ((zcpy WH (fun _ => 0) nc) j)))), (p3, .inl (dA 0, nc, .inl fun j => nI (WT j))), (qn_5, .inl (dA 0, (2 * sz), .inl fun j => nI ((zcpy WT (fun _ => 0) nc) j))), (p4, .inl (dA 0, nc, .inl fun j => iZ (VX j))), (qn_7, .inl (dA 0, (2 * sz), .inl fun j => iZ ((zcpy VX (fun _ => 0) nc) j))), (p5, .inl (dA 0, nc, .inl fun j => iZ (VY j))), (qn_9, .inl (dA 0, (2 * sz), .inl fun j => iZ ((zcpy VY (fun _ => 0) nc) j))), (p6, .inl (dA 0, nc, .inl fun j => nI (OR_ j))), (qn_11, .inl (dA 0, (2 * sz), .inl fun j => nI ((zcpy OR_ (fun _ => 0) nc) j)))] := hD
  show W _ _ _ _ _ _ _ _ _ _ _ _ 6 ((((((0 + ((2 * sz))) + ((2 * sz))) + ((2 * sz))) + ((2 * sz))) + ((2 * sz))) + ((2 * sz))) _ (F0 mG 76 ls [.ref qn_11, .ref h0])
  refine va_put (D := D) (ci := 7) (v := .ref qn_11) (ty := .array .int) (C := RX8) (T := TX8) (N := 7) hx hb hts in_X8 tyX8 tyX8_ok nmX8 hown hK.1 hP hD hS 0 rfl rfl 5 (Nat.le_of_ble_eq_true rfl) (hts _ q267) (fun _ h9 => h9) rfl (by decide +kernel) rfl rfl (Nat.le_of_ble_eq_true rfl) dX8_grow_76 (fun H locs hP hD hS => ?_)
  have hP : va_P D zCl [(h0, .inr (7, [.ref qn_1, .ref qn_3, .ref qn_5, .ref qn_7, .ref qn_9, .ref qn_11, .int (nI sz)])), (p1, .inl (dA 1, nc, .inr (.inl fun j => lZ (PA j)))), (qn_1, .inl (dA 1, (2 * sz), .inr (.inl fun j => lZ ((zcpy PA (fun _ => 0) nc) j)))), (p2, .inl (dA 1, nc, .inr (.inl fun j => lZ (WH j)))), (qn_3, .inl (dA 1, (2 * sz), .inr (.inl fun j => lZ ((zcpy WH (fun _ => 0) nc) j)))), (p3, .inl (dA 0, nc, .inl fun j => nI (WT j))), (qn_5, .inl (dA 0, (2 * sz), .inl fun j => nI ((zcpy WT (fun _ => 0) nc) j))), (p4, .inl (dA 0, nc, .inl fun j => iZ (VX j))), (qn_7, .inl (dA 0, (2 * sz), .inl fun j => iZ ((zcpy VX (fun _ => 0) nc) j))), (p5, .inl (dA 0, nc, .inl fun j => iZ (VY j))), (qn_9, .inl (dA 0, (2 * sz), .inl fun j => iZ ((zcpy VY (fun _ => 0) nc) j))), (p6, .inl (dA 0, nc, .inl fun j => nI (OR_ j))), (qn_11, .inl (dA 0, (2 * sz), .inl fun j => nI ((zcpy OR_ (fun _ => 0) nc) j)))] H := hP
  have hD : va_D A [(h0, .inr (7, [.ref qn_1, .ref qn_3, .ref qn_5, .ref qn_7, .ref qn_9, .ref qn_11, .int (nI sz)])), (p1, .inl (dA 1, nc, .inr (.inl fun j => lZ (PA j)))), (qn_1, .inl (dA 1, (2 * sz), .inr (.inl fun j => lZ ((zcpy PA (fun _ => 0) nc) j)))), (p2, .inl (dA 1, nc, .inr (.inl fun j => lZ (WH j)))), (qn_3, .inl (dA 1, (2 * sz), .inr (.inl fun j => lZ ((zcpy WH (fun _ => 0) nc) j)))), (p3, .inl (dA 0, nc, .inl fun j => nI (WT j))), (qn_5, .inl (dA 0, (2 * sz), .inl fun j => nI ((zcpy WT (fun _ => 0) nc) j))), (p4, .inl (dA 0, nc, .inl fun j => iZ (VX j))), (qn_7, .inl (dA 0, (2 * sz), .inl fun j => iZ ((zcpy VX (fun _ => 0) nc) j))), (p5, .inl (dA 0, nc, .inl fun j => iZ (VY j))), (qn_9, .inl (dA 0, (2 * sz), .inl fun j => iZ ((zcpy VY (fun _ => 0) nc) j))), (p6, .inl (dA 0, nc, .inl fun j => nI (OR_ j))), (qn_11, .inl (dA 0, (2 * sz), .inl fun j => nI ((zcpy OR_ (fun _ => 0) nc) j)))] := hD
  refine W.widen (k := 6) (n := 12 * sz) (by omega) (by omega) ?_
  exact zr_wrV (u := (qn_1, qn_3, qn_5, qn_7, qn_9, qn_11)) rfl trivial (hP.sub [0, 2, 4, 6, 8, 10, 12] rfl) (hD.sub [0, 2, 4, 6, 8, 10, 12] (by decide) rfl) hS hx hb hr hlocks dX8_grow_79
set_option maxHeartbeats 4000000 in
set_option maxRecDepth 100000 in
theorem metX8_add_keep (lG : Launch) (D : va_G) (dA : Nat → ClassId) (h0 : Nat) (p1 : Nat) (p2 : Nat) (p3 : Nat) (p4 : Nat) (p5 : Nat) (p6 : Nat) (nc : Nat) (sz : Nat) (PA : Nat → Int) (WH : Nat → Int) (WT : Nat → Nat) (VX : Nat → Int) (VY : Nat → Int) (OR_ : Nat → Nat) (part : Int) (whole : Int) (what : Nat) (px : Int) (py : Int) (hnc : nc ≤ 8192) (hsz : sz < nc) (hB : evB PA WH) (hpa : 0 ≤ part ∧ part < 4611686018427387904) (hwh : 0 ≤ whole ∧ whole < 4611686018427387904) : Wr lG yX8_add (ws_ yX8_add cX8_add 8 none) 0 0 D dA [.ref h0, .long (lZ part), .long (lZ whole), .int (nI what), .int (iZ px), .int (iZ py)] [(h0, .inr (7, [.ref p1, .ref p2, .ref p3, .ref p4, .ref p5, .ref p6, .int (nI sz)])), (p1, .inl (dA 1, nc, .inr (.inl fun j => lZ (PA j)))), (p2, .inl (dA 1, nc, .inr (.inl fun j => lZ (WH j)))), (p3, .inl (dA 0, nc, .inl fun j => nI (WT j))), (p4, .inl (dA 0, nc, .inl fun j => iZ (VX j))), (p5, .inl (dA 0, nc, .inl fun j => iZ (VY j))), (p6, .inl (dA 0, nc, .inl fun j => nI (OR_ j)))] 0 0 (fun (u : (Nat → Int) × (Nat → Int) × (Nat → Nat) × (Nat → Int) × (Nat → Int) × (Nat → Nat)) => let PA2 := u.1; let WH2 := u.2.1; let WT2 := u.2.2.1; let VX2 := u.2.2.2.1; let VY2 := u.2.2.2.2.1; let OR2 := u.2.2.2.2.2; evList PA2 WH2 WT2 VX2 VY2 (sz + 1) = evList PA WH WT VX VY sz ++ [(part, whole, what, px, py)] ∧ evB PA2 WH2) (fun (u : (Nat → Int) × (Nat → Int) × (Nat → Nat) × (Nat → Int) × (Nat → Int) × (Nat → Nat)) => let PA2 := u.1; let WH2 := u.2.1; let WT2 := u.2.2.1; let VX2 := u.2.2.2.1; let VY2 := u.2.2.2.2.1; let OR2 := u.2.2.2.2.2; none) (fun (u : (Nat → Int) × (Nat → Int) × (Nat → Nat) × (Nat → Int) × (Nat → Int) × (Nat → Nat)) => let PA2 := u.1; let WH2 := u.2.1; let WT2 := u.2.2.1; let VX2 := u.2.2.2.1; let VY2 := u.2.2.2.2.1; let OR2 := u.2.2.2.2.2; [(h0, .inr (7, [.ref p1, .ref p2, .ref p3, .ref p4, .ref p5, .ref p6, .int (nI (sz + 1))])), (p1, .inl (dA 1, nc, .inr (.inl fun j => lZ (PA2 j)))), (p2, .inl (dA 1, nc, .inr (.inl fun j => lZ (WH2 j)))), (p3, .inl (dA 0, nc, .inl fun j => nI (WT2 j))), (p4, .inl (dA 0, nc, .inl fun j => iZ (VX2 j))), (p5, .inl (dA 0, nc, .inl fun j => iZ (VY2 j))), (p6, .inl (dA 0, nc, .inl fun j => nI (OR2 j)))]) := by
  refine Wr.of (by decide) (Nat.le_of_ble_eq_true rfl) ?_
  intro pG eG sG mG bG tG cG ls A hx hb hr hml hown hts hlocks hnm hP hK hD hS hA hl
  have hK1 := hK.1
  have hown : sG.vm.findClass RX8 = some mG.cls := hown
  have hl : lv_has ls 8 [(0, .ref h0), (1, .long (lZ part)), (3, .long (lZ whole)), (5, .int (nI what)), (6, .int (iZ px)), (7, .int (iZ py))] := hl
  refine lv_aload_n hx hb dX8_add_0 rfl (lv_at hl 0 rfl) ?_
  refine va_get (D := D) (ci := 7) (v := .int (nI sz)) (C := RX8) (T := TX8) (N := 7) hx hb hts in_X8 hown hK.1 hP 0 rfl rfl 6 (Nat.le_of_ble_eq_true rfl) (hts _ q269) (fun _ h9 => h9) rfl dX8_add_1 ?_
  refine lv_aload_n hx hb dX8_add_4 rfl (lv_at hl 0 rfl) ?_
  refine va_get (D := D) (ci := 7) (v := .ref p1) (C := RX8) (T := TX8) (N := 7) hx hb hts in_X8 hown hK.1 hP 0 rfl rfl 0 (Nat.le_of_ble_eq_true rfl) (hts _ q259) (fun _ h9 => h9) rfl dX8_add_5 ?_
  refine va_alen (v := nI nc) hx hb hK.1 hP 1 1 rfl rfl rfl dX8_add_8 ?_
  refine zn_icmp_ne (tgt := 16) hx hb (by omega) (by omega) dX8_add_9 (by decide) (fun c_1 => ?_) (fun c_1 => ?_)
  · skip
    refine lv_aload_n hx hb dX8_add_16 rfl (lv_at hl 0 rfl) ?_
    refine va_get (D := D) (ci := 7) (v := .ref p1) (C := RX8) (T := TX8) (N := 7) hx hb hts in_X8 hown hK.1 hP 0 rfl rfl 0 (Nat.le_of_ble_eq_true rfl) (hts _ q259) (fun _ h9 => h9) rfl dX8_add_17 ?_
    refine lv_aload_n hx hb dX8_add_20 rfl (lv_at hl 0 rfl) ?_
    refine va_get (D := D) (ci := 7) (v := .int (nI sz)) (C := RX8) (T := TX8) (N := 7) hx hb hts in_X8 hown hK.1 hP 0 rfl rfl 6 (Nat.le_of_ble_eq_true rfl) (hts _ q269) (fun _ h9 => h9) rfl dX8_add_21 ?_
    refine lv_lload_n hx hb dX8_add_24 rfl (lv_at hl 1 rfl) ?_
    refine zz_lastore (f := PA) (i := sz) (x := part) hx hb hK.1 hP hD hS 1 1 rfl rfl (by omega) (by omega) dX8_add_25 (fun H locs hP hD hS => ?_)
    have hP : va_P D zCl [(h0, .inr (7, [.ref p1, .ref p2, .ref p3, .ref p4, .ref p5, .ref p6, .int (nI sz)])), (p1, .inl (dA 1, nc, .inr (.inl fun j => lZ ((updZ PA sz part) j)))), (p2, .inl (dA 1, nc, .inr (.inl fun j => lZ (WH j)))), (p3, .inl (dA 0, nc, .inl fun j => nI (WT j))), (p4, .inl (dA 0, nc, .inl fun j => iZ (VX j))), (p5, .inl (dA 0, nc, .inl fun j => iZ (VY j))), (p6, .inl (dA 0, nc, .inl fun j => nI (OR_ j)))] H := hP
    have hD : va_D A [(h0, .inr (7, [.ref p1, .ref p2, .ref p3, .ref p4, .ref p5, .ref p6, .int (nI sz)])), (p1, .inl (dA 1, nc, .inr (.inl fun j => lZ ((updZ PA sz part) j)))), (p2, .inl (dA 1, nc, .inr (.inl fun j => lZ (WH j)))), (p3, .inl (dA 0, nc, .inl fun j => nI (WT j))), (p4, .inl (dA 0, nc, .inl fun j => iZ (VX j))), (p5, .inl (dA 0, nc, .inl fun j => iZ (VY j))), (p6, .inl (dA 0, nc, .inl fun j => nI (OR_ j)))] := hD
    refine lv_aload_n hx hb dX8_add_26 rfl (lv_at hl 0 rfl) ?_
    refine va_get (D := D) (ci := 7) (v := .ref p2) (C := RX8) (T := TX8) (N := 7) hx hb hts in_X8 hown hK.1 hP 0 rfl rfl 1 (Nat.le_of_ble_eq_true rfl) (hts _ q260) (fun _ h9 => h9) rfl dX8_add_27 ?_
    refine lv_aload_n hx hb dX8_add_30 rfl (lv_at hl 0 rfl) ?_
    refine va_get (D := D) (ci := 7) (v := .int (nI sz)) (C := RX8) (T := TX8) (N := 7) hx hb hts in_X8 hown hK.1 hP 0 rfl rfl 6 (Nat.le_of_ble_eq_true rfl) (hts _ q269) (fun _ h9 => h9) rfl dX8_add_31 ?_
    refine lv_lload_n hx hb dX8_add_34 rfl (lv_at hl 2 rfl) ?_
    refine zz_lastore (f := WH) (i := sz) (x := whole) hx hb hK.1 hP hD hS 2 1 rfl rfl (by omega) (by omega) dX8_add_35 (fun H locs hP hD hS => ?_)
    have hP : va_P D zCl [(h0, .inr (7, [.ref p1, .ref p2, .ref p3, .ref p4, .ref p5, .ref p6, .int (nI sz)])), (p1, .inl (dA 1, nc, .inr (.inl fun j => lZ ((updZ PA sz part) j)))), (p2, .inl (dA 1, nc, .inr (.inl fun j => lZ ((updZ WH sz whole) j)))), (p3, .inl (dA 0, nc, .inl fun j => nI (WT j))), (p4, .inl (dA 0, nc, .inl fun j => iZ (VX j))), (p5, .inl (dA 0, nc, .inl fun j => iZ (VY j))), (p6, .inl (dA 0, nc, .inl fun j => nI (OR_ j)))] H := hP
    have hD : va_D A [(h0, .inr (7, [.ref p1, .ref p2, .ref p3, .ref p4, .ref p5, .ref p6, .int (nI sz)])), (p1, .inl (dA 1, nc, .inr (.inl fun j => lZ ((updZ PA sz part) j)))), (p2, .inl (dA 1, nc, .inr (.inl fun j => lZ ((updZ WH sz whole) j)))), (p3, .inl (dA 0, nc, .inl fun j => nI (WT j))), (p4, .inl (dA 0, nc, .inl fun j => iZ (VX j))), (p5, .inl (dA 0, nc, .inl fun j => iZ (VY j))), (p6, .inl (dA 0, nc, .inl fun j => nI (OR_ j)))] := hD
    refine lv_aload_n hx hb dX8_add_36 rfl (lv_at hl 0 rfl) ?_
    refine va_get (D := D) (ci := 7) (v := .ref p3) (C := RX8) (T := TX8) (N := 7) hx hb hts in_X8 hown hK.1 hP 0 rfl rfl 2 (Nat.le_of_ble_eq_true rfl) (hts _ q261) (fun _ h9 => h9) rfl dX8_add_37 ?_
    refine lv_aload_n hx hb dX8_add_40 rfl (lv_at hl 0 rfl) ?_
    refine va_get (D := D) (ci := 7) (v := .int (nI sz)) (C := RX8) (T := TX8) (N := 7) hx hb hts in_X8 hown hK.1 hP 0 rfl rfl 6 (Nat.le_of_ble_eq_true rfl) (hts _ q269) (fun _ h9 => h9) rfl dX8_add_41 ?_
    refine lv_iload hx hb dX8_add_44 (lv_at hl 3 rfl) ?_
    refine zn_iastore (f := WT) (i := sz) (x := what) hx hb hK.1 hP hD hS 3 0 rfl rfl (by omega) (by omega) dX8_add_46 (fun H locs hP hD hS => ?_)
    have hP : va_P D zCl [(h0, .inr (7, [.ref p1, .ref p2, .ref p3, .ref p4, .ref p5, .ref p6, .int (nI sz)])), (p1, .inl (dA 1, nc, .inr (.inl fun j => lZ ((updZ PA sz part) j)))), (p2, .inl (dA 1, nc, .inr (.inl fun j => lZ ((updZ WH sz whole) j)))), (p3, .inl (dA 0, nc, .inl fun j => nI ((updZ WT sz what) j))), (p4, .inl (dA 0, nc, .inl fun j => iZ (VX j))), (p5, .inl (dA 0, nc, .inl fun j => iZ (VY j))), (p6, .inl (dA 0, nc, .inl fun j => nI (OR_ j)))] H := hP
    have hD : va_D A [(h0, .inr (7, [.ref p1, .ref p2, .ref p3, .ref p4, .ref p5, .ref p6, .int (nI sz)])), (p1, .inl (dA 1, nc, .inr (.inl fun j => lZ ((updZ PA sz part) j)))), (p2, .inl (dA 1, nc, .inr (.inl fun j => lZ ((updZ WH sz whole) j)))), (p3, .inl (dA 0, nc, .inl fun j => nI ((updZ WT sz what) j))), (p4, .inl (dA 0, nc, .inl fun j => iZ (VX j))), (p5, .inl (dA 0, nc, .inl fun j => iZ (VY j))), (p6, .inl (dA 0, nc, .inl fun j => nI (OR_ j)))] := hD
    refine lv_aload_n hx hb dX8_add_47 rfl (lv_at hl 0 rfl) ?_
    refine va_get (D := D) (ci := 7) (v := .ref p4) (C := RX8) (T := TX8) (N := 7) hx hb hts in_X8 hown hK.1 hP 0 rfl rfl 3 (Nat.le_of_ble_eq_true rfl) (hts _ q263) (fun _ h9 => h9) rfl dX8_add_48 ?_
    refine lv_aload_n hx hb dX8_add_51 rfl (lv_at hl 0 rfl) ?_
    refine va_get (D := D) (ci := 7) (v := .int (nI sz)) (C := RX8) (T := TX8) (N := 7) hx hb hts in_X8 hown hK.1 hP 0 rfl rfl 6 (Nat.le_of_ble_eq_true rfl) (hts _ q269) (fun _ h9 => h9) rfl dX8_add_52 ?_
    refine lv_iload hx hb dX8_add_55 (lv_at hl 4 rfl) ?_
    refine zz_iastore (f := VX) (i := sz) (x := px) hx hb hK.1 hP hD hS 4 0 rfl rfl (by omega) (by omega) dX8_add_57 (fun H locs hP hD hS => ?_)
    have hP : va_P D zCl [(h0, .inr (7, [.ref p1, .ref p2, .ref p3, .ref p4, .ref p5, .ref p6, .int (nI sz)])), (p1, .inl (dA 1, nc, .inr (.inl fun j => lZ ((updZ PA sz part) j)))), (p2, .inl (dA 1, nc, .inr (.inl fun j => lZ ((updZ WH sz whole) j)))), (p3, .inl (dA 0, nc, .inl fun j => nI ((updZ WT sz what) j))), (p4, .inl (dA 0, nc, .inl fun j => iZ ((updZ VX sz px) j))), (p5, .inl (dA 0, nc, .inl fun j => iZ (VY j))), (p6, .inl (dA 0, nc, .inl fun j => nI (OR_ j)))] H := hP
    have hD : va_D A [(h0, .inr (7, [.ref p1, .ref p2, .ref p3, .ref p4, .ref p5, .ref p6, .int (nI sz)])), (p1, .inl (dA 1, nc, .inr (.inl fun j => lZ ((updZ PA sz part) j)))), (p2, .inl (dA 1, nc, .inr (.inl fun j => lZ ((updZ WH sz whole) j)))), (p3, .inl (dA 0, nc, .inl fun j => nI ((updZ WT sz what) j))), (p4, .inl (dA 0, nc, .inl fun j => iZ ((updZ VX sz px) j))), (p5, .inl (dA 0, nc, .inl fun j => iZ (VY j))), (p6, .inl (dA 0, nc, .inl fun j => nI (OR_ j)))] := hD
    refine lv_aload_n hx hb dX8_add_58 rfl (lv_at hl 0 rfl) ?_
    refine va_get (D := D) (ci := 7) (v := .ref p5) (C := RX8) (T := TX8) (N := 7) hx hb hts in_X8 hown hK.1 hP 0 rfl rfl 4 (Nat.le_of_ble_eq_true rfl) (hts _ q265) (fun _ h9 => h9) rfl dX8_add_59 ?_
    refine lv_aload_n hx hb dX8_add_62 rfl (lv_at hl 0 rfl) ?_
    refine va_get (D := D) (ci := 7) (v := .int (nI sz)) (C := RX8) (T := TX8) (N := 7) hx hb hts in_X8 hown hK.1 hP 0 rfl rfl 6 (Nat.le_of_ble_eq_true rfl) (hts _ q269) (fun _ h9 => h9) rfl dX8_add_63 ?_
    refine lv_iload hx hb dX8_add_66 (lv_at hl 5 rfl) ?_
    refine zz_iastore (f := VY) (i := sz) (x := py) hx hb hK.1 hP hD hS 5 0 rfl rfl (by omega) (by omega) dX8_add_68 (fun H locs hP hD hS => ?_)
    have hP : va_P D zCl [(h0, .inr (7, [.ref p1, .ref p2, .ref p3, .ref p4, .ref p5, .ref p6, .int (nI sz)])), (p1, .inl (dA 1, nc, .inr (.inl fun j => lZ ((updZ PA sz part) j)))), (p2, .inl (dA 1, nc, .inr (.inl fun j => lZ ((updZ WH sz whole) j)))), (p3, .inl (dA 0, nc, .inl fun j => nI ((updZ WT sz what) j))), (p4, .inl (dA 0, nc, .inl fun j => iZ ((updZ VX sz px) j))), (p5, .inl (dA 0, nc, .inl fun j => iZ ((updZ VY sz py) j))), (p6, .inl (dA 0, nc, .inl fun j => nI (OR_ j)))] H := hP
    have hD : va_D A [(h0, .inr (7, [.ref p1, .ref p2, .ref p3, .ref p4, .ref p5, .ref p6, .int (nI sz)])), (p1, .inl (dA 1, nc, .inr (.inl fun j => lZ ((updZ PA sz part) j)))), (p2, .inl (dA 1, nc, .inr (.inl fun j => lZ ((updZ WH sz whole) j)))), (p3, .inl (dA 0, nc, .inl fun j => nI ((updZ WT sz what) j))), (p4, .inl (dA 0, nc, .inl fun j => iZ ((updZ VX sz px) j))), (p5, .inl (dA 0, nc, .inl fun j => iZ ((updZ VY sz py) j))), (p6, .inl (dA 0, nc, .inl fun j => nI (OR_ j)))] := hD
    refine lv_aload_n hx hb dX8_add_69 rfl (lv_at hl 0 rfl) ?_
    refine lv_dup hx hb dX8_add_70 rfl ?_
    refine va_get (D := D) (ci := 7) (v := .int (nI sz)) (C := RX8) (T := TX8) (N := 7) hx hb hts in_X8 hown hK.1 hP 0 rfl rfl 6 (Nat.le_of_ble_eq_true rfl) (hts _ q269) (fun _ h9 => h9) rfl dX8_add_71 ?_
    refine lv_iconst (v := nI 1) hx hb dX8_add_74 (by decide) ?_
    refine zn_iadd hx hb dX8_add_75 ?_
    refine va_put (D := D) (ci := 7) (v := .int (nI (sz + 1))) (ty := .int) (C := RX8) (T := TX8) (N := 7) hx hb hts in_X8 tyX8 tyX8_ok nmX8 hown hK.1 hP hD hS 0 rfl rfl 6 (Nat.le_of_ble_eq_true rfl) (hts _ q269) (fun _ h9 => h9) rfl (by decide +kernel) rfl rfl (Nat.le_of_ble_eq_true rfl) dX8_add_76 (fun H locs hP hD hS => ?_)
    have hP : va_P D zCl [(h0, .inr (7, [.ref p1, .ref p2, .ref p3, .ref p4, .ref p5, .ref p6, .int (nI (sz + 1))])), (p1, .inl (dA 1, nc, .inr (.inl fun j => lZ ((updZ PA sz part) j)))), (p2, .inl (dA 1, nc, .inr (.inl fun j => lZ ((updZ WH sz whole) j)))), (p3, .inl (dA 0, nc, .inl fun j => nI ((updZ WT sz what) j))), (p4, .inl (dA 0, nc, .inl fun j => iZ ((updZ VX sz px) j))), (p5, .inl (dA 0, nc, .inl fun j => iZ ((updZ VY sz py) j))), (p6, .inl (dA 0, nc, .inl fun j => nI (OR_ j)))] H := hP
    have hD : va_D A [(h0, .inr (7, [.ref p1, .ref p2, .ref p3, .ref p4, .ref p5, .ref p6, .int (nI (sz + 1))])), (p1, .inl (dA 1, nc, .inr (.inl fun j => lZ ((updZ PA sz part) j)))), (p2, .inl (dA 1, nc, .inr (.inl fun j => lZ ((updZ WH sz whole) j)))), (p3, .inl (dA 0, nc, .inl fun j => nI ((updZ WT sz what) j))), (p4, .inl (dA 0, nc, .inl fun j => iZ ((updZ VX sz px) j))), (p5, .inl (dA 0, nc, .inl fun j => iZ ((updZ VY sz py) j))), (p6, .inl (dA 0, nc, .inl fun j => nI (OR_ j)))] := hD
    exact zr_wrV (u := (updZ PA sz part, updZ WH sz whole, updZ WT sz what, updZ VX sz px, updZ VY sz py, OR_)) rfl (show evList (updZ PA sz part) (updZ WH sz whole) (updZ WT sz what) (updZ VX sz px) (updZ VY sz py) (sz + 1) = evList PA WH WT VX VY sz ++ [(part, whole, what, px, py)] ∧ evB (updZ PA sz part) (updZ WH sz whole) from ⟨evList_push, evB_upd hB hpa hwh⟩) (hP.sub [0, 1, 2, 3, 4, 5, 6] rfl) (hD.sub [0, 1, 2, 3, 4, 5, 6] (by decide) rfl) hS hx hb hr hlocks dX8_add_79
  · skip
    exfalso; omega
set_option maxHeartbeats 4000000 in
set_option maxRecDepth 100000 in
theorem metX8_add_grow (lG : Launch) (D : va_G) (dA : Nat → ClassId) (h0 : Nat) (p1 : Nat) (p2 : Nat) (p3 : Nat) (p4 : Nat) (p5 : Nat) (p6 : Nat) (nc : Nat) (sz : Nat) (PA : Nat → Int) (WH : Nat → Int) (WT : Nat → Nat) (VX : Nat → Int) (VY : Nat → Int) (OR_ : Nat → Nat) (part : Int) (whole : Int) (what : Nat) (px : Int) (py : Int) (hnc : nc ≤ 4096) (hnc0 : 1 ≤ nc) (hsz : sz = nc) (hB : evB PA WH) (hpa : 0 ≤ part ∧ part < 4611686018427387904) (hwh : 0 ≤ whole ∧ whole < 4611686018427387904) : Wr lG yX8_add (ws_ yX8_add cX8_add 8 none) 3 83 D dA [.ref h0, .long (lZ part), .long (lZ whole), .int (nI what), .int (iZ px), .int (iZ py)] [(h0, .inr (7, [.ref p1, .ref p2, .ref p3, .ref p4, .ref p5, .ref p6, .int (nI sz)])), (p1, .inl (dA 1, nc, .inr (.inl fun j => lZ (PA j)))), (p2, .inl (dA 1, nc, .inr (.inl fun j => lZ (WH j)))), (p3, .inl (dA 0, nc, .inl fun j => nI (WT j))), (p4, .inl (dA 0, nc, .inl fun j => iZ (VX j))), (p5, .inl (dA 0, nc, .inl fun j => iZ (VY j))), (p6, .inl (dA 0, nc, .inl fun j => nI (OR_ j)))] 6 (12 * sz) (fun (u : Nat × Nat × Nat × Nat × Nat × Nat × (Nat → Int) × (Nat → Int) × (Nat → Nat) × (Nat → Int) × (Nat → Int) × (Nat → Nat)) => let b1 := u.1; let b2 := u.2.1; let b3 := u.2.2.1; let b4 := u.2.2.2.1; let b5 := u.2.2.2.2.1; let b6 := u.2.2.2.2.2.1; let PA2 := u.2.2.2.2.2.2.1; let WH2 := u.2.2.2.2.2.2.2.1; let WT2 := u.2.2.2.2.2.2.2.2.1; let VX2 := u.2.2.2.2.2.2.2.2.2.1; let VY2 := u.2.2.2.2.2.2.2.2.2.2.1; let OR2 := u.2.2.2.2.2.2.2.2.2.2.2; evList PA2 WH2 WT2 VX2 VY2 (sz + 1) = evList PA WH WT VX VY sz ++ [(part, whole, what, px, py)] ∧ evB PA2 WH2) (fun (u : Nat × Nat × Nat × Nat × Nat × Nat × (Nat → Int) × (Nat → Int) × (Nat → Nat) × (Nat → Int) × (Nat → Int) × (Nat → Nat)) => let b1 := u.1; let b2 := u.2.1; let b3 := u.2.2.1; let b4 := u.2.2.2.1; let b5 := u.2.2.2.2.1; let b6 := u.2.2.2.2.2.1; let PA2 := u.2.2.2.2.2.2.1; let WH2 := u.2.2.2.2.2.2.2.1; let WT2 := u.2.2.2.2.2.2.2.2.1; let VX2 := u.2.2.2.2.2.2.2.2.2.1; let VY2 := u.2.2.2.2.2.2.2.2.2.2.1; let OR2 := u.2.2.2.2.2.2.2.2.2.2.2; none) (fun (u : Nat × Nat × Nat × Nat × Nat × Nat × (Nat → Int) × (Nat → Int) × (Nat → Nat) × (Nat → Int) × (Nat → Int) × (Nat → Nat)) => let b1 := u.1; let b2 := u.2.1; let b3 := u.2.2.1; let b4 := u.2.2.2.1; let b5 := u.2.2.2.2.1; let b6 := u.2.2.2.2.2.1; let PA2 := u.2.2.2.2.2.2.1; let WH2 := u.2.2.2.2.2.2.2.1; let WT2 := u.2.2.2.2.2.2.2.2.1; let VX2 := u.2.2.2.2.2.2.2.2.2.1; let VY2 := u.2.2.2.2.2.2.2.2.2.2.1; let OR2 := u.2.2.2.2.2.2.2.2.2.2.2; [(h0, .inr (7, [.ref b1, .ref b2, .ref b3, .ref b4, .ref b5, .ref b6, .int (nI (sz + 1))])), (b1, .inl (dA 1, 2 * sz, .inr (.inl fun j => lZ (PA2 j)))), (b2, .inl (dA 1, 2 * sz, .inr (.inl fun j => lZ (WH2 j)))), (b3, .inl (dA 0, 2 * sz, .inl fun j => nI (WT2 j))), (b4, .inl (dA 0, 2 * sz, .inl fun j => iZ (VX2 j))), (b5, .inl (dA 0, 2 * sz, .inl fun j => iZ (VY2 j))), (b6, .inl (dA 0, 2 * sz, .inl fun j => nI (OR2 j)))]) := by
  refine Wr.of (by decide) (Nat.le_of_ble_eq_true rfl) ?_
  intro pG eG sG mG bG tG cG ls A hx hb hr hml hown hts hlocks hnm hP hK hD hS hA hl
  have hK1 := hK.1
  have hown : sG.vm.findClass RX8 = some mG.cls := hown
  have hl : lv_has ls 8 [(0, .ref h0), (1, .long (lZ part)), (3, .long (lZ whole)), (5, .int (nI what)), (6, .int (iZ px)), (7, .int (iZ py))] := hl
  refine lv_aload_n hx hb dX8_add_0 rfl (lv_at hl 0 rfl) ?_
  refine va_get (D := D) (ci := 7) (v := .int (nI sz)) (C := RX8) (T := TX8) (N := 7) hx hb hts in_X8 hown hK.1 hP 0 rfl rfl 6 (Nat.le_of_ble_eq_true rfl) (hts _ q269) (fun _ h9 => h9) rfl dX8_add_1 ?_
  refine lv_aload_n hx hb dX8_add_4 rfl (lv_at hl 0 rfl) ?_
  refine va_get (D := D) (ci := 7) (v := .ref p1) (C := RX8) (T := TX8) (N := 7) hx hb hts in_X8 hown hK.1 hP 0 rfl rfl 0 (Nat.le_of_ble_eq_true rfl) (hts _ q259) (fun _ h9 => h9) rfl dX8_add_5 ?_
  refine va_alen (v := nI nc) hx hb hK.1 hP 1 1 rfl rfl rfl dX8_add_8 ?_
  refine zn_icmp_ne (tgt := 16) hx hb (by omega) (by omega) dX8_add_9 (by decide) (fun c_1 => ?_) (fun c_1 => ?_)
  · skip
    exfalso; omega
  · skip
    refine lv_aload_n hx hb dX8_add_12 rfl (lv_at hl 0 rfl) ?_
    refine zc_wrV (rest := []) (wr := []) ⟨hx, hb, hml, hown, hts⟩ (metX8_grow lG D dA h0 p1 p2 p3 p4 p5 p6 nc sz PA WH WT VX VY OR_ (by first | assumption | omega) (by first | assumption | omega)) (cwV 0 hts (lw_V q541 q543 qs11 q78 q544) rfl rfl rfl (by decide +kernel) ⟨Nat.le_of_ble_eq_true rfl, Nat.le_of_ble_eq_true rfl⟩) (va_recv hK.1 hP (ci := 7) (q0 := 0) rfl rfl) hP hK hD hS hA [0, 1, 2, 3, 4, 5, 6] [] rfl rfl (by decide) (by decide) (by decide) rfl hl.1 rfl (Nat.le_of_ble_eq_true rfl) dX8_add_13 ⟨show 0 + 6 ≤ 6 by omega, show 0 + (12 * sz) ≤ (12 * sz) by omega⟩ (fun u H locs hp_8 hP hD hS => ?_)
    obtain ⟨b1_2, b2_3, b3_4, b4_5, b5_6, b6_7⟩ := u
    have hP : va_P D zCl [(h0, .inr (7, [.ref b1_2, .ref b2_3, .ref b3_4, .ref b4_5, .ref b5_6, .ref b6_7, .int (nI sz)])), (b1_2, .inl (dA 1, 2 * sz, .inr (.inl fun j => lZ ((zcpy PA (fun _ => 0) nc) j)))), (b2_3, .inl (dA 1, 2 * sz, .inr (.inl fun j => lZ ((zcpy WH (fun _ => 0) nc) j)))), (b3_4, .inl (dA 0, 2 * sz, .inl fun j => nI ((zcpy WT (fun _ => 0) nc) j))), (b4_5, .inl (dA 0, 2 * sz, .inl fun j => iZ ((zcpy VX (fun _ => 0) nc) j))), (b5_6, .inl (dA 0, 2 * sz, .inl fun j => iZ ((zcpy VY (fun _ => 0) nc) j))), (b6_7, .inl (dA 0, 2 * sz, .inl fun j => nI ((zcpy OR_ (fun _ => 0) nc) j)))] H := hP
    have hD : va_D A [(h0, .inr (7, [.ref b1_2, .ref b2_3, .ref b3_4, .ref b4_5, .ref b5_6, .ref b6_7, .int (nI sz)])), (b1_2, .inl (dA 1, 2 * sz, .inr (.inl fun j => lZ ((zcpy PA (fun _ => 0) nc) j)))), (b2_3, .inl (dA 1, 2 * sz, .inr (.inl fun j => lZ ((zcpy WH (fun _ => 0) nc) j)))), (b3_4, .inl (dA 0, 2 * sz, .inl fun j => nI ((zcpy WT (fun _ => 0) nc) j))), (b4_5, .inl (dA 0, 2 * sz, .inl fun j => iZ ((zcpy VX (fun _ => 0) nc) j))), (b5_6, .inl (dA 0, 2 * sz, .inl fun j => iZ ((zcpy VY (fun _ => 0) nc) j))), (b6_7, .inl (dA 0, 2 * sz, .inl fun j => nI ((zcpy OR_ (fun _ => 0) nc) j)))] := hD
    show W _ _ _ _ _ _ _ _ _ _ _ _ 6 (0 + (12 * sz)) _ (F0 mG 16 ls [])
    refine lv_aload_n hx hb dX8_add_16 rfl (lv_at hl 0 rfl) ?_
    refine va_get (D := D) (ci := 7) (v := .ref b1_2) (C := RX8) (T := TX8) (N := 7) hx hb hts in_X8 hown hK.1 hP 0 rfl rfl 0 (Nat.le_of_ble_eq_true rfl) (hts _ q259) (fun _ h9 => h9) rfl dX8_add_17 ?_
    refine lv_aload_n hx hb dX8_add_20 rfl (lv_at hl 0 rfl) ?_
    refine va_get (D := D) (ci := 7) (v := .int (nI sz)) (C := RX8) (T := TX8) (N := 7) hx hb hts in_X8 hown hK.1 hP 0 rfl rfl 6 (Nat.le_of_ble_eq_true rfl) (hts _ q269) (fun _ h9 => h9) rfl dX8_add_21 ?_
    refine lv_lload_n hx hb dX8_add_24 rfl (lv_at hl 1 rfl) ?_
    refine zz_lastore (f := zcpy PA (fun _ => 0) nc) (i := sz) (x := part) hx hb hK.1 hP hD hS 1 1 rfl rfl (by omega) (by omega) dX8_add_25 (fun H locs hP hD hS => ?_)
    have hP : va_P D zCl [(h0, .inr (7, [.ref b1_2, .ref b2_3, .ref b3_4, .ref b4_5, .ref b5_6, .ref b6_7, .int (nI sz)])), (b1_2, .inl (dA 1, 2 * sz, .inr (.inl fun j => lZ ((updZ (zcpy PA (fun _ => 0) nc) sz part) j)))), (b2_3, .inl (dA 1, 2 * sz, .inr (.inl fun j => lZ ((zcpy WH (fun _ => 0) nc) j)))), (b3_4, .inl (dA 0, 2 * sz, .inl fun j => nI ((zcpy WT (fun _ => 0) nc) j))), (b4_5, .inl (dA 0, 2 * sz, .inl fun j => iZ ((zcpy VX (fun _ => 0) nc) j))), (b5_6, .inl (dA 0, 2 * sz, .inl fun j => iZ ((zcpy VY (fun _ => 0) nc) j))), (b6_7, .inl (dA 0, 2 * sz, .inl fun j => nI ((zcpy OR_ (fun _ => 0) nc) j)))] H := hP
    have hD : va_D A [(h0, .inr (7, [.ref b1_2, .ref b2_3, .ref b3_4, .ref b4_5, .ref b5_6, .ref b6_7, .int (nI sz)])), (b1_2, .inl (dA 1, 2 * sz, .inr (.inl fun j => lZ ((updZ (zcpy PA (fun _ => 0) nc) sz part) j)))), (b2_3, .inl (dA 1, 2 * sz, .inr (.inl fun j => lZ ((zcpy WH (fun _ => 0) nc) j)))), (b3_4, .inl (dA 0, 2 * sz, .inl fun j => nI ((zcpy WT (fun _ => 0) nc) j))), (b4_5, .inl (dA 0, 2 * sz, .inl fun j => iZ ((zcpy VX (fun _ => 0) nc) j))), (b5_6, .inl (dA 0, 2 * sz, .inl fun j => iZ ((zcpy VY (fun _ => 0) nc) j))), (b6_7, .inl (dA 0, 2 * sz, .inl fun j => nI ((zcpy OR_ (fun _ => 0) nc) j)))] := hD
    refine lv_aload_n hx hb dX8_add_26 rfl (lv_at hl 0 rfl) ?_
    refine va_get (D := D) (ci := 7) (v := .ref b2_3) (C := RX8) (T := TX8) (N := 7) hx hb hts in_X8 hown hK.1 hP 0 rfl rfl 1 (Nat.le_of_ble_eq_true rfl) (hts _ q260) (fun _ h9 => h9) rfl dX8_add_27 ?_
    refine lv_aload_n hx hb dX8_add_30 rfl (lv_at hl 0 rfl) ?_
    refine va_get (D := D) (ci := 7) (v := .int (nI sz)) (C := RX8) (T := TX8) (N := 7) hx hb hts in_X8 hown hK.1 hP 0 rfl rfl 6 (Nat.le_of_ble_eq_true rfl) (hts _ q269) (fun _ h9 => h9) rfl dX8_add_31 ?_
    refine lv_lload_n hx hb dX8_add_34 rfl (lv_at hl 2 rfl) ?_
    refine zz_lastore (f := zcpy WH (fun _ => 0) nc) (i := sz) (x := whole) hx hb hK.1 hP hD hS 2 1 rfl rfl (by omega) (by omega) dX8_add_35 (fun H locs hP hD hS => ?_)
    have hP : va_P D zCl [(h0, .inr (7, [.ref b1_2, .ref b2_3, .ref b3_4, .ref b4_5, .ref b5_6, .ref b6_7, .int (nI sz)])), (b1_2, .inl (dA 1, 2 * sz, .inr (.inl fun j => lZ ((updZ (zcpy PA (fun _ => 0) nc) sz part) j)))), (b2_3, .inl (dA 1, 2 * sz, .inr (.inl fun j => lZ ((updZ (zcpy WH (fun _ => 0) nc) sz whole) j)))), (b3_4, .inl (dA 0, 2 * sz, .inl fun j => nI ((zcpy WT (fun _ => 0) nc) j))), (b4_5, .inl (dA 0, 2 * sz, .inl fun j => iZ ((zcpy VX (fun _ => 0) nc) j))), (b5_6, .inl (dA 0, 2 * sz, .inl fun j => iZ ((zcpy VY (fun _ => 0) nc) j))), (b6_7, .inl (dA 0, 2 * sz, .inl fun j => nI ((zcpy OR_ (fun _ => 0) nc) j)))] H := hP
    have hD : va_D A [(h0, .inr (7, [.ref b1_2, .ref b2_3, .ref b3_4, .ref b4_5, .ref b5_6, .ref b6_7, .int (nI sz)])), (b1_2, .inl (dA 1, 2 * sz, .inr (.inl fun j => lZ ((updZ (zcpy PA (fun _ => 0) nc) sz part) j)))), (b2_3, .inl (dA 1, 2 * sz, .inr (.inl fun j => lZ ((updZ (zcpy WH (fun _ => 0) nc) sz whole) j)))), (b3_4, .inl (dA 0, 2 * sz, .inl fun j => nI ((zcpy WT (fun _ => 0) nc) j))), (b4_5, .inl (dA 0, 2 * sz, .inl fun j => iZ ((zcpy VX (fun _ => 0) nc) j))), (b5_6, .inl (dA 0, 2 * sz, .inl fun j => iZ ((zcpy VY (fun _ => 0) nc) j))), (b6_7, .inl (dA 0, 2 * sz, .inl fun j => nI ((zcpy OR_ (fun _ => 0) nc) j)))] := hD
    refine lv_aload_n hx hb dX8_add_36 rfl (lv_at hl 0 rfl) ?_
    refine va_get (D := D) (ci := 7) (v := .ref b3_4) (C := RX8) (T := TX8) (N := 7) hx hb hts in_X8 hown hK.1 hP 0 rfl rfl 2 (Nat.le_of_ble_eq_true rfl) (hts _ q261) (fun _ h9 => h9) rfl dX8_add_37 ?_
    refine lv_aload_n hx hb dX8_add_40 rfl (lv_at hl 0 rfl) ?_
    refine va_get (D := D) (ci := 7) (v := .int (nI sz)) (C := RX8) (T := TX8) (N := 7) hx hb hts in_X8 hown hK.1 hP 0 rfl rfl 6 (Nat.le_of_ble_eq_true rfl) (hts _ q269) (fun _ h9 => h9) rfl dX8_add_41 ?_
    refine lv_iload hx hb dX8_add_44 (lv_at hl 3 rfl) ?_
    refine zn_iastore (f := zcpy WT (fun _ => 0) nc) (i := sz) (x := what) hx hb hK.1 hP hD hS 3 0 rfl rfl (by omega) (by omega) dX8_add_46 (fun H locs hP hD hS => ?_)
    have hP : va_P D zCl [(h0, .inr (7, [.ref b1_2, .ref b2_3, .ref b3_4, .ref b4_5, .ref b5_6, .ref b6_7, .int (nI sz)])), (b1_2, .inl (dA 1, 2 * sz, .inr (.inl fun j => lZ ((updZ (zcpy PA (fun _ => 0) nc) sz part) j)))), (b2_3, .inl (dA 1, 2 * sz, .inr (.inl fun j => lZ ((updZ (zcpy WH (fun _ => 0) nc) sz whole) j)))), (b3_4, .inl (dA 0, 2 * sz, .inl fun j => nI ((updZ (zcpy WT (fun _ => 0) nc) sz what) j))), (b4_5, .inl (dA 0, 2 * sz, .inl fun j => iZ ((zcpy VX (fun _ => 0) nc) j))), (b5_6, .inl (dA 0, 2 * sz, .inl fun j => iZ ((zcpy VY (fun _ => 0) nc) j))), (b6_7, .inl (dA 0, 2 * sz, .inl fun j => nI ((zcpy OR_ (fun _ => 0) nc) j)))] H := hP
    have hD : va_D A [(h0, .inr (7, [.ref b1_2, .ref b2_3, .ref b3_4, .ref b4_5, .ref b5_6, .ref b6_7, .int (nI sz)])), (b1_2, .inl (dA 1, 2 * sz, .inr (.inl fun j => lZ ((updZ (zcpy PA (fun _ => 0) nc) sz part) j)))), (b2_3, .inl (dA 1, 2 * sz, .inr (.inl fun j => lZ ((updZ (zcpy WH (fun _ => 0) nc) sz whole) j)))), (b3_4, .inl (dA 0, 2 * sz, .inl fun j => nI ((updZ (zcpy WT (fun _ => 0) nc) sz what) j))), (b4_5, .inl (dA 0, 2 * sz, .inl fun j => iZ ((zcpy VX (fun _ => 0) nc) j))), (b5_6, .inl (dA 0, 2 * sz, .inl fun j => iZ ((zcpy VY (fun _ => 0) nc) j))), (b6_7, .inl (dA 0, 2 * sz, .inl fun j => nI ((zcpy OR_ (fun _ => 0) nc) j)))] := hD
    refine lv_aload_n hx hb dX8_add_47 rfl (lv_at hl 0 rfl) ?_
    refine va_get (D := D) (ci := 7) (v := .ref b4_5) (C := RX8) (T := TX8) (N := 7) hx hb hts in_X8 hown hK.1 hP 0 rfl rfl 3 (Nat.le_of_ble_eq_true rfl) (hts _ q263) (fun _ h9 => h9) rfl dX8_add_48 ?_
    refine lv_aload_n hx hb dX8_add_51 rfl (lv_at hl 0 rfl) ?_
    refine va_get (D := D) (ci := 7) (v := .int (nI sz)) (C := RX8) (T := TX8) (N := 7) hx hb hts in_X8 hown hK.1 hP 0 rfl rfl 6 (Nat.le_of_ble_eq_true rfl) (hts _ q269) (fun _ h9 => h9) rfl dX8_add_52 ?_
    refine lv_iload hx hb dX8_add_55 (lv_at hl 4 rfl) ?_
    refine zz_iastore (f := zcpy VX (fun _ => 0) nc) (i := sz) (x := px) hx hb hK.1 hP hD hS 4 0 rfl rfl (by omega) (by omega) dX8_add_57 (fun H locs hP hD hS => ?_)
    have hP : va_P D zCl [(h0, .inr (7, [.ref b1_2, .ref b2_3, .ref b3_4, .ref b4_5, .ref b5_6, .ref b6_7, .int (nI sz)])), (b1_2, .inl (dA 1, 2 * sz, .inr (.inl fun j => lZ ((updZ (zcpy PA (fun _ => 0) nc) sz part) j)))), (b2_3, .inl (dA 1, 2 * sz, .inr (.inl fun j => lZ ((updZ (zcpy WH (fun _ => 0) nc) sz whole) j)))), (b3_4, .inl (dA 0, 2 * sz, .inl fun j => nI ((updZ (zcpy WT (fun _ => 0) nc) sz what) j))), (b4_5, .inl (dA 0, 2 * sz, .inl fun j => iZ ((updZ (zcpy VX (fun _ => 0) nc) sz px) j))), (b5_6, .inl (dA 0, 2 * sz, .inl fun j => iZ ((zcpy VY (fun _ => 0) nc) j))), (b6_7, .inl (dA 0, 2 * sz, .inl fun j => nI ((zcpy OR_ (fun _ => 0) nc) j)))] H := hP
    have hD : va_D A [(h0, .inr (7, [.ref b1_2, .ref b2_3, .ref b3_4, .ref b4_5, .ref b5_6, .ref b6_7, .int (nI sz)])), (b1_2, .inl (dA 1, 2 * sz, .inr (.inl fun j => lZ ((updZ (zcpy PA (fun _ => 0) nc) sz part) j)))), (b2_3, .inl (dA 1, 2 * sz, .inr (.inl fun j => lZ ((updZ (zcpy WH (fun _ => 0) nc) sz whole) j)))), (b3_4, .inl (dA 0, 2 * sz, .inl fun j => nI ((updZ (zcpy WT (fun _ => 0) nc) sz what) j))), (b4_5, .inl (dA 0, 2 * sz, .inl fun j => iZ ((updZ (zcpy VX (fun _ => 0) nc) sz px) j))), (b5_6, .inl (dA 0, 2 * sz, .inl fun j => iZ ((zcpy VY (fun _ => 0) nc) j))), (b6_7, .inl (dA 0, 2 * sz, .inl fun j => nI ((zcpy OR_ (fun _ => 0) nc) j)))] := hD
    refine lv_aload_n hx hb dX8_add_58 rfl (lv_at hl 0 rfl) ?_
    refine va_get (D := D) (ci := 7) (v := .ref b5_6) (C := RX8) (T := TX8) (N := 7) hx hb hts in_X8 hown hK.1 hP 0 rfl rfl 4 (Nat.le_of_ble_eq_true rfl) (hts _ q265) (fun _ h9 => h9) rfl dX8_add_59 ?_
    refine lv_aload_n hx hb dX8_add_62 rfl (lv_at hl 0 rfl) ?_
    refine va_get (D := D) (ci := 7) (v := .int (nI sz)) (C := RX8) (T := TX8) (N := 7) hx hb hts in_X8 hown hK.1 hP 0 rfl rfl 6 (Nat.le_of_ble_eq_true rfl) (hts _ q269) (fun _ h9 => h9) rfl dX8_add_63 ?_
    refine lv_iload hx hb dX8_add_66 (lv_at hl 5 rfl) ?_
    refine zz_iastore (f := zcpy VY (fun _ => 0) nc) (i := sz) (x := py) hx hb hK.1 hP hD hS 5 0 rfl rfl (by omega) (by omega) dX8_add_68 (fun H locs hP hD hS => ?_)
    have hP : va_P D zCl [(h0, .inr (7, [.ref b1_2, .ref b2_3, .ref b3_4, .ref b4_5, .ref b5_6, .ref b6_7, .int (nI sz)])), (b1_2, .inl (dA 1, 2 * sz, .inr (.inl fun j => lZ ((updZ (zcpy PA (fun _ => 0) nc) sz part) j)))), (b2_3, .inl (dA 1, 2 * sz, .inr (.inl fun j => lZ ((updZ (zcpy WH (fun _ => 0) nc) sz whole) j)))), (b3_4, .inl (dA 0, 2 * sz, .inl fun j => nI ((updZ (zcpy WT (fun _ => 0) nc) sz what) j))), (b4_5, .inl (dA 0, 2 * sz, .inl fun j => iZ ((updZ (zcpy VX (fun _ => 0) nc) sz px) j))), (b5_6, .inl (dA 0, 2 * sz, .inl fun j => iZ ((updZ (zcpy VY (fun _ => 0) nc) sz py) j))), (b6_7, .inl (dA 0, 2 * sz, .inl fun j => nI ((zcpy OR_ (fun _ => 0) nc) j)))] H := hP
    have hD : va_D A [(h0, .inr (7, [.ref b1_2, .ref b2_3, .ref b3_4, .ref b4_5, .ref b5_6, .ref b6_7, .int (nI sz)])), (b1_2, .inl (dA 1, 2 * sz, .inr (.inl fun j => lZ ((updZ (zcpy PA (fun _ => 0) nc) sz part) j)))), (b2_3, .inl (dA 1, 2 * sz, .inr (.inl fun j => lZ ((updZ (zcpy WH (fun _ => 0) nc) sz whole) j)))), (b3_4, .inl (dA 0, 2 * sz, .inl fun j => nI ((updZ (zcpy WT (fun _ => 0) nc) sz what) j))), (b4_5, .inl (dA 0, 2 * sz, .inl fun j => iZ ((updZ (zcpy VX (fun _ => 0) nc) sz px) j))), (b5_6, .inl (dA 0, 2 * sz, .inl fun j => iZ ((updZ (zcpy VY (fun _ => 0) nc) sz py) j))), (b6_7, .inl (dA 0, 2 * sz, .inl fun j => nI ((zcpy OR_ (fun _ => 0) nc) j)))] := hD
    refine lv_aload_n hx hb dX8_add_69 rfl (lv_at hl 0 rfl) ?_
    refine lv_dup hx hb dX8_add_70 rfl ?_
    refine va_get (D := D) (ci := 7) (v := .int (nI sz)) (C := RX8) (T := TX8) (N := 7) hx hb hts in_X8 hown hK.1 hP 0 rfl rfl 6 (Nat.le_of_ble_eq_true rfl) (hts _ q269) (fun _ h9 => h9) rfl dX8_add_71 ?_
    refine lv_iconst (v := nI 1) hx hb dX8_add_74 (by decide) ?_
    refine zn_iadd hx hb dX8_add_75 ?_
    refine va_put (D := D) (ci := 7) (v := .int (nI (sz + 1))) (ty := .int) (C := RX8) (T := TX8) (N := 7) hx hb hts in_X8 tyX8 tyX8_ok nmX8 hown hK.1 hP hD hS 0 rfl rfl 6 (Nat.le_of_ble_eq_true rfl) (hts _ q269) (fun _ h9 => h9) rfl (by decide +kernel) rfl rfl (Nat.le_of_ble_eq_true rfl) dX8_add_76 (fun H locs hP hD hS => ?_)
    have hP : va_P D zCl [(h0, .inr (7, [.ref b1_2, .ref b2_3, .ref b3_4, .ref b4_5, .ref b5_6, .ref b6_7, .int (nI (sz + 1))])), (b1_2, .inl (dA 1, 2 * sz, .inr (.inl fun j => lZ ((updZ (zcpy PA (fun _ => 0) nc) sz part) j)))), (b2_3, .inl (dA 1, 2 * sz, .inr (.inl fun j => lZ ((updZ (zcpy WH (fun _ => 0) nc) sz whole) j)))), (b3_4, .inl (dA 0, 2 * sz, .inl fun j => nI ((updZ (zcpy WT (fun _ => 0) nc) sz what) j))), (b4_5, .inl (dA 0, 2 * sz, .inl fun j => iZ ((updZ (zcpy VX (fun _ => 0) nc) sz px) j))), (b5_6, .inl (dA 0, 2 * sz, .inl fun j => iZ ((updZ (zcpy VY (fun _ => 0) nc) sz py) j))), (b6_7, .inl (dA 0, 2 * sz, .inl fun j => nI ((zcpy OR_ (fun _ => 0) nc) j)))] H := hP
    have hD : va_D A [(h0, .inr (7, [.ref b1_2, .ref b2_3, .ref b3_4, .ref b4_5, .ref b5_6, .ref b6_7, .int (nI (sz + 1))])), (b1_2, .inl (dA 1, 2 * sz, .inr (.inl fun j => lZ ((updZ (zcpy PA (fun _ => 0) nc) sz part) j)))), (b2_3, .inl (dA 1, 2 * sz, .inr (.inl fun j => lZ ((updZ (zcpy WH (fun _ => 0) nc) sz whole) j)))), (b3_4, .inl (dA 0, 2 * sz, .inl fun j => nI ((updZ (zcpy WT (fun _ => 0) nc) sz what) j))), (b4_5, .inl (dA 0, 2 * sz, .inl fun j => iZ ((updZ (zcpy VX (fun _ => 0) nc) sz px) j))), (b5_6, .inl (dA 0, 2 * sz, .inl fun j => iZ ((updZ (zcpy VY (fun _ => 0) nc) sz py) j))), (b6_7, .inl (dA 0, 2 * sz, .inl fun j => nI ((zcpy OR_ (fun _ => 0) nc) j)))] := hD
    refine W.widen (k := 6) (n := 12 * sz) (by omega) (by omega) ?_
    exact zr_wrV (u := (b1_2, b2_3, b3_4, b4_5, b5_6, b6_7, updZ (zcpy PA (fun _ => 0) nc) sz part, updZ (zcpy WH (fun _ => 0) nc) sz whole, updZ (zcpy WT (fun _ => 0) nc) sz what, updZ (zcpy VX (fun _ => 0) nc) sz px, updZ (zcpy VY (fun _ => 0) nc) sz py, zcpy OR_ (fun _ => 0) nc)) rfl (show evList (updZ (zcpy PA (fun _ => 0) nc) sz part) (updZ (zcpy WH (fun _ => 0) nc) sz whole) (updZ (zcpy WT (fun _ => 0) nc) sz what) (updZ (zcpy VX (fun _ => 0) nc) sz px) (updZ (zcpy VY (fun _ => 0) nc) sz py) (sz + 1) = evList PA WH WT VX VY sz ++ [(part, whole, what, px, py)] ∧ evB (updZ (zcpy PA (fun _ => 0) nc) sz part) (updZ (zcpy WH (fun _ => 0) nc) sz whole) from ⟨by rw [evList_push, ← hsz, evList_cpy], evB_upd (evB_cpy hB) hpa hwh⟩) (hP.sub [0, 1, 2, 3, 4, 5, 6] rfl) (hD.sub [0, 1, 2, 3, 4, 5, 6] (by decide) rfl) hS hx hb hr hlocks dX8_add_79
set_option maxHeartbeats 4000000 in
set_option maxRecDepth 100000 in
theorem metX8_compare (lG : Launch) (D : va_G) (dA : Nat → ClassId) (h0 : Nat) (p1 : Nat) (p2 : Nat) (p3 : Nat) (p4 : Nat) (p5 : Nat) (p6 : Nat) (nc : Nat) (sz : Nat) (PA : Nat → Int) (WH : Nat → Int) (WT : Nat → Nat) (VX : Nat → Int) (VY : Nat → Int) (OR_ : Nat → Nat) (a : Nat) (b : Nat) (hnc : nc ≤ 8192) (ha : a < nc) (hb0 : b < nc) (hB : evB PA WH) : Ro lG yX8_compare (ws_ yX8_compare cX8_compare 3 (some .int)) 2 74 D dA [.ref h0, .int (nI a), .int (nI b)] [(h0, .inr (7, [.ref p1, .ref p2, .ref p3, .ref p4, .ref p5, .ref p6, .int (nI sz)])), (p1, .inl (dA 1, nc, .inr (.inl fun j => lZ (PA j)))), (p2, .inl (dA 1, nc, .inr (.inl fun j => lZ (WH j)))), (p3, .inl (dA 0, nc, .inl fun j => nI (WT j))), (p4, .inl (dA 0, nc, .inl fun j => iZ (VX j))), (p5, .inl (dA 0, nc, .inl fun j => iZ (VY j))), (p6, .inl (dA 0, nc, .inl fun j => nI (OR_ j)))] (some (.int (iZ (cmpF (PA a) (WH a) (PA b) (WH b))))) := by
  refine Ro.of (by decide) (Nat.le_of_ble_eq_true rfl) ?_
  intro pG eG sG mG bG tG cG ls hx hb hr hml hown hts hlocks hP hK hl
  have hown : sG.vm.findClass RX8 = some mG.cls := hown
  have hl : lv_has ls 3 [(0, .ref h0), (1, .int (nI a)), (2, .int (nI b))] := hl
  refine lv_aload_n hx hb dX8_compare_0 rfl (lv_at hl 0 rfl) ?_
  refine va_get (D := D) (ci := 7) (v := .ref p1) (C := RX8) (T := TX8) (N := 7) hx hb hts in_X8 hown hK.1 hP 0 rfl rfl 0 (Nat.le_of_ble_eq_true rfl) (hts _ q259) (fun _ h9 => h9) rfl dX8_compare_1 ?_
  refine lv_iload_n hx hb dX8_compare_4 rfl (lv_at hl 1 rfl) ?_
  refine zz_laload (f := PA) (i := a) hx hb hK.1 hP 1 1 rfl rfl (by omega) (by omega) dX8_compare_5 ?_
  refine lv_aload_n hx hb dX8_compare_6 rfl (lv_at hl 0 rfl) ?_
  refine va_get (D := D) (ci := 7) (v := .ref p2) (C := RX8) (T := TX8) (N := 7) hx hb hts in_X8 hown hK.1 hP 0 rfl rfl 1 (Nat.le_of_ble_eq_true rfl) (hts _ q260) (fun _ h9 => h9) rfl dX8_compare_7 ?_
  refine lv_iload_n hx hb dX8_compare_10 rfl (lv_at hl 1 rfl) ?_
  refine zz_laload (f := WH) (i := a) hx hb hK.1 hP 2 1 rfl rfl (by omega) (by omega) dX8_compare_11 ?_
  refine lv_aload_n hx hb dX8_compare_12 rfl (lv_at hl 0 rfl) ?_
  refine va_get (D := D) (ci := 7) (v := .ref p1) (C := RX8) (T := TX8) (N := 7) hx hb hts in_X8 hown hK.1 hP 0 rfl rfl 0 (Nat.le_of_ble_eq_true rfl) (hts _ q259) (fun _ h9 => h9) rfl dX8_compare_13 ?_
  refine lv_iload_n hx hb dX8_compare_16 rfl (lv_at hl 2 rfl) ?_
  refine zz_laload (f := PA) (i := b) hx hb hK.1 hP 1 1 rfl rfl (by omega) (by omega) dX8_compare_17 ?_
  refine lv_aload_n hx hb dX8_compare_18 rfl (lv_at hl 0 rfl) ?_
  refine va_get (D := D) (ci := 7) (v := .ref p2) (C := RX8) (T := TX8) (N := 7) hx hb hts in_X8 hown hK.1 hP 0 rfl rfl 1 (Nat.le_of_ble_eq_true rfl) (hts _ q260) (fun _ h9 => h9) rfl dX8_compare_19 ?_
  refine lv_iload_n hx hb dX8_compare_22 rfl (lv_at hl 2 rfl) ?_
  refine zz_laload (f := WH) (i := b) hx hb hK.1 hP 2 1 rfl rfl (by omega) (by omega) dX8_compare_23 ?_
  refine zc_roSN (v := .int (iZ (cmpF (PA a) (WH a) (PA b) (WH b)))) (rest := []) ⟨hx, hb, hml, hown, hts⟩ (metX11_compare lG D dA (PA a) (WH a) (PA b) (WH b) ((hB _).1) ((hB _).2) ((hB _).1) ((hB _).2)) ⟨(va_cnB 4 hts (lw_meth q581) rfl rfl rfl (hK.2.1 _ zq579) (hts _ q91) (by decide +kernel) ⟨Nat.le_of_ble_eq_true rfl, Nat.le_of_ble_eq_true rfl⟩), hts _ q580, trivial⟩ (hP.sub [] rfl) hK rfl hl.1 rfl (Nat.le_of_ble_eq_true rfl) dX8_compare_24 ⟨Nat.zero_le _, Nat.zero_le _⟩ ?_
  exact zr_roI rfl hx hb hr hlocks dX8_compare_27
set_option maxHeartbeats 4000000 in
set_option maxRecDepth 100000 in
theorem metX8_isBehind (lG : Launch) (D : va_G) (dA : Nat → ClassId) (h0 : Nat) (p1 : Nat) (p2 : Nat) (p3 : Nat) (p4 : Nat) (p5 : Nat) (p6 : Nat) (nc : Nat) (sz : Nat) (PA : Nat → Int) (WH : Nat → Int) (WT : Nat → Nat) (VX : Nat → Int) (VY : Nat → Int) (OR_ : Nat → Nat) (a : Nat) (b : Nat) (hnc : nc ≤ 8192) (ha : a < nc) (hb0 : b < nc) (hB : evB PA WH) (w1 : WT a < 3) (w2 : WT b < 3) : Ro lG yX8_isBehind (ws_ yX8_isBehind cX8_isBehind 4 (some .boolean)) 3 96 D dA [.ref h0, .int (nI a), .int (nI b)] [(h0, .inr (7, [.ref p1, .ref p2, .ref p3, .ref p4, .ref p5, .ref p6, .int (nI sz)])), (p1, .inl (dA 1, nc, .inr (.inl fun j => lZ (PA j)))), (p2, .inl (dA 1, nc, .inr (.inl fun j => lZ (WH j)))), (p3, .inl (dA 0, nc, .inl fun j => nI (WT j))), (p4, .inl (dA 0, nc, .inl fun j => iZ (VX j))), (p5, .inl (dA 0, nc, .inl fun j => iZ (VY j))), (p6, .inl (dA 0, nc, .inl fun j => nI (OR_ j)))] (some (.int (bI (bhE PA WH WT a b)))) := by
  refine Ro.of (by decide) (Nat.le_of_ble_eq_true rfl) ?_
  intro pG eG sG mG bG tG cG ls hx hb hr hml hown hts hlocks hP hK hl
  have hown : sG.vm.findClass RX8 = some mG.cls := hown
  have hl : lv_has ls 4 [(0, .ref h0), (1, .int (nI a)), (2, .int (nI b))] := hl
  refine lv_aload_n hx hb dX8_isBehind_0 rfl (lv_at hl 0 rfl) ?_
  refine lv_iload_n hx hb dX8_isBehind_1 rfl (lv_at hl 1 rfl) ?_
  refine lv_iload_n hx hb dX8_isBehind_2 rfl (lv_at hl 2 rfl) ?_
  refine zc_roV (v := .int (iZ (cmpF (PA a) (WH a) (PA b) (WH b)))) (rest := []) ⟨hx, hb, hml, hown, hts⟩ (metX8_compare lG D dA h0 p1 p2 p3 p4 p5 p6 nc sz PA WH WT VX VY OR_ a b (by first | assumption | omega) (by first | assumption | omega) (by first | assumption | omega) (by first | assumption | omega)) (cwV 2 hts (lw_V q575 q576 q577 q78 q578) rfl rfl rfl (by decide +kernel) ⟨Nat.le_of_ble_eq_true rfl, Nat.le_of_ble_eq_true rfl⟩) (va_recv hK.1 hP (ci := 7) (q0 := 0) rfl rfl) (hP.sub [0, 1, 2, 3, 4, 5, 6] rfl) hK rfl hl.1 rfl (Nat.le_of_ble_eq_true rfl) dX8_isBehind_3 ⟨Nat.zero_le _, Nat.zero_le _⟩ ?_
  refine lv_istore_n (lv' := [(3, .int (iZ (cmpF (PA a) (WH a) (PA b) (WH b)))), (0, .ref h0), (1, .int (nI a)), (2, .int (nI b))]) hx hb dX8_isBehind_6 rfl hl (by decide) rfl (fun ls hl => ?_)
  refine lv_iload_n hx hb dX8_isBehind_7 rfl (lv_at hl 0 rfl) ?_
  refine zz_if_eq (tgt := 23) hx hb (cmpF_I _ _ _ _) dX8_isBehind_8 (by decide) (fun c_1 => ?_) (fun c_1 => ?_)
  · skip
    refine lv_aload_n hx hb dX8_isBehind_23 rfl (lv_at hl 1 rfl) ?_
    refine va_get (D := D) (ci := 7) (v := .ref p3) (C := RX8) (T := TX8) (N := 7) hx hb hts in_X8 hown hK.1 hP 0 rfl rfl 2 (Nat.le_of_ble_eq_true rfl) (hts _ q261) (fun _ h9 => h9) rfl dX8_isBehind_24 ?_
    refine lv_iload_n hx hb dX8_isBehind_27 rfl (lv_at hl 2 rfl) ?_
    refine zn_iaload (f := WT) (i := a) hx hb hK.1 hP 3 0 rfl rfl (by omega) (by omega) dX8_isBehind_28 ?_
    refine lv_aload_n hx hb dX8_isBehind_29 rfl (lv_at hl 1 rfl) ?_
    refine va_get (D := D) (ci := 7) (v := .ref p3) (C := RX8) (T := TX8) (N := 7) hx hb hts in_X8 hown hK.1 hP 0 rfl rfl 2 (Nat.le_of_ble_eq_true rfl) (hts _ q261) (fun _ h9 => h9) rfl dX8_isBehind_30 ?_
    refine lv_iload_n hx hb dX8_isBehind_33 rfl (lv_at hl 3 rfl) ?_
    refine zn_iaload (f := WT) (i := b) hx hb hK.1 hP 3 0 rfl rfl (by omega) (by omega) dX8_isBehind_34 ?_
    refine zn_icmp_ge (tgt := 42) hx hb (by omega) (by omega) dX8_isBehind_35 (by decide) (fun c_2 => ?_) (fun c_2 => ?_)
    · skip
      refine lv_iconst (v := nI 0) hx hb dX8_isBehind_42 (by decide) ?_
      exact zr_roB (by unfold bhE; first | (rw [if_pos (by assumption), decide_eq_true (by omega)]; rfl) | (rw [if_pos (by assumption), decide_eq_false (by omega)]; rfl) | (rw [if_neg (by omega), decide_eq_true (by omega)]; rfl) | (rw [if_neg (by omega), decide_eq_false (by omega)]; rfl)) hx hb hr hlocks dX8_isBehind_43
    · skip
      refine lv_iconst (v := nI 1) hx hb dX8_isBehind_38 (by decide) ?_
      refine lv_goto (tgt := 43) hx hb dX8_isBehind_39 (by decide) ?_
      exact zr_roB (by unfold bhE; first | (rw [if_pos (by assumption), decide_eq_true (by omega)]; rfl) | (rw [if_pos (by assumption), decide_eq_false (by omega)]; rfl) | (rw [if_neg (by omega), decide_eq_true (by omega)]; rfl) | (rw [if_neg (by omega), decide_eq_false (by omega)]; rfl)) hx hb hr hlocks dX8_isBehind_43
  · skip
    refine lv_iload_n hx hb dX8_isBehind_11 rfl (lv_at hl 0 rfl) ?_
    refine zz_if_le (tgt := 19) hx hb (cmpF_I _ _ _ _) dX8_isBehind_12 (by decide) (fun c_3 => ?_) (fun c_3 => ?_)
    · skip
      refine lv_iconst (v := nI 0) hx hb dX8_isBehind_19 (by decide) ?_
      refine lv_goto (tgt := 43) hx hb dX8_isBehind_20 (by decide) ?_
      exact zr_roB (by unfold bhE; first | (rw [if_pos (by assumption), decide_eq_true (by omega)]; rfl) | (rw [if_pos (by assumption), decide_eq_false (by omega)]; rfl) | (rw [if_neg (by omega), decide_eq_true (by omega)]; rfl) | (rw [if_neg (by omega), decide_eq_false (by omega)]; rfl)) hx hb hr hlocks dX8_isBehind_43
    · skip
      refine lv_iconst (v := nI 1) hx hb dX8_isBehind_15 (by decide) ?_
      refine lv_goto (tgt := 43) hx hb dX8_isBehind_16 (by decide) ?_
      exact zr_roB (by unfold bhE; first | (rw [if_pos (by assumption), decide_eq_true (by omega)]; rfl) | (rw [if_pos (by assumption), decide_eq_false (by omega)]; rfl) | (rw [if_neg (by omega), decide_eq_true (by omega)]; rfl) | (rw [if_neg (by omega), decide_eq_false (by omega)]; rfl)) hx hb hr hlocks dX8_isBehind_43
set_option maxHeartbeats 4000000 in
set_option maxRecDepth 100000 in
theorem metX8_sink (lG : Launch) (D : va_G) (dA : Nat → ClassId) (h0 : Nat) (p1 : Nat) (p2 : Nat) (p3 : Nat) (p4 : Nat) (p5 : Nat) (p6 : Nat) (nc : Nat) (sz : Nat) (PA : Nat → Int) (WH : Nat → Int) (WT : Nat → Nat) (VX : Nat → Int) (VY : Nat → Int) (OR_ : Nat → Nat) (a : Nat) (n : Nat) (hnc : nc ≤ 8192) (hszc : sz ≤ nc) (hnn : n ≤ sz) (hB : evB PA WH) (hWT : ∀ k, k < sz → WT k < 3) (hpos : ∀ k, k < sz → 0 < WH k) (hOR : ∀ k, k < n → OR_ k < sz) (ha : a < n) (hH : heapF (bhS PA WH WT sz) OR_ (a + 1) n) : Wr lG yX8_sink (ws_ yX8_sink cX8_sink 6 none) 4 119 D dA [.ref h0, .int (nI a), .int (nI n)] [(h0, .inr (7, [.ref p1, .ref p2, .ref p3, .ref p4, .ref p5, .ref p6, .int (nI sz)])), (p1, .inl (dA 1, nc, .inr (.inl fun j => lZ (PA j)))), (p2, .inl (dA 1, nc, .inr (.inl fun j => lZ (WH j)))), (p3, .inl (dA 0, nc, .inl fun j => nI (WT j))), (p4, .inl (dA 0, nc, .inl fun j => iZ (VX j))), (p5, .inl (dA 0, nc, .inl fun j => iZ (VY j))), (p6, .inl (dA 0, nc, .inl fun j => nI (OR_ j)))] 0 0 (fun (u : (Nat → Nat)) => let OR2 := u; heapF (bhS PA WH WT sz) OR2 a n ∧ (plist OR2 n).Perm (plist OR_ n) ∧ (∀ k, n ≤ k → OR2 k = OR_ k)) (fun (u : (Nat → Nat)) => let OR2 := u; none) (fun (u : (Nat → Nat)) => let OR2 := u; [(h0, .inr (7, [.ref p1, .ref p2, .ref p3, .ref p4, .ref p5, .ref p6, .int (nI sz)])), (p1, .inl (dA 1, nc, .inr (.inl fun j => lZ (PA j)))), (p2, .inl (dA 1, nc, .inr (.inl fun j => lZ (WH j)))), (p3, .inl (dA 0, nc, .inl fun j => nI (WT j))), (p4, .inl (dA 0, nc, .inl fun j => iZ (VX j))), (p5, .inl (dA 0, nc, .inl fun j => iZ (VY j))), (p6, .inl (dA 0, nc, .inl fun j => nI (OR2 j)))]) := by
  refine Wr.of (by decide) (Nat.le_of_ble_eq_true rfl) ?_
  intro pG eG sG mG bG tG cG ls A hx hb hr hml hown hts hlocks hnm hP hK hD hS hA hl
  have hK1 := hK.1
  have hown : sG.vm.findClass RX8 = some mG.cls := hown
  have hl : lv_has ls 6 [(0, .ref h0), (1, .int (nI a)), (2, .int (nI n))] := hl
  have ho := bhS_ord (PA := PA) (WT := WT) hpos
  refine lv_iload_n hx hb dX8_sink_0 rfl (lv_at hl 1 rfl) ?_
  refine lv_istore_n (lv' := [(3, .int (nI a)), (0, .ref h0), (1, .int (nI a)), (2, .int (nI n))]) hx hb dX8_sink_1 rfl hl (by decide) rfl (fun ls hl => ?_)
  refine lv_iconst (v := nI 2) hx hb dX8_sink_2 (by decide) ?_
  refine lv_iload_n hx hb dX8_sink_3 rfl (lv_at hl 0 rfl) ?_
  refine zn_imul hx hb dX8_sink_4 ?_
  refine lv_iconst (v := nI 1) hx hb dX8_sink_5 (by decide) ?_
  refine zn_iadd hx hb dX8_sink_6 ?_
  refine lv_istore (lv' := [(4, .int (nI ((2 * a) + 1))), (3, .int (nI a)), (0, .ref h0), (1, .int (nI a)), (2, .int (nI n))]) hx hb dX8_sink_7 hl (by decide) rfl (fun ls hl => ?_)
  have loop9 : ∀ (n9 : Nat) (x : Nat) (OR1 : Nat → Nat), (a ≤ x) → (heapX (bhS PA WH WT sz) OR1 a n x) → ((plist OR1 n).Perm (plist OR_ n)) → (∀ k, n ≤ k → OR1 k = OR_ k) → (x < n) → (∀ k, k < n → OR1 k < sz) → n - x < n9 → ∀ (H : Heap) (locs : List Loc), va_P D zCl [(h0, .inr (7, [.ref p1, .ref p2, .ref p3, .ref p4, .ref p5, .ref p6, .int (nI sz)])), (p1, .inl (dA 1, nc, .inr (.inl fun j => lZ (PA j)))), (p2, .inl (dA 1, nc, .inr (.inl fun j => lZ (WH j)))), (p3, .inl (dA 0, nc, .inl fun j => nI (WT j))), (p4, .inl (dA 0, nc, .inl fun j => iZ (VX j))), (p5, .inl (dA 0, nc, .inl fun j => iZ (VY j))), (p6, .inl (dA 0, nc, .inl fun j => nI (OR1 j)))] H → va_D A [(h0, .inr (7, [.ref p1, .ref p2, .ref p3, .ref p4, .ref p5, .ref p6, .int (nI sz)])), (p1, .inl (dA 1, nc, .inr (.inl fun j => lZ (PA j)))), (p2, .inl (dA 1, nc, .inr (.inl fun j => lZ (WH j)))), (p3, .inl (dA 0, nc, .inl fun j => nI (WT j))), (p4, .inl (dA 0, nc, .inl fun j => iZ (VX j))), (p5, .inl (dA 0, nc, .inl fun j => iZ (VY j))), (p6, .inl (dA 0, nc, .inl fun j => nI (OR1 j)))] → va_S A sG.heap H locs → ∀ (ls : Array Slot), lv_has ls 6 [(4, .int (nI (2 * x + 1))), (3, .int (nI x)), (0, .ref h0), (1, .int (nI a)), (2, .int (nI n))] → W pG lG eG (zRoom 4 0 0 119) sG mG [.ref h0, .int (nI a), .int (nI n)].toArray bG tG cG H locs 0 0 (MQ bG (wrQ D (fun (u : (Nat → Nat)) => let OR2 := u; heapF (bhS PA WH WT sz) OR2 a n ∧ (plist OR2 n).Perm (plist OR_ n) ∧ (∀ k, n ≤ k → OR2 k = OR_ k)) (fun (u : (Nat → Nat)) => let OR2 := u; none) (fun (u : (Nat → Nat)) => let OR2 := u; [(h0, .inr (7, [.ref p1, .ref p2, .ref p3, .ref p4, .ref p5, .ref p6, .int (nI sz)])), (p1, .inl (dA 1, nc, .inr (.inl fun j => lZ (PA j)))), (p2, .inl (dA 1, nc, .inr (.inl fun j => lZ (WH j)))), (p3, .inl (dA 0, nc, .inl fun j => nI (WT j))), (p4, .inl (dA 0, nc, .inl fun j => iZ (VX j))), (p5, .inl (dA 0, nc, .inl fun j => iZ (VY j))), (p6, .inl (dA 0, nc, .inl fun j => nI (OR2 j)))]) A) [.ref h0, .int (nI a), .int (nI n)].toArray sG 0 0 A) (F0 mG 9 ls []) := by
    intro n9
    induction n9 with
    | zero => intro x OR1 j1 j2 j3 j4 j5 j6 hm; exact absurd hm (Nat.not_lt_zero _)
    | succ n9 ih9 =>
      intro x OR1 j1 j2 j3 j4 j5 j6 hm9 H locs hP hD hS ls hl
      refine lv_iload hx hb dX8_sink_9 (lv_at hl 0 rfl) ?_
      refine lv_iload_n hx hb dX8_sink_11 rfl (lv_at hl 4 rfl) ?_
      refine zn_icmp_ge (tgt := 113) hx hb (by omega) (by omega) dX8_sink_12 (by decide) (fun c_1 => ?_) (fun c_1 => ?_)
      · skip
        exact zr_wrV (u := (OR1)) rfl (show heapF (bhS PA WH WT sz) OR1 a n ∧ (plist OR1 n).Perm (plist OR_ n) ∧ (∀ k, n ≤ k → OR1 k = OR_ k) from ⟨heapX_end j2 (by omega), j3, j4⟩) (hP.sub [0, 1, 2, 3, 4, 5, 6] rfl) (hD.sub [0, 1, 2, 3, 4, 5, 6] (by decide) rfl) hS hx hb hr hlocks dX8_sink_113
      · skip
        have join49 : ∀ (c : Nat), (isTop (bhS PA WH WT sz) OR1 n x c) → (c < n) → ∀ (ls : Array Slot), lv_has ls 6 [(4, .int (nI c)), (3, .int (nI x)), (0, .ref h0), (1, .int (nI a)), (2, .int (nI n))] → W pG lG eG (zRoom 4 0 0 119) sG mG [.ref h0, .int (nI a), .int (nI n)].toArray bG tG cG H locs 0 0 (MQ bG (wrQ D (fun (u : (Nat → Nat)) => let OR2 := u; heapF (bhS PA WH WT sz) OR2 a n ∧ (plist OR2 n).Perm (plist OR_ n) ∧ (∀ k, n ≤ k → OR2 k = OR_ k)) (fun (u : (Nat → Nat)) => let OR2 := u; none) (fun (u : (Nat → Nat)) => let OR2 := u; [(h0, .inr (7, [.ref p1, .ref p2, .ref p3, .ref p4, .ref p5, .ref p6, .int (nI sz)])), (p1, .inl (dA 1, nc, .inr (.inl fun j => lZ (PA j)))), (p2, .inl (dA 1, nc, .inr (.inl fun j => lZ (WH j)))), (p3, .inl (dA 0, nc, .inl fun j => nI (WT j))), (p4, .inl (dA 0, nc, .inl fun j => iZ (VX j))), (p5, .inl (dA 0, nc, .inl fun j => iZ (VY j))), (p6, .inl (dA 0, nc, .inl fun j => nI (OR2 j)))]) A) [.ref h0, .int (nI a), .int (nI n)].toArray sG 0 0 A) (F0 mG 49 ls []) := by
          intro c hT hcn ls hl
          refine lv_aload_n hx hb dX8_sink_49 rfl (lv_at hl 2 rfl) ?_
          refine lv_aload_n hx hb dX8_sink_50 rfl (lv_at hl 2 rfl) ?_
          refine va_get (D := D) (ci := 7) (v := .ref p6) (C := RX8) (T := TX8) (N := 7) hx hb hts in_X8 hown hK.1 hP 0 rfl rfl 5 (Nat.le_of_ble_eq_true rfl) (hts _ q267) (fun _ h9 => h9) rfl dX8_sink_51 ?_
          refine lv_iload hx hb dX8_sink_54 (lv_at hl 0 rfl) ?_
          refine zn_iaload (f := OR1) (i := c) hx hb hK.1 hP 6 0 rfl rfl (by omega) (by omega) dX8_sink_56 ?_
          refine lv_aload_n hx hb dX8_sink_57 rfl (lv_at hl 2 rfl) ?_
          refine va_get (D := D) (ci := 7) (v := .ref p6) (C := RX8) (T := TX8) (N := 7) hx hb hts in_X8 hown hK.1 hP 0 rfl rfl 5 (Nat.le_of_ble_eq_true rfl) (hts _ q267) (fun _ h9 => h9) rfl dX8_sink_58 ?_
          refine lv_iload_n hx hb dX8_sink_61 rfl (lv_at hl 1 rfl) ?_
          refine zn_iaload (f := OR1) (i := x) hx hb hK.1 hP 6 0 rfl rfl (by omega) (by omega) dX8_sink_62 ?_
          refine zc_roV (v := .int (bI (bhE PA WH WT (OR1 c) (OR1 x)))) (rest := []) ⟨hx, hb, hml, hown, hts⟩ (metX8_isBehind lG D dA h0 p1 p2 p3 p4 p5 p6 nc sz PA WH WT VX VY OR1 (OR1 c) (OR1 x) (by first | assumption | omega) (Nat.lt_of_lt_of_le (j6 _ (by omega)) (by omega)) (Nat.lt_of_lt_of_le (j6 _ (by omega)) (by omega)) (by first | assumption | omega) (hWT _ (j6 _ (by omega))) (hWT _ (j6 _ (by omega)))) (cwV 2 hts (lw_V q571 q573 qs14 q78 q574) rfl rfl rfl (by decide +kernel) ⟨Nat.le_of_ble_eq_true rfl, Nat.le_of_ble_eq_true rfl⟩) (va_recv hK.1 hP (ci := 7) (q0 := 0) rfl rfl) (hP.sub [0, 1, 2, 3, 4, 5, 6] rfl) hK rfl hl.1 rfl (Nat.le_of_ble_eq_true rfl) dX8_sink_63 ⟨Nat.zero_le _, Nat.zero_le _⟩ ?_
          refine zt_eq (.int (bI (bhS PA WH WT sz (OR1 c) (OR1 x)))) (congrArg (fun b => Value.int (bI b)) (bhS_in (j6 _ (by omega)) (j6 _ (by omega))).symm) ?_
          refine zb_if_ne (tgt := 70) hx hb dX8_sink_66 (by decide) (fun c_2 => ?_) (fun c_2 => ?_)
          · skip
            refine lv_aload_n hx hb dX8_sink_70 rfl (lv_at hl 2 rfl) ?_
            refine va_get (D := D) (ci := 7) (v := .ref p6) (C := RX8) (T := TX8) (N := 7) hx hb hts in_X8 hown hK.1 hP 0 rfl rfl 5 (Nat.le_of_ble_eq_true rfl) (hts _ q267) (fun _ h9 => h9) rfl dX8_sink_71 ?_
            refine lv_iload_n hx hb dX8_sink_74 rfl (lv_at hl 1 rfl) ?_
            refine zn_iaload (f := OR1) (i := x) hx hb hK.1 hP 6 0 rfl rfl (by omega) (by omega) dX8_sink_75 ?_
            refine lv_istore (lv' := [(5, .int (nI (OR1 x))), (4, .int (nI c)), (3, .int (nI x)), (0, .ref h0), (1, .int (nI a)), (2, .int (nI n))]) hx hb dX8_sink_76 hl (by decide) rfl (fun ls hl => ?_)
            refine lv_aload_n hx hb dX8_sink_78 rfl (lv_at hl 3 rfl) ?_
            refine va_get (D := D) (ci := 7) (v := .ref p6) (C := RX8) (T := TX8) (N := 7) hx hb hts in_X8 hown hK.1 hP 0 rfl rfl 5 (Nat.le_of_ble_eq_true rfl) (hts _ q267) (fun _ h9 => h9) rfl dX8_sink_79 ?_
            refine lv_iload_n hx hb dX8_sink_82 rfl (lv_at hl 2 rfl) ?_
            refine lv_aload_n hx hb dX8_sink_83 rfl (lv_at hl 3 rfl) ?_
            refine va_get (D := D) (ci := 7) (v := .ref p6) (C := RX8) (T := TX8) (N := 7) hx hb hts in_X8 hown hK.1 hP 0 rfl rfl 5 (Nat.le_of_ble_eq_true rfl) (hts _ q267) (fun _ h9 => h9) rfl dX8_sink_84 ?_
            refine lv_iload hx hb dX8_sink_87 (lv_at hl 1 rfl) ?_
            refine zn_iaload (f := OR1) (i := c) hx hb hK.1 hP 6 0 rfl rfl (by omega) (by omega) dX8_sink_89 ?_
            refine zn_iastore (f := OR1) (i := x) (x := OR1 c) hx hb hK.1 hP hD hS 6 0 rfl rfl (by omega) (by omega) dX8_sink_90 (fun H locs hP hD hS => ?_)
            have hP : va_P D zCl [(h0, .inr (7, [.ref p1, .ref p2, .ref p3, .ref p4, .ref p5, .ref p6, .int (nI sz)])), (p1, .inl (dA 1, nc, .inr (.inl fun j => lZ (PA j)))), (p2, .inl (dA 1, nc, .inr (.inl fun j => lZ (WH j)))), (p3, .inl (dA 0, nc, .inl fun j => nI (WT j))), (p4, .inl (dA 0, nc, .inl fun j => iZ (VX j))), (p5, .inl (dA 0, nc, .inl fun j => iZ (VY j))), (p6, .inl (dA 0, nc, .inl fun j => nI ((updZ OR1 x (OR1 c)) j)))] H := hP
            have hD : va_D A [(h0, .inr (7, [.ref p1, .ref p2, .ref p3, .ref p4, .ref p5, .ref p6, .int (nI sz)])), (p1, .inl (dA 1, nc, .inr (.inl fun j => lZ (PA j)))), (p2, .inl (dA 1, nc, .inr (.inl fun j => lZ (WH j)))), (p3, .inl (dA 0, nc, .inl fun j => nI (WT j))), (p4, .inl (dA 0, nc, .inl fun j => iZ (VX j))), (p5, .inl (dA 0, nc, .inl fun j => iZ (VY j))), (p6, .inl (dA 0, nc, .inl fun j => nI ((updZ OR1 x (OR1 c)) j)))] := hD
            refine lv_aload_n hx hb dX8_sink_91 rfl (lv_at hl 3 rfl) ?_
            refine va_get (D := D) (ci := 7) (v := .ref p6) (C := RX8) (T := TX8) (N := 7) hx hb hts in_X8 hown hK.1 hP 0 rfl rfl 5 (Nat.le_of_ble_eq_true rfl) (hts _ q267) (fun _ h9 => h9) rfl dX8_sink_92 ?_
            refine lv_iload hx hb dX8_sink_95 (lv_at hl 1 rfl) ?_
            refine lv_iload hx hb dX8_sink_97 (lv_at hl 0 rfl) ?_
            refine zn_iastore (f := updZ OR1 x (OR1 c)) (i := c) (x := OR1 x) hx hb hK.1 hP hD hS 6 0 rfl rfl (by omega) (by omega) dX8_sink_99 (fun H locs hP hD hS => ?_)
            have hP : va_P D zCl [(h0, .inr (7, [.ref p1, .ref p2, .ref p3, .ref p4, .ref p5, .ref p6, .int (nI sz)])), (p1, .inl (dA 1, nc, .inr (.inl fun j => lZ (PA j)))), (p2, .inl (dA 1, nc, .inr (.inl fun j => lZ (WH j)))), (p3, .inl (dA 0, nc, .inl fun j => nI (WT j))), (p4, .inl (dA 0, nc, .inl fun j => iZ (VX j))), (p5, .inl (dA 0, nc, .inl fun j => iZ (VY j))), (p6, .inl (dA 0, nc, .inl fun j => nI ((updZ (updZ OR1 x (OR1 c)) c (OR1 x)) j)))] H := hP
            have hD : va_D A [(h0, .inr (7, [.ref p1, .ref p2, .ref p3, .ref p4, .ref p5, .ref p6, .int (nI sz)])), (p1, .inl (dA 1, nc, .inr (.inl fun j => lZ (PA j)))), (p2, .inl (dA 1, nc, .inr (.inl fun j => lZ (WH j)))), (p3, .inl (dA 0, nc, .inl fun j => nI (WT j))), (p4, .inl (dA 0, nc, .inl fun j => iZ (VX j))), (p5, .inl (dA 0, nc, .inl fun j => iZ (VY j))), (p6, .inl (dA 0, nc, .inl fun j => nI ((updZ (updZ OR1 x (OR1 c)) c (OR1 x)) j)))] := hD
            refine lv_iload hx hb dX8_sink_100 (lv_at hl 1 rfl) ?_
            refine lv_istore_n (lv' := [(3, .int (nI c)), (5, .int (nI (OR1 x))), (4, .int (nI c)), (0, .ref h0), (1, .int (nI a)), (2, .int (nI n))]) hx hb dX8_sink_102 rfl hl (by decide) rfl (fun ls hl => ?_)
            refine lv_iconst (v := nI 2) hx hb dX8_sink_103 (by decide) ?_
            refine lv_iload_n hx hb dX8_sink_104 rfl (lv_at hl 0 rfl) ?_
            refine zn_imul hx hb dX8_sink_105 ?_
            refine lv_iconst (v := nI 1) hx hb dX8_sink_106 (by decide) ?_
            refine zn_iadd hx hb dX8_sink_107 ?_
            refine lv_istore (lv' := [(4, .int (nI ((2 * c) + 1))), (3, .int (nI c)), (5, .int (nI (OR1 x))), (0, .ref h0), (1, .int (nI a)), (2, .int (nI n))]) hx hb dX8_sink_108 hl (by decide) rfl (fun ls hl => ?_)
            refine lv_goto (tgt := 9) hx hb dX8_sink_110 (by decide) ?_
            exact ih9 c (updZ (updZ OR1 x (OR1 c)) c (OR1 x)) (by have := hT.2.1; omega) (heapX_step ho j1 j2 hT (by assumption)) ((plist_swap j5 hT.1).trans j3) (fun k hk => by have := hT.1; rw [updZ_n (by omega), updZ_n (by omega)]; exact j4 k hk) (hT.1) (perm_lt (plist_swap j5 hT.1) j6) (by have := hT.2.1; omega) _ _ (hP.sub [0, 1, 2, 3, 4, 5, 6] rfl) (hD.sub [0, 1, 2, 3, 4, 5, 6] (by decide) rfl) hS _ (lv_sub hl [0, 1, 3, 4, 5] rfl)
          · skip
            exact zr_wrV (u := (OR1)) rfl (show heapF (bhS PA WH WT sz) OR1 a n ∧ (plist OR1 n).Perm (plist OR_ n) ∧ (∀ k, n ≤ k → OR1 k = OR_ k) from ⟨heapX_stop ho j2 hT (by assumption), j3, j4⟩) (hP.sub [0, 1, 2, 3, 4, 5, 6] rfl) (hD.sub [0, 1, 2, 3, 4, 5, 6] (by decide) rfl) hS hx hb hr hlocks dX8_sink_69
        refine lv_iload hx hb dX8_sink_15 (lv_at hl 0 rfl) ?_
        refine lv_iconst (v := nI 1) hx hb dX8_sink_17 (by decide) ?_
        refine zn_iadd hx hb dX8_sink_18 ?_
        refine lv_iload_n hx hb dX8_sink_19 rfl (lv_at hl 4 rfl) ?_
        refine zn_icmp_ge (tgt := 49) hx hb (by omega) (by omega) dX8_sink_20 (by decide) (fun c_3 => ?_) (fun c_3 => ?_)
        · skip
          exact join49 (2 * x + 1) (by first | exact isTop_1 ho (by omega) (by omega) | exact isTop_2 ho (by omega) (by assumption) | exact isTop_3 ho (by omega) (by assumption)) (by omega) _ (lv_sub hl [0, 1, 2, 3, 4] rfl)
        · skip
          refine lv_aload_n hx hb dX8_sink_23 rfl (lv_at hl 2 rfl) ?_
          refine lv_aload_n hx hb dX8_sink_24 rfl (lv_at hl 2 rfl) ?_
          refine va_get (D := D) (ci := 7) (v := .ref p6) (C := RX8) (T := TX8) (N := 7) hx hb hts in_X8 hown hK.1 hP 0 rfl rfl 5 (Nat.le_of_ble_eq_true rfl) (hts _ q267) (fun _ h9 => h9) rfl dX8_sink_25 ?_
          refine lv_iload hx hb dX8_sink_28 (lv_at hl 0 rfl) ?_
          refine lv_iconst (v := nI 1) hx hb dX8_sink_30 (by decide) ?_
          refine zn_iadd hx hb dX8_sink_31 ?_
          refine zn_iaload (f := OR1) (i := (2 * x + 1) + 1) hx hb hK.1 hP 6 0 rfl rfl (by omega) (by omega) dX8_sink_32 ?_
          refine lv_aload_n hx hb dX8_sink_33 rfl (lv_at hl 2 rfl) ?_
          refine va_get (D := D) (ci := 7) (v := .ref p6) (C := RX8) (T := TX8) (N := 7) hx hb hts in_X8 hown hK.1 hP 0 rfl rfl 5 (Nat.le_of_ble_eq_true rfl) (hts _ q267) (fun _ h9 => h9) rfl dX8_sink_34 ?_
          refine lv_iload hx hb dX8_sink_37 (lv_at hl 0 rfl) ?_
          refine zn_iaload (f := OR1) (i := 2 * x + 1) hx hb hK.1 hP 6 0 rfl rfl (by omega) (by omega) dX8_sink_39 ?_
          refine zc_roV (v := .int (bI (bhE PA WH WT (OR1 ((2 * x + 1) + 1)) (OR1 (2 * x + 1))))) (rest := []) ⟨hx, hb, hml, hown, hts⟩ (metX8_isBehind lG D dA h0 p1 p2 p3 p4 p5 p6 nc sz PA WH WT VX VY OR1 (OR1 ((2 * x + 1) + 1)) (OR1 (2 * x + 1)) (by first | assumption | omega) (Nat.lt_of_lt_of_le (j6 _ (by omega)) (by omega)) (Nat.lt_of_lt_of_le (j6 _ (by omega)) (by omega)) (by first | assumption | omega) (hWT _ (j6 _ (by omega))) (hWT _ (j6 _ (by omega)))) (cwV 2 hts (lw_V q571 q573 qs14 q78 q574) rfl rfl rfl (by decide +kernel) ⟨Nat.le_of_ble_eq_true rfl, Nat.le_of_ble_eq_true rfl⟩) (va_recv hK.1 hP (ci := 7) (q0 := 0) rfl rfl) (hP.sub [0, 1, 2, 3, 4, 5, 6] rfl) hK rfl hl.1 rfl (Nat.le_of_ble_eq_true rfl) dX8_sink_40 ⟨Nat.zero_le _, Nat.zero_le _⟩ ?_
          refine zt_eq (.int (bI (bhS PA WH WT sz (OR1 (2 * x + 1 + 1)) (OR1 (2 * x + 1))))) (congrArg (fun b => Value.int (bI b)) (bhS_in (j6 _ (by omega)) (j6 _ (by omega))).symm) ?_
          refine zb_if_eq (tgt := 49) hx hb dX8_sink_43 (by decide) (fun c_4 => ?_) (fun c_4 => ?_)
          · skip
            exact join49 (2 * x + 1) (by first | exact isTop_1 ho (by omega) (by omega) | exact isTop_2 ho (by omega) (by assumption) | exact isTop_3 ho (by omega) (by assumption)) (by omega) _ (lv_sub hl [0, 1, 2, 3, 4] rfl)
          · skip
            refine lv_iinc (v := nI (2 * x + 1 + 1)) (lv' := [(4, .int (nI (2 * x + 1 + 1))), (3, .int (nI x)), (0, .ref h0), (1, .int (nI a)), (2, .int (nI n))]) hx hb dX8_sink_46 hl (k := 0) rfl (nI_add _ _) (by decide) rfl (fun ls hl => ?_)
            exact join49 (2 * x + 1 + 1) (by first | exact isTop_1 ho (by omega) (by omega) | exact isTop_2 ho (by omega) (by assumption) | exact isTop_3 ho (by omega) (by assumption)) (by omega) _ (lv_sub hl [0, 1, 2, 3, 4] rfl)
  exact loop9 (n - a + 1) a OR_ (Nat.le_refl _) (heapX_start hH) (List.Perm.refl _) (fun _ _ => rfl) (by first | assumption | omega) hOR (Nat.lt_succ_self _) _ _ (hP.sub [0, 1, 2, 3, 4, 5, 6] rfl) (hD.sub [0, 1, 2, 3, 4, 5, 6] (by decide) rfl) hS _ (lv_sub hl [0, 1, 2, 3, 4] rfl)
set_option maxHeartbeats 4000000 in
set_option maxRecDepth 100000 in
theorem metX8_sort (lG : Launch) (D : va_G) (dA : Nat → ClassId) (h0 : Nat) (p1 : Nat) (p2 : Nat) (p3 : Nat) (p4 : Nat) (p5 : Nat) (p6 : Nat) (nc : Nat) (sz : Nat) (PA : Nat → Int) (WH : Nat → Int) (WT : Nat → Nat) (VX : Nat → Int) (VY : Nat → Int) (OR_ : Nat → Nat) (hnc : nc ≤ 8192) (hszc : sz ≤ nc) (hB : evB PA WH) (hWT : ∀ k, k < sz → WT k < 3) (hpos : ∀ k, k < sz → 0 < WH k) : Wr lG yX8_sort (ws_ yX8_sort cX8_sort 3 none) 5 144 D dA [.ref h0] [(h0, .inr (7, [.ref p1, .ref p2, .ref p3, .ref p4, .ref p5, .ref p6, .int (nI sz)])), (p1, .inl (dA 1, nc, .inr (.inl fun j => lZ (PA j)))), (p2, .inl (dA 1, nc, .inr (.inl fun j => lZ (WH j)))), (p3, .inl (dA 0, nc, .inl fun j => nI (WT j))), (p4, .inl (dA 0, nc, .inl fun j => iZ (VX j))), (p5, .inl (dA 0, nc, .inl fun j => iZ (VY j))), (p6, .inl (dA 0, nc, .inl fun j => nI (OR_ j)))] 0 0 (fun (u : (Nat → Nat)) => let OR2 := u; permN OR2 sz ∧ tailS (bhS PA WH WT sz) OR2 0 sz) (fun (u : (Nat → Nat)) => let OR2 := u; none) (fun (u : (Nat → Nat)) => let OR2 := u; [(h0, .inr (7, [.ref p1, .ref p2, .ref p3, .ref p4, .ref p5, .ref p6, .int (nI sz)])), (p1, .inl (dA 1, nc, .inr (.inl fun j => lZ (PA j)))), (p2, .inl (dA 1, nc, .inr (.inl fun j => lZ (WH j)))), (p3, .inl (dA 0, nc, .inl fun j => nI (WT j))), (p4, .inl (dA 0, nc, .inl fun j => iZ (VX j))), (p5, .inl (dA 0, nc, .inl fun j => iZ (VY j))), (p6, .inl (dA 0, nc, .inl fun j => nI (OR2 j)))]) := by
  refine Wr.of (by decide) (Nat.le_of_ble_eq_true rfl) ?_
  intro pG eG sG mG bG tG cG ls A hx hb hr hml hown hts hlocks hnm hP hK hD hS hA hl
  have hK1 := hK.1
  have hown : sG.vm.findClass RX8 = some mG.cls := hown
  have hl : lv_has ls 3 [(0, .ref h0)] := hl
  have ho := bhS_ord (PA := PA) (WT := WT) hpos
  refine lv_iconst (v := nI 0) hx hb dX8_sort_0 (by decide) ?_
  refine lv_istore_n (lv' := [(1, .int (nI 0)), (0, .ref h0)]) hx hb dX8_sort_1 rfl hl (by decide) rfl (fun ls hl => ?_)
  have loop2 : ∀ (n2 : Nat) (k : Nat) (OR1 : Nat → Nat), (k ≤ sz) → (∀ j, j < k → OR1 j = j) → sz - k < n2 → ∀ (H : Heap) (locs : List Loc), va_P D zCl [(h0, .inr (7, [.ref p1, .ref p2, .ref p3, .ref p4, .ref p5, .ref p6, .int (nI sz)])), (p1, .inl (dA 1, nc, .inr (.inl fun j => lZ (PA j)))), (p2, .inl (dA 1, nc, .inr (.inl fun j => lZ (WH j)))), (p3, .inl (dA 0, nc, .inl fun j => nI (WT j))), (p4, .inl (dA 0, nc, .inl fun j => iZ (VX j))), (p5, .inl (dA 0, nc, .inl fun j => iZ (VY j))), (p6, .inl (dA 0, nc, .inl fun j => nI (OR1 j)))] H → va_D A [(h0, .inr (7, [.ref p1, .ref p2, .ref p3, .ref p4, .ref p5, .ref p6, .int (nI sz)])), (p1, .inl (dA 1, nc, .inr (.inl fun j => lZ (PA j)))), (p2, .inl (dA 1, nc, .inr (.inl fun j => lZ (WH j)))), (p3, .inl (dA 0, nc, .inl fun j => nI (WT j))), (p4, .inl (dA 0, nc, .inl fun j => iZ (VX j))), (p5, .inl (dA 0, nc, .inl fun j => iZ (VY j))), (p6, .inl (dA 0, nc, .inl fun j => nI (OR1 j)))] → va_S A sG.heap H locs → ∀ (ls : Array Slot), lv_has ls 3 [(1, .int (nI k)), (0, .ref h0)] → W pG lG eG (zRoom 5 0 0 144) sG mG [.ref h0].toArray bG tG cG H locs 0 0 (MQ bG (wrQ D (fun (u : (Nat → Nat)) => let OR2 := u; permN OR2 sz ∧ tailS (bhS PA WH WT sz) OR2 0 sz) (fun (u : (Nat → Nat)) => let OR2 := u; none) (fun (u : (Nat → Nat)) => let OR2 := u; [(h0, .inr (7, [.ref p1, .ref p2, .ref p3, .ref p4, .ref p5, .ref p6, .int (nI sz)])), (p1, .inl (dA 1, nc, .inr (.inl fun j => lZ (PA j)))), (p2, .inl (dA 1, nc, .inr (.inl fun j => lZ (WH j)))), (p3, .inl (dA 0, nc, .inl fun j => nI (WT j))), (p4, .inl (dA 0, nc, .inl fun j => iZ (VX j))), (p5, .inl (dA 0, nc, .inl fun j => iZ (VY j))), (p6, .inl (dA 0, nc, .inl fun j => nI (OR2 j)))]) A) [.ref h0].toArray sG 0 0 A) (F0 mG 2 ls []) := by
    intro n2
    induction n2 with
    | zero => intro k OR1 a1 a2 hm; exact absurd hm (Nat.not_lt_zero _)
    | succ n2 ih2 =>
      intro k OR1 a1 a2 hm2 H locs hP hD hS ls hl
      refine lv_iload_n hx hb dX8_sort_2 rfl (lv_at hl 0 rfl) ?_
      refine lv_aload_n hx hb dX8_sort_3 rfl (lv_at hl 1 rfl) ?_
      refine va_get (D := D) (ci := 7) (v := .int (nI sz)) (C := RX8) (T := TX8) (N := 7) hx hb hts in_X8 hown hK.1 hP 0 rfl rfl 6 (Nat.le_of_ble_eq_true rfl) (hts _ q269) (fun _ h9 => h9) rfl dX8_sort_4 ?_
      refine zn_icmp_ge (tgt := 23) hx hb (by omega) (by omega) dX8_sort_7 (by decide) (fun c_1 => ?_) (fun c_1 => ?_)
      · skip
        refine lv_aload_n hx hb dX8_sort_23 rfl (lv_at hl 1 rfl) ?_
        refine va_get (D := D) (ci := 7) (v := .int (nI sz)) (C := RX8) (T := TX8) (N := 7) hx hb hts in_X8 hown hK.1 hP 0 rfl rfl 6 (Nat.le_of_ble_eq_true rfl) (hts _ q269) (fun _ h9 => h9) rfl dX8_sort_24 ?_
        refine lv_iconst (v := nI 2) hx hb dX8_sort_27 (by decide) ?_
        refine zn_idiv hx hb (by omega) (by decide) (by decide) dX8_sort_28 ?_
        refine lv_iconst (v := nI 1) hx hb dX8_sort_29 (by decide) ?_
        refine zt_n2z ?_
        refine zt_n2z1 ?_
        refine zz_isub hx hb dX8_sort_30 ?_
        refine lv_istore_n (lv' := [(1, .int (iZ ((((sz / 2 : Nat) : Int)) - (((1 : Nat) : Int))))), (0, .ref h0)]) hx hb dX8_sort_31 rfl hl (by decide) rfl (fun ls hl => ?_)
        have loop32 : ∀ (n32 : Nat) (q : Nat) (OR1 : Nat → Nat), (q ≤ sz / 2) → (permN OR1 sz) → (heapF (bhS PA WH WT sz) OR1 q sz) → q < n32 → ∀ (H : Heap) (locs : List Loc), va_P D zCl [(h0, .inr (7, [.ref p1, .ref p2, .ref p3, .ref p4, .ref p5, .ref p6, .int (nI sz)])), (p1, .inl (dA 1, nc, .inr (.inl fun j => lZ (PA j)))), (p2, .inl (dA 1, nc, .inr (.inl fun j => lZ (WH j)))), (p3, .inl (dA 0, nc, .inl fun j => nI (WT j))), (p4, .inl (dA 0, nc, .inl fun j => iZ (VX j))), (p5, .inl (dA 0, nc, .inl fun j => iZ (VY j))), (p6, .inl (dA 0, nc, .inl fun j => nI (OR1 j)))] H → va_D A [(h0, .inr (7, [.ref p1, .ref p2, .ref p3, .ref p4, .ref p5, .ref p6, .int (nI sz)])), (p1, .inl (dA 1, nc, .inr (.inl fun j => lZ (PA j)))), (p2, .inl (dA 1, nc, .inr (.inl fun j => lZ (WH j)))), (p3, .inl (dA 0, nc, .inl fun j => nI (WT j))), (p4, .inl (dA 0, nc, .inl fun j => iZ (VX j))), (p5, .inl (dA 0, nc, .inl fun j => iZ (VY j))), (p6, .inl (dA 0, nc, .inl fun j => nI (OR1 j)))] → va_S A sG.heap H locs → ∀ (ls : Array Slot), lv_has ls 3 [(1, .int (iZ (((q : Nat) : Int) - ((1 : Nat) : Int)))), (0, .ref h0)] → W pG lG eG (zRoom 5 0 0 144) sG mG [.ref h0].toArray bG tG cG H locs 0 0 (MQ bG (wrQ D (fun (u : (Nat → Nat)) => let OR2 := u; permN OR2 sz ∧ tailS (bhS PA WH WT sz) OR2 0 sz) (fun (u : (Nat → Nat)) => let OR2 := u; none) (fun (u : (Nat → Nat)) => let OR2 := u; [(h0, .inr (7, [.ref p1, .ref p2, .ref p3, .ref p4, .ref p5, .ref p6, .int (nI sz)])), (p1, .inl (dA 1, nc, .inr (.inl fun j => lZ (PA j)))), (p2, .inl (dA 1, nc, .inr (.inl fun j => lZ (WH j)))), (p3, .inl (dA 0, nc, .inl fun j => nI (WT j))), (p4, .inl (dA 0, nc, .inl fun j => iZ (VX j))), (p5, .inl (dA 0, nc, .inl fun j => iZ (VY j))), (p6, .inl (dA 0, nc, .inl fun j => nI (OR2 j)))]) A) [.ref h0].toArray sG 0 0 A) (F0 mG 32 ls []) := by
          intro n32
          induction n32 with
          | zero => intro q OR1 b1 b2 b3 hm; exact absurd hm (Nat.not_lt_zero _)
          | succ n32 ih32 =>
            intro q OR1 b1 b2 b3 hm32 H locs hP hD hS ls hl
            refine lv_iload_n hx hb dX8_sort_32 rfl (lv_at hl 0 rfl) ?_
            refine zz_if_lt (tgt := 51) hx hb ⟨by omega, by omega⟩ dX8_sort_33 (by decide) (fun c_2 => ?_) (fun c_2 => ?_)
            · skip
              refine lv_aload_n hx hb dX8_sort_51 rfl (lv_at hl 1 rfl) ?_
              refine va_get (D := D) (ci := 7) (v := .int (nI sz)) (C := RX8) (T := TX8) (N := 7) hx hb hts in_X8 hown hK.1 hP 0 rfl rfl 6 (Nat.le_of_ble_eq_true rfl) (hts _ q269) (fun _ h9 => h9) rfl dX8_sort_52 ?_
              refine lv_iconst (v := nI 1) hx hb dX8_sort_55 (by decide) ?_
              refine zt_n2z ?_
              refine zt_n2z1 ?_
              refine zz_isub hx hb dX8_sort_56 ?_
              refine lv_istore_n (lv' := [(1, .int (iZ ((((sz : Nat) : Int)) - (((1 : Nat) : Int))))), (0, .ref h0)]) hx hb dX8_sort_57 rfl hl (by decide) rfl (fun ls hl => ?_)
              have loop58 : ∀ (n58 : Nat) (q : Nat) (OR1 : Nat → Nat), (q ≤ sz) → (permN OR1 sz) → (heapF (bhS PA WH WT sz) OR1 0 q) → (tailS (bhS PA WH WT sz) OR1 q sz) → q < n58 → ∀ (H : Heap) (locs : List Loc), va_P D zCl [(h0, .inr (7, [.ref p1, .ref p2, .ref p3, .ref p4, .ref p5, .ref p6, .int (nI sz)])), (p1, .inl (dA 1, nc, .inr (.inl fun j => lZ (PA j)))), (p2, .inl (dA 1, nc, .inr (.inl fun j => lZ (WH j)))), (p3, .inl (dA 0, nc, .inl fun j => nI (WT j))), (p4, .inl (dA 0, nc, .inl fun j => iZ (VX j))), (p5, .inl (dA 0, nc, .inl fun j => iZ (VY j))), (p6, .inl (dA 0, nc, .inl fun j => nI (OR1 j)))] H → va_D A [(h0, .inr (7, [.ref p1, .ref p2, .ref p3, .ref p4, .ref p5, .ref p6, .int (nI sz)])), (p1, .inl (dA 1, nc, .inr (.inl fun j => lZ (PA j)))), (p2, .inl (dA 1, nc, .inr (.inl fun j => lZ (WH j)))), (p3, .inl (dA 0, nc, .inl fun j => nI (WT j))), (p4, .inl (dA 0, nc, .inl fun j => iZ (VX j))), (p5, .inl (dA 0, nc, .inl fun j => iZ (VY j))), (p6, .inl (dA 0, nc, .inl fun j => nI (OR1 j)))] → va_S A sG.heap H locs → ∀ (ls : Array Slot), lv_has ls 3 [(1, .int (iZ (((q : Nat) : Int) - ((1 : Nat) : Int)))), (0, .ref h0)] → W pG lG eG (zRoom 5 0 0 144) sG mG [.ref h0].toArray bG tG cG H locs 0 0 (MQ bG (wrQ D (fun (u : (Nat → Nat)) => let OR2 := u; permN OR2 sz ∧ tailS (bhS PA WH WT sz) OR2 0 sz) (fun (u : (Nat → Nat)) => let OR2 := u; none) (fun (u : (Nat → Nat)) => let OR2 := u; [(h0, .inr (7, [.ref p1, .ref p2, .ref p3, .ref p4, .ref p5, .ref p6, .int (nI sz)])), (p1, .inl (dA 1, nc, .inr (.inl fun j => lZ (PA j)))), (p2, .inl (dA 1, nc, .inr (.inl fun j => lZ (WH j)))), (p3, .inl (dA 0, nc, .inl fun j => nI (WT j))), (p4, .inl (dA 0, nc, .inl fun j => iZ (VX j))), (p5, .inl (dA 0, nc, .inl fun j => iZ (VY j))), (p6, .inl (dA 0, nc, .inl fun j => nI (OR2 j)))]) A) [.ref h0].toArray sG 0 0 A) (F0 mG 58 ls []) := by
                intro n58
                induction n58 with
                | zero => intro q OR1 d1 d2 d3 d4 hm; exact absurd hm (Nat.not_lt_zero _)
                | succ n58 ih58 =>
                  intro q OR1 d1 d2 d3 d4 hm58 H locs hP hD hS ls hl
                  refine lv_iload_n hx hb dX8_sort_58 rfl (lv_at hl 0 rfl) ?_
                  refine zz_if_le (tgt := 100) hx hb ⟨by omega, by omega⟩ dX8_sort_59 (by decide) (fun c_3 => ?_) (fun c_3 => ?_)
                  · skip
                    exact zr_wrV (u := (OR1)) rfl (show permN OR1 sz ∧ tailS (bhS PA WH WT sz) OR1 0 sz from ⟨d2, fun i j h1 h2 h3 => d4 i j h1 h2 (by omega)⟩) (hP.sub [0, 1, 2, 3, 4, 5, 6] rfl) (hD.sub [0, 1, 2, 3, 4, 5, 6] (by decide) rfl) hS hx hb hr hlocks dX8_sort_100
                  · skip
                    refine lv_aload_n hx hb dX8_sort_62 rfl (lv_at hl 1 rfl) ?_
                    refine va_get (D := D) (ci := 7) (v := .ref p6) (C := RX8) (T := TX8) (N := 7) hx hb hts in_X8 hown hK.1 hP 0 rfl rfl 5 (Nat.le_of_ble_eq_true rfl) (hts _ q267) (fun _ h9 => h9) rfl dX8_sort_63 ?_
                    refine lv_iload_n hx hb dX8_sort_66 rfl (lv_at hl 0 rfl) ?_
                    refine zt_eq (.int (nI (q - 1))) (congrArg Value.int (zz_pred (by omega))) ?_
                    refine zn_iaload (f := OR1) (i := q - 1) hx hb hK.1 hP 6 0 rfl rfl (by omega) (by omega) dX8_sort_67 ?_
                    refine lv_istore_n (lv' := [(2, .int (nI (OR1 (q - 1)))), (1, .int (iZ (((q : Nat) : Int) - ((1 : Nat) : Int)))), (0, .ref h0)]) hx hb dX8_sort_68 rfl hl (by decide) rfl (fun ls hl => ?_)
                    refine lv_aload_n hx hb dX8_sort_69 rfl (lv_at hl 2 rfl) ?_
                    refine va_get (D := D) (ci := 7) (v := .ref p6) (C := RX8) (T := TX8) (N := 7) hx hb hts in_X8 hown hK.1 hP 0 rfl rfl 5 (Nat.le_of_ble_eq_true rfl) (hts _ q267) (fun _ h9 => h9) rfl dX8_sort_70 ?_
                    refine lv_iload_n hx hb dX8_sort_73 rfl (lv_at hl 1 rfl) ?_
                    refine zt_eq (.int (nI (q - 1))) (congrArg Value.int (zz_pred (by omega))) ?_
                    refine lv_aload_n hx hb dX8_sort_74 rfl (lv_at hl 2 rfl) ?_
                    refine va_get (D := D) (ci := 7) (v := .ref p6) (C := RX8) (T := TX8) (N := 7) hx hb hts in_X8 hown hK.1 hP 0 rfl rfl 5 (Nat.le_of_ble_eq_true rfl) (hts _ q267) (fun _ h9 => h9) rfl dX8_sort_75 ?_
                    refine lv_iconst (v := nI 0) hx hb dX8_sort_78 (by decide) ?_
                    refine zn_iaload (f := OR1) (i := 0) hx hb hK.1 hP 6 0 rfl rfl (by omega) (by omega) dX8_sort_79 ?_
                    refine zn_iastore (f := OR1) (i := q - 1) (x := OR1 0) hx hb hK.1 hP hD hS 6 0 rfl rfl (by omega) (by omega) dX8_sort_80 (fun H locs hP hD hS => ?_)
                    have hP : va_P D zCl [(h0, .inr (7, [.ref p1, .ref p2, .ref p3, .ref p4, .ref p5, .ref p6, .int (nI sz)])), (p1, .inl (dA 1, nc, .inr (.inl fun j => lZ (PA j)))), (p2, .inl (dA 1, nc, .inr (.inl fun j => lZ (WH j)))), (p3, .inl (dA 0, nc, .inl fun j => nI (WT j))), (p4, .inl (dA 0, nc, .inl fun j => iZ (VX j))), (p5, .inl (dA 0, nc, .inl fun j => iZ (VY j))), (p6, .inl (dA 0, nc, .inl fun j => nI ((updZ OR1 (q - 1) (OR1 0)) j)))] H := hP
                    have hD : va_D A [(h0, .inr (7, [.ref p1, .ref p2, .ref p3, .ref p4, .ref p5, .ref p6, .int (nI sz)])), (p1, .inl (dA 1, nc, .inr (.inl fun j => lZ (PA j)))), (p2, .inl (dA 1, nc, .inr (.inl fun j => lZ (WH j)))), (p3, .inl (dA 0, nc, .inl fun j => nI (WT j))), (p4, .inl (dA 0, nc, .inl fun j => iZ (VX j))), (p5, .inl (dA 0, nc, .inl fun j => iZ (VY j))), (p6, .inl (dA 0, nc, .inl fun j => nI ((updZ OR1 (q - 1) (OR1 0)) j)))] := hD
                    refine lv_aload_n hx hb dX8_sort_81 rfl (lv_at hl 2 rfl) ?_
                    refine va_get (D := D) (ci := 7) (v := .ref p6) (C := RX8) (T := TX8) (N := 7) hx hb hts in_X8 hown hK.1 hP 0 rfl rfl 5 (Nat.le_of_ble_eq_true rfl) (hts _ q267) (fun _ h9 => h9) rfl dX8_sort_82 ?_
                    refine lv_iconst (v := nI 0) hx hb dX8_sort_85 (by decide) ?_
                    refine lv_iload_n hx hb dX8_sort_86 rfl (lv_at hl 0 rfl) ?_
                    refine zn_iastore (f := updZ OR1 (q - 1) (OR1 0)) (i := 0) (x := OR1 (q - 1)) hx hb hK.1 hP hD hS 6 0 rfl rfl (by omega) (by omega) dX8_sort_87 (fun H locs hP hD hS => ?_)
                    have hP : va_P D zCl [(h0, .inr (7, [.ref p1, .ref p2, .ref p3, .ref p4, .ref p5, .ref p6, .int (nI sz)])), (p1, .inl (dA 1, nc, .inr (.inl fun j => lZ (PA j)))), (p2, .inl (dA 1, nc, .inr (.inl fun j => lZ (WH j)))), (p3, .inl (dA 0, nc, .inl fun j => nI (WT j))), (p4, .inl (dA 0, nc, .inl fun j => iZ (VX j))), (p5, .inl (dA 0, nc, .inl fun j => iZ (VY j))), (p6, .inl (dA 0, nc, .inl fun j => nI ((updZ (updZ OR1 (q - 1) (OR1 0)) 0 (OR1 (q - 1))) j)))] H := hP
                    have hD : va_D A [(h0, .inr (7, [.ref p1, .ref p2, .ref p3, .ref p4, .ref p5, .ref p6, .int (nI sz)])), (p1, .inl (dA 1, nc, .inr (.inl fun j => lZ (PA j)))), (p2, .inl (dA 1, nc, .inr (.inl fun j => lZ (WH j)))), (p3, .inl (dA 0, nc, .inl fun j => nI (WT j))), (p4, .inl (dA 0, nc, .inl fun j => iZ (VX j))), (p5, .inl (dA 0, nc, .inl fun j => iZ (VY j))), (p6, .inl (dA 0, nc, .inl fun j => nI ((updZ (updZ OR1 (q - 1) (OR1 0)) 0 (OR1 (q - 1))) j)))] := hD
                    refine lv_aload_n hx hb dX8_sort_88 rfl (lv_at hl 2 rfl) ?_
                    refine lv_iconst (v := nI 0) hx hb dX8_sort_89 (by decide) ?_
                    refine lv_iload_n hx hb dX8_sort_90 rfl (lv_at hl 1 rfl) ?_
                    refine zt_eq (.int (nI (q - 1))) (congrArg Value.int (zz_pred (by omega))) ?_
                    refine zc_wrV (rest := []) (wr := []) ⟨hx, hb, hml, hown, hts⟩ (metX8_sink lG D dA h0 p1 p2 p3 p4 p5 p6 nc sz PA WH WT VX VY (updZ (updZ OR1 (q - 1) (OR1 0)) 0 (OR1 (q - 1))) 0 (q - 1) (by first | assumption | omega) (by first | assumption | omega) (by first | assumption | omega) (by first | assumption | omega) (by first | assumption | omega) (by first | assumption | omega) (fun k h => perm_lt (plist_swap (n := sz) (by omega) (by omega)) (fun k h => permN_lt d2 h) k (by omega)) (by omega) (swap_heap (by omega) (by rw [show q - 1 + 1 = q by omega]; exact d3))) (cwV 2 hts (lw_V q567 q569 qs13 q78 q570) rfl rfl rfl (by decide +kernel) ⟨Nat.le_of_ble_eq_true rfl, Nat.le_of_ble_eq_true rfl⟩) (va_recv hK.1 hP (ci := 7) (q0 := 0) rfl rfl) hP hK hD hS hA [0, 1, 2, 3, 4, 5, 6] [] rfl rfl (by decide) (by decide) (by decide) rfl hl.1 rfl (Nat.le_of_ble_eq_true rfl) dX8_sort_91 ⟨Nat.zero_le _, Nat.zero_le _⟩ (fun u H locs hk2 hP hD hS => ?_)
                    obtain ⟨OR2_4, rfl⟩ : ∃ z, z = u := ⟨_, rfl⟩
                    have hP : va_P D zCl [(h0, .inr (7, [.ref p1, .ref p2, .ref p3, .ref p4, .ref p5, .ref p6, .int (nI sz)])), (p1, .inl (dA 1, nc, .inr (.inl fun j => lZ (PA j)))), (p2, .inl (dA 1, nc, .inr (.inl fun j => lZ (WH j)))), (p3, .inl (dA 0, nc, .inl fun j => nI (WT j))), (p4, .inl (dA 0, nc, .inl fun j => iZ (VX j))), (p5, .inl (dA 0, nc, .inl fun j => iZ (VY j))), (p6, .inl (dA 0, nc, .inl fun j => nI (OR2_4 j)))] H := hP
                    have hD : va_D A [(h0, .inr (7, [.ref p1, .ref p2, .ref p3, .ref p4, .ref p5, .ref p6, .int (nI sz)])), (p1, .inl (dA 1, nc, .inr (.inl fun j => lZ (PA j)))), (p2, .inl (dA 1, nc, .inr (.inl fun j => lZ (WH j)))), (p3, .inl (dA 0, nc, .inl fun j => nI (WT j))), (p4, .inl (dA 0, nc, .inl fun j => iZ (VX j))), (p5, .inl (dA 0, nc, .inl fun j => iZ (VY j))), (p6, .inl (dA 0, nc, .inl fun j => nI (OR2_4 j)))] := hD
                    have hk2 : heapF (bhS PA WH WT sz) OR2_4 0 (q - 1) ∧ (plist OR2_4 (q - 1)).Perm (plist (updZ (updZ OR1 (q - 1) (OR1 0)) 0 (OR1 (q - 1))) (q - 1)) ∧ (∀ k, (q - 1) ≤ k → OR2_4 k = (updZ (updZ OR1 (q - 1) (OR1 0)) 0 (OR1 (q - 1))) k) := hk2
                    show W _ _ _ _ _ _ _ _ _ _ _ _ 0 0 _ (F0 mG 94 ls [])
                    refine lv_iinc (v := iZ (((q - 1 : Nat) : Int) - ((1 : Nat) : Int))) (lv' := [(1, .int (iZ (((q - 1 : Nat) : Int) - ((1 : Nat) : Int)))), (2, .int (nI (OR1 (q - 1)))), (0, .ref h0)]) hx hb dX8_sort_94 hl (k := 1) rfl (by rw [show Int32.ofInt (-1) = iZ (-1) from rfl, iZ_add]; congr 1; omega) (by decide) rfl (fun ls hl => ?_)
                    refine lv_goto (tgt := 58) hx hb dX8_sort_97 (by decide) ?_
                    exact ih58 (q - 1) OR2_4 (by first | assumption | omega) (((perm_ext hk2.2.1 sz (by omega) (fun j h1 h2 => hk2.2.2 j h1)).trans (plist_swap (by omega) (by omega))).trans d2) (hk2.1) (tail_step ho (by omega) (by omega) (by rw [show q - 1 + 1 = q by omega]; exact d3) (by rw [show q - 1 + 1 = q by omega]; exact d4) hk2.2.1 hk2.2.2) (by omega) _ _ (hP.sub [0, 1, 2, 3, 4, 5, 6] rfl) (hD.sub [0, 1, 2, 3, 4, 5, 6] (by decide) rfl) hS _ (lv_sub hl [0, 2] rfl)
              exact loop58 (sz + 1) sz OR1 (Nat.le_refl _) b2 (fun j h1 h2 h3 => b3 j h1 h2 (by omega)) (fun i j h1 h2 h3 => absurd h3 (Nat.not_le.mpr h2)) (Nat.lt_succ_self _) _ _ (hP.sub [0, 1, 2, 3, 4, 5, 6] rfl) (hD.sub [0, 1, 2, 3, 4, 5, 6] (by decide) rfl) hS _ (lv_sub hl [0, 1] rfl)
            · skip
              refine lv_aload_n hx hb dX8_sort_36 rfl (lv_at hl 1 rfl) ?_
              refine lv_iload_n hx hb dX8_sort_37 rfl (lv_at hl 0 rfl) ?_
              refine zt_eq (.int (nI (q - 1))) (congrArg Value.int (zz_pred (by omega))) ?_
              refine lv_aload_n hx hb dX8_sort_38 rfl (lv_at hl 1 rfl) ?_
              refine va_get (D := D) (ci := 7) (v := .int (nI sz)) (C := RX8) (T := TX8) (N := 7) hx hb hts in_X8 hown hK.1 hP 0 rfl rfl 6 (Nat.le_of_ble_eq_true rfl) (hts _ q269) (fun _ h9 => h9) rfl dX8_sort_39 ?_
              refine zc_wrV (rest := []) (wr := []) ⟨hx, hb, hml, hown, hts⟩ (metX8_sink lG D dA h0 p1 p2 p3 p4 p5 p6 nc sz PA WH WT VX VY OR1 (q - 1) sz (by first | assumption | omega) (by first | assumption | omega) (by first | assumption | omega) (by first | assumption | omega) (by first | assumption | omega) (by first | assumption | omega) (fun k h => permN_lt b2 h) (by omega) (by rw [show q - 1 + 1 = q by omega]; exact b3)) (cwV 2 hts (lw_V q567 q569 qs13 q78 q570) rfl rfl rfl (by decide +kernel) ⟨Nat.le_of_ble_eq_true rfl, Nat.le_of_ble_eq_true rfl⟩) (va_recv hK.1 hP (ci := 7) (q0 := 0) rfl rfl) hP hK hD hS hA [0, 1, 2, 3, 4, 5, 6] [] rfl rfl (by decide) (by decide) (by decide) rfl hl.1 rfl (Nat.le_of_ble_eq_true rfl) dX8_sort_42 ⟨Nat.zero_le _, Nat.zero_le _⟩ (fun u H locs hk1 hP hD hS => ?_)
              obtain ⟨OR2_5, rfl⟩ : ∃ z, z = u := ⟨_, rfl⟩
              have hP : va_P D zCl [(h0, .inr (7, [.ref p1, .ref p2, .ref p3, .ref p4, .ref p5, .ref p6, .int (nI sz)])), (p1, .inl (dA 1, nc, .inr (.inl fun j => lZ (PA j)))), (p2, .inl (dA 1, nc, .inr (.inl fun j => lZ (WH j)))), (p3, .inl (dA 0, nc, .inl fun j => nI (WT j))), (p4, .inl (dA 0, nc, .inl fun j => iZ (VX j))), (p5, .inl (dA 0, nc, .inl fun j => iZ (VY j))), (p6, .inl (dA 0, nc, .inl fun j => nI (OR2_5 j)))] H := hP
              have hD : va_D A [(h0, .inr (7, [.ref p1, .ref p2, .ref p3, .ref p4, .ref p5, .ref p6, .int (nI sz)])), (p1, .inl (dA 1, nc, .inr (.inl fun j => lZ (PA j)))), (p2, .inl (dA 1, nc, .inr (.inl fun j => lZ (WH j)))), (p3, .inl (dA 0, nc, .inl fun j => nI (WT j))), (p4, .inl (dA 0, nc, .inl fun j => iZ (VX j))), (p5, .inl (dA 0, nc, .inl fun j => iZ (VY j))), (p6, .inl (dA 0, nc, .inl fun j => nI (OR2_5 j)))] := hD
              have hk1 : heapF (bhS PA WH WT sz) OR2_5 (q - 1) sz ∧ (plist OR2_5 sz).Perm (plist OR1 sz) ∧ (∀ k, sz ≤ k → OR2_5 k = OR1 k) := hk1
              show W _ _ _ _ _ _ _ _ _ _ _ _ 0 0 _ (F0 mG 45 ls [])
              refine lv_iinc (v := iZ (((q - 1 : Nat) : Int) - ((1 : Nat) : Int))) (lv' := [(1, .int (iZ (((q - 1 : Nat) : Int) - ((1 : Nat) : Int)))), (0, .ref h0)]) hx hb dX8_sort_45 hl (k := 0) rfl (by rw [show Int32.ofInt (-1) = iZ (-1) from rfl, iZ_add]; congr 1; omega) (by decide) rfl (fun ls hl => ?_)
              refine lv_goto (tgt := 32) hx hb dX8_sort_48 (by decide) ?_
              exact ih32 (q - 1) OR2_5 (by first | assumption | omega) (hk1.2.1.trans b2) (hk1.1) (by omega) _ _ (hP.sub [0, 1, 2, 3, 4, 5, 6] rfl) (hD.sub [0, 1, 2, 3, 4, 5, 6] (by decide) rfl) hS _ (lv_sub hl [0, 1] rfl)
        exact loop32 ((sz / 2) + 1) (sz / 2) OR1 (Nat.le_refl _) (permN_id (fun j h => a2 j (by omega))) (fun j h1 h2 h3 => by omega) (Nat.lt_succ_self _) _ _ (hP.sub [0, 1, 2, 3, 4, 5, 6] rfl) (hD.sub [0, 1, 2, 3, 4, 5, 6] (by decide) rfl) hS _ (lv_sub hl [0, 1] rfl)
      · skip
        refine lv_aload_n hx hb dX8_sort_10 rfl (lv_at hl 1 rfl) ?_
        refine va_get (D := D) (ci := 7) (v := .ref p6) (C := RX8) (T := TX8) (N := 7) hx hb hts in_X8 hown hK.1 hP 0 rfl rfl 5 (Nat.le_of_ble_eq_true rfl) (hts _ q267) (fun _ h9 => h9) rfl dX8_sort_11 ?_
        refine lv_iload_n hx hb dX8_sort_14 rfl (lv_at hl 0 rfl) ?_
        refine lv_iload_n hx hb dX8_sort_15 rfl (lv_at hl 0 rfl) ?_
        refine zn_iastore (f := OR1) (i := k) (x := k) hx hb hK.1 hP hD hS 6 0 rfl rfl (by omega) (by omega) dX8_sort_16 (fun H locs hP hD hS => ?_)
        have hP : va_P D zCl [(h0, .inr (7, [.ref p1, .ref p2, .ref p3, .ref p4, .ref p5, .ref p6, .int (nI sz)])), (p1, .inl (dA 1, nc, .inr (.inl fun j => lZ (PA j)))), (p2, .inl (dA 1, nc, .inr (.inl fun j => lZ (WH j)))), (p3, .inl (dA 0, nc, .inl fun j => nI (WT j))), (p4, .inl (dA 0, nc, .inl fun j => iZ (VX j))), (p5, .inl (dA 0, nc, .inl fun j => iZ (VY j))), (p6, .inl (dA 0, nc, .inl fun j => nI ((updZ OR1 k k) j)))] H := hP
        have hD : va_D A [(h0, .inr (7, [.ref p1, .ref p2, .ref p3, .ref p4, .ref p5, .ref p6, .int (nI sz)])), (p1, .inl (dA 1, nc, .inr (.inl fun j => lZ (PA j)))), (p2, .inl (dA 1, nc, .inr (.inl fun j => lZ (WH j)))), (p3, .inl (dA 0, nc, .inl fun j => nI (WT j))), (p4, .inl (dA 0, nc, .inl fun j => iZ (VX j))), (p5, .inl (dA 0, nc, .inl fun j => iZ (VY j))), (p6, .inl (dA 0, nc, .inl fun j => nI ((updZ OR1 k k) j)))] := hD
        refine lv_iinc (v := nI (k + 1)) (lv' := [(1, .int (nI (k + 1))), (0, .ref h0)]) hx hb dX8_sort_17 hl (k := 0) rfl (nI_add _ _) (by decide) rfl (fun ls hl => ?_)
        refine lv_goto (tgt := 2) hx hb dX8_sort_20 (by decide) ?_
        exact ih2 (k + 1) (updZ OR1 k k) (by first | assumption | omega) (fun j h => by first | (rcases Nat.lt_or_ge j k with w | w; rw [updZ_n (by omega)]; exact a2 j w; rw [show j = k by omega, updZ_s]) | skip) (by omega) _ _ (hP.sub [0, 1, 2, 3, 4, 5, 6] rfl) (hD.sub [0, 1, 2, 3, 4, 5, 6] (by decide) rfl) hS _ (lv_sub hl [0, 1] rfl)
  exact loop2 (sz - 0 + 1) 0 OR_ (by first | assumption | omega) (fun j h => absurd h (Nat.not_lt_zero _)) (Nat.lt_succ_self _) _ _ (hP.sub [0, 1, 2, 3, 4, 5, 6] rfl) (hD.sub [0, 1, 2, 3, 4, 5, 6] (by decide) rfl) hS _ (lv_sub hl [0, 1] rfl)
