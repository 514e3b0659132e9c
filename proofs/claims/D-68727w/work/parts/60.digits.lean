/-! Model: rows of digits (printed by wip gen/c60.py) -/
def dval (f : Nat → Int) (a : Nat) : Nat → Int
  | 0 => 0
  | n + 1 => dval f a n + f (a + n) * 16777216 ^ n
theorem dval_succ (f : Nat → Int) (a n : Nat) : dval f a (n + 1) = dval f a n + f (a + n) * 16777216 ^ n := rfl
theorem dval_cong {f g : Nat → Int} {a : Nat} : ∀ n, (∀ k, k < n → f (a + k) = g (a + k)) → dval f a n = dval g a n
  | 0, _ => rfl
  | n + 1, h => by rw [dval, dval, dval_cong n (fun k hk => h k (by omega)), h n (by omega)]
theorem dval_zero {f : Nat → Int} {a m : Nat} : ∀ n, m ≤ n → (∀ k, m ≤ k → k < n → f (a + k) = 0) → dval f a n = dval f a m
  | 0, h, _ => by rw [show m = 0 by omega]
  | n + 1, h, hz => by
    by_cases q : m = n + 1
    · rw [q]
    · rw [dval, hz n (by omega) (by omega), dval_zero n (by omega) (fun k h1 h2 => hz k h1 (by omega)), Int.zero_mul, Int.add_zero]
theorem dval_upd {f : Nat → Int} {a m : Nat} {x : Int} : ∀ n, m < n → dval (updZ f (a + m) x) a n = dval f a n + (x - f (a + m)) * 16777216 ^ m
  | 0, h => absurd h (Nat.not_lt_zero _)
  | n + 1, h => by
    rw [dval, dval]
    by_cases q : m = n
    · subst q
      rw [updZ_s, dval_cong m (fun k hk => updZ_n (by omega))]
      grind
    · rw [updZ_n (by omega), dval_upd n (by omega)]
      grind
theorem dval_out {f : Nat → Int} {a n j : Nat} {x : Int} (h : j < a ∨ a + n ≤ j) : dval (updZ f j x) a n = dval f a n := dval_cong n (fun k hk => updZ_n (by omega))
theorem pow_pos24 (n : Nat) : (0 : Int) < 16777216 ^ n := Int.pow_pos (by decide)
theorem dval_lt {f : Nat → Int} {a : Nat} : ∀ n, (∀ k, k < n → -8388608 ≤ f (a + k) ∧ f (a + k) ≤ 8388608) → -(16777216 ^ n) < dval f a n ∧ dval f a n < 16777216 ^ n
  | 0, _ => by simp [dval]
  | n + 1, h => by
    have ih := dval_lt n (fun k hk => h k (by omega))
    have hn := h n (by omega)
    have hp := pow_pos24 n
    have e1 : f (a + n) * 16777216 ^ n ≤ 8388608 * 16777216 ^ n := Int.mul_le_mul_of_nonneg_right hn.2 (Int.le_of_lt hp)
    have e2 : (-8388608) * 16777216 ^ n ≤ f (a + n) * 16777216 ^ n := Int.mul_le_mul_of_nonneg_right hn.1 (Int.le_of_lt hp)
    have e3 : (16777216 : Int) ^ (n + 1) = 16777216 ^ n * 16777216 := Int.pow_succ _ _
    rw [dval, e3]
    omega
/-- the sign of a number by its first digit -/
theorem dval_sign {f : Nat → Int} {a n : Nat} (h : ∀ k, k < n + 1 → -8388608 ≤ f (a + k) ∧ f (a + k) ≤ 8388608) (hz : n = 0 ∨ f (a + n) ≠ 0) : (0 < dval f a (n + 1) ↔ 0 < f (a + n)) ∧ (dval f a (n + 1) < 0 ↔ f (a + n) < 0) := by
  have hl := dval_lt n (fun k hk => h k (by omega))
  have hp := pow_pos24 n
  rw [dval]
  rcases Int.lt_trichotomy (f (a + n)) 0 with q | q | q
  · have e : f (a + n) * 16777216 ^ n ≤ (-1) * 16777216 ^ n := Int.mul_le_mul_of_nonneg_right (by omega) (Int.le_of_lt hp)
    omega
  · rcases hz with w | w
    · subst w; rw [q]; simp [dval]
    · exact absurd q w
  · have e : 1 * 16777216 ^ n ≤ f (a + n) * 16777216 ^ n := Int.mul_le_mul_of_nonneg_right (by omega) (Int.le_of_lt hp)
    omega
/-- a row as it is between two steps: bounds of its digits, where they end -/
def rowB (ZZ : Nat → Int) (r n : Nat) (M : Int) : Prop := (∀ k, k < 16 → -M ≤ ZZ (16 * r + k) ∧ ZZ (16 * r + k) ≤ M) ∧ (∀ k, n ≤ k → k < 16 → ZZ (16 * r + k) = 0)
def rowOK (ZZ : Nat → Int) (r n : Nat) (V : Int) : Prop := rowB ZZ r n 8388608 ∧ dval ZZ (16 * r) 16 = V
def rowS (ZZ ZZ2 : Nat → Int) (r : Nat) : Prop := ∀ k, k < 16 * r ∨ 16 * r + 16 ≤ k → ZZ2 k = ZZ k
theorem rowOK.same {ZZ ZZ2 : Nat → Int} {r q n : Nat} {V : Int} (h : rowOK ZZ q n V) (hs : rowS ZZ ZZ2 r) (hn : q ≠ r) : rowOK ZZ2 q n V := by
  have e : ∀ k, k < 16 → ZZ2 (16 * q + k) = ZZ (16 * q + k) := fun k hk => hs _ (by omega)
  refine ⟨⟨fun k hk => ?_, fun k h1 h2 => ?_⟩, ?_⟩
  · rw [e k hk]; exact h.1.1 k hk
  · rw [e k h2]; exact h.1.2 k h1 h2
  · rw [dval_cong 16 e]; exact h.2
theorem rowB.same {ZZ ZZ2 : Nat → Int} {r q n : Nat} {M : Int} (h : rowB ZZ q n M) (hs : rowS ZZ ZZ2 r) (hn : q ≠ r) : rowB ZZ2 q n M := by
  have e : ∀ k, k < 16 → ZZ2 (16 * q + k) = ZZ (16 * q + k) := fun k hk => hs _ (by omega)
  exact ⟨fun k hk => by rw [e k hk]; exact h.1 k hk, fun k h1 h2 => by rw [e k h2]; exact h.2 k h1 h2⟩
theorem dval_same {ZZ ZZ2 : Nat → Int} {r q : Nat} (hs : rowS ZZ ZZ2 r) (hn : q ≠ r) : dval ZZ2 (16 * q) 16 = dval ZZ (16 * q) 16 := dval_cong 16 (fun k hk => hs _ (by omega))
theorem rowS.trans {A B C : Nat → Int} {r : Nat} (h1 : rowS A B r) (h2 : rowS B C r) : rowS A C r := fun k hk => (h2 k hk).trans (h1 k hk)
theorem rowS_upd {A B : Nat → Int} {r k : Nat} {x : Int} (h : rowS A B r) (hk : 16 * r ≤ k ∧ k < 16 * r + 16) : rowS A (updZ B k x) r := fun i hi => by rw [updZ_n (by omega)]; exact h i hi
theorem rowB.le {ZZ : Nat → Int} {r n m : Nat} {M M2 : Int} (h : rowB ZZ r n M) (hm : n ≤ m) (hM : M ≤ M2) : rowB ZZ r m M2 := ⟨fun k hk => by have := h.1 k hk; omega, fun k h1 h2 => h.2 k (by omega) h2⟩
theorem rowOK.le {ZZ : Nat → Int} {r n m : Nat} {V : Int} (h : rowOK ZZ r n V) (hm : n ≤ m) : rowOK ZZ r m V := ⟨h.1.le hm (Int.le_refl _), h.2⟩
set_option maxHeartbeats 4000000 in
set_option maxRecDepth 100000 in
theorem metX10_clear (lG : Launch) (D : va_G) (dA : Nat → ClassId) (m0 : Nat) (thr : Nat) (kn : Nat) (pt : Nat) (pa : Nat) (bg : Nat) (xs_ : Nat) (ys_ : Nat) (sgm : Nat) (fr_ : Nat) (tw : Nat) (wo_ : Nat) (mt : Nat) (ha_ : Nat) (x0 : Int) (y0 : Int) (dx : Int) (dy : Int) (zz : Nat) (ct : Nat) (ov : Nat) (un : Nat) (ZZ : Nat → Int) (r : Nat) (hr : r < 12) : Wr lG yX10_clear (ws_ yX10_clear cX10_clear 3 none) 0 0 D dA [.ref m0, .int (nI r)] [(m0, .inr (9, [.int (nI thr), .ref kn, .ref pt, .ref pa, .ref bg, .ref xs_, .ref ys_, .int (nI sgm), .ref fr_, .ref tw, .ref wo_, .ref mt, .ref ha_, .long (lZ x0), .long (lZ y0), .long (lZ dx), .long (lZ dy), .ref zz, .int (nI ct), .ref ov, .ref un])), (zz, .inl (dA 1, 192, .inr (.inl fun j => lZ (ZZ j))))] 0 0 (fun (u : (Nat → Int)) => let ZZ2 := u; rowB ZZ2 r 0 0 ∧ rowS ZZ ZZ2 r) (fun (u : (Nat → Int)) => let ZZ2 := u; none) (fun (u : (Nat → Int)) => let ZZ2 := u; [(m0, .inr (9, [.int (nI thr), .ref kn, .ref pt, .ref pa, .ref bg, .ref xs_, .ref ys_, .int (nI sgm), .ref fr_, .ref tw, .ref wo_, .ref mt, .ref ha_, .long (lZ x0), .long (lZ y0), .long (lZ dx), .long (lZ dy), .ref zz, .int (nI ct), .ref ov, .ref un])), (zz, .inl (dA 1, 192, .inr (.inl fun j => lZ (ZZ2 j))))]) := by
  refine Wr.of (by decide) (Nat.le_of_ble_eq_true rfl) ?_
  intro pG eG sG mG bG tG cG ls A hx hb hr hml hown hts hlocks hnm hP hK hD hS hA hl
  have hK1 := hK.1
  have hown : sG.vm.findClass RX10 = some mG.cls := hown
  have hl : lv_has ls 3 [(0, .ref m0), (1, .int (nI r))] := hl
  refine lv_iconst (v := nI 0) hx hb dX10_clear_0 (by decide) ?_
  refine lv_istore_n (lv' := [(2, .int (nI 0)), (0, .ref m0), (1, .int (nI r))]) hx hb dX10_clear_1 rfl hl (by decide) rfl (fun ls hl => ?_)
  have loop2 : ∀ (n2 : Nat) (i : Nat) (ZZ1 : Nat → Int), (i ≤ 16) → (∀ k, k < i → ZZ1 (16 * r + k) = 0) → (rowS ZZ ZZ1 r) → 16 - i < n2 → ∀ (H : Heap) (locs : List Loc), va_P D zCl [(m0, .inr (9, [.int (nI thr), .ref kn, .ref pt, .ref pa, .ref bg, .ref xs_, .ref ys_, .int (nI sgm), .ref fr_, .ref tw, .ref wo_, .ref mt, .ref ha_, .long (lZ x0), .long (lZ y0), .long (lZ dx), .long (lZ dy), .ref zz, .int (nI ct), .ref ov, .ref un])), (zz, .inl (dA 1, 192, .inr (.inl fun j => lZ (ZZ1 j))))] H → va_D A [(m0, .inr (9, [.int (nI thr), .ref kn, .ref pt, .ref pa, .ref bg, .ref xs_, .ref ys_, .int (nI sgm), .ref fr_, .ref tw, .ref wo_, .ref mt, .ref ha_, .long (lZ x0), .long (lZ y0), .long (lZ dx), .long (lZ dy), .ref zz, .int (nI ct), .ref ov, .ref un])), (zz, .inl (dA 1, 192, .inr (.inl fun j => lZ (ZZ1 j))))] → va_S A sG.heap H locs → ∀ (ls : Array Slot), lv_has ls 3 [(2, .int (nI i)), (0, .ref m0), (1, .int (nI r))] → W pG lG eG (zRoom 0 0 0 0) sG mG [.ref m0, .int (nI r)].toArray bG tG cG H locs 0 0 (MQ bG (wrQ D (fun (u : (Nat → Int)) => let ZZ2 := u; rowB ZZ2 r 0 0 ∧ rowS ZZ ZZ2 r) (fun (u : (Nat → Int)) => let ZZ2 := u; none) (fun (u : (Nat → Int)) => let ZZ2 := u; [(m0, .inr (9, [.int (nI thr), .ref kn, .ref pt, .ref pa, .ref bg, .ref xs_, .ref ys_, .int (nI sgm), .ref fr_, .ref tw, .ref wo_, .ref mt, .ref ha_, .long (lZ x0), .long (lZ y0), .long (lZ dx), .long (lZ dy), .ref zz, .int (nI ct), .ref ov, .ref un])), (zz, .inl (dA 1, 192, .inr (.inl fun j => lZ (ZZ2 j))))]) A) [.ref m0, .int (nI r)].toArray sG 0 0 A) (F0 mG 2 ls []) := by
    intro n2
    induction n2 with
    | zero => intro i ZZ1 i1 i2 i3 hm; exact absurd hm (Nat.not_lt_zero _)
    | succ n2 ih2 =>
      intro i ZZ1 i1 i2 i3 hm2 H locs hP hD hS ls hl
      refine lv_iload_n hx hb dX10_clear_2 rfl (lv_at hl 0 rfl) ?_
      refine lv_bipush (v := nI 16) hx hb dX10_clear_3 (by decide) ?_
      refine zn_icmp_ge (tgt := 26) hx hb (by omega) (by decide) dX10_clear_5 (by decide) (fun c_1 => ?_) (fun c_1 => ?_)
      · skip
        exact zr_wrV (u := (ZZ1)) rfl (show rowB ZZ1 r 0 0 ∧ rowS ZZ ZZ1 r from ⟨⟨fun k hk => by rw [i2 k (by omega)]; exact ⟨by decide, by decide⟩, fun k _ hk => i2 k (by omega)⟩, i3⟩) (hP.sub [0, 1] rfl) (hD.sub [0, 1] (by decide) rfl) hS hx hb hr hlocks dX10_clear_26
      · skip
        refine lv_aload_n hx hb dX10_clear_8 rfl (lv_at hl 1 rfl) ?_
        refine va_get (D := D) (ci := 9) (v := .ref zz) (C := RX10) (T := TX10) (N := 21) hx hb hts in_X10 hown hK.1 hP 0 rfl rfl 17 (Nat.le_of_ble_eq_true rfl) (hts _ q986) (fun _ h9 => h9) rfl dX10_clear_9 ?_
        refine lv_bipush (v := nI 16) hx hb dX10_clear_12 (by decide) ?_
        refine lv_iload_n hx hb dX10_clear_14 rfl (lv_at hl 2 rfl) ?_
        refine zn_imul hx hb dX10_clear_15 ?_
        refine lv_iload_n hx hb dX10_clear_16 rfl (lv_at hl 0 rfl) ?_
        refine zn_iadd hx hb dX10_clear_17 ?_
        refine zz_lconst hx hb 0 dX10_clear_18 rfl ?_
        refine zz_lastore (f := ZZ1) (i := (16 * r) + i) (x := 0) hx hb hK.1 hP hD hS 1 1 rfl rfl (by omega) (by decide) dX10_clear_19 (fun H locs hP hD hS => ?_)
        have hP : va_P D zCl [(m0, .inr (9, [.int (nI thr), .ref kn, .ref pt, .ref pa, .ref bg, .ref xs_, .ref ys_, .int (nI sgm), .ref fr_, .ref tw, .ref wo_, .ref mt, .ref ha_, .long (lZ x0), .long (lZ y0), .long (lZ dx), .long (lZ dy), .ref zz, .int (nI ct), .ref ov, .ref un])), (zz, .inl (dA 1, 192, .inr (.inl fun j => lZ ((updZ ZZ1 ((16 * r) + i) 0) j))))] H := hP
        have hD : va_D A [(m0, .inr (9, [.int (nI thr), .ref kn, .ref pt, .ref pa, .ref bg, .ref xs_, .ref ys_, .int (nI sgm), .ref fr_, .ref tw, .ref wo_, .ref mt, .ref ha_, .long (lZ x0), .long (lZ y0), .long (lZ dx), .long (lZ dy), .ref zz, .int (nI ct), .ref ov, .ref un])), (zz, .inl (dA 1, 192, .inr (.inl fun j => lZ ((updZ ZZ1 ((16 * r) + i) 0) j))))] := hD
        refine lv_iinc (v := nI (i + 1)) (lv' := [(2, .int (nI (i + 1))), (0, .ref m0), (1, .int (nI r))]) hx hb dX10_clear_20 hl (k := 0) rfl (nI_add _ _) (by decide) rfl (fun ls hl => ?_)
        refine lv_goto (tgt := 2) hx hb dX10_clear_23 (by decide) ?_
        exact ih2 (i + 1) (updZ ZZ1 ((16 * r) + i) 0) (by first | assumption | omega) (fun k h => by rcases Nat.lt_or_ge k i with w | w; rw [updZ_n (by omega)]; exact i2 k w; rw [show k = i by omega, updZ_s]) (rowS_upd i3 ⟨by omega, by omega⟩) (by omega) _ _ (hP.sub [0, 1] rfl) (hD.sub [0, 1] (by decide) rfl) hS _ (lv_sub hl [0, 1, 2] rfl)
  exact loop2 (16 - 0 + 1) 0 ZZ (by first | assumption | omega) (fun k h => absurd h (Nat.not_lt_zero _)) (fun _ _ => rfl) (Nat.lt_succ_self _) _ _ (hP.sub [0, 1] rfl) (hD.sub [0, 1] (by decide) rfl) hS _ (lv_sub hl [0, 1, 2] rfl)
theorem settle_step {z cy : Int} : (z + cy - ((z + cy + 8388608) % 16777216 - 8388608)) = (z + cy - ((z + cy + 8388608) % 16777216 - 8388608)) / 16777216 * 16777216 := by omega
theorem settle_val {f : Nat → Int} {a i : Nat} {cy V : Int} (hi : i < 16) (h : dval f a 16 + cy * 16777216 ^ i = V) : dval (updZ f (a + i) ((f (a + i) + cy + 8388608) % 16777216 - 8388608)) a 16 + (f (a + i) + cy - ((f (a + i) + cy + 8388608) % 16777216 - 8388608)) / 16777216 * 16777216 ^ (i + 1) = V := by
  rw [dval_upd 16 hi, ← h, Int.pow_succ]
  have e := settle_step (z := f (a + i)) (cy := cy)
  generalize hd : (f (a + i) + cy + 8388608) % 16777216 - 8388608 = d at *
  generalize hq : (f (a + i) + cy - d) / 16777216 = q at *
  have e2 : q * (16777216 ^ i * 16777216) = (q * 16777216) * 16777216 ^ i := by grind
  rw [e2, ← e]
  grind
set_option maxHeartbeats 4000000 in
set_option maxRecDepth 100000 in
theorem metX10_settle (lG : Launch) (D : va_G) (dA : Nat → ClassId) (m0 : Nat) (thr : Nat) (kn : Nat) (pt : Nat) (pa : Nat) (bg : Nat) (xs_ : Nat) (ys_ : Nat) (sgm : Nat) (fr_ : Nat) (tw : Nat) (wo_ : Nat) (mt : Nat) (ha_ : Nat) (x0 : Int) (y0 : Int) (dx : Int) (dy : Int) (zz : Nat) (ct : Nat) (ov : Nat) (un : Nat) (ZZ : Nat → Int) (r : Nat) (n : Nat) (V : Int) (hr : r < 12) (hn : n + 2 ≤ 16) (hB : rowB ZZ r n 72057594037927936) (hV : dval ZZ (16 * r) 16 = V) : Wr lG yX10_settle (ws_ yX10_settle cX10_settle 9 none) 0 0 D dA [.ref m0, .int (nI r)] [(m0, .inr (9, [.int (nI thr), .ref kn, .ref pt, .ref pa, .ref bg, .ref xs_, .ref ys_, .int (nI sgm), .ref fr_, .ref tw, .ref wo_, .ref mt, .ref ha_, .long (lZ x0), .long (lZ y0), .long (lZ dx), .long (lZ dy), .ref zz, .int (nI ct), .ref ov, .ref un])), (zz, .inl (dA 1, 192, .inr (.inl fun j => lZ (ZZ j))))] 0 0 (fun (u : (Nat → Int)) => let ZZ2 := u; rowOK ZZ2 r (n + 2) V ∧ rowS ZZ ZZ2 r) (fun (u : (Nat → Int)) => let ZZ2 := u; none) (fun (u : (Nat → Int)) => let ZZ2 := u; [(m0, .inr (9, [.int (nI thr), .ref kn, .ref pt, .ref pa, .ref bg, .ref xs_, .ref ys_, .int (nI sgm), .ref fr_, .ref tw, .ref wo_, .ref mt, .ref ha_, .long (lZ x0), .long (lZ y0), .long (lZ dx), .long (lZ dy), .ref zz, .int (nI ct), .ref ov, .ref un])), (zz, .inl (dA 1, 192, .inr (.inl fun j => lZ (ZZ2 j))))]) := by
  refine Wr.of (by decide) (Nat.le_of_ble_eq_true rfl) ?_
  intro pG eG sG mG bG tG cG ls A hx hb hr hml hown hts hlocks hnm hP hK hD hS hA hl
  have hK1 := hK.1
  have hown : sG.vm.findClass RX10 = some mG.cls := hown
  have hl : lv_has ls 9 [(0, .ref m0), (1, .int (nI r))] := hl
  refine zz_lconst hx hb 0 dX10_settle_0 rfl ?_
  refine lv_lstore_n (lv' := [(2, .long (lZ 0)), (0, .ref m0), (1, .int (nI r))]) hx hb dX10_settle_1 rfl hl (by decide) rfl (fun ls hl => ?_)
  refine lv_bipush (v := nI 16) hx hb dX10_settle_2 (by decide) ?_
  refine lv_iload_n hx hb dX10_settle_4 rfl (lv_at hl 2 rfl) ?_
  refine zn_imul hx hb dX10_settle_5 ?_
  refine lv_istore (lv' := [(4, .int (nI (16 * r))), (2, .long (lZ 0)), (0, .ref m0), (1, .int (nI r))]) hx hb dX10_settle_6 hl (by decide) rfl (fun ls hl => ?_)
  have loop8 : ∀ (n8 : Nat) (i : Nat) (cy : Int) (ZZ1 : Nat → Int), (i ≤ 16) → (∀ k, k < i → -8388608 ≤ ZZ1 (16 * r + k) ∧ ZZ1 (16 * r + k) ≤ 8388608) → (rowS ZZ ZZ1 r) → (∀ k, i ≤ k → k < 16 → ZZ1 (16 * r + k) = ZZ (16 * r + k)) → (dval ZZ1 (16 * r) 16 + cy * 16777216 ^ i = V) → (-8589934592 ≤ cy ∧ cy ≤ 8589934592) → (i = n + 1 → -1024 ≤ cy ∧ cy ≤ 1024) → (n + 2 ≤ i → cy = 0) → (∀ k, n + 2 ≤ k → k < i → ZZ1 (16 * r + k) = 0) → 16 - i < n8 → ∀ (H : Heap) (locs : List Loc), va_P D zCl [(m0, .inr (9, [.int (nI thr), .ref kn, .ref pt, .ref pa, .ref bg, .ref xs_, .ref ys_, .int (nI sgm), .ref fr_, .ref tw, .ref wo_, .ref mt, .ref ha_, .long (lZ x0), .long (lZ y0), .long (lZ dx), .long (lZ dy), .ref zz, .int (nI ct), .ref ov, .ref un])), (zz, .inl (dA 1, 192, .inr (.inl fun j => lZ (ZZ1 j))))] H → va_D A [(m0, .inr (9, [.int (nI thr), .ref kn, .ref pt, .ref pa, .ref bg, .ref xs_, .ref ys_, .int (nI sgm), .ref fr_, .ref tw, .ref wo_, .ref mt, .ref ha_, .long (lZ x0), .long (lZ y0), .long (lZ dx), .long (lZ dy), .ref zz, .int (nI ct), .ref ov, .ref un])), (zz, .inl (dA 1, 192, .inr (.inl fun j => lZ (ZZ1 j))))] → va_S A sG.heap H locs → ∀ (ls : Array Slot), lv_has ls 9 [(4, .int (nI (16 * r + i))), (2, .long (lZ cy)), (0, .ref m0), (1, .int (nI r))] → W pG lG eG (zRoom 0 0 0 0) sG mG [.ref m0, .int (nI r)].toArray bG tG cG H locs 0 0 (MQ bG (wrQ D (fun (u : (Nat → Int)) => let ZZ2 := u; rowOK ZZ2 r (n + 2) V ∧ rowS ZZ ZZ2 r) (fun (u : (Nat → Int)) => let ZZ2 := u; none) (fun (u : (Nat → Int)) => let ZZ2 := u; [(m0, .inr (9, [.int (nI thr), .ref kn, .ref pt, .ref pa, .ref bg, .ref xs_, .ref ys_, .int (nI sgm), .ref fr_, .ref tw, .ref wo_, .ref mt, .ref ha_, .long (lZ x0), .long (lZ y0), .long (lZ dx), .long (lZ dy), .ref zz, .int (nI ct), .ref ov, .ref un])), (zz, .inl (dA 1, 192, .inr (.inl fun j => lZ (ZZ2 j))))]) A) [.ref m0, .int (nI r)].toArray sG 0 0 A) (F0 mG 8 ls []) := by
    intro n8
    induction n8 with
    | zero => intro i cy ZZ1 i1 i2 i3 i4 i5 i6 i7 i8 i9 hm; exact absurd hm (Nat.not_lt_zero _)
    | succ n8 ih8 =>
      intro i cy ZZ1 i1 i2 i3 i4 i5 i6 i7 i8 i9 hm8 H locs hP hD hS ls hl
      refine lv_iload hx hb dX10_settle_8 (lv_at hl 0 rfl) ?_
      refine lv_bipush (v := nI 16) hx hb dX10_settle_10 (by decide) ?_
      refine lv_iload_n hx hb dX10_settle_12 rfl (lv_at hl 3 rfl) ?_
      refine zn_imul hx hb dX10_settle_13 ?_
      refine lv_bipush (v := nI 16) hx hb dX10_settle_14 (by decide) ?_
      refine zn_iadd hx hb dX10_settle_16 ?_
      refine zn_icmp_ge (tgt := 71) hx hb (by omega) (by omega) dX10_settle_17 (by decide) (fun c_1 => ?_) (fun c_1 => ?_)
      · skip
        exact zr_wrV (u := (ZZ1)) rfl (show rowOK ZZ1 r (n + 2) V ∧ rowS ZZ ZZ1 r from ⟨⟨⟨fun k hk => i2 k (by omega), fun k h1 h2 => i9 k h1 (by omega)⟩, by rw [show i = 16 by omega, i8 (by omega), Int.zero_mul, Int.add_zero] at i5; exact i5⟩, i3⟩) (hP.sub [0, 1] rfl) (hD.sub [0, 1] (by decide) rfl) hS hx hb hr hlocks dX10_settle_71
      · skip
        have hb1 := hB.1 i (by omega)
        have hb2 := hB.2 i
        have hb3 := i4 i (Nat.le_refl _) (by omega)
        refine lv_aload_n hx hb dX10_settle_20 rfl (lv_at hl 2 rfl) ?_
        refine va_get (D := D) (ci := 9) (v := .ref zz) (C := RX10) (T := TX10) (N := 21) hx hb hts in_X10 hown hK.1 hP 0 rfl rfl 17 (Nat.le_of_ble_eq_true rfl) (hts _ q986) (fun _ h9 => h9) rfl dX10_settle_21 ?_
        refine lv_iload hx hb dX10_settle_24 (lv_at hl 0 rfl) ?_
        refine zz_laload (f := ZZ1) (i := 16 * r + i) hx hb hK.1 hP 1 1 rfl rfl (by omega) (by decide) dX10_settle_26 ?_
        refine lv_lload_n hx hb dX10_settle_27 rfl (lv_at hl 1 rfl) ?_
        refine zz_ladd hx hb dX10_settle_28 ?_
        refine lv_lstore (lv' := [(5, .long (lZ ((ZZ1 (16 * r + i)) + cy))), (4, .int (nI (16 * r + i))), (2, .long (lZ cy)), (0, .ref m0), (1, .int (nI r))]) hx hb dX10_settle_29 hl (by decide) rfl (fun ls hl => ?_)
        refine lv_lload hx hb dX10_settle_31 (lv_at hl 0 rfl) ?_
        refine lv_ldc2 (v := lZ 8388608) hx hb hown (hts _ q1109) dX10_settle_33 ?_
        refine zz_ladd hx hb dX10_settle_36 ?_
        refine lv_ldc2 (v := lZ 16777215) hx hb hown (hts _ q1104) dX10_settle_37 ?_
        refine zz_land16777216 hx hb dX10_settle_40 ?_
        refine lv_ldc2 (v := lZ 8388608) hx hb hown (hts _ q1109) dX10_settle_41 ?_
        refine zz_lsub hx hb dX10_settle_44 ?_
        refine lv_lstore (lv' := [(7, .long (lZ (((((ZZ1 (16 * r + i)) + cy) + 8388608) % 16777216) - 8388608))), (5, .long (lZ ((ZZ1 (16 * r + i)) + cy))), (4, .int (nI (16 * r + i))), (2, .long (lZ cy)), (0, .ref m0), (1, .int (nI r))]) hx hb dX10_settle_45 hl (by decide) rfl (fun ls hl => ?_)
        refine lv_aload_n hx hb dX10_settle_47 rfl (lv_at hl 4 rfl) ?_
        refine va_get (D := D) (ci := 9) (v := .ref zz) (C := RX10) (T := TX10) (N := 21) hx hb hts in_X10 hown hK.1 hP 0 rfl rfl 17 (Nat.le_of_ble_eq_true rfl) (hts _ q986) (fun _ h9 => h9) rfl dX10_settle_48 ?_
        refine lv_iload hx hb dX10_settle_51 (lv_at hl 2 rfl) ?_
        refine lv_lload hx hb dX10_settle_53 (lv_at hl 0 rfl) ?_
        refine zz_lastore (f := ZZ1) (i := 16 * r + i) (x := ((((ZZ1 (16 * r + i)) + cy) + 8388608) % 16777216) - 8388608) hx hb hK.1 hP hD hS 1 1 rfl rfl (by omega) (by decide) dX10_settle_55 (fun H locs hP hD hS => ?_)
        have hP : va_P D zCl [(m0, .inr (9, [.int (nI thr), .ref kn, .ref pt, .ref pa, .ref bg, .ref xs_, .ref ys_, .int (nI sgm), .ref fr_, .ref tw, .ref wo_, .ref mt, .ref ha_, .long (lZ x0), .long (lZ y0), .long (lZ dx), .long (lZ dy), .ref zz, .int (nI ct), .ref ov, .ref un])), (zz, .inl (dA 1, 192, .inr (.inl fun j => lZ ((updZ ZZ1 (16 * r + i) (((((ZZ1 (16 * r + i)) + cy) + 8388608) % 16777216) - 8388608)) j))))] H := hP
        have hD : va_D A [(m0, .inr (9, [.int (nI thr), .ref kn, .ref pt, .ref pa, .ref bg, .ref xs_, .ref ys_, .int (nI sgm), .ref fr_, .ref tw, .ref wo_, .ref mt, .ref ha_, .long (lZ x0), .long (lZ y0), .long (lZ dx), .long (lZ dy), .ref zz, .int (nI ct), .ref ov, .ref un])), (zz, .inl (dA 1, 192, .inr (.inl fun j => lZ ((updZ ZZ1 (16 * r + i) (((((ZZ1 (16 * r + i)) + cy) + 8388608) % 16777216) - 8388608)) j))))] := hD
        refine lv_lload hx hb dX10_settle_56 (lv_at hl 1 rfl) ?_
        refine lv_lload hx hb dX10_settle_58 (lv_at hl 0 rfl) ?_
        refine zz_lsub hx hb dX10_settle_60 ?_
        refine lv_bipush (v := nI 24) hx hb dX10_settle_61 (by decide) ?_
        refine zz_lshr24 hx hb ⟨by omega, by omega⟩ dX10_settle_63 ?_
        refine lv_lstore_n (lv' := [(2, .long (lZ ((((ZZ1 (16 * r + i)) + cy) - (((((ZZ1 (16 * r + i)) + cy) + 8388608) % 16777216) - 8388608)) / 16777216))), (7, .long (lZ (((((ZZ1 (16 * r + i)) + cy) + 8388608) % 16777216) - 8388608))), (5, .long (lZ ((ZZ1 (16 * r + i)) + cy))), (4, .int (nI (16 * r + i))), (0, .ref m0), (1, .int (nI r))]) hx hb dX10_settle_64 rfl hl (by decide) rfl (fun ls hl => ?_)
        refine lv_iinc (v := nI (16 * r + i + 1)) (lv' := [(4, .int (nI (16 * r + i + 1))), (2, .long (lZ ((((ZZ1 (16 * r + i)) + cy) - (((((ZZ1 (16 * r + i)) + cy) + 8388608) % 16777216) - 8388608)) / 16777216))), (7, .long (lZ (((((ZZ1 (16 * r + i)) + cy) + 8388608) % 16777216) - 8388608))), (5, .long (lZ ((ZZ1 (16 * r + i)) + cy))), (0, .ref m0), (1, .int (nI r))]) hx hb dX10_settle_65 hl (k := 3) rfl (nI_add _ _) (by decide) rfl (fun ls hl => ?_)
        refine lv_goto (tgt := 8) hx hb dX10_settle_68 (by decide) ?_
        exact ih8 (i + 1) ((((ZZ1 (16 * r + i)) + cy) - (((((ZZ1 (16 * r + i)) + cy) + 8388608) % 16777216) - 8388608)) / 16777216) (updZ ZZ1 (16 * r + i) (((((ZZ1 (16 * r + i)) + cy) + 8388608) % 16777216) - 8388608)) (by first | assumption | omega) (fun k h => by rcases Nat.lt_or_ge k i with w | w; rw [updZ_n (by omega)]; exact i2 k w; rw [show k = i by omega, updZ_s]; omega) (rowS_upd i3 ⟨by omega, by omega⟩) (fun k h1 h2 => by rw [updZ_n (by omega)]; exact i4 k (by omega) h2) (settle_val (by omega) i5) (⟨by omega, by omega⟩) (fun h => ⟨by omega, by omega⟩) (fun h => by omega) (fun k h1 h2 => by rcases Nat.lt_or_ge k i with w | w; rw [updZ_n (by omega)]; exact i9 k h1 w; rw [show k = i by omega, updZ_s]; omega) (by omega) _ _ (hP.sub [0, 1] rfl) (hD.sub [0, 1] (by decide) rfl) hS _ (lv_sub hl [0, 1, 4, 5] rfl)
  exact loop8 (16 - 0 + 1) 0 0 ZZ (by first | assumption | omega) (fun k h => absurd h (Nat.not_lt_zero _)) (fun _ _ => rfl) (fun _ _ _ => rfl) (by rw [hV]; simp) (⟨by decide, by decide⟩) (fun h => ⟨by decide, by decide⟩) (fun h => rfl) (fun k _ h => absurd h (Nat.not_lt_zero _)) (Nat.lt_succ_self _) _ _ (hP.sub [0, 1] rfl) (hD.sub [0, 1] (by decide) rfl) hS _ (lv_sub hl [0, 1, 2, 3] rfl)
theorem set_short {ZZ : Nat → Int} {r : Nat} {v : Int} (hv : inL v) (h : rowOK ZZ r (3 + 2) v) : rowOK ZZ r 3 v := by
  have hv1 := hv.1
  have hv2 := hv.2
  have b0 := h.1.1 0 (by decide); have b1 := h.1.1 1 (by decide); have b2 := h.1.1 2 (by decide); have b3 := h.1.1 3 (by decide); have b4 := h.1.1 4 (by decide)
  have e := h.2
  rw [dval_zero (m := 5) 16 (by decide) (fun k h1 h2 => h.1.2 k h1 h2), dval, dval, dval, dval, dval, dval] at e
  have z4 : ZZ (16 * r + 4) = 0 := by omega
  have z3 : ZZ (16 * r + 3) = 0 := by omega
  refine ⟨⟨h.1.1, fun k h1 h2 => ?_⟩, h.2⟩
  rcases (show k = 3 ∨ k = 4 ∨ 5 ≤ k by omega) with q | q | q
  · rw [q]; exact z3
  · rw [q]; exact z4
  · exact h.1.2 k q h2
theorem set_val {f : Nat → Int} {a : Nat} {v : Int} (h0 : f a = v % 16777216) (h1 : f (a + 1) = v / 16777216 % 16777216) (h2 : f (a + 2) = v / 281474976710656) (hz : ∀ k, 3 ≤ k → k < 16 → f (a + k) = 0) : dval f a 16 = v := by
  rw [dval_zero (m := 3) 16 (by omega) hz]
  rw [dval, dval, dval, dval, h1, h2, show a + 0 = a from rfl, h0]
  omega
set_option maxHeartbeats 4000000 in
set_option maxRecDepth 100000 in
theorem metX10_set (lG : Launch) (D : va_G) (dA : Nat → ClassId) (m0 : Nat) (thr : Nat) (kn : Nat) (pt : Nat) (pa : Nat) (bg : Nat) (xs_ : Nat) (ys_ : Nat) (sgm : Nat) (fr_ : Nat) (tw : Nat) (wo_ : Nat) (mt : Nat) (ha_ : Nat) (x0 : Int) (y0 : Int) (dx : Int) (dy : Int) (zz : Nat) (ct : Nat) (ov : Nat) (un : Nat) (ZZ : Nat → Int) (r : Nat) (v : Int) (hr : r < 12) (hv : inL v) : Wr lG yX10_set (ws_ yX10_set cX10_set 4 none) 1 28 D dA [.ref m0, .int (nI r), .long (lZ v)] [(m0, .inr (9, [.int (nI thr), .ref kn, .ref pt, .ref pa, .ref bg, .ref xs_, .ref ys_, .int (nI sgm), .ref fr_, .ref tw, .ref wo_, .ref mt, .ref ha_, .long (lZ x0), .long (lZ y0), .long (lZ dx), .long (lZ dy), .ref zz, .int (nI ct), .ref ov, .ref un])), (zz, .inl (dA 1, 192, .inr (.inl fun j => lZ (ZZ j))))] 0 0 (fun (u : (Nat → Int)) => let ZZ2 := u; rowOK ZZ2 r 3 v ∧ rowS ZZ ZZ2 r) (fun (u : (Nat → Int)) => let ZZ2 := u; none) (fun (u : (Nat → Int)) => let ZZ2 := u; [(m0, .inr (9, [.int (nI thr), .ref kn, .ref pt, .ref pa, .ref bg, .ref xs_, .ref ys_, .int (nI sgm), .ref fr_, .ref tw, .ref wo_, .ref mt, .ref ha_, .long (lZ x0), .long (lZ y0), .long (lZ dx), .long (lZ dy), .ref zz, .int (nI ct), .ref ov, .ref un])), (zz, .inl (dA 1, 192, .inr (.inl fun j => lZ (ZZ2 j))))]) := by
  refine Wr.of (by decide) (Nat.le_of_ble_eq_true rfl) ?_
  intro pG eG sG mG bG tG cG ls A hx hb hr hml hown hts hlocks hnm hP hK hD hS hA hl
  have hK1 := hK.1
  have hown : sG.vm.findClass RX10 = some mG.cls := hown
  have hl : lv_has ls 4 [(0, .ref m0), (1, .int (nI r)), (2, .long (lZ v))] := hl
  refine lv_aload_n hx hb dX10_set_0 rfl (lv_at hl 0 rfl) ?_
  refine lv_iload_n hx hb dX10_set_1 rfl (lv_at hl 1 rfl) ?_
  refine zc_wrV (rest := []) (wr := []) ⟨hx, hb, hml, hown, hts⟩ (metX10_clear lG D dA m0 thr kn pt pa bg xs_ ys_ sgm fr_ tw wo_ mt ha_ x0 y0 dx dy zz ct ov un ZZ r (by first | assumption | omega)) (cwV 1 hts (lw_V q1100 q1102 qs38 q80 q1103) rfl rfl rfl (by decide +kernel) ⟨Nat.le_of_ble_eq_true rfl, Nat.le_of_ble_eq_true rfl⟩) (va_recv hK.1 hP (ci := 9) (q0 := 0) rfl rfl) hP hK hD hS hA [0, 1] [] rfl rfl (by decide) (by decide) (by decide) rfl hl.1 rfl (Nat.le_of_ble_eq_true rfl) dX10_set_2 ⟨Nat.zero_le _, Nat.zero_le _⟩ (fun u H locs hc9 hP hD hS => ?_)
  obtain ⟨ZZ8, rfl⟩ : ∃ z, z = u := ⟨_, rfl⟩
  have hP : va_P D zCl [(m0, .inr (9, [.int (nI thr), .ref kn, .ref pt, .ref pa, .ref bg, .ref xs_, .ref ys_, .int (nI sgm), .ref fr_, .ref tw, .ref wo_, .ref mt, .ref ha_, .long (lZ x0), .long (lZ y0), .long (lZ dx), .long (lZ dy), .ref zz, .int (nI ct), .ref ov, .ref un])), (zz, .inl (dA 1, 192, .inr (.inl fun j => lZ (ZZ8 j))))] H := hP
  have hD : va_D A [(m0, .inr (9, [.int (nI thr), .ref kn, .ref pt, .ref pa, .ref bg, .ref xs_, .ref ys_, .int (nI sgm), .ref fr_, .ref tw, .ref wo_, .ref mt, .ref ha_, .long (lZ x0), .long (lZ y0), .long (lZ dx), .long (lZ dy), .ref zz, .int (nI ct), .ref ov, .ref un])), (zz, .inl (dA 1, 192, .inr (.inl fun j => lZ (ZZ8 j))))] := hD
  have hc9 : rowB ZZ8 r 0 0 ∧ rowS ZZ ZZ8 r := hc9
  show W _ _ _ _ _ _ _ _ _ _ _ _ 0 0 _ (F0 mG 5 ls [])
  obtain ⟨hc1, hc2⟩ := hc9
  have hv1 := hv.1
  have hv2 := hv.2
  refine lv_aload_n hx hb dX10_set_5 rfl (lv_at hl 0 rfl) ?_
  refine va_get (D := D) (ci := 9) (v := .ref zz) (C := RX10) (T := TX10) (N := 21) hx hb hts in_X10 hown hK.1 hP 0 rfl rfl 17 (Nat.le_of_ble_eq_true rfl) (hts _ q986) (fun _ h9 => h9) rfl dX10_set_6 ?_
  refine lv_bipush (v := nI 16) hx hb dX10_set_9 (by decide) ?_
  refine lv_iload_n hx hb dX10_set_11 rfl (lv_at hl 1 rfl) ?_
  refine zn_imul hx hb dX10_set_12 ?_
  refine lv_lload_n hx hb dX10_set_13 rfl (lv_at hl 2 rfl) ?_
  refine lv_ldc2 (v := lZ 16777215) hx hb hown (hts _ q1104) dX10_set_14 ?_
  refine zz_land16777216 hx hb dX10_set_17 ?_
  refine zz_lastore (f := ZZ8) (i := 16 * r) (x := v % 16777216) hx hb hK.1 hP hD hS 1 1 rfl rfl (by omega) (by decide) dX10_set_18 (fun H locs hP hD hS => ?_)
  have hP : va_P D zCl [(m0, .inr (9, [.int (nI thr), .ref kn, .ref pt, .ref pa, .ref bg, .ref xs_, .ref ys_, .int (nI sgm), .ref fr_, .ref tw, .ref wo_, .ref mt, .ref ha_, .long (lZ x0), .long (lZ y0), .long (lZ dx), .long (lZ dy), .ref zz, .int (nI ct), .ref ov, .ref un])), (zz, .inl (dA 1, 192, .inr (.inl fun j => lZ ((updZ ZZ8 (16 * r) (v % 16777216)) j))))] H := hP
  have hD : va_D A [(m0, .inr (9, [.int (nI thr), .ref kn, .ref pt, .ref pa, .ref bg, .ref xs_, .ref ys_, .int (nI sgm), .ref fr_, .ref tw, .ref wo_, .ref mt, .ref ha_, .long (lZ x0), .long (lZ y0), .long (lZ dx), .long (lZ dy), .ref zz, .int (nI ct), .ref ov, .ref un])), (zz, .inl (dA 1, 192, .inr (.inl fun j => lZ ((updZ ZZ8 (16 * r) (v % 16777216)) j))))] := hD
  refine lv_aload_n hx hb dX10_set_19 rfl (lv_at hl 0 rfl) ?_
  refine va_get (D := D) (ci := 9) (v := .ref zz) (C := RX10) (T := TX10) (N := 21) hx hb hts in_X10 hown hK.1 hP 0 rfl rfl 17 (Nat.le_of_ble_eq_true rfl) (hts _ q986) (fun _ h9 => h9) rfl dX10_set_20 ?_
  refine lv_bipush (v := nI 16) hx hb dX10_set_23 (by decide) ?_
  refine lv_iload_n hx hb dX10_set_25 rfl (lv_at hl 1 rfl) ?_
  refine zn_imul hx hb dX10_set_26 ?_
  refine lv_iconst (v := nI 1) hx hb dX10_set_27 (by decide) ?_
  refine zn_iadd hx hb dX10_set_28 ?_
  refine lv_lload_n hx hb dX10_set_29 rfl (lv_at hl 2 rfl) ?_
  refine lv_bipush (v := nI 24) hx hb dX10_set_30 (by decide) ?_
  refine zz_lshr24 hx hb hv dX10_set_32 ?_
  refine lv_ldc2 (v := lZ 16777215) hx hb hown (hts _ q1104) dX10_set_33 ?_
  refine zz_land16777216 hx hb dX10_set_36 ?_
  refine zz_lastore (f := updZ ZZ8 (16 * r) (v % 16777216)) (i := (16 * r) + 1) (x := (v / 16777216) % 16777216) hx hb hK.1 hP hD hS 1 1 rfl rfl (by omega) (by decide) dX10_set_37 (fun H locs hP hD hS => ?_)
  have hP : va_P D zCl [(m0, .inr (9, [.int (nI thr), .ref kn, .ref pt, .ref pa, .ref bg, .ref xs_, .ref ys_, .int (nI sgm), .ref fr_, .ref tw, .ref wo_, .ref mt, .ref ha_, .long (lZ x0), .long (lZ y0), .long (lZ dx), .long (lZ dy), .ref zz, .int (nI ct), .ref ov, .ref un])), (zz, .inl (dA 1, 192, .inr (.inl fun j => lZ ((updZ (updZ ZZ8 (16 * r) (v % 16777216)) ((16 * r) + 1) ((v / 16777216) % 16777216)) j))))] H := hP
  have hD : va_D A [(m0, .inr (9, [.int (nI thr), .ref kn, .ref pt, .ref pa, .ref bg, .ref xs_, .ref ys_, .int (nI sgm), .ref fr_, .ref tw, .ref wo_, .ref mt, .ref ha_, .long (lZ x0), .long (lZ y0), .long (lZ dx), .long (lZ dy), .ref zz, .int (nI ct), .ref ov, .ref un])), (zz, .inl (dA 1, 192, .inr (.inl fun j => lZ ((updZ (updZ ZZ8 (16 * r) (v % 16777216)) ((16 * r) + 1) ((v / 16777216) % 16777216)) j))))] := hD
  refine lv_aload_n hx hb dX10_set_38 rfl (lv_at hl 0 rfl) ?_
  refine va_get (D := D) (ci := 9) (v := .ref zz) (C := RX10) (T := TX10) (N := 21) hx hb hts in_X10 hown hK.1 hP 0 rfl rfl 17 (Nat.le_of_ble_eq_true rfl) (hts _ q986) (fun _ h9 => h9) rfl dX10_set_39 ?_
  refine lv_bipush (v := nI 16) hx hb dX10_set_42 (by decide) ?_
  refine lv_iload_n hx hb dX10_set_44 rfl (lv_at hl 1 rfl) ?_
  refine zn_imul hx hb dX10_set_45 ?_
  refine lv_iconst (v := nI 2) hx hb dX10_set_46 (by decide) ?_
  refine zn_iadd hx hb dX10_set_47 ?_
  refine lv_lload_n hx hb dX10_set_48 rfl (lv_at hl 2 rfl) ?_
  refine lv_bipush (v := nI 48) hx hb dX10_set_49 (by decide) ?_
  refine zz_lshr48 hx hb hv dX10_set_51 ?_
  refine zz_lastore (f := updZ (updZ ZZ8 (16 * r) (v % 16777216)) ((16 * r) + 1) ((v / 16777216) % 16777216)) (i := (16 * r) + 2) (x := v / 281474976710656) hx hb hK.1 hP hD hS 1 1 rfl rfl (by omega) (by decide) dX10_set_52 (fun H locs hP hD hS => ?_)
  have hP : va_P D zCl [(m0, .inr (9, [.int (nI thr), .ref kn, .ref pt, .ref pa, .ref bg, .ref xs_, .ref ys_, .int (nI sgm), .ref fr_, .ref tw, .ref wo_, .ref mt, .ref ha_, .long (lZ x0), .long (lZ y0), .long (lZ dx), .long (lZ dy), .ref zz, .int (nI ct), .ref ov, .ref un])), (zz, .inl (dA 1, 192, .inr (.inl fun j => lZ ((updZ (updZ (updZ ZZ8 (16 * r) (v % 16777216)) ((16 * r) + 1) ((v / 16777216) % 16777216)) ((16 * r) + 2) (v / 281474976710656)) j))))] H := hP
  have hD : va_D A [(m0, .inr (9, [.int (nI thr), .ref kn, .ref pt, .ref pa, .ref bg, .ref xs_, .ref ys_, .int (nI sgm), .ref fr_, .ref tw, .ref wo_, .ref mt, .ref ha_, .long (lZ x0), .long (lZ y0), .long (lZ dx), .long (lZ dy), .ref zz, .int (nI ct), .ref ov, .ref un])), (zz, .inl (dA 1, 192, .inr (.inl fun j => lZ ((updZ (updZ (updZ ZZ8 (16 * r) (v % 16777216)) ((16 * r) + 1) ((v / 16777216) % 16777216)) ((16 * r) + 2) (v / 281474976710656)) j))))] := hD
  have g0 : updZ (updZ (updZ ZZ8 (16 * r) (v % 16777216)) (16 * r + 1) (v / 16777216 % 16777216)) (16 * r + 2) (v / 281474976710656) (16 * r) = v % 16777216 := by rw [updZ_n (by omega), updZ_n (by omega), updZ_s]
  have g1 : updZ (updZ (updZ ZZ8 (16 * r) (v % 16777216)) (16 * r + 1) (v / 16777216 % 16777216)) (16 * r + 2) (v / 281474976710656) (16 * r + 1) = v / 16777216 % 16777216 := by rw [updZ_n (by omega), updZ_s]
  have g2 : updZ (updZ (updZ ZZ8 (16 * r) (v % 16777216)) (16 * r + 1) (v / 16777216 % 16777216)) (16 * r + 2) (v / 281474976710656) (16 * r + 2) = v / 281474976710656 := updZ_s
  have g3 : ∀ k, 3 ≤ k → k < 16 → updZ (updZ (updZ ZZ8 (16 * r) (v % 16777216)) (16 * r + 1) (v / 16777216 % 16777216)) (16 * r + 2) (v / 281474976710656) (16 * r + k) = 0 := fun k h1 h2 => by rw [updZ_n (by omega), updZ_n (by omega), updZ_n (by omega)]; exact hc1.2 k (Nat.zero_le _) h2
  refine lv_aload_n hx hb dX10_set_53 rfl (lv_at hl 0 rfl) ?_
  refine lv_iload_n hx hb dX10_set_54 rfl (lv_at hl 1 rfl) ?_
  refine zc_wrV (rest := []) (wr := []) ⟨hx, hb, hml, hown, hts⟩ (metX10_settle lG D dA m0 thr kn pt pa bg xs_ ys_ sgm fr_ tw wo_ mt ha_ x0 y0 dx dy zz ct ov un (updZ (updZ (updZ ZZ8 (16 * r) (v % 16777216)) ((16 * r) + 1) ((v / 16777216) % 16777216)) ((16 * r) + 2) (v / 281474976710656)) r 3 v (by first | assumption | omega) (by first | assumption | omega) (⟨fun k hk => by rcases (show k = 0 ∨ k = 1 ∨ k = 2 ∨ 3 ≤ k by omega) with q | q | q | q; rw [q]; rw [show 16 * r + 0 = 16 * r from rfl, g0]; omega; rw [q, g1]; omega; rw [q, g2]; omega; rw [g3 k q hk]; omega, g3⟩) (set_val g0 g1 g2 g3)) (cwV 1 hts (lw_V q1105 q1107 qs39 q80 q1108) rfl rfl rfl (by decide +kernel) ⟨Nat.le_of_ble_eq_true rfl, Nat.le_of_ble_eq_true rfl⟩) (va_recv hK.1 hP (ci := 9) (q0 := 0) rfl rfl) hP hK hD hS hA [0, 1] [] rfl rfl (by decide) (by decide) (by decide) rfl hl.1 rfl (Nat.le_of_ble_eq_true rfl) dX10_set_55 ⟨Nat.zero_le _, Nat.zero_le _⟩ (fun u H locs hs9 hP hD hS => ?_)
  obtain ⟨ZZ2_1, rfl⟩ : ∃ z, z = u := ⟨_, rfl⟩
  have hP : va_P D zCl [(m0, .inr (9, [.int (nI thr), .ref kn, .ref pt, .ref pa, .ref bg, .ref xs_, .ref ys_, .int (nI sgm), .ref fr_, .ref tw, .ref wo_, .ref mt, .ref ha_, .long (lZ x0), .long (lZ y0), .long (lZ dx), .long (lZ dy), .ref zz, .int (nI ct), .ref ov, .ref un])), (zz, .inl (dA 1, 192, .inr (.inl fun j => lZ (ZZ2_1 j))))] H := hP
  have hD : va_D A [(m0, .inr (9, [.int (nI thr), .ref kn, .ref pt, .ref pa, .ref bg, .ref xs_, .ref ys_, .int (nI sgm), .ref fr_, .ref tw, .ref wo_, .ref mt, .ref ha_, .long (lZ x0), .long (lZ y0), .long (lZ dx), .long (lZ dy), .ref zz, .int (nI ct), .ref ov, .ref un])), (zz, .inl (dA 1, 192, .inr (.inl fun j => lZ (ZZ2_1 j))))] := hD
  have hs9 : rowOK ZZ2_1 r (3 + 2) v ∧ rowS (updZ (updZ (updZ ZZ8 (16 * r) (v % 16777216)) ((16 * r) + 1) ((v / 16777216) % 16777216)) ((16 * r) + 2) (v / 281474976710656)) ZZ2_1 r := hs9
  show W _ _ _ _ _ _ _ _ _ _ _ _ 0 0 _ (F0 mG 58 ls [])
  exact zr_wrV (u := (ZZ2_1)) rfl (show rowOK ZZ2_1 r 3 v ∧ rowS ZZ ZZ2_1 r from ⟨set_short hv hs9.1, rowS.trans (rowS_upd (rowS_upd (rowS_upd hc2 ⟨by omega, by omega⟩) ⟨by omega, by omega⟩) ⟨by omega, by omega⟩) hs9.2⟩) (hP.sub [0, 1] rfl) (hD.sub [0, 1] (by decide) rfl) hS hx hb hr hlocks dX10_set_58
/-- a product's inner steps -/
theorem prod_end {f : Nat → Int} {a b i k la lb : Nat} (hl : la + lb ≤ 17) (ha : la ≤ i → f (a + i) = 0) (hb : ∀ k, lb ≤ k → k < 16 → f (b + k) = 0) (hk : 16 ≤ k + i ∨ f (a + i) = 0) (hk2 : k + i ≤ 16) : f (a + i) * 16777216 ^ i * dval f b k = f (a + i) * 16777216 ^ i * dval f b 16 := by
  by_cases q : f (a + i) = 0
  · rw [q]; simp
  · have h1 : i < la := by
      rcases Nat.lt_or_ge i la with w | w
      · exact w
      · exact absurd (ha w) q
    have h2 : 16 ≤ k + i := by rcases hk with w | w; exact w; exact absurd w q
    rw [dval_zero (m := k) 16 (by omega) (fun j h3 h4 => hb j (by omega) h4)]
theorem prod_step {f g : Nat → Int} {R B i k : Nat} {T A d : Int} (hk : i + k < 16) (h : dval f R 16 = T + A + d * 16777216 ^ i * dval g B k) : dval (updZ f (R + (i + k)) (f (R + (i + k)) + d * g (B + k))) R 16 = T + A + d * 16777216 ^ i * dval g B (k + 1) := by
  rw [dval_upd 16 hk, h, dval, Int.pow_add]
  grind
theorem mul_bd46 {x y : Int} (hx : -8388608 ≤ x ∧ x ≤ 8388608) (hy : -8388608 ≤ y ∧ y ≤ 8388608) : -70368744177664 ≤ x * y ∧ x * y ≤ 70368744177664 := mul_bd hx hy (by decide) (by decide)
set_option maxHeartbeats 4000000 in
set_option maxRecDepth 100000 in
theorem metX10_product (lG : Launch) (D : va_G) (dA : Nat → ClassId) (m0 : Nat) (thr : Nat) (kn : Nat) (pt : Nat) (pa : Nat) (bg : Nat) (xs_ : Nat) (ys_ : Nat) (sgm : Nat) (fr_ : Nat) (tw : Nat) (wo_ : Nat) (mt : Nat) (ha_ : Nat) (x0 : Int) (y0 : Int) (dx : Int) (dy : Int) (zz : Nat) (ct : Nat) (ov : Nat) (un : Nat) (ZZ : Nat → Int) (r : Nat) (a : Nat) (b : Nat) (la : Nat) (lb : Nat) (nr : Nat) (M : Int) (hr : r < 12) (ha : a < 12) (hb0 : b < 12) (hra : r ≠ a) (hrb : r ≠ b) (hlab : la + lb ≤ 17) (hnr : la + lb ≤ nr + 1) (hAa : rowB ZZ a la 8388608) (hBb : rowB ZZ b lb 8388608) (hR : rowB ZZ r nr M) (hM0 : 0 ≤ M ∧ M ≤ 36028797018963968) : Wr lG yX10_product (ws_ yX10_product cX10_product 8 none) 0 0 D dA [.ref m0, .int (nI r), .int (nI a), .int (nI b)] [(m0, .inr (9, [.int (nI thr), .ref kn, .ref pt, .ref pa, .ref bg, .ref xs_, .ref ys_, .int (nI sgm), .ref fr_, .ref tw, .ref wo_, .ref mt, .ref ha_, .long (lZ x0), .long (lZ y0), .long (lZ dx), .long (lZ dy), .ref zz, .int (nI ct), .ref ov, .ref un])), (zz, .inl (dA 1, 192, .inr (.inl fun j => lZ (ZZ j))))] 0 0 (fun (u : (Nat → Int)) => let ZZ3 := u; rowS ZZ ZZ3 r ∧ dval ZZ3 (16 * r) 16 = dval ZZ (16 * r) 16 + dval ZZ (16 * a) 16 * dval ZZ (16 * b) 16 ∧ rowB ZZ3 r nr (M + 1125899906842624)) (fun (u : (Nat → Int)) => let ZZ3 := u; none) (fun (u : (Nat → Int)) => let ZZ3 := u; [(m0, .inr (9, [.int (nI thr), .ref kn, .ref pt, .ref pa, .ref bg, .ref xs_, .ref ys_, .int (nI sgm), .ref fr_, .ref tw, .ref wo_, .ref mt, .ref ha_, .long (lZ x0), .long (lZ y0), .long (lZ dx), .long (lZ dy), .ref zz, .int (nI ct), .ref ov, .ref un])), (zz, .inl (dA 1, 192, .inr (.inl fun j => lZ (ZZ3 j))))]) := by
  refine Wr.of (by decide) (Nat.le_of_ble_eq_true rfl) ?_
  intro pG eG sG mG bG tG cG ls A hx hb hr hml hown hts hlocks hnm hP hK hD hS hA hl
  have hK1 := hK.1
  have hown : sG.vm.findClass RX10 = some mG.cls := hown
  have hl : lv_has ls 8 [(0, .ref m0), (1, .int (nI r)), (2, .int (nI a)), (3, .int (nI b))] := hl
  refine lv_iconst (v := nI 0) hx hb dX10_product_0 (by decide) ?_
  refine lv_istore (lv' := [(4, .int (nI 0)), (0, .ref m0), (1, .int (nI r)), (2, .int (nI a)), (3, .int (nI b))]) hx hb dX10_product_1 hl (by decide) rfl (fun ls hl => ?_)
  have loop3 : ∀ (n3 : Nat) (i : Nat) (ZZ1 : Nat → Int), (i ≤ 16) → (rowS ZZ ZZ1 r) → (dval ZZ1 (16 * r) 16 = dval ZZ (16 * r) 16 + dval ZZ (16 * a) i * dval ZZ (16 * b) 16) → (∀ q, q < 16 → -(M + (i : Nat) * 70368744177664) ≤ ZZ1 (16 * r + q) ∧ ZZ1 (16 * r + q) ≤ M + (i : Nat) * 70368744177664) → (∀ q, nr ≤ q → q < 16 → ZZ1 (16 * r + q) = 0) → 16 - i < n3 → ∀ (H : Heap) (locs : List Loc), va_P D zCl [(m0, .inr (9, [.int (nI thr), .ref kn, .ref pt, .ref pa, .ref bg, .ref xs_, .ref ys_, .int (nI sgm), .ref fr_, .ref tw, .ref wo_, .ref mt, .ref ha_, .long (lZ x0), .long (lZ y0), .long (lZ dx), .long (lZ dy), .ref zz, .int (nI ct), .ref ov, .ref un])), (zz, .inl (dA 1, 192, .inr (.inl fun j => lZ (ZZ1 j))))] H → va_D A [(m0, .inr (9, [.int (nI thr), .ref kn, .ref pt, .ref pa, .ref bg, .ref xs_, .ref ys_, .int (nI sgm), .ref fr_, .ref tw, .ref wo_, .ref mt, .ref ha_, .long (lZ x0), .long (lZ y0), .long (lZ dx), .long (lZ dy), .ref zz, .int (nI ct), .ref ov, .ref un])), (zz, .inl (dA 1, 192, .inr (.inl fun j => lZ (ZZ1 j))))] → va_S A sG.heap H locs → ∀ (ls : Array Slot), lv_has ls 8 [(4, .int (nI i)), (0, .ref m0), (1, .int (nI r)), (2, .int (nI a)), (3, .int (nI b))] → W pG lG eG (zRoom 0 0 0 0) sG mG [.ref m0, .int (nI r), .int (nI a), .int (nI b)].toArray bG tG cG H locs 0 0 (MQ bG (wrQ D (fun (u : (Nat → Int)) => let ZZ3 := u; rowS ZZ ZZ3 r ∧ dval ZZ3 (16 * r) 16 = dval ZZ (16 * r) 16 + dval ZZ (16 * a) 16 * dval ZZ (16 * b) 16 ∧ rowB ZZ3 r nr (M + 1125899906842624)) (fun (u : (Nat → Int)) => let ZZ3 := u; none) (fun (u : (Nat → Int)) => let ZZ3 := u; [(m0, .inr (9, [.int (nI thr), .ref kn, .ref pt, .ref pa, .ref bg, .ref xs_, .ref ys_, .int (nI sgm), .ref fr_, .ref tw, .ref wo_, .ref mt, .ref ha_, .long (lZ x0), .long (lZ y0), .long (lZ dx), .long (lZ dy), .ref zz, .int (nI ct), .ref ov, .ref un])), (zz, .inl (dA 1, 192, .inr (.inl fun j => lZ (ZZ3 j))))]) A) [.ref m0, .int (nI r), .int (nI a), .int (nI b)].toArray sG 0 0 A) (F0 mG 3 ls []) := by
    intro n3
    induction n3 with
    | zero => intro i ZZ1 i1 i2 i3 i4 i5 hm; exact absurd hm (Nat.not_lt_zero _)
    | succ n3 ih3 =>
      intro i ZZ1 i1 i2 i3 i4 i5 hm3 H locs hP hD hS ls hl
      refine lv_iload hx hb dX10_product_3 (lv_at hl 0 rfl) ?_
      refine lv_bipush (v := nI 16) hx hb dX10_product_5 (by decide) ?_
      refine zn_icmp_ge (tgt := 89) hx hb (by omega) (by decide) dX10_product_7 (by decide) (fun c_1 => ?_) (fun c_1 => ?_)
      · skip
        exact zr_wrV (u := (ZZ1)) rfl (show rowS ZZ ZZ1 r ∧ dval ZZ1 (16 * r) 16 = dval ZZ (16 * r) 16 + dval ZZ (16 * a) 16 * dval ZZ (16 * b) 16 ∧ rowB ZZ1 r nr (M + 1125899906842624) from ⟨i2, by rw [i3, show i = 16 by omega], ⟨fun q h => by have := i4 q h; omega, i5⟩⟩) (hP.sub [0, 1] rfl) (hD.sub [0, 1] (by decide) rfl) hS hx hb hr hlocks dX10_product_89
      · skip
        refine lv_aload_n hx hb dX10_product_10 rfl (lv_at hl 1 rfl) ?_
        refine va_get (D := D) (ci := 9) (v := .ref zz) (C := RX10) (T := TX10) (N := 21) hx hb hts in_X10 hown hK.1 hP 0 rfl rfl 17 (Nat.le_of_ble_eq_true rfl) (hts _ q986) (fun _ h9 => h9) rfl dX10_product_11 ?_
        refine lv_bipush (v := nI 16) hx hb dX10_product_14 (by decide) ?_
        refine lv_iload_n hx hb dX10_product_16 rfl (lv_at hl 3 rfl) ?_
        refine zn_imul hx hb dX10_product_17 ?_
        refine lv_iload hx hb dX10_product_18 (lv_at hl 0 rfl) ?_
        refine zn_iadd hx hb dX10_product_20 ?_
        refine zz_laload (f := ZZ1) (i := (16 * a) + i) hx hb hK.1 hP 1 1 rfl rfl (by omega) (by decide) dX10_product_21 ?_
        refine zt_eq (.long (lZ (ZZ (16 * a + i)))) (congrArg (fun z => Value.long (lZ z)) (i2 (16 * a + i) (by omega))) ?_
        have hai := hAa.1 i (by omega)
        refine lv_lstore (lv' := [(5, .long (lZ (ZZ (16 * a + i)))), (4, .int (nI i)), (0, .ref m0), (1, .int (nI r)), (2, .int (nI a)), (3, .int (nI b))]) hx hb dX10_product_22 hl (by decide) rfl (fun ls hl => ?_)
        refine lv_iconst (v := nI 0) hx hb dX10_product_24 (by decide) ?_
        refine lv_istore (lv' := [(7, .int (nI 0)), (5, .long (lZ (ZZ (16 * a + i)))), (4, .int (nI i)), (0, .ref m0), (1, .int (nI r)), (2, .int (nI a)), (3, .int (nI b))]) hx hb dX10_product_25 hl (by decide) rfl (fun ls hl => ?_)
        have loop27 : ∀ (n27 : Nat) (k : Nat) (ZZ2 : Nat → Int), (k + i ≤ 16) → (rowS ZZ ZZ2 r) → (dval ZZ2 (16 * r) 16 = dval ZZ (16 * r) 16 + dval ZZ (16 * a) i * dval ZZ (16 * b) 16 + ZZ (16 * a + i) * 16777216 ^ i * dval ZZ (16 * b) k) → (∀ q, q < 16 → -(M + (i + 1 : Nat) * 70368744177664) ≤ ZZ2 (16 * r + q) ∧ ZZ2 (16 * r + q) ≤ M + (i + 1 : Nat) * 70368744177664) → (∀ q, i + k ≤ q → q < 16 → -(M + (i : Nat) * 70368744177664) ≤ ZZ2 (16 * r + q) ∧ ZZ2 (16 * r + q) ≤ M + (i : Nat) * 70368744177664) → (∀ q, nr ≤ q → q < 16 → ZZ2 (16 * r + q) = 0) → 16 - k < n27 → ∀ (H : Heap) (locs : List Loc), va_P D zCl [(m0, .inr (9, [.int (nI thr), .ref kn, .ref pt, .ref pa, .ref bg, .ref xs_, .ref ys_, .int (nI sgm), .ref fr_, .ref tw, .ref wo_, .ref mt, .ref ha_, .long (lZ x0), .long (lZ y0), .long (lZ dx), .long (lZ dy), .ref zz, .int (nI ct), .ref ov, .ref un])), (zz, .inl (dA 1, 192, .inr (.inl fun j => lZ (ZZ2 j))))] H → va_D A [(m0, .inr (9, [.int (nI thr), .ref kn, .ref pt, .ref pa, .ref bg, .ref xs_, .ref ys_, .int (nI sgm), .ref fr_, .ref tw, .ref wo_, .ref mt, .ref ha_, .long (lZ x0), .long (lZ y0), .long (lZ dx), .long (lZ dy), .ref zz, .int (nI ct), .ref ov, .ref un])), (zz, .inl (dA 1, 192, .inr (.inl fun j => lZ (ZZ2 j))))] → va_S A sG.heap H locs → ∀ (ls : Array Slot), lv_has ls 8 [(7, .int (nI k)), (5, .long (lZ (ZZ (16 * a + i)))), (4, .int (nI i)), (0, .ref m0), (1, .int (nI r)), (2, .int (nI a)), (3, .int (nI b))] → W pG lG eG (zRoom 0 0 0 0) sG mG [.ref m0, .int (nI r), .int (nI a), .int (nI b)].toArray bG tG cG H locs 0 0 (MQ bG (wrQ D (fun (u : (Nat → Int)) => let ZZ3 := u; rowS ZZ ZZ3 r ∧ dval ZZ3 (16 * r) 16 = dval ZZ (16 * r) 16 + dval ZZ (16 * a) 16 * dval ZZ (16 * b) 16 ∧ rowB ZZ3 r nr (M + 1125899906842624)) (fun (u : (Nat → Int)) => let ZZ3 := u; none) (fun (u : (Nat → Int)) => let ZZ3 := u; [(m0, .inr (9, [.int (nI thr), .ref kn, .ref pt, .ref pa, .ref bg, .ref xs_, .ref ys_, .int (nI sgm), .ref fr_, .ref tw, .ref wo_, .ref mt, .ref ha_, .long (lZ x0), .long (lZ y0), .long (lZ dx), .long (lZ dy), .ref zz, .int (nI ct), .ref ov, .ref un])), (zz, .inl (dA 1, 192, .inr (.inl fun j => lZ (ZZ3 j))))]) A) [.ref m0, .int (nI r), .int (nI a), .int (nI b)].toArray sG 0 0 A) (F0 mG 27 ls []) := by
          intro n27
          induction n27 with
          | zero => intro k ZZ2 k1 k2 k3 k4 k5 k6 hm; exact absurd hm (Nat.not_lt_zero _)
          | succ n27 ih27 =>
            intro k ZZ2 k1 k2 k3 k4 k5 k6 hm27 H locs hP hD hS ls hl
            refine lv_iload hx hb dX10_product_27 (lv_at hl 0 rfl) ?_
            refine lv_iload hx hb dX10_product_29 (lv_at hl 2 rfl) ?_
            refine zn_iadd hx hb dX10_product_31 ?_
            refine lv_bipush (v := nI 16) hx hb dX10_product_32 (by decide) ?_
            refine zn_icmp_ge (tgt := 83) hx hb (by omega) (by decide) dX10_product_34 (by decide) (fun c_2 => ?_) (fun c_2 => ?_)
            · skip
              refine lv_iinc (v := nI (i + 1)) (lv' := [(4, .int (nI (i + 1))), (7, .int (nI k)), (5, .long (lZ (ZZ (16 * a + i)))), (0, .ref m0), (1, .int (nI r)), (2, .int (nI a)), (3, .int (nI b))]) hx hb dX10_product_83 hl (k := 2) rfl (nI_add _ _) (by decide) rfl (fun ls hl => ?_)
              refine lv_goto (tgt := 3) hx hb dX10_product_86 (by decide) ?_
              exact ih3 (i + 1) ZZ2 (by first | assumption | omega) k2 (by rw [k3, prod_end hlab (fun h => hAa.2 i h (by omega)) hBb.2 (by first | exact Or.inl (by omega) | exact Or.inr (by assumption)) k1, dval_succ ZZ (16 * a) i, Int.add_mul, Int.add_assoc]) k4 k6 (by omega) _ _ (hP.sub [0, 1] rfl) (hD.sub [0, 1] (by decide) rfl) hS _ (lv_sub hl [0, 3, 4, 5, 6] rfl)
            · skip
              refine lv_lload hx hb dX10_product_37 (lv_at hl 1 rfl) ?_
              refine zz_lconst hx hb 0 dX10_product_39 rfl ?_
              refine zz_lc_eq (tgt := 83) hx hb ⟨by omega, by omega⟩ inL_0 dX10_product_40 dX10_product_41 (by decide) (fun c_3 => ?_) (fun c_3 => ?_)
              · skip
                refine lv_iinc (v := nI (i + 1)) (lv' := [(4, .int (nI (i + 1))), (7, .int (nI k)), (5, .long (lZ (ZZ (16 * a + i)))), (0, .ref m0), (1, .int (nI r)), (2, .int (nI a)), (3, .int (nI b))]) hx hb dX10_product_83 hl (k := 2) rfl (nI_add _ _) (by decide) rfl (fun ls hl => ?_)
                refine lv_goto (tgt := 3) hx hb dX10_product_86 (by decide) ?_
                exact ih3 (i + 1) ZZ2 (by first | assumption | omega) k2 (by rw [k3, prod_end hlab (fun h => hAa.2 i h (by omega)) hBb.2 (by first | exact Or.inl (by omega) | exact Or.inr (by assumption)) k1, dval_succ ZZ (16 * a) i, Int.add_mul, Int.add_assoc]) k4 k6 (by omega) _ _ (hP.sub [0, 1] rfl) (hD.sub [0, 1] (by decide) rfl) hS _ (lv_sub hl [0, 3, 4, 5, 6] rfl)
              · skip
                refine lv_aload_n hx hb dX10_product_44 rfl (lv_at hl 3 rfl) ?_
                refine va_get (D := D) (ci := 9) (v := .ref zz) (C := RX10) (T := TX10) (N := 21) hx hb hts in_X10 hown hK.1 hP 0 rfl rfl 17 (Nat.le_of_ble_eq_true rfl) (hts _ q986) (fun _ h9 => h9) rfl dX10_product_45 ?_
                refine lv_bipush (v := nI 16) hx hb dX10_product_48 (by decide) ?_
                refine lv_iload_n hx hb dX10_product_50 rfl (lv_at hl 4 rfl) ?_
                refine zn_imul hx hb dX10_product_51 ?_
                refine lv_iload hx hb dX10_product_52 (lv_at hl 2 rfl) ?_
                refine zn_iadd hx hb dX10_product_54 ?_
                refine lv_iload hx hb dX10_product_55 (lv_at hl 0 rfl) ?_
                refine zn_iadd hx hb dX10_product_57 ?_
                refine lv_dup2_11 hx hb dX10_product_58 rfl rfl ?_
                refine zz_laload (f := ZZ2) (i := ((16 * r) + i) + k) hx hb hK.1 hP 1 1 rfl rfl (by omega) (by decide) dX10_product_59 ?_
                refine lv_lload hx hb dX10_product_60 (lv_at hl 1 rfl) ?_
                refine lv_aload_n hx hb dX10_product_62 rfl (lv_at hl 3 rfl) ?_
                refine va_get (D := D) (ci := 9) (v := .ref zz) (C := RX10) (T := TX10) (N := 21) hx hb hts in_X10 hown hK.1 hP 0 rfl rfl 17 (Nat.le_of_ble_eq_true rfl) (hts _ q986) (fun _ h9 => h9) rfl dX10_product_63 ?_
                refine lv_bipush (v := nI 16) hx hb dX10_product_66 (by decide) ?_
                refine lv_iload_n hx hb dX10_product_68 rfl (lv_at hl 6 rfl) ?_
                refine zn_imul hx hb dX10_product_69 ?_
                refine lv_iload hx hb dX10_product_70 (lv_at hl 0 rfl) ?_
                refine zn_iadd hx hb dX10_product_72 ?_
                refine zz_laload (f := ZZ2) (i := (16 * b) + k) hx hb hK.1 hP 1 1 rfl rfl (by omega) (by decide) dX10_product_73 ?_
                refine zt_eq (.long (lZ (ZZ (16 * b + k)))) (congrArg (fun z => Value.long (lZ z)) (k2 (16 * b + k) (by omega))) ?_
                have hbk := hBb.1 k (by omega)
                have hmb := mul_bd46 hai hbk
                have k5i := k5 (i + k) (Nat.le_refl _) (by omega)
                rw [← Nat.add_assoc] at k5i
                have hz9 : nr ≤ i + k → ZZ2 (16 * r + i + k) + ZZ (16 * a + i) * ZZ (16 * b + k) = 0 := by
                  intro h
                  have h6 := k6 (i + k) h (by omega)
                  rw [← Nat.add_assoc] at h6
                  rcases Nat.lt_or_ge i la with w | w
                  · rw [h6, hBb.2 k (by omega) (by omega)]; simp
                  · rw [h6, hAa.2 i w (by omega)]; simp
                refine zz_lmul hx hb dX10_product_74 ?_
                refine zz_ladd hx hb dX10_product_75 ?_
                refine zz_lastore (f := ZZ2) (i := ((16 * r) + i) + k) (x := (ZZ2 (((16 * r) + i) + k)) + ((ZZ (16 * a + i)) * (ZZ (16 * b + k)))) hx hb hK.1 hP hD hS 1 1 rfl rfl (by omega) (by decide) dX10_product_76 (fun H locs hP hD hS => ?_)
                have hP : va_P D zCl [(m0, .inr (9, [.int (nI thr), .ref kn, .ref pt, .ref pa, .ref bg, .ref xs_, .ref ys_, .int (nI sgm), .ref fr_, .ref tw, .ref wo_, .ref mt, .ref ha_, .long (lZ x0), .long (lZ y0), .long (lZ dx), .long (lZ dy), .ref zz, .int (nI ct), .ref ov, .ref un])), (zz, .inl (dA 1, 192, .inr (.inl fun j => lZ ((updZ ZZ2 (((16 * r) + i) + k) ((ZZ2 (((16 * r) + i) + k)) + ((ZZ (16 * a + i)) * (ZZ (16 * b + k))))) j))))] H := hP
                have hD : va_D A [(m0, .inr (9, [.int (nI thr), .ref kn, .ref pt, .ref pa, .ref bg, .ref xs_, .ref ys_, .int (nI sgm), .ref fr_, .ref tw, .ref wo_, .ref mt, .ref ha_, .long (lZ x0), .long (lZ y0), .long (lZ dx), .long (lZ dy), .ref zz, .int (nI ct), .ref ov, .ref un])), (zz, .inl (dA 1, 192, .inr (.inl fun j => lZ ((updZ ZZ2 (((16 * r) + i) + k) ((ZZ2 (((16 * r) + i) + k)) + ((ZZ (16 * a + i)) * (ZZ (16 * b + k))))) j))))] := hD
                refine lv_iinc (v := nI (k + 1)) (lv' := [(7, .int (nI (k + 1))), (5, .long (lZ (ZZ (16 * a + i)))), (4, .int (nI i)), (0, .ref m0), (1, .int (nI r)), (2, .int (nI a)), (3, .int (nI b))]) hx hb dX10_product_77 hl (k := 0) rfl (nI_add _ _) (by decide) rfl (fun ls hl => ?_)
                refine lv_goto (tgt := 27) hx hb dX10_product_80 (by decide) ?_
                exact ih27 (k + 1) (updZ ZZ2 (((16 * r) + i) + k) ((ZZ2 (((16 * r) + i) + k)) + ((ZZ (16 * a + i)) * (ZZ (16 * b + k))))) (by first | assumption | omega) (rowS_upd k2 ⟨by omega, by omega⟩) (by rw [Nat.add_assoc]; exact prod_step (by omega) k3) (fun q h => by by_cases w : q = i + k; rw [w, ← Nat.add_assoc, updZ_s]; omega; rw [updZ_n (by omega)]; exact k4 q h) (fun q h1 h2 => by rw [updZ_n (by omega)]; exact k5 q (by omega) h2) (fun q h1 h2 => by by_cases w : q = i + k; rw [w, ← Nat.add_assoc, updZ_s]; exact hz9 (by omega); rw [updZ_n (by omega)]; exact k6 q h1 h2) (by omega) _ _ (hP.sub [0, 1] rfl) (hD.sub [0, 1] (by decide) rfl) hS _ (lv_sub hl [0, 1, 2, 3, 4, 5, 6] rfl)
        exact loop27 (16 - 0 + 1) 0 ZZ1 (by first | assumption | omega) i2 (by rw [i3, dval]; omega) (fun q h => by have := i4 q h; omega) (fun q _ h => i4 q h) i5 (Nat.lt_succ_self _) _ _ (hP.sub [0, 1] rfl) (hD.sub [0, 1] (by decide) rfl) hS _ (lv_sub hl [0, 1, 2, 3, 4, 5, 6] rfl)
  exact loop3 (16 - 0 + 1) 0 ZZ (by first | assumption | omega) (fun _ _ => rfl) (by rw [dval]; omega) (fun q h => by have := hR.1 q h; omega) (hR.2) (Nat.lt_succ_self _) _ _ (hP.sub [0, 1] rfl) (hD.sub [0, 1] (by decide) rfl) hS _ (lv_sub hl [0, 1, 2, 3, 4] rfl)
set_option maxHeartbeats 4000000 in
set_option maxRecDepth 100000 in
theorem metX10_signOf (lG : Launch) (D : va_G) (dA : Nat → ClassId) (m0 : Nat) (thr : Nat) (kn : Nat) (pt : Nat) (pa : Nat) (bg : Nat) (xs_ : Nat) (ys_ : Nat) (sgm : Nat) (fr_ : Nat) (tw : Nat) (wo_ : Nat) (mt : Nat) (ha_ : Nat) (x0 : Int) (y0 : Int) (dx : Int) (dy : Int) (zz : Nat) (ct : Nat) (ov : Nat) (un : Nat) (ZZ : Nat → Int) (r : Nat) (n : Nat) (V : Int) (hr : r < 12) (hR : rowOK ZZ r n V) : Ro lG yX10_signOf (ws_ yX10_signOf cX10_signOf 5 (some .int)) 0 0 D dA [.ref m0, .int (nI r)] [(m0, .inr (9, [.int (nI thr), .ref kn, .ref pt, .ref pa, .ref bg, .ref xs_, .ref ys_, .int (nI sgm), .ref fr_, .ref tw, .ref wo_, .ref mt, .ref ha_, .long (lZ x0), .long (lZ y0), .long (lZ dx), .long (lZ dy), .ref zz, .int (nI ct), .ref ov, .ref un])), (zz, .inl (dA 1, 192, .inr (.inl fun j => lZ (ZZ j))))] (some (.int (iZ (Int.sign V)))) := by
  refine Ro.of (by decide) (Nat.le_of_ble_eq_true rfl) ?_
  intro pG eG sG mG bG tG cG ls hx hb hr hml hown hts hlocks hP hK hl
  have hown : sG.vm.findClass RX10 = some mG.cls := hown
  have hl : lv_has ls 5 [(0, .ref m0), (1, .int (nI r))] := hl
  refine lv_bipush (v := nI 15) hx hb dX10_signOf_0 (by decide) ?_
  refine lv_istore_n (lv' := [(2, .int (nI 15)), (0, .ref m0), (1, .int (nI r))]) hx hb dX10_signOf_2 rfl hl (by decide) rfl (fun ls hl => ?_)
  have loop3 : ∀ (n3 : Nat) (k : Nat), (k < 16) → (∀ i, k < i → i < 16 → ZZ (16 * r + i) = 0) → k < n3 → ∀ (ls : Array Slot), lv_has ls 5 [(2, .int (nI k)), (0, .ref m0), (1, .int (nI r))] → W pG lG eG (zRoom 0 0 0 0) sG mG [.ref m0, .int (nI r)].toArray bG tG cG sG.heap [] 0 0 (MQ bG (roQ (some (.int (iZ (Int.sign V)))) sG.heap) [.ref m0, .int (nI r)].toArray sG 0 0 (fun _ => False)) (F0 mG 3 ls []) := by
    intro n3
    induction n3 with
    | zero => intro k i1 i2 hm; exact absurd hm (Nat.not_lt_zero _)
    | succ n3 ih3 =>
      intro k i1 i2 hm3 ls hl
      have hd := hR.1.1 k i1
      refine lv_iload_n hx hb dX10_signOf_3 rfl (lv_at hl 0 rfl) ?_
      refine zn_if_le (tgt := 29) hx hb (by omega) dX10_signOf_4 (by decide) (fun c_1 => ?_) (fun c_1 => ?_)
      · skip
        have hs : (k = 0 ∨ ZZ (16 * r + k) ≠ 0) := by first | exact Or.inl (by omega) | exact Or.inr (by assumption)
        have hv : dval ZZ (16 * r) (k + 1) = V := by rw [← hR.2]; exact (dval_zero (m := k + 1) 16 (by omega) (fun i h1 h2 => i2 i (by omega) h2)).symm
        have hg := dval_sign (f := ZZ) (a := 16 * r) (n := k) (fun i h => hR.1.1 i (by omega)) hs
        rw [hv] at hg
        refine lv_aload_n hx hb dX10_signOf_29 rfl (lv_at hl 1 rfl) ?_
        refine va_get (D := D) (ci := 9) (v := .ref zz) (C := RX10) (T := TX10) (N := 21) hx hb hts in_X10 hown hK.1 hP 0 rfl rfl 17 (Nat.le_of_ble_eq_true rfl) (hts _ q986) (fun _ h9 => h9) rfl dX10_signOf_30 ?_
        refine lv_bipush (v := nI 16) hx hb dX10_signOf_33 (by decide) ?_
        refine lv_iload_n hx hb dX10_signOf_35 rfl (lv_at hl 2 rfl) ?_
        refine zn_imul hx hb dX10_signOf_36 ?_
        refine lv_iload_n hx hb dX10_signOf_37 rfl (lv_at hl 0 rfl) ?_
        refine zn_iadd hx hb dX10_signOf_38 ?_
        refine zz_laload (f := ZZ) (i := (16 * r) + k) hx hb hK.1 hP 1 1 rfl rfl (by omega) (by decide) dX10_signOf_39 ?_
        refine lv_lstore_n (lv' := [(3, .long (lZ (ZZ ((16 * r) + k)))), (2, .int (nI k)), (0, .ref m0), (1, .int (nI r))]) hx hb dX10_signOf_40 rfl hl (by decide) rfl (fun ls hl => ?_)
        refine lv_lload_n hx hb dX10_signOf_41 rfl (lv_at hl 0 rfl) ?_
        refine zz_lconst hx hb 0 dX10_signOf_42 rfl ?_
        refine zz_lc_le (tgt := 51) hx hb ⟨by omega, by omega⟩ ⟨by decide, by decide⟩ dX10_signOf_43 dX10_signOf_44 (by decide) (fun c_2 => ?_) (fun c_2 => ?_)
        · skip
          refine lv_lload_n hx hb dX10_signOf_51 rfl (lv_at hl 0 rfl) ?_
          refine zz_lconst hx hb 0 dX10_signOf_52 rfl ?_
          refine zz_lc_ge (tgt := 61) hx hb ⟨by omega, by omega⟩ ⟨by decide, by decide⟩ dX10_signOf_53 dX10_signOf_54 (by decide) (fun c_3 => ?_) (fun c_3 => ?_)
          · skip
            refine lv_iconst (v := nI 0) hx hb dX10_signOf_61 (by decide) ?_
            exact zr_roI (by first | (exfalso; omega) | (rw [Int.sign_eq_neg_one_of_neg (by omega)]) | (rw [Int.sign_eq_one_of_pos (by omega)]; rfl) | (rw [show V = 0 by omega]; rfl)) hx hb hr hlocks dX10_signOf_62
          · skip
            refine lv_iconst (v := iZ (-1)) hx hb dX10_signOf_57 (by decide) ?_
            refine lv_goto (tgt := 62) hx hb dX10_signOf_58 (by decide) ?_
            exact zr_roI (by first | (exfalso; omega) | (rw [Int.sign_eq_neg_one_of_neg (by omega)]) | (rw [Int.sign_eq_one_of_pos (by omega)]; rfl) | (rw [show V = 0 by omega]; rfl)) hx hb hr hlocks dX10_signOf_62
        · skip
          refine lv_iconst (v := nI 1) hx hb dX10_signOf_47 (by decide) ?_
          refine lv_goto (tgt := 62) hx hb dX10_signOf_48 (by decide) ?_
          exact zr_roI (by first | (exfalso; omega) | (rw [Int.sign_eq_neg_one_of_neg (by omega)]) | (rw [Int.sign_eq_one_of_pos (by omega)]; rfl) | (rw [show V = 0 by omega]; rfl)) hx hb hr hlocks dX10_signOf_62
      · skip
        refine lv_aload_n hx hb dX10_signOf_7 rfl (lv_at hl 1 rfl) ?_
        refine va_get (D := D) (ci := 9) (v := .ref zz) (C := RX10) (T := TX10) (N := 21) hx hb hts in_X10 hown hK.1 hP 0 rfl rfl 17 (Nat.le_of_ble_eq_true rfl) (hts _ q986) (fun _ h9 => h9) rfl dX10_signOf_8 ?_
        refine lv_bipush (v := nI 16) hx hb dX10_signOf_11 (by decide) ?_
        refine lv_iload_n hx hb dX10_signOf_13 rfl (lv_at hl 2 rfl) ?_
        refine zn_imul hx hb dX10_signOf_14 ?_
        refine lv_iload_n hx hb dX10_signOf_15 rfl (lv_at hl 0 rfl) ?_
        refine zn_iadd hx hb dX10_signOf_16 ?_
        refine zz_laload (f := ZZ) (i := (16 * r) + k) hx hb hK.1 hP 1 1 rfl rfl (by omega) (by decide) dX10_signOf_17 ?_
        refine zz_lconst hx hb 0 dX10_signOf_18 rfl ?_
        refine zz_lc_ne (tgt := 29) hx hb ⟨by omega, by omega⟩ ⟨by decide, by decide⟩ dX10_signOf_19 dX10_signOf_20 (by decide) (fun c_4 => ?_) (fun c_4 => ?_)
        · skip
          have hs : (k = 0 ∨ ZZ (16 * r + k) ≠ 0) := by first | exact Or.inl (by omega) | exact Or.inr (by assumption)
          have hv : dval ZZ (16 * r) (k + 1) = V := by rw [← hR.2]; exact (dval_zero (m := k + 1) 16 (by omega) (fun i h1 h2 => i2 i (by omega) h2)).symm
          have hg := dval_sign (f := ZZ) (a := 16 * r) (n := k) (fun i h => hR.1.1 i (by omega)) hs
          rw [hv] at hg
          refine lv_aload_n hx hb dX10_signOf_29 rfl (lv_at hl 1 rfl) ?_
          refine va_get (D := D) (ci := 9) (v := .ref zz) (C := RX10) (T := TX10) (N := 21) hx hb hts in_X10 hown hK.1 hP 0 rfl rfl 17 (Nat.le_of_ble_eq_true rfl) (hts _ q986) (fun _ h9 => h9) rfl dX10_signOf_30 ?_
          refine lv_bipush (v := nI 16) hx hb dX10_signOf_33 (by decide) ?_
          refine lv_iload_n hx hb dX10_signOf_35 rfl (lv_at hl 2 rfl) ?_
          refine zn_imul hx hb dX10_signOf_36 ?_
          refine lv_iload_n hx hb dX10_signOf_37 rfl (lv_at hl 0 rfl) ?_
          refine zn_iadd hx hb dX10_signOf_38 ?_
          refine zz_laload (f := ZZ) (i := (16 * r) + k) hx hb hK.1 hP 1 1 rfl rfl (by omega) (by decide) dX10_signOf_39 ?_
          refine lv_lstore_n (lv' := [(3, .long (lZ (ZZ ((16 * r) + k)))), (2, .int (nI k)), (0, .ref m0), (1, .int (nI r))]) hx hb dX10_signOf_40 rfl hl (by decide) rfl (fun ls hl => ?_)
          refine lv_lload_n hx hb dX10_signOf_41 rfl (lv_at hl 0 rfl) ?_
          refine zz_lconst hx hb 0 dX10_signOf_42 rfl ?_
          refine zz_lc_le (tgt := 51) hx hb ⟨by omega, by omega⟩ ⟨by decide, by decide⟩ dX10_signOf_43 dX10_signOf_44 (by decide) (fun c_5 => ?_) (fun c_5 => ?_)
          · skip
            refine lv_lload_n hx hb dX10_signOf_51 rfl (lv_at hl 0 rfl) ?_
            refine zz_lconst hx hb 0 dX10_signOf_52 rfl ?_
            refine zz_lc_ge (tgt := 61) hx hb ⟨by omega, by omega⟩ ⟨by decide, by decide⟩ dX10_signOf_53 dX10_signOf_54 (by decide) (fun c_6 => ?_) (fun c_6 => ?_)
            · skip
              refine lv_iconst (v := nI 0) hx hb dX10_signOf_61 (by decide) ?_
              exact zr_roI (by first | (exfalso; omega) | (rw [Int.sign_eq_neg_one_of_neg (by omega)]) | (rw [Int.sign_eq_one_of_pos (by omega)]; rfl) | (rw [show V = 0 by omega]; rfl)) hx hb hr hlocks dX10_signOf_62
            · skip
              refine lv_iconst (v := iZ (-1)) hx hb dX10_signOf_57 (by decide) ?_
              refine lv_goto (tgt := 62) hx hb dX10_signOf_58 (by decide) ?_
              exact zr_roI (by first | (exfalso; omega) | (rw [Int.sign_eq_neg_one_of_neg (by omega)]) | (rw [Int.sign_eq_one_of_pos (by omega)]; rfl) | (rw [show V = 0 by omega]; rfl)) hx hb hr hlocks dX10_signOf_62
          · skip
            refine lv_iconst (v := nI 1) hx hb dX10_signOf_47 (by decide) ?_
            refine lv_goto (tgt := 62) hx hb dX10_signOf_48 (by decide) ?_
            exact zr_roI (by first | (exfalso; omega) | (rw [Int.sign_eq_neg_one_of_neg (by omega)]) | (rw [Int.sign_eq_one_of_pos (by omega)]; rfl) | (rw [show V = 0 by omega]; rfl)) hx hb hr hlocks dX10_signOf_62
        · skip
          refine lv_iinc (v := nI (k - 1)) (lv' := [(2, .int (nI (k - 1))), (0, .ref m0), (1, .int (nI r))]) hx hb dX10_signOf_23 hl (k := 0) rfl (ii_dec (show 1 ≤ k by omega)) (by decide) rfl (fun ls hl => ?_)
          refine lv_goto (tgt := 3) hx hb dX10_signOf_26 (by decide) ?_
          exact ih3 (k - 1) (by first | assumption | omega) (fun i h1 h2 => by rcases (show i = k ∨ k < i by omega) with w | w; rw [w]; assumption; exact i2 i w h2) (by omega) _ (lv_sub hl [0, 1, 2] rfl)
  exact loop3 (15 + 1) 15 (by first | assumption | omega) (fun i h1 h2 => by omega) (Nat.lt_succ_self _) _ (lv_sub hl [0, 1, 2] rfl)
/-- the place at hand: over and under in rows 0 and 1 -/
def ptOK (ZZ : Nat → Int) (V0 V1 : Int) : Prop := rowOK ZZ 0 7 V0 ∧ rowOK ZZ 1 7 V1
theorem ptOK.same {ZZ ZZ2 : Nat → Int} {r : Nat} {V0 V1 : Int} (h : ptOK ZZ V0 V1) (hs : rowS ZZ ZZ2 r) (hr : 2 ≤ r) : ptOK ZZ2 V0 V1 := ⟨h.1.same hs (by omega), h.2.same hs (by omega)⟩
set_option maxHeartbeats 4000000 in
set_option maxRecDepth 100000 in
theorem metX10_stand (lG : Launch) (D : va_G) (dA : Nat → ClassId) (m0 : Nat) (thr : Nat) (kn : Nat) (pt : Nat) (pa : Nat) (bg : Nat) (xs_ : Nat) (ys_ : Nat) (sgm : Nat) (fr_ : Nat) (tw : Nat) (wo_ : Nat) (mt : Nat) (ha_ : Nat) (x0 : Int) (y0 : Int) (dx : Int) (dy : Int) (zz : Nat) (ct : Nat) (ov : Nat) (un : Nat) (a1 : Int) (a2 : Int) (a3 : Int) (a4 : Int)  : Wr lG yX10_stand (ws_ yX10_stand cX10_stand 9 none) 0 0 D dA [.ref m0, .long (lZ a1), .long (lZ a2), .long (lZ a3), .long (lZ a4)] [(m0, .inr (9, [.int (nI thr), .ref kn, .ref pt, .ref pa, .ref bg, .ref xs_, .ref ys_, .int (nI sgm), .ref fr_, .ref tw, .ref wo_, .ref mt, .ref ha_, .long (lZ x0), .long (lZ y0), .long (lZ dx), .long (lZ dy), .ref zz, .int (nI ct), .ref ov, .ref un]))] 0 0 (fun (_u : Unit) => True) (fun (_u : Unit) => none) (fun (_u : Unit) => [(m0, .inr (9, [.int (nI thr), .ref kn, .ref pt, .ref pa, .ref bg, .ref xs_, .ref ys_, .int (nI sgm), .ref fr_, .ref tw, .ref wo_, .ref mt, .ref ha_, .long (lZ a1), .long (lZ a2), .long (lZ a3), .long (lZ a4), .ref zz, .int (nI ct), .ref ov, .ref un]))]) := by
  refine Wr.of (by decide) (Nat.le_of_ble_eq_true rfl) ?_
  intro pG eG sG mG bG tG cG ls A hx hb hr hml hown hts hlocks hnm hP hK hD hS hA hl
  have hK1 := hK.1
  have hown : sG.vm.findClass RX10 = some mG.cls := hown
  have hl : lv_has ls 9 [(0, .ref m0), (1, .long (lZ a1)), (3, .long (lZ a2)), (5, .long (lZ a3)), (7, .long (lZ a4))] := hl
  refine lv_aload_n hx hb dX10_stand_0 rfl (lv_at hl 0 rfl) ?_
  refine lv_lload_n hx hb dX10_stand_1 rfl (lv_at hl 1 rfl) ?_
  refine va_put (D := D) (ci := 9) (v := .long (lZ a1)) (ty := .long) (C := RX10) (T := TX10) (N := 21) hx hb hts in_X10 tyX10 tyX10_ok nmX10 hown hK.1 hP hD hS 0 rfl rfl 13 (Nat.le_of_ble_eq_true rfl) (hts _ q982) (fun _ h9 => h9) rfl (by decide +kernel) rfl rfl (Nat.le_of_ble_eq_true rfl) dX10_stand_2 (fun H locs hP hD hS => ?_)
  have hP : va_P D zCl [(m0, .inr (9, [.int (nI thr), .ref kn, .ref pt, .ref pa, .ref bg, .ref xs_, .ref ys_, .int (nI sgm), .ref fr_, .ref tw, .ref wo_, .ref mt, .ref ha_, .long (lZ a1), .long (lZ y0), .long (lZ dx), .long (lZ dy), .ref zz, .int (nI ct), .ref ov, .ref un]))] H := hP
  have hD : va_D A [(m0, .inr (9, [.int (nI thr), .ref kn, .ref pt, .ref pa, .ref bg, .ref xs_, .ref ys_, .int (nI sgm), .ref fr_, .ref tw, .ref wo_, .ref mt, .ref ha_, .long (lZ a1), .long (lZ y0), .long (lZ dx), .long (lZ dy), .ref zz, .int (nI ct), .ref ov, .ref un]))] := hD
  refine lv_aload_n hx hb dX10_stand_5 rfl (lv_at hl 0 rfl) ?_
  refine lv_lload_n hx hb dX10_stand_6 rfl (lv_at hl 2 rfl) ?_
  refine va_put (D := D) (ci := 9) (v := .long (lZ a2)) (ty := .long) (C := RX10) (T := TX10) (N := 21) hx hb hts in_X10 tyX10 tyX10_ok nmX10 hown hK.1 hP hD hS 0 rfl rfl 14 (Nat.le_of_ble_eq_true rfl) (hts _ q983) (fun _ h9 => h9) rfl (by decide +kernel) rfl rfl (Nat.le_of_ble_eq_true rfl) dX10_stand_7 (fun H locs hP hD hS => ?_)
  have hP : va_P D zCl [(m0, .inr (9, [.int (nI thr), .ref kn, .ref pt, .ref pa, .ref bg, .ref xs_, .ref ys_, .int (nI sgm), .ref fr_, .ref tw, .ref wo_, .ref mt, .ref ha_, .long (lZ a1), .long (lZ a2), .long (lZ dx), .long (lZ dy), .ref zz, .int (nI ct), .ref ov, .ref un]))] H := hP
  have hD : va_D A [(m0, .inr (9, [.int (nI thr), .ref kn, .ref pt, .ref pa, .ref bg, .ref xs_, .ref ys_, .int (nI sgm), .ref fr_, .ref tw, .ref wo_, .ref mt, .ref ha_, .long (lZ a1), .long (lZ a2), .long (lZ dx), .long (lZ dy), .ref zz, .int (nI ct), .ref ov, .ref un]))] := hD
  refine lv_aload_n hx hb dX10_stand_10 rfl (lv_at hl 0 rfl) ?_
  refine lv_lload hx hb dX10_stand_11 (lv_at hl 3 rfl) ?_
  refine va_put (D := D) (ci := 9) (v := .long (lZ a3)) (ty := .long) (C := RX10) (T := TX10) (N := 21) hx hb hts in_X10 tyX10 tyX10_ok nmX10 hown hK.1 hP hD hS 0 rfl rfl 15 (Nat.le_of_ble_eq_true rfl) (hts _ q984) (fun _ h9 => h9) rfl (by decide +kernel) rfl rfl (Nat.le_of_ble_eq_true rfl) dX10_stand_13 (fun H locs hP hD hS => ?_)
  have hP : va_P D zCl [(m0, .inr (9, [.int (nI thr), .ref kn, .ref pt, .ref pa, .ref bg, .ref xs_, .ref ys_, .int (nI sgm), .ref fr_, .ref tw, .ref wo_, .ref mt, .ref ha_, .long (lZ a1), .long (lZ a2), .long (lZ a3), .long (lZ dy), .ref zz, .int (nI ct), .ref ov, .ref un]))] H := hP
  have hD : va_D A [(m0, .inr (9, [.int (nI thr), .ref kn, .ref pt, .ref pa, .ref bg, .ref xs_, .ref ys_, .int (nI sgm), .ref fr_, .ref tw, .ref wo_, .ref mt, .ref ha_, .long (lZ a1), .long (lZ a2), .long (lZ a3), .long (lZ dy), .ref zz, .int (nI ct), .ref ov, .ref un]))] := hD
  refine lv_aload_n hx hb dX10_stand_16 rfl (lv_at hl 0 rfl) ?_
  refine lv_lload hx hb dX10_stand_17 (lv_at hl 4 rfl) ?_
  refine va_put (D := D) (ci := 9) (v := .long (lZ a4)) (ty := .long) (C := RX10) (T := TX10) (N := 21) hx hb hts in_X10 tyX10 tyX10_ok nmX10 hown hK.1 hP hD hS 0 rfl rfl 16 (Nat.le_of_ble_eq_true rfl) (hts _ q985) (fun _ h9 => h9) rfl (by decide +kernel) rfl rfl (Nat.le_of_ble_eq_true rfl) dX10_stand_19 (fun H locs hP hD hS => ?_)
  have hP : va_P D zCl [(m0, .inr (9, [.int (nI thr), .ref kn, .ref pt, .ref pa, .ref bg, .ref xs_, .ref ys_, .int (nI sgm), .ref fr_, .ref tw, .ref wo_, .ref mt, .ref ha_, .long (lZ a1), .long (lZ a2), .long (lZ a3), .long (lZ a4), .ref zz, .int (nI ct), .ref ov, .ref un]))] H := hP
  have hD : va_D A [(m0, .inr (9, [.int (nI thr), .ref kn, .ref pt, .ref pa, .ref bg, .ref xs_, .ref ys_, .int (nI sgm), .ref fr_, .ref tw, .ref wo_, .ref mt, .ref ha_, .long (lZ a1), .long (lZ a2), .long (lZ a3), .long (lZ a4), .ref zz, .int (nI ct), .ref ov, .ref un]))] := hD
  exact zr_wrV (u := ()) rfl trivial (hP.sub [0] rfl) (hD.sub [0] (by decide) rfl) hS hx hb hr hlocks dX10_stand_22
set_option maxHeartbeats 4000000 in
set_option maxRecDepth 100000 in
theorem metX10_at (lG : Launch) (D : va_G) (dA : Nat → ClassId) (m0 : Nat) (thr : Nat) (kn : Nat) (pt : Nat) (pa : Nat) (bg : Nat) (xs_ : Nat) (ys_ : Nat) (sgm : Nat) (fr_ : Nat) (tw : Nat) (wo_ : Nat) (mt : Nat) (ha_ : Nat) (x0 : Int) (y0 : Int) (dx : Int) (dy : Int) (zz : Nat) (ct : Nat) (ov : Nat) (un : Nat) (ZZ : Nat → Int) (v0 : Int) (v1 : Int) (h0 : inL v0) (h1 : inL v1) : Wr lG yX10_at (ws_ yX10_at cX10_at 5 none) 2 51 D dA [.ref m0, .long (lZ v0), .long (lZ v1)] [(m0, .inr (9, [.int (nI thr), .ref kn, .ref pt, .ref pa, .ref bg, .ref xs_, .ref ys_, .int (nI sgm), .ref fr_, .ref tw, .ref wo_, .ref mt, .ref ha_, .long (lZ x0), .long (lZ y0), .long (lZ dx), .long (lZ dy), .ref zz, .int (nI ct), .ref ov, .ref un])), (zz, .inl (dA 1, 192, .inr (.inl fun j => lZ (ZZ j))))] 0 0 (fun (u : (Nat → Int)) => let ZZ2 := u; ptOK ZZ2 v0 v1) (fun (u : (Nat → Int)) => let ZZ2 := u; none) (fun (u : (Nat → Int)) => let ZZ2 := u; [(m0, .inr (9, [.int (nI thr), .ref kn, .ref pt, .ref pa, .ref bg, .ref xs_, .ref ys_, .int (nI sgm), .ref fr_, .ref tw, .ref wo_, .ref mt, .ref ha_, .long (lZ x0), .long (lZ y0), .long (lZ dx), .long (lZ dy), .ref zz, .int (nI ct), .ref ov, .ref un])), (zz, .inl (dA 1, 192, .inr (.inl fun j => lZ (ZZ2 j))))]) := by
  refine Wr.of (by decide) (Nat.le_of_ble_eq_true rfl) ?_
  intro pG eG sG mG bG tG cG ls A hx hb hr hml hown hts hlocks hnm hP hK hD hS hA hl
  have hK1 := hK.1
  have hown : sG.vm.findClass RX10 = some mG.cls := hown
  have hl : lv_has ls 5 [(0, .ref m0), (1, .long (lZ v0)), (3, .long (lZ v1))] := hl
  refine lv_aload_n hx hb dX10_at_0 rfl (lv_at hl 0 rfl) ?_
  refine lv_iconst (v := nI 0) hx hb dX10_at_1 (by decide) ?_
  refine lv_lload_n hx hb dX10_at_2 rfl (lv_at hl 1 rfl) ?_
  refine zc_wrV (rest := []) (wr := []) ⟨hx, hb, hml, hown, hts⟩ (metX10_set lG D dA m0 thr kn pt pa bg xs_ ys_ sgm fr_ tw wo_ mt ha_ x0 y0 dx dy zz ct ov un ZZ 0 v0 (by first | assumption | omega) (by first | assumption | omega)) (cwV 2 hts (lw_V q1096 q1098 qs37 q80 q1099) rfl rfl rfl (by decide +kernel) ⟨Nat.le_of_ble_eq_true rfl, Nat.le_of_ble_eq_true rfl⟩) (va_recv hK.1 hP (ci := 9) (q0 := 0) rfl rfl) hP hK hD hS hA [0, 1] [] rfl rfl (by decide) (by decide) (by decide) rfl hl.1 rfl (Nat.le_of_ble_eq_true rfl) dX10_at_3 ⟨Nat.zero_le _, Nat.zero_le _⟩ (fun u H locs ha9 hP hD hS => ?_)
  obtain ⟨ZZ2_1, rfl⟩ : ∃ z, z = u := ⟨_, rfl⟩
  have hP : va_P D zCl [(m0, .inr (9, [.int (nI thr), .ref kn, .ref pt, .ref pa, .ref bg, .ref xs_, .ref ys_, .int (nI sgm), .ref fr_, .ref tw, .ref wo_, .ref mt, .ref ha_, .long (lZ x0), .long (lZ y0), .long (lZ dx), .long (lZ dy), .ref zz, .int (nI ct), .ref ov, .ref un])), (zz, .inl (dA 1, 192, .inr (.inl fun j => lZ (ZZ2_1 j))))] H := hP
  have hD : va_D A [(m0, .inr (9, [.int (nI thr), .ref kn, .ref pt, .ref pa, .ref bg, .ref xs_, .ref ys_, .int (nI sgm), .ref fr_, .ref tw, .ref wo_, .ref mt, .ref ha_, .long (lZ x0), .long (lZ y0), .long (lZ dx), .long (lZ dy), .ref zz, .int (nI ct), .ref ov, .ref un])), (zz, .inl (dA 1, 192, .inr (.inl fun j => lZ (ZZ2_1 j))))] := hD
  have ha9 : rowOK ZZ2_1 0 3 v0 ∧ rowS ZZ ZZ2_1 0 := ha9
  show W _ _ _ _ _ _ _ _ _ _ _ _ 0 0 _ (F0 mG 6 ls [])
  refine lv_aload_n hx hb dX10_at_6 rfl (lv_at hl 0 rfl) ?_
  refine lv_iconst (v := nI 1) hx hb dX10_at_7 (by decide) ?_
  refine lv_lload_n hx hb dX10_at_8 rfl (lv_at hl 2 rfl) ?_
  refine zc_wrV (rest := []) (wr := []) ⟨hx, hb, hml, hown, hts⟩ (metX10_set lG D dA m0 thr kn pt pa bg xs_ ys_ sgm fr_ tw wo_ mt ha_ x0 y0 dx dy zz ct ov un ZZ2_1 1 v1 (by first | assumption | omega) (by first | assumption | omega)) (cwV 2 hts (lw_V q1096 q1098 qs37 q80 q1099) rfl rfl rfl (by decide +kernel) ⟨Nat.le_of_ble_eq_true rfl, Nat.le_of_ble_eq_true rfl⟩) (va_recv hK.1 hP (ci := 9) (q0 := 0) rfl rfl) hP hK hD hS hA [0, 1] [] rfl rfl (by decide) (by decide) (by decide) rfl hl.1 rfl (Nat.le_of_ble_eq_true rfl) dX10_at_9 ⟨Nat.zero_le _, Nat.zero_le _⟩ (fun u H locs hb9 hP hD hS => ?_)
  obtain ⟨ZZ2_2, rfl⟩ : ∃ z, z = u := ⟨_, rfl⟩
  have hP : va_P D zCl [(m0, .inr (9, [.int (nI thr), .ref kn, .ref pt, .ref pa, .ref bg, .ref xs_, .ref ys_, .int (nI sgm), .ref fr_, .ref tw, .ref wo_, .ref mt, .ref ha_, .long (lZ x0), .long (lZ y0), .long (lZ dx), .long (lZ dy), .ref zz, .int (nI ct), .ref ov, .ref un])), (zz, .inl (dA 1, 192, .inr (.inl fun j => lZ (ZZ2_2 j))))] H := hP
  have hD : va_D A [(m0, .inr (9, [.int (nI thr), .ref kn, .ref pt, .ref pa, .ref bg, .ref xs_, .ref ys_, .int (nI sgm), .ref fr_, .ref tw, .ref wo_, .ref mt, .ref ha_, .long (lZ x0), .long (lZ y0), .long (lZ dx), .long (lZ dy), .ref zz, .int (nI ct), .ref ov, .ref un])), (zz, .inl (dA 1, 192, .inr (.inl fun j => lZ (ZZ2_2 j))))] := hD
  have hb9 : rowOK ZZ2_2 1 3 v1 ∧ rowS ZZ2_1 ZZ2_2 1 := hb9
  show W _ _ _ _ _ _ _ _ _ _ _ _ 0 0 _ (F0 mG 12 ls [])
  exact zr_wrV (u := (ZZ2_2)) rfl (show ptOK ZZ2_2 v0 v1 from ⟨(ha9.1.le (by decide)).same hb9.2 (by decide), hb9.1.le (by decide)⟩) (hP.sub [0, 1] rfl) (hD.sub [0, 1] (by decide) rfl) hS hx hb hr hlocks dX10_at_12
set_option maxHeartbeats 4000000 in
set_option maxRecDepth 100000 in
theorem metX10_between (lG : Launch) (D : va_G) (dA : Nat → ClassId) (m0 : Nat) (thr : Nat) (kn : Nat) (pt : Nat) (pa : Nat) (bg : Nat) (xs_ : Nat) (ys_ : Nat) (sgm : Nat) (fr_ : Nat) (tw : Nat) (wo_ : Nat) (mt : Nat) (ha_ : Nat) (x0 : Int) (y0 : Int) (dx : Int) (dy : Int) (zz : Nat) (ct : Nat) (ov : Nat) (un : Nat) (ZZ : Nat → Int) (p : Int) (q : Int) (p2 : Int) (q2 : Int) (h1 : inL p) (h2 : inL q) (h3 : inL p2) (h4 : inL q2) : Wr lG yX10_between (ws_ yX10_between cX10_between 9 none) 2 51 D dA [.ref m0, .long (lZ p), .long (lZ q), .long (lZ p2), .long (lZ q2)] [(m0, .inr (9, [.int (nI thr), .ref kn, .ref pt, .ref pa, .ref bg, .ref xs_, .ref ys_, .int (nI sgm), .ref fr_, .ref tw, .ref wo_, .ref mt, .ref ha_, .long (lZ x0), .long (lZ y0), .long (lZ dx), .long (lZ dy), .ref zz, .int (nI ct), .ref ov, .ref un])), (zz, .inl (dA 1, 192, .inr (.inl fun j => lZ (ZZ j))))] 0 0 (fun (u : (Nat → Int)) => let ZZ2 := u; ptOK ZZ2 (p * q2 + p2 * q) (q * q2 + q * q2)) (fun (u : (Nat → Int)) => let ZZ2 := u; none) (fun (u : (Nat → Int)) => let ZZ2 := u; [(m0, .inr (9, [.int (nI thr), .ref kn, .ref pt, .ref pa, .ref bg, .ref xs_, .ref ys_, .int (nI sgm), .ref fr_, .ref tw, .ref wo_, .ref mt, .ref ha_, .long (lZ x0), .long (lZ y0), .long (lZ dx), .long (lZ dy), .ref zz, .int (nI ct), .ref ov, .ref un])), (zz, .inl (dA 1, 192, .inr (.inl fun j => lZ (ZZ2 j))))]) := by
  refine Wr.of (by decide) (Nat.le_of_ble_eq_true rfl) ?_
  intro pG eG sG mG bG tG cG ls A hx hb hr hml hown hts hlocks hnm hP hK hD hS hA hl
  have hK1 := hK.1
  have hown : sG.vm.findClass RX10 = some mG.cls := hown
  have hl : lv_has ls 9 [(0, .ref m0), (1, .long (lZ p)), (3, .long (lZ q)), (5, .long (lZ p2)), (7, .long (lZ q2))] := hl
  refine lv_aload_n hx hb dX10_between_0 rfl (lv_at hl 0 rfl) ?_
  refine lv_iconst (v := nI 2) hx hb dX10_between_1 (by decide) ?_
  refine lv_lload_n hx hb dX10_between_2 rfl (lv_at hl 1 rfl) ?_
  refine zc_wrV (rest := []) (wr := []) ⟨hx, hb, hml, hown, hts⟩ (metX10_set lG D dA m0 thr kn pt pa bg xs_ ys_ sgm fr_ tw wo_ mt ha_ x0 y0 dx dy zz ct ov un ZZ 2 p (by first | assumption | omega) (by first | assumption | omega)) (cwV 2 hts (lw_V q1096 q1098 qs37 q80 q1099) rfl rfl rfl (by decide +kernel) ⟨Nat.le_of_ble_eq_true rfl, Nat.le_of_ble_eq_true rfl⟩) (va_recv hK.1 hP (ci := 9) (q0 := 0) rfl rfl) hP hK hD hS hA [0, 1] [] rfl rfl (by decide) (by decide) (by decide) rfl hl.1 rfl (Nat.le_of_ble_eq_true rfl) dX10_between_3 ⟨Nat.zero_le _, Nat.zero_le _⟩ (fun u H locs A1 hP hD hS => ?_)
  obtain ⟨Z1, rfl⟩ : ∃ z, z = u := ⟨_, rfl⟩
  have hP : va_P D zCl [(m0, .inr (9, [.int (nI thr), .ref kn, .ref pt, .ref pa, .ref bg, .ref xs_, .ref ys_, .int (nI sgm), .ref fr_, .ref tw, .ref wo_, .ref mt, .ref ha_, .long (lZ x0), .long (lZ y0), .long (lZ dx), .long (lZ dy), .ref zz, .int (nI ct), .ref ov, .ref un])), (zz, .inl (dA 1, 192, .inr (.inl fun j => lZ (Z1 j))))] H := hP
  have hD : va_D A [(m0, .inr (9, [.int (nI thr), .ref kn, .ref pt, .ref pa, .ref bg, .ref xs_, .ref ys_, .int (nI sgm), .ref fr_, .ref tw, .ref wo_, .ref mt, .ref ha_, .long (lZ x0), .long (lZ y0), .long (lZ dx), .long (lZ dy), .ref zz, .int (nI ct), .ref ov, .ref un])), (zz, .inl (dA 1, 192, .inr (.inl fun j => lZ (Z1 j))))] := hD
  have A1 : rowOK Z1 2 3 p ∧ rowS ZZ Z1 2 := A1
  show W _ _ _ _ _ _ _ _ _ _ _ _ 0 0 _ (F0 mG 6 ls [])
  refine lv_aload_n hx hb dX10_between_6 rfl (lv_at hl 0 rfl) ?_
  refine lv_iconst (v := nI 3) hx hb dX10_between_7 (by decide) ?_
  refine lv_lload_n hx hb dX10_between_8 rfl (lv_at hl 2 rfl) ?_
  refine zc_wrV (rest := []) (wr := []) ⟨hx, hb, hml, hown, hts⟩ (metX10_set lG D dA m0 thr kn pt pa bg xs_ ys_ sgm fr_ tw wo_ mt ha_ x0 y0 dx dy zz ct ov un Z1 3 q (by first | assumption | omega) (by first | assumption | omega)) (cwV 2 hts (lw_V q1096 q1098 qs37 q80 q1099) rfl rfl rfl (by decide +kernel) ⟨Nat.le_of_ble_eq_true rfl, Nat.le_of_ble_eq_true rfl⟩) (va_recv hK.1 hP (ci := 9) (q0 := 0) rfl rfl) hP hK hD hS hA [0, 1] [] rfl rfl (by decide) (by decide) (by decide) rfl hl.1 rfl (Nat.le_of_ble_eq_true rfl) dX10_between_9 ⟨Nat.zero_le _, Nat.zero_le _⟩ (fun u H locs A2 hP hD hS => ?_)
  obtain ⟨Z2, rfl⟩ : ∃ z, z = u := ⟨_, rfl⟩
  have hP : va_P D zCl [(m0, .inr (9, [.int (nI thr), .ref kn, .ref pt, .ref pa, .ref bg, .ref xs_, .ref ys_, .int (nI sgm), .ref fr_, .ref tw, .ref wo_, .ref mt, .ref ha_, .long (lZ x0), .long (lZ y0), .long (lZ dx), .long (lZ dy), .ref zz, .int (nI ct), .ref ov, .ref un])), (zz, .inl (dA 1, 192, .inr (.inl fun j => lZ (Z2 j))))] H := hP
  have hD : va_D A [(m0, .inr (9, [.int (nI thr), .ref kn, .ref pt, .ref pa, .ref bg, .ref xs_, .ref ys_, .int (nI sgm), .ref fr_, .ref tw, .ref wo_, .ref mt, .ref ha_, .long (lZ x0), .long (lZ y0), .long (lZ dx), .long (lZ dy), .ref zz, .int (nI ct), .ref ov, .ref un])), (zz, .inl (dA 1, 192, .inr (.inl fun j => lZ (Z2 j))))] := hD
  have A2 : rowOK Z2 3 3 q ∧ rowS Z1 Z2 3 := A2
  show W _ _ _ _ _ _ _ _ _ _ _ _ 0 0 _ (F0 mG 12 ls [])
  refine lv_aload_n hx hb dX10_between_12 rfl (lv_at hl 0 rfl) ?_
  refine lv_iconst (v := nI 4) hx hb dX10_between_13 (by decide) ?_
  refine lv_lload hx hb dX10_between_14 (lv_at hl 3 rfl) ?_
  refine zc_wrV (rest := []) (wr := []) ⟨hx, hb, hml, hown, hts⟩ (metX10_set lG D dA m0 thr kn pt pa bg xs_ ys_ sgm fr_ tw wo_ mt ha_ x0 y0 dx dy zz ct ov un Z2 4 p2 (by first | assumption | omega) (by first | assumption | omega)) (cwV 2 hts (lw_V q1096 q1098 qs37 q80 q1099) rfl rfl rfl (by decide +kernel) ⟨Nat.le_of_ble_eq_true rfl, Nat.le_of_ble_eq_true rfl⟩) (va_recv hK.1 hP (ci := 9) (q0 := 0) rfl rfl) hP hK hD hS hA [0, 1] [] rfl rfl (by decide) (by decide) (by decide) rfl hl.1 rfl (Nat.le_of_ble_eq_true rfl) dX10_between_16 ⟨Nat.zero_le _, Nat.zero_le _⟩ (fun u H locs A3 hP hD hS => ?_)
  obtain ⟨Z3, rfl⟩ : ∃ z, z = u := ⟨_, rfl⟩
  have hP : va_P D zCl [(m0, .inr (9, [.int (nI thr), .ref kn, .ref pt, .ref pa, .ref bg, .ref xs_, .ref ys_, .int (nI sgm), .ref fr_, .ref tw, .ref wo_, .ref mt, .ref ha_, .long (lZ x0), .long (lZ y0), .long (lZ dx), .long (lZ dy), .ref zz, .int (nI ct), .ref ov, .ref un])), (zz, .inl (dA 1, 192, .inr (.inl fun j => lZ (Z3 j))))] H := hP
  have hD : va_D A [(m0, .inr (9, [.int (nI thr), .ref kn, .ref pt, .ref pa, .ref bg, .ref xs_, .ref ys_, .int (nI sgm), .ref fr_, .ref tw, .ref wo_, .ref mt, .ref ha_, .long (lZ x0), .long (lZ y0), .long (lZ dx), .long (lZ dy), .ref zz, .int (nI ct), .ref ov, .ref un])), (zz, .inl (dA 1, 192, .inr (.inl fun j => lZ (Z3 j))))] := hD
  have A3 : rowOK Z3 4 3 p2 ∧ rowS Z2 Z3 4 := A3
  show W _ _ _ _ _ _ _ _ _ _ _ _ 0 0 _ (F0 mG 19 ls [])
  refine lv_aload_n hx hb dX10_between_19 rfl (lv_at hl 0 rfl) ?_
  refine lv_iconst (v := nI 5) hx hb dX10_between_20 (by decide) ?_
  refine lv_lload hx hb dX10_between_21 (lv_at hl 4 rfl) ?_
  refine zc_wrV (rest := []) (wr := []) ⟨hx, hb, hml, hown, hts⟩ (metX10_set lG D dA m0 thr kn pt pa bg xs_ ys_ sgm fr_ tw wo_ mt ha_ x0 y0 dx dy zz ct ov un Z3 5 q2 (by first | assumption | omega) (by first | assumption | omega)) (cwV 2 hts (lw_V q1096 q1098 qs37 q80 q1099) rfl rfl rfl (by decide +kernel) ⟨Nat.le_of_ble_eq_true rfl, Nat.le_of_ble_eq_true rfl⟩) (va_recv hK.1 hP (ci := 9) (q0 := 0) rfl rfl) hP hK hD hS hA [0, 1] [] rfl rfl (by decide) (by decide) (by decide) rfl hl.1 rfl (Nat.le_of_ble_eq_true rfl) dX10_between_23 ⟨Nat.zero_le _, Nat.zero_le _⟩ (fun u H locs A4 hP hD hS => ?_)
  obtain ⟨Z4, rfl⟩ : ∃ z, z = u := ⟨_, rfl⟩
  have hP : va_P D zCl [(m0, .inr (9, [.int (nI thr), .ref kn, .ref pt, .ref pa, .ref bg, .ref xs_, .ref ys_, .int (nI sgm), .ref fr_, .ref tw, .ref wo_, .ref mt, .ref ha_, .long (lZ x0), .long (lZ y0), .long (lZ dx), .long (lZ dy), .ref zz, .int (nI ct), .ref ov, .ref un])), (zz, .inl (dA 1, 192, .inr (.inl fun j => lZ (Z4 j))))] H := hP
  have hD : va_D A [(m0, .inr (9, [.int (nI thr), .ref kn, .ref pt, .ref pa, .ref bg, .ref xs_, .ref ys_, .int (nI sgm), .ref fr_, .ref tw, .ref wo_, .ref mt, .ref ha_, .long (lZ x0), .long (lZ y0), .long (lZ dx), .long (lZ dy), .ref zz, .int (nI ct), .ref ov, .ref un])), (zz, .inl (dA 1, 192, .inr (.inl fun j => lZ (Z4 j))))] := hD
  have A4 : rowOK Z4 5 3 q2 ∧ rowS Z3 Z4 5 := A4
  show W _ _ _ _ _ _ _ _ _ _ _ _ 0 0 _ (F0 mG 26 ls [])
  refine lv_aload_n hx hb dX10_between_26 rfl (lv_at hl 0 rfl) ?_
  refine lv_iconst (v := nI 0) hx hb dX10_between_27 (by decide) ?_
  refine zc_wrV (rest := []) (wr := []) ⟨hx, hb, hml, hown, hts⟩ (metX10_clear lG D dA m0 thr kn pt pa bg xs_ ys_ sgm fr_ tw wo_ mt ha_ x0 y0 dx dy zz ct ov un Z4 0 (by first | assumption | omega)) (cwV 1 hts (lw_V q1100 q1102 qs38 q80 q1103) rfl rfl rfl (by decide +kernel) ⟨Nat.le_of_ble_eq_true rfl, Nat.le_of_ble_eq_true rfl⟩) (va_recv hK.1 hP (ci := 9) (q0 := 0) rfl rfl) hP hK hD hS hA [0, 1] [] rfl rfl (by decide) (by decide) (by decide) rfl hl.1 rfl (Nat.le_of_ble_eq_true rfl) dX10_between_28 ⟨Nat.zero_le _, Nat.zero_le _⟩ (fun u H locs A5 hP hD hS => ?_)
  obtain ⟨Z5, rfl⟩ : ∃ z, z = u := ⟨_, rfl⟩
  have hP : va_P D zCl [(m0, .inr (9, [.int (nI thr), .ref kn, .ref pt, .ref pa, .ref bg, .ref xs_, .ref ys_, .int (nI sgm), .ref fr_, .ref tw, .ref wo_, .ref mt, .ref ha_, .long (lZ x0), .long (lZ y0), .long (lZ dx), .long (lZ dy), .ref zz, .int (nI ct), .ref ov, .ref un])), (zz, .inl (dA 1, 192, .inr (.inl fun j => lZ (Z5 j))))] H := hP
  have hD : va_D A [(m0, .inr (9, [.int (nI thr), .ref kn, .ref pt, .ref pa, .ref bg, .ref xs_, .ref ys_, .int (nI sgm), .ref fr_, .ref tw, .ref wo_, .ref mt, .ref ha_, .long (lZ x0), .long (lZ y0), .long (lZ dx), .long (lZ dy), .ref zz, .int (nI ct), .ref ov, .ref un])), (zz, .inl (dA 1, 192, .inr (.inl fun j => lZ (Z5 j))))] := hD
  have A5 : rowB Z5 0 0 0 ∧ rowS Z4 Z5 0 := A5
  show W _ _ _ _ _ _ _ _ _ _ _ _ 0 0 _ (F0 mG 31 ls [])
  refine lv_aload_n hx hb dX10_between_31 rfl (lv_at hl 0 rfl) ?_
  refine lv_iconst (v := nI 0) hx hb dX10_between_32 (by decide) ?_
  refine lv_iconst (v := nI 2) hx hb dX10_between_33 (by decide) ?_
  refine lv_iconst (v := nI 5) hx hb dX10_between_34 (by decide) ?_
  refine zc_wrV (rest := []) (wr := []) ⟨hx, hb, hml, hown, hts⟩ (metX10_product lG D dA m0 thr kn pt pa bg xs_ ys_ sgm fr_ tw wo_ mt ha_ x0 y0 dx dy zz ct ov un Z5 0 2 5 3 3 5 0 (by first | assumption | omega) (by first | assumption | omega) (by first | assumption | omega) (by first | assumption | omega) (by first | assumption | omega) (by first | assumption | omega) (by first | assumption | omega) ((((A1.1.same A2.2 (by decide)).same A3.2 (by decide)).same A4.2 (by decide)).1.same A5.2 (by decide)) (A4.1.1.same A5.2 (by decide)) (A5.1.le (by decide) (by decide)) (⟨by decide, by decide⟩)) (cwV 3 hts (lw_V q1130 q1132 qs45 q80 q1133) rfl rfl rfl (by decide +kernel) ⟨Nat.le_of_ble_eq_true rfl, Nat.le_of_ble_eq_true rfl⟩) (va_recv hK.1 hP (ci := 9) (q0 := 0) rfl rfl) hP hK hD hS hA [0, 1] [] rfl rfl (by decide) (by decide) (by decide) rfl hl.1 rfl (Nat.le_of_ble_eq_true rfl) dX10_between_35 ⟨Nat.zero_le _, Nat.zero_le _⟩ (fun u H locs A6 hP hD hS => ?_)
  obtain ⟨Z6, rfl⟩ : ∃ z, z = u := ⟨_, rfl⟩
  have hP : va_P D zCl [(m0, .inr (9, [.int (nI thr), .ref kn, .ref pt, .ref pa, .ref bg, .ref xs_, .ref ys_, .int (nI sgm), .ref fr_, .ref tw, .ref wo_, .ref mt, .ref ha_, .long (lZ x0), .long (lZ y0), .long (lZ dx), .long (lZ dy), .ref zz, .int (nI ct), .ref ov, .ref un])), (zz, .inl (dA 1, 192, .inr (.inl fun j => lZ (Z6 j))))] H := hP
  have hD : va_D A [(m0, .inr (9, [.int (nI thr), .ref kn, .ref pt, .ref pa, .ref bg, .ref xs_, .ref ys_, .int (nI sgm), .ref fr_, .ref tw, .ref wo_, .ref mt, .ref ha_, .long (lZ x0), .long (lZ y0), .long (lZ dx), .long (lZ dy), .ref zz, .int (nI ct), .ref ov, .ref un])), (zz, .inl (dA 1, 192, .inr (.inl fun j => lZ (Z6 j))))] := hD
  have A6 : rowS Z5 Z6 0 ∧ dval Z6 (16 * 0) 16 = dval Z5 (16 * 0) 16 + dval Z5 (16 * 2) 16 * dval Z5 (16 * 5) 16 ∧ rowB Z6 0 5 (0 + 1125899906842624) := A6
  show W _ _ _ _ _ _ _ _ _ _ _ _ 0 0 _ (F0 mG 38 ls [])
  refine lv_aload_n hx hb dX10_between_38 rfl (lv_at hl 0 rfl) ?_
  refine lv_iconst (v := nI 0) hx hb dX10_between_39 (by decide) ?_
  refine lv_iconst (v := nI 4) hx hb dX10_between_40 (by decide) ?_
  refine lv_iconst (v := nI 3) hx hb dX10_between_41 (by decide) ?_
  refine zc_wrV (rest := []) (wr := []) ⟨hx, hb, hml, hown, hts⟩ (metX10_product lG D dA m0 thr kn pt pa bg xs_ ys_ sgm fr_ tw wo_ mt ha_ x0 y0 dx dy zz ct ov un Z6 0 4 3 3 3 5 ((0 + 1125899906842624)) (by first | assumption | omega) (by first | assumption | omega) (by first | assumption | omega) (by first | assumption | omega) (by first | assumption | omega) (by first | assumption | omega) (by first | assumption | omega) (((A3.1.same A4.2 (by decide)).1.same A5.2 (by decide)).same A6.1 (by decide)) ((((A2.1.same A3.2 (by decide)).same A4.2 (by decide)).1.same A5.2 (by decide)).same A6.1 (by decide)) (A6.2.2) (⟨by decide, by decide⟩)) (cwV 3 hts (lw_V q1130 q1132 qs45 q80 q1133) rfl rfl rfl (by decide +kernel) ⟨Nat.le_of_ble_eq_true rfl, Nat.le_of_ble_eq_true rfl⟩) (va_recv hK.1 hP (ci := 9) (q0 := 0) rfl rfl) hP hK hD hS hA [0, 1] [] rfl rfl (by decide) (by decide) (by decide) rfl hl.1 rfl (Nat.le_of_ble_eq_true rfl) dX10_between_42 ⟨Nat.zero_le _, Nat.zero_le _⟩ (fun u H locs A7 hP hD hS => ?_)
  obtain ⟨Z7, rfl⟩ : ∃ z, z = u := ⟨_, rfl⟩
  have hP : va_P D zCl [(m0, .inr (9, [.int (nI thr), .ref kn, .ref pt, .ref pa, .ref bg, .ref xs_, .ref ys_, .int (nI sgm), .ref fr_, .ref tw, .ref wo_, .ref mt, .ref ha_, .long (lZ x0), .long (lZ y0), .long (lZ dx), .long (lZ dy), .ref zz, .int (nI ct), .ref ov, .ref un])), (zz, .inl (dA 1, 192, .inr (.inl fun j => lZ (Z7 j))))] H := hP
  have hD : va_D A [(m0, .inr (9, [.int (nI thr), .ref kn, .ref pt, .ref pa, .ref bg, .ref xs_, .ref ys_, .int (nI sgm), .ref fr_, .ref tw, .ref wo_, .ref mt, .ref ha_, .long (lZ x0), .long (lZ y0), .long (lZ dx), .long (lZ dy), .ref zz, .int (nI ct), .ref ov, .ref un])), (zz, .inl (dA 1, 192, .inr (.inl fun j => lZ (Z7 j))))] := hD
  have A7 : rowS Z6 Z7 0 ∧ dval Z7 (16 * 0) 16 = dval Z6 (16 * 0) 16 + dval Z6 (16 * 4) 16 * dval Z6 (16 * 3) 16 ∧ rowB Z7 0 5 (((0 + 1125899906842624)) + 1125899906842624) := A7
  show W _ _ _ _ _ _ _ _ _ _ _ _ 0 0 _ (F0 mG 45 ls [])
  have e1 : dval Z5 (16 * 2) 16 = p := ((((A1.1.same A2.2 (by decide)).same A3.2 (by decide)).same A4.2 (by decide)).same A5.2 (by decide)).2
  have e2 : dval Z5 (16 * 5) 16 = q2 := (A4.1.same A5.2 (by decide)).2
  have e3 : dval Z6 (16 * 4) 16 = p2 := (((A3.1.same A4.2 (by decide)).same A5.2 (by decide)).same A6.1 (by decide)).2
  have e4 : dval Z6 (16 * 3) 16 = q := ((((A2.1.same A3.2 (by decide)).same A4.2 (by decide)).same A5.2 (by decide)).same A6.1 (by decide)).2
  have e5 : dval Z5 (16 * 0) 16 = 0 := by rw [dval_zero (m := 0) 16 (by decide) (fun k _ h => A5.1.2 k (Nat.zero_le _) h)]; rfl
  have e6 : dval Z7 (16 * 0) 16 = p * q2 + p2 * q := by rw [A7.2.1, A6.2.1, e1, e2, e3, e4, e5, Int.zero_add]
  refine lv_aload_n hx hb dX10_between_45 rfl (lv_at hl 0 rfl) ?_
  refine lv_iconst (v := nI 0) hx hb dX10_between_46 (by decide) ?_
  refine zc_wrV (rest := []) (wr := []) ⟨hx, hb, hml, hown, hts⟩ (metX10_settle lG D dA m0 thr kn pt pa bg xs_ ys_ sgm fr_ tw wo_ mt ha_ x0 y0 dx dy zz ct ov un Z7 0 5 ((p * q2 + p2 * q)) (by first | assumption | omega) (by first | assumption | omega) (A7.2.2.le (by decide) (by decide)) e6) (cwV 1 hts (lw_V q1105 q1107 qs39 q80 q1108) rfl rfl rfl (by decide +kernel) ⟨Nat.le_of_ble_eq_true rfl, Nat.le_of_ble_eq_true rfl⟩) (va_recv hK.1 hP (ci := 9) (q0 := 0) rfl rfl) hP hK hD hS hA [0, 1] [] rfl rfl (by decide) (by decide) (by decide) rfl hl.1 rfl (Nat.le_of_ble_eq_true rfl) dX10_between_47 ⟨Nat.zero_le _, Nat.zero_le _⟩ (fun u H locs A8 hP hD hS => ?_)
  obtain ⟨Z8, rfl⟩ : ∃ z, z = u := ⟨_, rfl⟩
  have hP : va_P D zCl [(m0, .inr (9, [.int (nI thr), .ref kn, .ref pt, .ref pa, .ref bg, .ref xs_, .ref ys_, .int (nI sgm), .ref fr_, .ref tw, .ref wo_, .ref mt, .ref ha_, .long (lZ x0), .long (lZ y0), .long (lZ dx), .long (lZ dy), .ref zz, .int (nI ct), .ref ov, .ref un])), (zz, .inl (dA 1, 192, .inr (.inl fun j => lZ (Z8 j))))] H := hP
  have hD : va_D A [(m0, .inr (9, [.int (nI thr), .ref kn, .ref pt, .ref pa, .ref bg, .ref xs_, .ref ys_, .int (nI sgm), .ref fr_, .ref tw, .ref wo_, .ref mt, .ref ha_, .long (lZ x0), .long (lZ y0), .long (lZ dx), .long (lZ dy), .ref zz, .int (nI ct), .ref ov, .ref un])), (zz, .inl (dA 1, 192, .inr (.inl fun j => lZ (Z8 j))))] := hD
  have A8 : rowOK Z8 0 (5 + 2) ((p * q2 + p2 * q)) ∧ rowS Z7 Z8 0 := A8
  show W _ _ _ _ _ _ _ _ _ _ _ _ 0 0 _ (F0 mG 50 ls [])
  refine lv_aload_n hx hb dX10_between_50 rfl (lv_at hl 0 rfl) ?_
  refine lv_iconst (v := nI 1) hx hb dX10_between_51 (by decide) ?_
  refine zc_wrV (rest := []) (wr := []) ⟨hx, hb, hml, hown, hts⟩ (metX10_clear lG D dA m0 thr kn pt pa bg xs_ ys_ sgm fr_ tw wo_ mt ha_ x0 y0 dx dy zz ct ov un Z8 1 (by first | assumption | omega)) (cwV 1 hts (lw_V q1100 q1102 qs38 q80 q1103) rfl rfl rfl (by decide +kernel) ⟨Nat.le_of_ble_eq_true rfl, Nat.le_of_ble_eq_true rfl⟩) (va_recv hK.1 hP (ci := 9) (q0 := 0) rfl rfl) hP hK hD hS hA [0, 1] [] rfl rfl (by decide) (by decide) (by decide) rfl hl.1 rfl (Nat.le_of_ble_eq_true rfl) dX10_between_52 ⟨Nat.zero_le _, Nat.zero_le _⟩ (fun u H locs A9 hP hD hS => ?_)
  obtain ⟨Z9, rfl⟩ : ∃ z, z = u := ⟨_, rfl⟩
  have hP : va_P D zCl [(m0, .inr (9, [.int (nI thr), .ref kn, .ref pt, .ref pa, .ref bg, .ref xs_, .ref ys_, .int (nI sgm), .ref fr_, .ref tw, .ref wo_, .ref mt, .ref ha_, .long (lZ x0), .long (lZ y0), .long (lZ dx), .long (lZ dy), .ref zz, .int (nI ct), .ref ov, .ref un])), (zz, .inl (dA 1, 192, .inr (.inl fun j => lZ (Z9 j))))] H := hP
  have hD : va_D A [(m0, .inr (9, [.int (nI thr), .ref kn, .ref pt, .ref pa, .ref bg, .ref xs_, .ref ys_, .int (nI sgm), .ref fr_, .ref tw, .ref wo_, .ref mt, .ref ha_, .long (lZ x0), .long (lZ y0), .long (lZ dx), .long (lZ dy), .ref zz, .int (nI ct), .ref ov, .ref un])), (zz, .inl (dA 1, 192, .inr (.inl fun j => lZ (Z9 j))))] := hD
  have A9 : rowB Z9 1 0 0 ∧ rowS Z8 Z9 1 := A9
  show W _ _ _ _ _ _ _ _ _ _ _ _ 0 0 _ (F0 mG 55 ls [])
  have f3 : rowOK Z9 3 3 q := ((((((A2.1.same A3.2 (by decide)).same A4.2 (by decide)).same A5.2 (by decide)).same A6.1 (by decide)).same A7.1 (by decide)).same A8.2 (by decide)).same A9.2 (by decide)
  have f5 : rowOK Z9 5 3 q2 := ((((A4.1.same A5.2 (by decide)).same A6.1 (by decide)).same A7.1 (by decide)).same A8.2 (by decide)).same A9.2 (by decide)
  have f1 : dval Z9 (16 * 1) 16 = 0 := by rw [dval_zero (m := 0) 16 (by decide) (fun k _ h => A9.1.2 k (Nat.zero_le _) h)]; rfl
  refine lv_aload_n hx hb dX10_between_55 rfl (lv_at hl 0 rfl) ?_
  refine lv_iconst (v := nI 1) hx hb dX10_between_56 (by decide) ?_
  refine lv_iconst (v := nI 3) hx hb dX10_between_57 (by decide) ?_
  refine lv_iconst (v := nI 5) hx hb dX10_between_58 (by decide) ?_
  refine zc_wrV (rest := []) (wr := []) ⟨hx, hb, hml, hown, hts⟩ (metX10_product lG D dA m0 thr kn pt pa bg xs_ ys_ sgm fr_ tw wo_ mt ha_ x0 y0 dx dy zz ct ov un Z9 1 3 5 3 3 5 0 (by first | assumption | omega) (by first | assumption | omega) (by first | assumption | omega) (by first | assumption | omega) (by first | assumption | omega) (by first | assumption | omega) (by first | assumption | omega) (f3.1) (f5.1) (A9.1.le (by decide) (by decide)) (⟨by decide, by decide⟩)) (cwV 3 hts (lw_V q1130 q1132 qs45 q80 q1133) rfl rfl rfl (by decide +kernel) ⟨Nat.le_of_ble_eq_true rfl, Nat.le_of_ble_eq_true rfl⟩) (va_recv hK.1 hP (ci := 9) (q0 := 0) rfl rfl) hP hK hD hS hA [0, 1] [] rfl rfl (by decide) (by decide) (by decide) rfl hl.1 rfl (Nat.le_of_ble_eq_true rfl) dX10_between_59 ⟨Nat.zero_le _, Nat.zero_le _⟩ (fun u H locs C1 hP hD hS => ?_)
  obtain ⟨Y1, rfl⟩ : ∃ z, z = u := ⟨_, rfl⟩
  have hP : va_P D zCl [(m0, .inr (9, [.int (nI thr), .ref kn, .ref pt, .ref pa, .ref bg, .ref xs_, .ref ys_, .int (nI sgm), .ref fr_, .ref tw, .ref wo_, .ref mt, .ref ha_, .long (lZ x0), .long (lZ y0), .long (lZ dx), .long (lZ dy), .ref zz, .int (nI ct), .ref ov, .ref un])), (zz, .inl (dA 1, 192, .inr (.inl fun j => lZ (Y1 j))))] H := hP
  have hD : va_D A [(m0, .inr (9, [.int (nI thr), .ref kn, .ref pt, .ref pa, .ref bg, .ref xs_, .ref ys_, .int (nI sgm), .ref fr_, .ref tw, .ref wo_, .ref mt, .ref ha_, .long (lZ x0), .long (lZ y0), .long (lZ dx), .long (lZ dy), .ref zz, .int (nI ct), .ref ov, .ref un])), (zz, .inl (dA 1, 192, .inr (.inl fun j => lZ (Y1 j))))] := hD
  have C1 : rowS Z9 Y1 1 ∧ dval Y1 (16 * 1) 16 = dval Z9 (16 * 1) 16 + dval Z9 (16 * 3) 16 * dval Z9 (16 * 5) 16 ∧ rowB Y1 1 5 (0 + 1125899906842624) := C1
  show W _ _ _ _ _ _ _ _ _ _ _ _ 0 0 _ (F0 mG 62 ls [])
  refine lv_aload_n hx hb dX10_between_62 rfl (lv_at hl 0 rfl) ?_
  refine lv_iconst (v := nI 1) hx hb dX10_between_63 (by decide) ?_
  refine lv_iconst (v := nI 3) hx hb dX10_between_64 (by decide) ?_
  refine lv_iconst (v := nI 5) hx hb dX10_between_65 (by decide) ?_
  refine zc_wrV (rest := []) (wr := []) ⟨hx, hb, hml, hown, hts⟩ (metX10_product lG D dA m0 thr kn pt pa bg xs_ ys_ sgm fr_ tw wo_ mt ha_ x0 y0 dx dy zz ct ov un Y1 1 3 5 3 3 5 ((0 + 1125899906842624)) (by first | assumption | omega) (by first | assumption | omega) (by first | assumption | omega) (by first | assumption | omega) (by first | assumption | omega) (by first | assumption | omega) (by first | assumption | omega) (f3.1.same C1.1 (by decide)) (f5.1.same C1.1 (by decide)) (C1.2.2) (⟨by decide, by decide⟩)) (cwV 3 hts (lw_V q1130 q1132 qs45 q80 q1133) rfl rfl rfl (by decide +kernel) ⟨Nat.le_of_ble_eq_true rfl, Nat.le_of_ble_eq_true rfl⟩) (va_recv hK.1 hP (ci := 9) (q0 := 0) rfl rfl) hP hK hD hS hA [0, 1] [] rfl rfl (by decide) (by decide) (by decide) rfl hl.1 rfl (Nat.le_of_ble_eq_true rfl) dX10_between_66 ⟨Nat.zero_le _, Nat.zero_le _⟩ (fun u H locs C2 hP hD hS => ?_)
  obtain ⟨Y2, rfl⟩ : ∃ z, z = u := ⟨_, rfl⟩
  have hP : va_P D zCl [(m0, .inr (9, [.int (nI thr), .ref kn, .ref pt, .ref pa, .ref bg, .ref xs_, .ref ys_, .int (nI sgm), .ref fr_, .ref tw, .ref wo_, .ref mt, .ref ha_, .long (lZ x0), .long (lZ y0), .long (lZ dx), .long (lZ dy), .ref zz, .int (nI ct), .ref ov, .ref un])), (zz, .inl (dA 1, 192, .inr (.inl fun j => lZ (Y2 j))))] H := hP
  have hD : va_D A [(m0, .inr (9, [.int (nI thr), .ref kn, .ref pt, .ref pa, .ref bg, .ref xs_, .ref ys_, .int (nI sgm), .ref fr_, .ref tw, .ref wo_, .ref mt, .ref ha_, .long (lZ x0), .long (lZ y0), .long (lZ dx), .long (lZ dy), .ref zz, .int (nI ct), .ref ov, .ref un])), (zz, .inl (dA 1, 192, .inr (.inl fun j => lZ (Y2 j))))] := hD
  have C2 : rowS Y1 Y2 1 ∧ dval Y2 (16 * 1) 16 = dval Y1 (16 * 1) 16 + dval Y1 (16 * 3) 16 * dval Y1 (16 * 5) 16 ∧ rowB Y2 1 5 (((0 + 1125899906842624)) + 1125899906842624) := C2
  show W _ _ _ _ _ _ _ _ _ _ _ _ 0 0 _ (F0 mG 69 ls [])
  have g1 : dval Y2 (16 * 1) 16 = q * q2 + q * q2 := by rw [C2.2.1, C1.2.1, f1, (f3.same C1.1 (by decide)).2, (f5.same C1.1 (by decide)).2, f3.2, f5.2, Int.zero_add]
  refine lv_aload_n hx hb dX10_between_69 rfl (lv_at hl 0 rfl) ?_
  refine lv_iconst (v := nI 1) hx hb dX10_between_70 (by decide) ?_
  refine zc_wrV (rest := []) (wr := []) ⟨hx, hb, hml, hown, hts⟩ (metX10_settle lG D dA m0 thr kn pt pa bg xs_ ys_ sgm fr_ tw wo_ mt ha_ x0 y0 dx dy zz ct ov un Y2 1 5 ((q * q2 + q * q2)) (by first | assumption | omega) (by first | assumption | omega) (C2.2.2.le (by decide) (by decide)) g1) (cwV 1 hts (lw_V q1105 q1107 qs39 q80 q1108) rfl rfl rfl (by decide +kernel) ⟨Nat.le_of_ble_eq_true rfl, Nat.le_of_ble_eq_true rfl⟩) (va_recv hK.1 hP (ci := 9) (q0 := 0) rfl rfl) hP hK hD hS hA [0, 1] [] rfl rfl (by decide) (by decide) (by decide) rfl hl.1 rfl (Nat.le_of_ble_eq_true rfl) dX10_between_71 ⟨Nat.zero_le _, Nat.zero_le _⟩ (fun u H locs C3 hP hD hS => ?_)
  obtain ⟨ZZ2_1, rfl⟩ : ∃ z, z = u := ⟨_, rfl⟩
  have hP : va_P D zCl [(m0, .inr (9, [.int (nI thr), .ref kn, .ref pt, .ref pa, .ref bg, .ref xs_, .ref ys_, .int (nI sgm), .ref fr_, .ref tw, .ref wo_, .ref mt, .ref ha_, .long (lZ x0), .long (lZ y0), .long (lZ dx), .long (lZ dy), .ref zz, .int (nI ct), .ref ov, .ref un])), (zz, .inl (dA 1, 192, .inr (.inl fun j => lZ (ZZ2_1 j))))] H := hP
  have hD : va_D A [(m0, .inr (9, [.int (nI thr), .ref kn, .ref pt, .ref pa, .ref bg, .ref xs_, .ref ys_, .int (nI sgm), .ref fr_, .ref tw, .ref wo_, .ref mt, .ref ha_, .long (lZ x0), .long (lZ y0), .long (lZ dx), .long (lZ dy), .ref zz, .int (nI ct), .ref ov, .ref un])), (zz, .inl (dA 1, 192, .inr (.inl fun j => lZ (ZZ2_1 j))))] := hD
  have C3 : rowOK ZZ2_1 1 (5 + 2) ((q * q2 + q * q2)) ∧ rowS Y2 ZZ2_1 1 := C3
  show W _ _ _ _ _ _ _ _ _ _ _ _ 0 0 _ (F0 mG 74 ls [])
  exact zr_wrV (u := (ZZ2_1)) rfl (show ptOK ZZ2_1 (p * q2 + p2 * q) (q * q2 + q * q2) from ⟨(((A8.1.same A9.2 (by decide)).same C1.1 (by decide)).same C2.1 (by decide)).same C3.2 (by decide), C3.1⟩) (hP.sub [0, 1] rfl) (hD.sub [0, 1] (by decide) rfl) hS hx hb hr hlocks dX10_between_74
set_option maxHeartbeats 4000000 in
set_option maxRecDepth 100000 in
theorem metX10_sgn (lG : Launch) (D : va_G) (dA : Nat → ClassId) (m0 : Nat) (thr : Nat) (kn : Nat) (pt : Nat) (pa : Nat) (bg : Nat) (xs_ : Nat) (ys_ : Nat) (sgm : Nat) (fr_ : Nat) (tw : Nat) (wo_ : Nat) (mt : Nat) (ha_ : Nat) (x0 : Int) (y0 : Int) (dx : Int) (dy : Int) (zz : Nat) (ct : Nat) (ov : Nat) (un : Nat) (ZZ : Nat → Int) (V0 : Int) (V1 : Int) (a : Int) (b : Int) (hp : ptOK ZZ V0 V1) (ha : inL a) (hb0 : inL b) : Wr lG yX10_sgn (ws_ yX10_sgn cX10_sgn 5 (some .int)) 2 51 D dA [.ref m0, .long (lZ a), .long (lZ b)] [(m0, .inr (9, [.int (nI thr), .ref kn, .ref pt, .ref pa, .ref bg, .ref xs_, .ref ys_, .int (nI sgm), .ref fr_, .ref tw, .ref wo_, .ref mt, .ref ha_, .long (lZ x0), .long (lZ y0), .long (lZ dx), .long (lZ dy), .ref zz, .int (nI ct), .ref ov, .ref un])), (zz, .inl (dA 1, 192, .inr (.inl fun j => lZ (ZZ j))))] 0 0 (fun (u : (Nat → Int)) => let ZZ2 := u; ptOK ZZ2 V0 V1) (fun (u : (Nat → Int)) => let ZZ2 := u; some (.int (iZ (Int.sign (a * V1 + b * V0))))) (fun (u : (Nat → Int)) => let ZZ2 := u; [(m0, .inr (9, [.int (nI thr), .ref kn, .ref pt, .ref pa, .ref bg, .ref xs_, .ref ys_, .int (nI sgm), .ref fr_, .ref tw, .ref wo_, .ref mt, .ref ha_, .long (lZ x0), .long (lZ y0), .long (lZ dx), .long (lZ dy), .ref zz, .int (nI ct), .ref ov, .ref un])), (zz, .inl (dA 1, 192, .inr (.inl fun j => lZ (ZZ2 j))))]) := by
  refine Wr.of (by decide) (Nat.le_of_ble_eq_true rfl) ?_
  intro pG eG sG mG bG tG cG ls A hx hb hr hml hown hts hlocks hnm hP hK hD hS hA hl
  have hK1 := hK.1
  have hown : sG.vm.findClass RX10 = some mG.cls := hown
  have hl : lv_has ls 5 [(0, .ref m0), (1, .long (lZ a)), (3, .long (lZ b))] := hl
  refine lv_aload_n hx hb dX10_sgn_0 rfl (lv_at hl 0 rfl) ?_
  refine lv_bipush (v := nI 6) hx hb dX10_sgn_1 (by decide) ?_
  refine lv_lload_n hx hb dX10_sgn_3 rfl (lv_at hl 1 rfl) ?_
  refine zc_wrV (rest := []) (wr := []) ⟨hx, hb, hml, hown, hts⟩ (metX10_set lG D dA m0 thr kn pt pa bg xs_ ys_ sgm fr_ tw wo_ mt ha_ x0 y0 dx dy zz ct ov un ZZ 6 a (by first | assumption | omega) (by first | assumption | omega)) (cwV 2 hts (lw_V q1096 q1098 qs37 q80 q1099) rfl rfl rfl (by decide +kernel) ⟨Nat.le_of_ble_eq_true rfl, Nat.le_of_ble_eq_true rfl⟩) (va_recv hK.1 hP (ci := 9) (q0 := 0) rfl rfl) hP hK hD hS hA [0, 1] [] rfl rfl (by decide) (by decide) (by decide) rfl hl.1 rfl (Nat.le_of_ble_eq_true rfl) dX10_sgn_4 ⟨Nat.zero_le _, Nat.zero_le _⟩ (fun u H locs A1 hP hD hS => ?_)
  obtain ⟨Z1, rfl⟩ : ∃ z, z = u := ⟨_, rfl⟩
  have hP : va_P D zCl [(m0, .inr (9, [.int (nI thr), .ref kn, .ref pt, .ref pa, .ref bg, .ref xs_, .ref ys_, .int (nI sgm), .ref fr_, .ref tw, .ref wo_, .ref mt, .ref ha_, .long (lZ x0), .long (lZ y0), .long (lZ dx), .long (lZ dy), .ref zz, .int (nI ct), .ref ov, .ref un])), (zz, .inl (dA 1, 192, .inr (.inl fun j => lZ (Z1 j))))] H := hP
  have hD : va_D A [(m0, .inr (9, [.int (nI thr), .ref kn, .ref pt, .ref pa, .ref bg, .ref xs_, .ref ys_, .int (nI sgm), .ref fr_, .ref tw, .ref wo_, .ref mt, .ref ha_, .long (lZ x0), .long (lZ y0), .long (lZ dx), .long (lZ dy), .ref zz, .int (nI ct), .ref ov, .ref un])), (zz, .inl (dA 1, 192, .inr (.inl fun j => lZ (Z1 j))))] := hD
  have A1 : rowOK Z1 6 3 a ∧ rowS ZZ Z1 6 := A1
  show W _ _ _ _ _ _ _ _ _ _ _ _ 0 0 _ (F0 mG 7 ls [])
  refine lv_aload_n hx hb dX10_sgn_7 rfl (lv_at hl 0 rfl) ?_
  refine lv_bipush (v := nI 7) hx hb dX10_sgn_8 (by decide) ?_
  refine lv_lload_n hx hb dX10_sgn_10 rfl (lv_at hl 2 rfl) ?_
  refine zc_wrV (rest := []) (wr := []) ⟨hx, hb, hml, hown, hts⟩ (metX10_set lG D dA m0 thr kn pt pa bg xs_ ys_ sgm fr_ tw wo_ mt ha_ x0 y0 dx dy zz ct ov un Z1 7 b (by first | assumption | omega) (by first | assumption | omega)) (cwV 2 hts (lw_V q1096 q1098 qs37 q80 q1099) rfl rfl rfl (by decide +kernel) ⟨Nat.le_of_ble_eq_true rfl, Nat.le_of_ble_eq_true rfl⟩) (va_recv hK.1 hP (ci := 9) (q0 := 0) rfl rfl) hP hK hD hS hA [0, 1] [] rfl rfl (by decide) (by decide) (by decide) rfl hl.1 rfl (Nat.le_of_ble_eq_true rfl) dX10_sgn_11 ⟨Nat.zero_le _, Nat.zero_le _⟩ (fun u H locs A2 hP hD hS => ?_)
  obtain ⟨Z2, rfl⟩ : ∃ z, z = u := ⟨_, rfl⟩
  have hP : va_P D zCl [(m0, .inr (9, [.int (nI thr), .ref kn, .ref pt, .ref pa, .ref bg, .ref xs_, .ref ys_, .int (nI sgm), .ref fr_, .ref tw, .ref wo_, .ref mt, .ref ha_, .long (lZ x0), .long (lZ y0), .long (lZ dx), .long (lZ dy), .ref zz, .int (nI ct), .ref ov, .ref un])), (zz, .inl (dA 1, 192, .inr (.inl fun j => lZ (Z2 j))))] H := hP
  have hD : va_D A [(m0, .inr (9, [.int (nI thr), .ref kn, .ref pt, .ref pa, .ref bg, .ref xs_, .ref ys_, .int (nI sgm), .ref fr_, .ref tw, .ref wo_, .ref mt, .ref ha_, .long (lZ x0), .long (lZ y0), .long (lZ dx), .long (lZ dy), .ref zz, .int (nI ct), .ref ov, .ref un])), (zz, .inl (dA 1, 192, .inr (.inl fun j => lZ (Z2 j))))] := hD
  have A2 : rowOK Z2 7 3 b ∧ rowS Z1 Z2 7 := A2
  show W _ _ _ _ _ _ _ _ _ _ _ _ 0 0 _ (F0 mG 14 ls [])
  refine lv_aload_n hx hb dX10_sgn_14 rfl (lv_at hl 0 rfl) ?_
  refine lv_bipush (v := nI 8) hx hb dX10_sgn_15 (by decide) ?_
  refine zc_wrV (rest := []) (wr := []) ⟨hx, hb, hml, hown, hts⟩ (metX10_clear lG D dA m0 thr kn pt pa bg xs_ ys_ sgm fr_ tw wo_ mt ha_ x0 y0 dx dy zz ct ov un Z2 8 (by first | assumption | omega)) (cwV 1 hts (lw_V q1100 q1102 qs38 q80 q1103) rfl rfl rfl (by decide +kernel) ⟨Nat.le_of_ble_eq_true rfl, Nat.le_of_ble_eq_true rfl⟩) (va_recv hK.1 hP (ci := 9) (q0 := 0) rfl rfl) hP hK hD hS hA [0, 1] [] rfl rfl (by decide) (by decide) (by decide) rfl hl.1 rfl (Nat.le_of_ble_eq_true rfl) dX10_sgn_17 ⟨Nat.zero_le _, Nat.zero_le _⟩ (fun u H locs A3 hP hD hS => ?_)
  obtain ⟨Z3, rfl⟩ : ∃ z, z = u := ⟨_, rfl⟩
  have hP : va_P D zCl [(m0, .inr (9, [.int (nI thr), .ref kn, .ref pt, .ref pa, .ref bg, .ref xs_, .ref ys_, .int (nI sgm), .ref fr_, .ref tw, .ref wo_, .ref mt, .ref ha_, .long (lZ x0), .long (lZ y0), .long (lZ dx), .long (lZ dy), .ref zz, .int (nI ct), .ref ov, .ref un])), (zz, .inl (dA 1, 192, .inr (.inl fun j => lZ (Z3 j))))] H := hP
  have hD : va_D A [(m0, .inr (9, [.int (nI thr), .ref kn, .ref pt, .ref pa, .ref bg, .ref xs_, .ref ys_, .int (nI sgm), .ref fr_, .ref tw, .ref wo_, .ref mt, .ref ha_, .long (lZ x0), .long (lZ y0), .long (lZ dx), .long (lZ dy), .ref zz, .int (nI ct), .ref ov, .ref un])), (zz, .inl (dA 1, 192, .inr (.inl fun j => lZ (Z3 j))))] := hD
  have A3 : rowB Z3 8 0 0 ∧ rowS Z2 Z3 8 := A3
  show W _ _ _ _ _ _ _ _ _ _ _ _ 0 0 _ (F0 mG 20 ls [])
  have p3 : ptOK Z3 V0 V1 := ((hp.same A1.2 (by decide)).same A2.2 (by decide)).same A3.2 (by decide)
  have f6 : rowOK Z3 6 3 a := (A1.1.same A2.2 (by decide)).same A3.2 (by decide)
  have f7 : rowOK Z3 7 3 b := A2.1.same A3.2 (by decide)
  have f8 : dval Z3 (16 * 8) 16 = 0 := by rw [dval_zero (m := 0) 16 (by decide) (fun k _ h => A3.1.2 k (Nat.zero_le _) h)]; rfl
  refine lv_aload_n hx hb dX10_sgn_20 rfl (lv_at hl 0 rfl) ?_
  refine lv_bipush (v := nI 8) hx hb dX10_sgn_21 (by decide) ?_
  refine lv_bipush (v := nI 6) hx hb dX10_sgn_23 (by decide) ?_
  refine lv_iconst (v := nI 1) hx hb dX10_sgn_25 (by decide) ?_
  refine zc_wrV (rest := []) (wr := []) ⟨hx, hb, hml, hown, hts⟩ (metX10_product lG D dA m0 thr kn pt pa bg xs_ ys_ sgm fr_ tw wo_ mt ha_ x0 y0 dx dy zz ct ov un Z3 8 6 1 3 7 9 0 (by first | assumption | omega) (by first | assumption | omega) (by first | assumption | omega) (by first | assumption | omega) (by first | assumption | omega) (by first | assumption | omega) (by first | assumption | omega) (f6.1) (p3.2.1) (A3.1.le (by decide) (by decide)) (⟨by decide, by decide⟩)) (cwV 3 hts (lw_V q1130 q1132 qs45 q80 q1133) rfl rfl rfl (by decide +kernel) ⟨Nat.le_of_ble_eq_true rfl, Nat.le_of_ble_eq_true rfl⟩) (va_recv hK.1 hP (ci := 9) (q0 := 0) rfl rfl) hP hK hD hS hA [0, 1] [] rfl rfl (by decide) (by decide) (by decide) rfl hl.1 rfl (Nat.le_of_ble_eq_true rfl) dX10_sgn_26 ⟨Nat.zero_le _, Nat.zero_le _⟩ (fun u H locs A4 hP hD hS => ?_)
  obtain ⟨Z4, rfl⟩ : ∃ z, z = u := ⟨_, rfl⟩
  have hP : va_P D zCl [(m0, .inr (9, [.int (nI thr), .ref kn, .ref pt, .ref pa, .ref bg, .ref xs_, .ref ys_, .int (nI sgm), .ref fr_, .ref tw, .ref wo_, .ref mt, .ref ha_, .long (lZ x0), .long (lZ y0), .long (lZ dx), .long (lZ dy), .ref zz, .int (nI ct), .ref ov, .ref un])), (zz, .inl (dA 1, 192, .inr (.inl fun j => lZ (Z4 j))))] H := hP
  have hD : va_D A [(m0, .inr (9, [.int (nI thr), .ref kn, .ref pt, .ref pa, .ref bg, .ref xs_, .ref ys_, .int (nI sgm), .ref fr_, .ref tw, .ref wo_, .ref mt, .ref ha_, .long (lZ x0), .long (lZ y0), .long (lZ dx), .long (lZ dy), .ref zz, .int (nI ct), .ref ov, .ref un])), (zz, .inl (dA 1, 192, .inr (.inl fun j => lZ (Z4 j))))] := hD
  have A4 : rowS Z3 Z4 8 ∧ dval Z4 (16 * 8) 16 = dval Z3 (16 * 8) 16 + dval Z3 (16 * 6) 16 * dval Z3 (16 * 1) 16 ∧ rowB Z4 8 9 (0 + 1125899906842624) := A4
  show W _ _ _ _ _ _ _ _ _ _ _ _ 0 0 _ (F0 mG 29 ls [])
  refine lv_aload_n hx hb dX10_sgn_29 rfl (lv_at hl 0 rfl) ?_
  refine lv_bipush (v := nI 8) hx hb dX10_sgn_30 (by decide) ?_
  refine lv_bipush (v := nI 7) hx hb dX10_sgn_32 (by decide) ?_
  refine lv_iconst (v := nI 0) hx hb dX10_sgn_34 (by decide) ?_
  refine zc_wrV (rest := []) (wr := []) ⟨hx, hb, hml, hown, hts⟩ (metX10_product lG D dA m0 thr kn pt pa bg xs_ ys_ sgm fr_ tw wo_ mt ha_ x0 y0 dx dy zz ct ov un Z4 8 7 0 3 7 9 ((0 + 1125899906842624)) (by first | assumption | omega) (by first | assumption | omega) (by first | assumption | omega) (by first | assumption | omega) (by first | assumption | omega) (by first | assumption | omega) (by first | assumption | omega) (f7.1.same A4.1 (by decide)) (p3.1.1.same A4.1 (by decide)) (A4.2.2) (⟨by decide, by decide⟩)) (cwV 3 hts (lw_V q1130 q1132 qs45 q80 q1133) rfl rfl rfl (by decide +kernel) ⟨Nat.le_of_ble_eq_true rfl, Nat.le_of_ble_eq_true rfl⟩) (va_recv hK.1 hP (ci := 9) (q0 := 0) rfl rfl) hP hK hD hS hA [0, 1] [] rfl rfl (by decide) (by decide) (by decide) rfl hl.1 rfl (Nat.le_of_ble_eq_true rfl) dX10_sgn_35 ⟨Nat.zero_le _, Nat.zero_le _⟩ (fun u H locs A5 hP hD hS => ?_)
  obtain ⟨Z5, rfl⟩ : ∃ z, z = u := ⟨_, rfl⟩
  have hP : va_P D zCl [(m0, .inr (9, [.int (nI thr), .ref kn, .ref pt, .ref pa, .ref bg, .ref xs_, .ref ys_, .int (nI sgm), .ref fr_, .ref tw, .ref wo_, .ref mt, .ref ha_, .long (lZ x0), .long (lZ y0), .long (lZ dx), .long (lZ dy), .ref zz, .int (nI ct), .ref ov, .ref un])), (zz, .inl (dA 1, 192, .inr (.inl fun j => lZ (Z5 j))))] H := hP
  have hD : va_D A [(m0, .inr (9, [.int (nI thr), .ref kn, .ref pt, .ref pa, .ref bg, .ref xs_, .ref ys_, .int (nI sgm), .ref fr_, .ref tw, .ref wo_, .ref mt, .ref ha_, .long (lZ x0), .long (lZ y0), .long (lZ dx), .long (lZ dy), .ref zz, .int (nI ct), .ref ov, .ref un])), (zz, .inl (dA 1, 192, .inr (.inl fun j => lZ (Z5 j))))] := hD
  have A5 : rowS Z4 Z5 8 ∧ dval Z5 (16 * 8) 16 = dval Z4 (16 * 8) 16 + dval Z4 (16 * 7) 16 * dval Z4 (16 * 0) 16 ∧ rowB Z5 8 9 (((0 + 1125899906842624)) + 1125899906842624) := A5
  show W _ _ _ _ _ _ _ _ _ _ _ _ 0 0 _ (F0 mG 38 ls [])
  have g1 : dval Z5 (16 * 8) 16 = a * V1 + b * V0 := by rw [A5.2.1, A4.2.1, f8, f6.2, p3.2.2, (f7.same A4.1 (by decide)).2, (p3.1.same A4.1 (by decide)).2, Int.zero_add]
  refine lv_aload_n hx hb dX10_sgn_38 rfl (lv_at hl 0 rfl) ?_
  refine lv_bipush (v := nI 8) hx hb dX10_sgn_39 (by decide) ?_
  refine zc_wrV (rest := []) (wr := []) ⟨hx, hb, hml, hown, hts⟩ (metX10_settle lG D dA m0 thr kn pt pa bg xs_ ys_ sgm fr_ tw wo_ mt ha_ x0 y0 dx dy zz ct ov un Z5 8 9 ((a * V1 + b * V0)) (by first | assumption | omega) (by first | assumption | omega) (A5.2.2.le (by decide) (by decide)) g1) (cwV 1 hts (lw_V q1105 q1107 qs39 q80 q1108) rfl rfl rfl (by decide +kernel) ⟨Nat.le_of_ble_eq_true rfl, Nat.le_of_ble_eq_true rfl⟩) (va_recv hK.1 hP (ci := 9) (q0 := 0) rfl rfl) hP hK hD hS hA [0, 1] [] rfl rfl (by decide) (by decide) (by decide) rfl hl.1 rfl (Nat.le_of_ble_eq_true rfl) dX10_sgn_41 ⟨Nat.zero_le _, Nat.zero_le _⟩ (fun u H locs A6 hP hD hS => ?_)
  obtain ⟨Z6, rfl⟩ : ∃ z, z = u := ⟨_, rfl⟩
  have hP : va_P D zCl [(m0, .inr (9, [.int (nI thr), .ref kn, .ref pt, .ref pa, .ref bg, .ref xs_, .ref ys_, .int (nI sgm), .ref fr_, .ref tw, .ref wo_, .ref mt, .ref ha_, .long (lZ x0), .long (lZ y0), .long (lZ dx), .long (lZ dy), .ref zz, .int (nI ct), .ref ov, .ref un])), (zz, .inl (dA 1, 192, .inr (.inl fun j => lZ (Z6 j))))] H := hP
  have hD : va_D A [(m0, .inr (9, [.int (nI thr), .ref kn, .ref pt, .ref pa, .ref bg, .ref xs_, .ref ys_, .int (nI sgm), .ref fr_, .ref tw, .ref wo_, .ref mt, .ref ha_, .long (lZ x0), .long (lZ y0), .long (lZ dx), .long (lZ dy), .ref zz, .int (nI ct), .ref ov, .ref un])), (zz, .inl (dA 1, 192, .inr (.inl fun j => lZ (Z6 j))))] := hD
  have A6 : rowOK Z6 8 (9 + 2) ((a * V1 + b * V0)) ∧ rowS Z5 Z6 8 := A6
  show W _ _ _ _ _ _ _ _ _ _ _ _ 0 0 _ (F0 mG 44 ls [])
  refine lv_aload_n hx hb dX10_sgn_44 rfl (lv_at hl 0 rfl) ?_
  refine lv_bipush (v := nI 8) hx hb dX10_sgn_45 (by decide) ?_
  refine zc_roV (v := .int (iZ (Int.sign ((a * V1 + b * V0))))) (rest := []) ⟨hx, hb, hml, hown, hts⟩ (metX10_signOf lG D dA m0 thr kn pt pa bg xs_ ys_ sgm fr_ tw wo_ mt ha_ x0 y0 dx dy zz ct ov un Z6 8 11 ((a * V1 + b * V0)) (by first | assumption | omega) (A6.1)) (cwV 1 hts (lw_V q1134 q1136 qs46 q80 q1137) rfl rfl rfl (by decide +kernel) ⟨Nat.le_of_ble_eq_true rfl, Nat.le_of_ble_eq_true rfl⟩) (va_recv hK.1 hP (ci := 9) (q0 := 0) rfl rfl) (hP.sub [0, 1] rfl) hK rfl hl.1 rfl (Nat.le_of_ble_eq_true rfl) dX10_sgn_47 ⟨Nat.zero_le _, Nat.zero_le _⟩ ?_
  exact zr_wrI (u := (Z6)) rfl (show ptOK Z6 V0 V1 from ((p3.same A4.1 (by decide)).same A5.1 (by decide)).same A6.2 (by decide)) (hP.sub [0, 1] rfl) (hD.sub [0, 1] (by decide) rfl) hS hx hb hr hlocks dX10_sgn_50
