/-! numbers: ints and longs by their Int, truth values by their Bool -/
def iZ (z : Int) : Int32 := Int32.ofInt z
def lZ (z : Int) : Int64 := Int64.ofInt z
def bI (b : Bool) : Int32 := if b then 1 else 0
def inI (z : Int) : Prop := -2147483648 ≤ z ∧ z < 2147483648
def inL (z : Int) : Prop := -9223372036854775808 ≤ z ∧ z < 9223372036854775808
theorem nI_iZ (n : Nat) : nI n = iZ n := Int32.ofInt_eq_ofNat.symm
theorem lN_lZ (n : Nat) : lN n = lZ n := Int64.ofInt_eq_ofNat.symm
theorem iZ_add (a b : Int) : iZ a + iZ b = iZ (a + b) := (Int32.ofInt_add a b).symm
theorem iZ_sub (a b : Int) : iZ a - iZ b = iZ (a - b) := (Int32.ofInt_sub a b).symm
theorem iZ_mul (a b : Int) : iZ a * iZ b = iZ (a * b) := (Int32.ofInt_mul a b).symm
theorem iZ_neg (a : Int) : -iZ a = iZ (-a) := (Int32.ofInt_neg a).symm
theorem lZ_add (a b : Int) : lZ a + lZ b = lZ (a + b) := (Int64.ofInt_add a b).symm
theorem lZ_sub (a b : Int) : lZ a - lZ b = lZ (a - b) := (Int64.ofInt_sub a b).symm
theorem lZ_mul (a b : Int) : lZ a * lZ b = lZ (a * b) := (Int64.ofInt_mul a b).symm
theorem lZ_neg (a : Int) : -lZ a = lZ (-a) := (Int64.ofInt_neg a).symm
theorem iZ_toInt {z : Int} (h : inI z) : (iZ z).toInt = z := Int32.toInt_ofInt_of_le (by have := h.1; omega) (by have := h.2; omega)
theorem lZ_toInt {z : Int} (h : inL z) : (lZ z).toInt = z := Int64.toInt_ofInt_of_le (by have := h.1; omega) (by have := h.2; omega)
theorem iZ_lt {a b : Int} (ha : inI a) (hb : inI b) : iZ a < iZ b ↔ a < b := by rw [Int32.lt_iff_toInt_lt, iZ_toInt ha, iZ_toInt hb]
theorem iZ_le {a b : Int} (ha : inI a) (hb : inI b) : iZ a ≤ iZ b ↔ a ≤ b := by rw [Int32.le_iff_toInt_le, iZ_toInt ha, iZ_toInt hb]
theorem iZ_eq {a b : Int} (ha : inI a) (hb : inI b) : iZ a = iZ b ↔ a = b := by rw [← Int32.toInt_inj, iZ_toInt ha, iZ_toInt hb]
theorem lZ_lt {a b : Int} (ha : inL a) (hb : inL b) : lZ a < lZ b ↔ a < b := by rw [Int64.lt_iff_toInt_lt, lZ_toInt ha, lZ_toInt hb]
theorem lZ_le {a b : Int} (ha : inL a) (hb : inL b) : lZ a ≤ lZ b ↔ a ≤ b := by rw [Int64.le_iff_toInt_le, lZ_toInt ha, lZ_toInt hb]
theorem lZ_eq {a b : Int} (ha : inL a) (hb : inL b) : lZ a = lZ b ↔ a = b := by rw [← Int64.toInt_inj, lZ_toInt ha, lZ_toInt hb]
theorem iZ_l {z : Int} (h : inI z) : (iZ z).toInt64 = lZ z := by
  have hL : inL z := ⟨by have := h.1; omega, by have := h.2; omega⟩
  rw [← Int64.toInt_inj, Int32.toInt_toInt64, iZ_toInt h, lZ_toInt hL]
theorem nI_lZ {n : Nat} (h : n < 2 ^ 31) : (nI n).toInt64 = lZ n := by
  rw [nI_iZ]; exact iZ_l ⟨by omega, by omega⟩
theorem inI_n {n : Nat} (h : n < 2 ^ 31) : inI n := ⟨by omega, by omega⟩
theorem inL_0 : inL 0 := ⟨by decide, by decide⟩
theorem inI_0 : inI 0 := ⟨by decide, by decide⟩
theorem inI_L {z : Int} (h : inI z) : inL z := ⟨by have := h.1; omega, by have := h.2; omega⟩
theorem iZ_0 : iZ 0 = 0 := rfl
theorem bI_0 (b : Bool) : bI b = 0 ↔ b = false := by cases b <;> decide
theorem bI_n0 (b : Bool) : ¬ bI b = 0 ↔ b = true := by cases b <;> decide
theorem bI_eq (a b : Bool) : bI a = bI b ↔ a = b := by cases a <;> cases b <;> decide
theorem bI_t : bI true = nI 1 := rfl
theorem bI_f : bI false = nI 0 := rfl
theorem bI_nI (b : Bool) : bI b = nI b.toNat := by cases b <;> rfl
theorem nI_bI {b : Bool} {n : Nat} (h : b.toNat = n) : nI n = bI b := by rw [bI_nI, h]
theorem nar_bI (b : Bool) : narrow .boolean (.int (bI b)) = .int (bI b) := by cases b <;> rfl
theorem fit_bI (b : Bool) : fits .boolean (.int (bI b)) = true := by cases b <;> rfl
/-- bounds of products -/
theorem mul_bd {a b A B : Int} (ha : -A ≤ a ∧ a ≤ A) (hb : -B ≤ b ∧ b ≤ B) (hA : 0 ≤ A) (hB : 0 ≤ B) : -(A * B) ≤ a * b ∧ a * b ≤ A * B := by
  have h1 : a * b ≤ A * B ∧ -(A * B) ≤ a * b := by
    rcases Int.le_total 0 a with h | h <;> rcases Int.le_total 0 b with g | g
    · exact ⟨Int.mul_le_mul ha.2 hb.2 g hA, Int.le_trans (by have := Int.mul_nonneg hA hB; omega) (Int.mul_nonneg h g)⟩
    · have q := Int.mul_le_mul ha.2 (show -b ≤ B by omega) (by omega) hA
      have z := Int.mul_nonneg h (show 0 ≤ -b by omega)
      have y := Int.mul_nonneg hA hB
      rw [Int.mul_neg] at q z
      exact ⟨by omega, by omega⟩
    · have q := Int.mul_le_mul (show -a ≤ A by omega) hb.2 g hA
      have z := Int.mul_nonneg (show 0 ≤ -a by omega) g
      have y := Int.mul_nonneg hA hB
      rw [Int.neg_mul] at q z
      exact ⟨by omega, by omega⟩
    · have q := Int.mul_le_mul (show -a ≤ A by omega) (show -b ≤ B by omega) (by omega) hA
      have z := Int.mul_nonneg (show 0 ≤ -a by omega) (show 0 ≤ -b by omega)
      have y := Int.mul_nonneg hA hB
      rw [Int.neg_mul_neg] at q z
      exact ⟨by omega, by omega⟩
  exact ⟨h1.2, h1.1⟩
/-! arrays: contents by functions to Int, Nat, Bool -/
def updZ {α : Type} (f : Nat → α) (k : Nat) (x : α) : Nat → α := fun j => if j = k then x else f j
theorem updZ_s {α : Type} {f : Nat → α} {k : Nat} {x : α} : updZ f k x k = x := by simp [updZ]
theorem updZ_n {α : Type} {f : Nat → α} {k j : Nat} {x : α} (h : j ≠ k) : updZ f k x j = f j := by simp [updZ, h]
theorem upd_iZ (f : Nat → Int) (k : Nat) (x : Int) : upd (fun j => iZ (f j)) k (iZ x) = fun j => iZ (updZ f k x j) := by
  funext j; by_cases h : j = k
  · subst h; rw [pk_us, updZ_s]
  · rw [pk_un h, updZ_n h]
theorem upd_nI (f : Nat → Nat) (k : Nat) (x : Nat) : upd (fun j => nI (f j)) k (nI x) = fun j => nI (updZ f k x j) := by
  funext j; by_cases h : j = k
  · subst h; rw [pk_us, updZ_s]
  · rw [pk_un h, updZ_n h]
theorem upd_bI (f : Nat → Bool) (k : Nat) (x : Bool) : upd (fun j => bI (f j)) k (bI x) = fun j => bI (updZ f k x j) := by
  funext j; by_cases h : j = k
  · subst h; rw [pk_us, updZ_s]
  · rw [pk_un h, updZ_n h]
theorem upd_lZ (f : Nat → Int) (k : Nat) (x : Int) : vp_updL (fun j => lZ (f j)) k (lZ x) = fun j => lZ (updZ f k x j) := by
  funext j; by_cases h : j = k
  · subst h; rw [pk_uLs, updZ_s]
  · rw [pk_uLn h, updZ_n h]
