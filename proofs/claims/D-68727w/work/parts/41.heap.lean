/-! rows as lists, changes of places; sorting by a heap, in plain words -/
def plist {α : Type} (f : Nat → α) (n : Nat) : List α := (List.range n).map f
theorem plist_succ {α : Type} (f : Nat → α) (n : Nat) : plist f (n + 1) = plist f n ++ [f n] := by simp [plist, List.range_succ]
theorem plist_cong {α : Type} {f g : Nat → α} {n : Nat} (h : ∀ k, k < n → f k = g k) : plist f n = plist g n :=
  List.map_congr_left fun k hk => h k (List.mem_range.mp hk)
theorem plist_mem {α : Type} {f : Nat → α} {n : Nat} {x : α} : x ∈ plist f n ↔ ∃ k, k < n ∧ f k = x := by
  unfold plist
  rw [List.mem_map]
  constructor
  · rintro ⟨k, h, e⟩; exact ⟨k, List.mem_range.mp h, e⟩
  · rintro ⟨k, h, e⟩; exact ⟨k, List.mem_range.mpr h, e⟩
theorem plist_len {α : Type} {f : Nat → α} {n : Nat} : (plist f n).length = n := by simp [plist]
theorem cnt_upd {f : Nat → Nat} {i v a : Nat} : ∀ n, i < n → (plist (updZ f i v) n).count a + (if f i = a then 1 else 0) = (plist f n).count a + (if v = a then 1 else 0) := by
  intro n
  induction n with
  | zero => intro h; exact absurd h (Nat.not_lt_zero _)
  | succ n ih =>
    intro h
    rw [plist_succ, plist_succ, List.count_append, List.count_append]
    by_cases q : i = n
    · subst q
      rw [plist_cong (g := f) (fun k hk => updZ_n (by omega)), updZ_s]
      simp only [List.count_cons, List.count_nil, beq_iff_eq]
      omega
    · have := ih (by omega)
      rw [updZ_n (show n ≠ i by omega)]
      omega
/-- two places changed -/
theorem plist_swap {f : Nat → Nat} {n i j : Nat} (hi : i < n) (hj : j < n) : (plist (updZ (updZ f i (f j)) j (f i)) n).Perm (plist f n) := by
  rw [List.perm_iff_count]
  intro a
  have h1 := cnt_upd (f := f) (i := i) (v := f j) (a := a) n hi
  have h2 := cnt_upd (f := updZ f i (f j)) (i := j) (v := f i) (a := a) n hj
  have h3 : updZ f i (f j) j = f j := by
    by_cases q : j = i
    · rw [q, updZ_s]
    · exact updZ_n q
  rw [h3] at h2
  omega
/-- a total order on numbers by 'le', as 'bh a b' (a behind b) tells it -/
def ordOK (bh : Nat → Nat → Bool) : Prop := (∀ a b, bh a b = true → bh b a = false) ∧ (∀ a b c, bh a b = false → bh b c = false → bh a c = false)
/-- a heap of the first n places, from a place on -/
def heapF (bh : Nat → Nat → Bool) (f : Nat → Nat) (a n : Nat) : Prop := ∀ j, 1 ≤ j → j < n → a ≤ (j - 1) / 2 → bh (f j) (f ((j - 1) / 2)) = false
/-- the same but for one place, which is behind what lies below it -/
def heapX (bh : Nat → Nat → Bool) (f : Nat → Nat) (a n x : Nat) : Prop := (∀ j, 1 ≤ j → j < n → a ≤ (j - 1) / 2 → (j - 1) / 2 ≠ x → bh (f j) (f ((j - 1) / 2)) = false) ∧ (x ≠ a → a ≤ (x - 1) / 2 ∧ ∀ j, 1 ≤ j → j < n → (j - 1) / 2 = x → bh (f j) (f ((x - 1) / 2)) = false)
theorem heapX_start {bh : Nat → Nat → Bool} {f : Nat → Nat} {a n : Nat} (h : heapF bh f (a + 1) n) : heapX bh f a n a :=
  ⟨fun j h1 h2 h3 h4 => h j h1 h2 (by omega), fun h => absurd rfl h⟩
theorem heapX_end {bh : Nat → Nat → Bool} {f : Nat → Nat} {a n x : Nat} (h : heapX bh f a n x) (hx : n ≤ 2 * x + 1) : heapF bh f a n :=
  fun j h1 h2 h3 => h.1 j h1 h2 h3 (by omega)
/-- the greater one of the places below -/
def isTop (bh : Nat → Nat → Bool) (f : Nat → Nat) (n x c : Nat) : Prop := c < n ∧ (c = 2 * x + 1 ∨ c = 2 * x + 2) ∧ ∀ j, 1 ≤ j → j < n → (j - 1) / 2 = x → bh (f j) (f c) = false
theorem heapX_stop {bh : Nat → Nat → Bool} (ho : ordOK bh) {f : Nat → Nat} {a n x c : Nat} (h : heapX bh f a n x) (hc : isTop bh f n x c) (hs : bh (f c) (f x) = false) : heapF bh f a n := by
  intro j h1 h2 h3
  by_cases q : (j - 1) / 2 = x
  · rw [q]; exact ho.2 _ _ _ (hc.2.2 j h1 h2 q) hs
  · exact h.1 j h1 h2 h3 q
theorem heapX_step {bh : Nat → Nat → Bool} (ho : ordOK bh) {f : Nat → Nat} {a n x c : Nat} (hax : a ≤ x) (h : heapX bh f a n x) (hc : isTop bh f n x c) (hs : bh (f c) (f x) = true) : heapX bh (updZ (updZ f x (f c)) c (f x)) a n c := by
  obtain ⟨c1, c2, c3⟩ := hc
  have hcx : c ≠ x := by omega
  have ec : updZ (updZ f x (f c)) c (f x) c = f x := updZ_s
  have ex : updZ (updZ f x (f c)) c (f x) x = f c := by rw [updZ_n (by omega), updZ_s]
  have eo : ∀ k, k ≠ x → k ≠ c → updZ (updZ f x (f c)) c (f x) k = f k := fun k h1 h2 => by rw [updZ_n h2, updZ_n h1]
  have hp : (c - 1) / 2 = x := by omega
  constructor
  · intro j h1 h2 h3 h4
    by_cases q : (j - 1) / 2 = x
    · rw [q, ex]
      by_cases w : j = c
      · rw [w, ec]; exact ho.1 _ _ hs
      · rw [eo j (by omega) w]; exact c3 j h1 h2 q
    · rw [eo ((j - 1) / 2) q h4]
      by_cases w : j = x
      · rw [w, ex]
        have hxa : x ≠ a := by omega
        exact (h.2 hxa).2 c (by omega) c1 hp
      · by_cases w2 : j = c
        · exact absurd (by rw [w2]; exact hp) q
        · rw [eo j w w2]; exact h.1 j h1 h2 h3 q
  · intro hca
    rw [hp]
    refine ⟨hax, fun j h1 h2 h3 => ?_⟩
    rw [ex, eo j (by omega) (by omega)]
    have := h.1 j h1 h2 (by omega) (by omega)
    rw [h3] at this
    exact this
theorem heap_root {bh : Nat → Nat → Bool} (ho : ordOK bh) {f : Nat → Nat} {n : Nat} (h : heapF bh f 0 n) (hr : ∀ a, bh a a = false) : ∀ j, j < n → bh (f j) (f 0) = false := by
  intro j
  induction j using Nat.strongRecOn with
  | ind j ih =>
    intro hj
    by_cases q : j = 0
    · rw [q]; exact hr _
    · exact ho.2 _ _ _ (h j (by omega) hj (Nat.zero_le _)) (ih ((j - 1) / 2) (by omega) (by omega))
theorem ordOK.irr {bh : Nat → Nat → Bool} (ho : ordOK bh) (a : Nat) : bh a a = false := by
  cases h : bh a a
  · rfl
  · have := ho.1 a a h; rw [h] at this; exact this
/-- sorted from a place on: what is before isn't behind -/
def tailS (bh : Nat → Nat → Bool) (f : Nat → Nat) (k n : Nat) : Prop := ∀ i j, i < j → j < n → k ≤ j → bh (f i) (f j) = false
/-- a step of the second half: the root goes to place k, the rest is a heap again -/
theorem tail_step {bh : Nat → Nat → Bool} (ho : ordOK bh) {f g : Nat → Nat} {k n : Nat} (hk : 1 ≤ k) (hkn : k < n) (hh : heapF bh f 0 (k + 1)) (ht : tailS bh f (k + 1) n) (hg : (plist g k).Perm (plist (updZ (updZ f k (f 0)) 0 (f k)) k)) (hs : ∀ j, k ≤ j → g j = updZ (updZ f k (f 0)) 0 (f k) j) : tailS bh g k n := by
  have hv : ∀ i, i < k → ∃ i', i' ≤ k ∧ g i = f i' := by
    intro i hi
    have hm : g i ∈ plist g k := plist_mem.mpr ⟨i, hi, rfl⟩
    obtain ⟨i', h1, h2⟩ := plist_mem.mp (hg.mem_iff.mp hm)
    by_cases q : i' = 0
    · rw [q, updZ_s] at h2; exact ⟨k, Nat.le_refl _, h2.symm⟩
    · rw [updZ_n q, updZ_n (by omega)] at h2; exact ⟨i', by omega, h2.symm⟩
  intro i j hij hj hkj
  by_cases q : j = k
  · subst q
    rw [hs j (Nat.le_refl _), updZ_n (by omega), updZ_s]
    obtain ⟨i', h1, h2⟩ := hv i hij
    rw [h2]
    exact heap_root ho hh ho.irr i' (by omega)
  · have hj0 : g j = f j := by rw [hs j hkj, updZ_n (by omega), updZ_n q]
    rw [hj0]
    by_cases w : i < k
    · obtain ⟨i', h1, h2⟩ := hv i w
      rw [h2]
      exact ht i' j (by omega) hj (by omega)
    · by_cases w2 : i = k
      · subst w2
        rw [hs i (Nat.le_refl _), updZ_n (by omega), updZ_s]
        exact ht 0 j (by omega) hj (by omega)
      · rw [hs i (by omega), updZ_n (by omega), updZ_n w2]
        exact ht i j hij hj (by omega)
theorem swap_heap {bh : Nat → Nat → Bool} {f : Nat → Nat} {k : Nat} (hk : 1 ≤ k) (hh : heapF bh f 0 (k + 1)) : heapF bh (updZ (updZ f k (f 0)) 0 (f k)) 1 k := by
  intro j h1 h2 h3
  rw [updZ_n (by omega), updZ_n (by omega), updZ_n (by omega), updZ_n (by omega)]
  exact hh j h1 (by omega) (by omega)
/-- a permutation of the first n numbers -/
def permN (f : Nat → Nat) (n : Nat) : Prop := (plist f n).Perm (List.range n)
theorem plist_self (n : Nat) : plist (fun k => k) n = List.range n := by simp [plist]
theorem permN_lt {f : Nat → Nat} {n : Nat} (h : permN f n) {k : Nat} (hk : k < n) : f k < n :=
  List.mem_range.mp (h.mem_iff.mp (plist_mem.mpr ⟨k, hk, rfl⟩))
theorem permN_id {f : Nat → Nat} {n : Nat} (h : ∀ k, k < n → f k = k) : permN f n := by
  unfold permN
  rw [plist_cong h, plist_self]
/-- places behind the first k stay, the first k are put in order: all are put in order -/
theorem perm_ext {f g : Nat → Nat} {k : Nat} (h : (plist g k).Perm (plist f k)) : ∀ n, k ≤ n → (∀ j, k ≤ j → j < n → g j = f j) → (plist g n).Perm (plist f n) := by
  intro n
  induction n with
  | zero => intro hk _; have : k = 0 := by omega
            subst this; exact h
  | succ n ih =>
    intro hk hs
    by_cases q : k = n + 1
    · subst q; exact h
    · rw [plist_succ, plist_succ, hs n (by omega) (Nat.lt_succ_self _)]
      exact (ih (by omega) (fun j h1 h2 => hs j h1 (by omega))).append_right _
