/-! plain law 11: what the component computes, over Rat -/
section PL11
theorem side_c (x y tx ty px py : Int) : ((sgSide x y tx ty px py : Int) : Rat) = ori (cP (x, y)) (cP (tx, ty)) (cP (px, py)) := by
  unfold sgSide ori cP
  simp only [Rat.intCast_sub, Rat.intCast_mul]
theorem btw_c (v a b : Int) : btw v a b = decide (bt (a : Rat) (v : Rat) (b : Rat)) := by
  have e : bt (a : Rat) (v : Rat) (b : Rat) ↔ ((a ≤ v ∧ v ≤ b) ∨ (b ≤ v ∧ v ≤ a)) := by unfold bt; rw [cast_le, cast_le, cast_le, cast_le]
  have e2 : decide (bt (a : Rat) (v : Rat) (b : Rat)) = decide ((a ≤ v ∧ v ≤ b) ∨ (b ≤ v ∧ v ≤ a)) := decide_eq_decide.mpr e
  rw [e2]
  unfold btw
  split
  · rw [← Bool.decide_and]; exact decide_eq_decide.mpr (by omega)
  · rw [← Bool.decide_and]; exact decide_eq_decide.mpr (by omega)
theorem zero_c {a : Int} : a = 0 ↔ ((a : Int) : Rat) = 0 := (cast_eq (a := a) (b := 0)).symm
theorem neg_c {a : Int} : a < 0 ↔ ((a : Int) : Rat) < 0 := (cast_lt (a := a) (b := 0)).symm
theorem pos_c {a : Int} : 0 < a ↔ 0 < ((a : Int) : Rat) := (cast_lt (a := 0) (b := a)).symm
theorem on_c (x y tx ty px py : Int) : sgOn x y tx ty px py = onB (cP (x, y)) (cP (tx, ty)) (cP (px, py)) := by
  have e : (sgSide x y tx ty px py = 0) ↔ ori (cP (x, y)) (cP (tx, ty)) (cP (px, py)) = 0 := by rw [zero_c, side_c]
  unfold sgOn onB
  rw [btw_c, btw_c, decide_eq_decide.mpr e, ← Bool.decide_and, ← Bool.decide_and]
  refine decide_eq_decide.mpr ?_
  unfold onS cP
  exact and_assoc
theorem below_c (h y dv lv : Int) : stBelow h y dv lv = gB (h : Rat) (y : Rat) (dv : Rat) (lv : Rat) := by
  unfold stBelow gB
  by_cases e : h = y
  · subst e
    rw [if_neg (show ¬ (h ≠ h) from fun q => q rfl), if_neg (show ¬ ((h : Rat) ≠ (h : Rat)) from fun q => q rfl)]
    by_cases e2 : dv = 0
    · subst e2
      rw [if_neg (show ¬ ((0 : Int) ≠ 0) from fun q => q rfl), if_neg (show ¬ (((0 : Int) : Rat) ≠ 0) from fun q => q rfl)]
      exact decide_eq_decide.mpr neg_c
    · rw [if_pos e2, if_pos (fun q => e2 (zero_c.mpr q))]
      exact decide_eq_decide.mpr neg_c
  · rw [if_pos e, if_pos (fun q => e (cast_eq.mp q))]
    exact decide_eq_decide.mpr cast_lt.symm
theorem sign_ne {a : Int} : Int.sign a ≠ 0 ↔ a ≠ 0 := by
  constructor
  · intro h q; subst q; exact h rfl
  · intro h q; exact h (Int.sign_eq_zero_iff_zero.mp q)
theorem sign_pos {a : Int} : 0 < Int.sign a ↔ 0 < a := by
  rcases Int.lt_trichotomy a 0 with h | h | h
  · rw [Int.sign_eq_neg_one_of_neg h]; omega
  · subst h; decide
  · rw [Int.sign_eq_one_of_pos h]; omega
theorem lex3 (a b c : Int) : decide (0 < (if Int.sign a ≠ 0 then Int.sign a else if Int.sign b ≠ 0 then Int.sign b else Int.sign c)) = gPos (a : Rat) (b : Rat) (c : Rat) := by
  unfold gPos
  apply decide_eq_decide.mpr
  rw [← pos_c, ← pos_c, ← pos_c, ← zero_c, ← zero_c]
  by_cases ha : a = 0
  · subst ha
    rw [if_neg (by simp)]
    by_cases hb : b = 0
    · subst hb
      rw [if_neg (by simp), sign_pos]
      omega
    · rw [if_pos (sign_ne.mpr hb), sign_pos]
      omega
  · rw [if_pos (sign_ne.mpr ha), sign_pos]
    omega
theorem odd_c (x y tx ty sx sy du dv lu lv : Int) : sgOdd x y tx ty sx sy du dv lu lv = gOdd (cS ((x, y), (tx, ty))) (cP (sx, sy)) ((du : Rat), (dv : Rat)) ((lu : Rat), (lv : Rat)) := by
  unfold sgOdd gOdd stSide
  rw [below_c, below_c, lex3]
  have e1 : (((tx - x) * (sy - y) - (ty - y) * (sx - x) : Int) : Rat) = ori (cS ((x, y), (tx, ty))).1 (cS ((x, y), (tx, ty))).2 (cP (sx, sy)) := by
    unfold ori cS cP; simp only [Rat.intCast_sub, Rat.intCast_mul]
  have e2 : ∀ a b : Int, (((tx - x) * b - (ty - y) * a : Int) : Rat) = crs (dir (cS ((x, y), (tx, ty)))) ((a : Rat), (b : Rat)) := fun a b => by
    unfold crs dir cS cP; simp only [Rat.intCast_sub, Rat.intCast_mul]
  rw [e1, e2, e2]
  rfl
theorem leads_c (sx sy du dv px py : Int) : stLeads sx sy du dv px py = decide (leadsR (cP (sx, sy)) ((du : Rat), (dv : Rat)) (cP (px, py))) := by
  unfold stLeads
  rw [← Bool.decide_or]
  apply decide_eq_decide.mpr
  rw [pos_c, pos_c, Rat.intCast_mul, Rat.intCast_mul, Rat.intCast_sub, Rat.intCast_sub]
  exact Iff.rfl
theorem along_c (x y tx ty sx sy du dv : Int) : sgAlong x y tx ty sx sy du dv = alB (cP (sx, sy)) ((du : Rat), (dv : Rat)) (cS ((x, y), (tx, ty))) := by
  unfold sgAlong alB
  rw [on_c, leads_c, leads_c, ← Bool.decide_or]
  have e2 : (((tx - x) * dv - (ty - y) * du : Int) : Rat) = crs (dir (cS ((x, y), (tx, ty)))) ((du : Rat), (dv : Rat)) := by
    unfold crs dir cS cP; simp only [Rat.intCast_sub, Rat.intCast_mul]
  have e3 : ((tx - x) * dv - (ty - y) * du = 0) ↔ crs (dir (cS ((x, y), (tx, ty)))) ((du : Rat), (dv : Rat)) = 0 := by rw [zero_c, e2]
  rw [decide_eq_decide.mpr e3]
  unfold onB
  rw [← Bool.decide_and, ← Bool.decide_and]
  apply decide_eq_decide.mpr
  exact and_assoc
theorem opp_c {u v : Int} : opp u v = true ↔ opq (u : Rat) (v : Rat) := by
  rw [opq_c]; unfold opp; simp
theorem cross_c (g h : Sg) : sgCross g.1.1 g.1.2 g.2.1 g.2.2 h.1.1 h.1.2 h.2.1 h.2.2 = true ↔ pXp (cS h).1 (cS h).2 (cS g).1 (cS g).2 := by
  unfold sgCross pXp
  rw [Bool.and_eq_true, opp_c, opp_c, side_c, side_c, side_c, side_c]
  exact and_comm
/-! ### lists of segments -/
section LS
variable {SX SY EX EY : Nat → Int} {of_ n : Nat} {A B : List Sg}
theorem pl_split {α : Type} (g : Nat → α) (a b : Nat) : plist g (a + b) = plist g a ++ plist (fun j => g (a + j)) b := by
  unfold plist
  rw [List.range_add, List.map_append, List.map_map]
  rfl
theorem ls_split (h : sgList SX SY EX EY n = A ++ B) (ho : of_ = A.length) : plist (sgAt SX SY EX EY) of_ = A ∧ plist (fun j => sgAt SX SY EX EY (of_ + j)) (n - of_) = B ∧ of_ ≤ n := by
  have hl : n = A.length + B.length := by
    have := congrArg List.length h
    simpa [sgList] using this
  have hn : n = of_ + (n - of_) := by omega
  have h' : plist (sgAt SX SY EX EY) (of_ + (n - of_)) = A ++ B := by rw [← hn]; exact h
  rw [pl_split] at h'
  have := List.append_inj h' (by simp [plist]; exact ho)
  exact ⟨this.1, this.2, by omega⟩
theorem exR_ls {f : Nat → Bool} {F : Sg → Bool} (hf : ∀ k, f k = F (sgAt SX SY EX EY k)) (a b : Nat) : exR f a b = (plist (fun j => sgAt SX SY EX EY (a + j)) (b - a)).any F := by
  have key : exR f a b = true ↔ (plist (fun j => sgAt SX SY EX EY (a + j)) (b - a)).any F = true := by
    unfold exR plist
    rw [List.any_eq_true, List.any_eq_true]
    constructor
    · rintro ⟨k, hk, h⟩
      rw [List.mem_range] at hk
      simp only [Bool.and_eq_true, decide_eq_true_eq] at h
      refine ⟨sgAt SX SY EX EY k, List.mem_map.mpr ⟨k - a, List.mem_range.mpr (by omega), by rw [show a + (k - a) = k by omega]⟩, ?_⟩
      rw [← hf]; exact h.2
    · rintro ⟨g, hg, h⟩
      obtain ⟨j, hj, rfl⟩ := List.mem_map.mp hg
      rw [List.mem_range] at hj
      refine ⟨a + j, List.mem_range.mpr (by omega), ?_⟩
      simp only [Bool.and_eq_true, decide_eq_true_eq]
      exact ⟨by omega, by rw [hf]; exact h⟩
  cases h1 : exR f a b <;> cases h2 : (plist (fun j => sgAt SX SY EX EY (a + j)) (b - a)).any F <;> rw [h1, h2] at key <;> simp at key <;> rfl
theorem parR_ls {f : Nat → Bool} {F : Sg → Bool} (hf : ∀ k, f k = F (sgAt SX SY EX EY k)) (a : Nat) : ∀ m, parR f a m = par F (plist (fun j => sgAt SX SY EX EY (a + j)) m)
  | 0 => rfl
  | m + 1 => by
    rw [parR, parR_ls hf a m, plist_succ, par_append, hf]
    show _ = (_ ^^ (F (sgAt SX SY EX EY (a + m)) ^^ false))
    rw [Bool.xor_false]
theorem pl_zero {α : Type} (g : Nat → α) (m : Nat) : plist (fun j => g (0 + j)) m = plist g m := by
  unfold plist; congr 1; funext j; rw [Nat.zero_add]
variable (h : sgList SX SY EX EY n = A ++ B) (ho : of_ = A.length)
theorem exR_a (h : sgList SX SY EX EY n = A ++ B) (ho : of_ = A.length) {f : Nat → Bool} {F : Sg → Bool} (hf : ∀ k, f k = F (sgAt SX SY EX EY k)) : exR f 0 of_ = A.any F := by
  rw [exR_ls hf, Nat.sub_zero, pl_zero, (ls_split h ho).1]
theorem exR_b (h : sgList SX SY EX EY n = A ++ B) (ho : of_ = A.length) {f : Nat → Bool} {F : Sg → Bool} (hf : ∀ k, f k = F (sgAt SX SY EX EY k)) : exR f of_ n = B.any F := by
  rw [exR_ls hf, (ls_split h ho).2.1]
theorem parR_a (h : sgList SX SY EX EY n = A ++ B) (ho : of_ = A.length) {f : Nat → Bool} {F : Sg → Bool} (hf : ∀ k, f k = F (sgAt SX SY EX EY k)) : parR f 0 (of_ - 0) = par F A := by
  rw [parR_ls hf, Nat.sub_zero, pl_zero, (ls_split h ho).1]
theorem parR_b (h : sgList SX SY EX EY n = A ++ B) (ho : of_ = A.length) {f : Nat → Bool} {F : Sg → Bool} (hf : ∀ k, f k = F (sgAt SX SY EX EY k)) : parR f of_ (n - of_) = par F B := by
  rw [parR_ls hf, (ls_split h ho).2.1]
end LS
/-- where a place is: of any list of segments that an existence and a parity run over -/
theorem plA_e {kd : Nat} {X Y : Nat → Int} {ST : Nat → Nat} {np nq : Nat} {SX SY EX EY : Nat → Int} {a b : Nat} (hk : 1 ≤ kd ∧ kd ≤ 3) (hx : ∀ {f : Nat → Bool} {F : Sg → Bool}, (∀ k, f k = F (sgAt SX SY EX EY k)) → exR f a b = (shapeSegs kd X Y ST np nq).any F) (hp : ∀ {f : Nat → Bool} {F : Sg → Bool}, (∀ k, f k = F (sgAt SX SY EX EY k)) → parR f a (b - a) = par F (shapeSegs kd X Y ST np nq)) (px py : Int) :
    plA kd X Y ST np nq SX SY EX EY a b px py = whR kd (shQ X Y nq) (shL kd X Y ST np nq) (shE X Y ST np nq) (cP (px, py)) := by
  have a1 : exR (fun k => sgOn (SX k) (SY k) (EX k) (EY k) px py) a b = anyOn (shL kd X Y ST np nq) (cP (px, py)) := by
    rw [hx (F := fun g => onB (cS g).1 (cS g).2 (cP (px, py))) (fun k => on_c ..)]
    unfold anyOn shL
    rw [List.any_map]; rfl
  have a2 : (exR (fun k => ptAt X Y k px py) 0 nq = true) ↔ cP (px, py) ∈ shQ X Y nq := by
    rw [mem_shQ]
    unfold exR
    rw [List.any_eq_true]
    constructor
    · rintro ⟨k, hk, h⟩
      simp only [ptAt, Bool.and_eq_true, decide_eq_true_eq] at h
      exact ⟨k, List.mem_range.mp hk, by rw [h.2.1, h.2.2]⟩
    · rintro ⟨k, hk, h⟩
      have := cP_inj.mp h
      refine ⟨k, List.mem_range.mpr hk, ?_⟩
      simp only [ptAt, Bool.and_eq_true, decide_eq_true_eq]
      exact ⟨Nat.zero_le _, (congrArg Prod.fst this).symm, (congrArg Prod.snd this).symm⟩
  have a3 : (olEnds X Y ST np nq px py np % 2 = 1) ↔ shE X Y ST np nq (cP (px, py)) = true := by
    unfold shE
    rw [decide_eq_true_iff, olEnds_enG]
    have : (fun k => ptAt X Y k px py) = (fun k => decide (cP (X k, Y k) = cP (px, py))) := by
      funext k
      unfold ptAt
      rw [← Bool.decide_and]
      apply decide_eq_decide.mpr
      rw [cP_inj, Prod.mk.injEq]
    rw [this]
  have a4 : anyOn (shL kd X Y ST np nq) (cP (px, py)) = false → parR (fun k => sgOdd (SX k) (SY k) (EX k) (EY k) px py 0 0 0 0) a (b - a) = crd (shL kd X Y ST np nq) (cP (px, py)) := fun hn => by
    rw [hp (f := fun k => sgOdd (SX k) (SY k) (EX k) (EY k) px py 0 0 0 0) (F := fun g => gOdd (cS g) (cP (px, py)) (0, 0) (0, 0)) (fun k => odd_c (SX k) (SY k) (EX k) (EY k) px py 0 0 0 0)]
    unfold crd shL
    rw [par_map]
    refine par_congr fun g hg => gOdd_zero fun q => ?_
    have : anyOn (shL kd X Y ST np nq) (cP (px, py)) = true := anyOn_iff.mpr ⟨cS g, List.mem_map.mpr ⟨g, hg, rfl⟩, q⟩
    rw [hn] at this; cases this
  unfold plA whR
  simp only [a1, a2, a3]
  rcases (show kd = 1 ∨ kd = 2 ∨ kd = 3 by omega) with rfl | rfl | rfl
  · rfl
  · rfl
  · cases hc : anyOn (shL 3 X Y ST np nq) (cP (px, py)) with
    | true => rfl
    | false => rw [a4 hc]
end PL11
