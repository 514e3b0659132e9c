/-! plain geometry over the rationals: sides, places on segments, crossings, and the strip between two places -/
abbrev Pt : Type := Rat × Rat
abbrev Sq : Type := Pt × Pt
def ori (a b p : Pt) : Rat := (b.1 - a.1) * (p.2 - a.2) - (b.2 - a.2) * (p.1 - a.1)
abbrev bt (a v b : Rat) : Prop := (a ≤ v ∧ v ≤ b) ∨ (b ≤ v ∧ v ≤ a)
abbrev onS (a b p : Pt) : Prop := bt a.1 p.1 b.1 ∧ bt a.2 p.2 b.2 ∧ ori a b p = 0
abbrev opq (x y : Rat) : Prop := (x < 0 ∧ 0 < y) ∨ (0 < x ∧ y < 0)
abbrev crXp (a b p : Pt) : Prop := (p.2 < a.2 ∧ b.2 ≤ p.2 ∧ ori a b p < 0) ∨ (a.2 ≤ p.2 ∧ p.2 < b.2 ∧ 0 < ori a b p)
abbrev crLp (p q v : Pt) : Prop := (p.2 < v.2 ∧ v.2 ≤ q.2 ∧ ori p q v < 0) ∨ (q.2 < v.2 ∧ v.2 ≤ p.2 ∧ 0 < ori p q v)
abbrev pXp (a b p q : Pt) : Prop := opq (ori a b p) (ori a b q) ∧ opq (ori p q a) (ori p q b)
theorem rat_neg_of_mul {x a : Rat} (ha : 0 ≤ a) (h : x * a < 0) : x < 0 := by
  apply Rat.not_le.mp
  intro q
  have := Rat.mul_nonneg q ha
  grind
theorem rat_pos_of_mul {x a : Rat} (ha : 0 ≤ a) (h : 0 < x * a) : 0 < x := by
  apply Rat.not_le.mp
  intro q
  have := Rat.mul_nonneg (show 0 ≤ -x by grind) ha
  grind
theorem rat_mul_np {a b : Rat} (ha : a < 0) (hb : 0 < b) : a * b < 0 := by
  have := Rat.mul_pos (show 0 < -a by grind) hb
  grind
theorem rat_mul_pn {a b : Rat} (ha : 0 < a) (hb : b < 0) : a * b < 0 := by
  have := Rat.mul_pos ha (show 0 < -b by grind)
  grind
theorem rat_mul_nn {a b : Rat} (ha : a < 0) (hb : b < 0) : 0 < a * b := by
  have := Rat.mul_pos (show 0 < -a by grind) (show 0 < -b by grind)
  grind
theorem rat_mul_nz {a b : Rat} (ha : a ≤ 0) (hb : 0 ≤ b) : a * b ≤ 0 := by
  have := Rat.mul_nonneg (show 0 ≤ -a by grind) hb
  grind
theorem rat_mul_zz {a b : Rat} (ha : a ≤ 0) (hb : b ≤ 0) : 0 ≤ a * b := by
  have := Rat.mul_nonneg (show 0 ≤ -a by grind) (show 0 ≤ -b by grind)
  grind
theorem rat_mul_zn {a b : Rat} (ha : 0 ≤ a) (hb : b ≤ 0) : a * b ≤ 0 := by
  have := Rat.mul_nonneg ha (show 0 ≤ -b by grind)
  grind
theorem rat_tri (x : Rat) : x < 0 ∨ x = 0 ∨ 0 < x := by grind
/-- the six cases of the strip, in numbers -/
theorem strip1 {ya yb yp yq u v m n : Rat} (hab : ya ≤ yb) (hpq : yp ≤ yq) (R1 : u + m = v + n) (R2 : n * ya - m * yb + v * yp - u * yq = 0) (h1 : ya = yb → yb = yp → u = 0) (hc : yb ≤ yp) : ¬ (opq u v ∧ opq m n) := by
  rintro ⟨hu, hm⟩
  have Fp : n * (yp - ya) - m * (yp - yb) + u * (yq - yp) = 0 := by grind
  have key : (0 < u ∧ 0 < n ∧ m < 0) ∨ (u < 0 ∧ n < 0 ∧ 0 < m) := by
    unfold opq at hu hm; grind
  have hz : ya = yp := by
    rcases key with ⟨a, b, c⟩ | ⟨a, b, c⟩
    · have e1 := Rat.mul_nonneg (Rat.le_of_lt b) (show 0 ≤ yp - ya by grind)
      have e2 := rat_mul_nz (Rat.le_of_lt c) (show 0 ≤ yp - yb by grind)
      have e3 := Rat.mul_nonneg (Rat.le_of_lt a) (show 0 ≤ yq - yp by grind)
      have e4 : n * (yp - ya) = 0 := by grind
      rcases Rat.mul_eq_zero.mp e4 with q | q <;> grind
    · have e1 := rat_mul_nz (Rat.le_of_lt b) (show 0 ≤ yp - ya by grind)
      have e2 := Rat.mul_nonneg (Rat.le_of_lt c) (show 0 ≤ yp - yb by grind)
      have e3 := rat_mul_nz (Rat.le_of_lt a) (show 0 ≤ yq - yp by grind)
      have e4 : n * (yp - ya) = 0 := by grind
      rcases Rat.mul_eq_zero.mp e4 with q | q <;> grind
  have h0 := h1 (by grind) (by grind)
  unfold opq at hu; grind
theorem strip2 {ya yb yp yq u v m n : Rat} (hab : ya ≤ yb) (hpq : yp ≤ yq) (R1 : u + m = v + n) (R2 : n * ya - m * yb + v * yp - u * yq = 0) (hc : yq < ya) : ¬ (opq u v ∧ opq m n) := by
  rintro ⟨hu, hm⟩
  have Fq : v * (yq - yp) - n * (ya - yq) + m * (yb - yq) = 0 := by grind
  have key : (v < 0 ∧ 0 < n ∧ m < 0) ∨ (0 < v ∧ n < 0 ∧ 0 < m) := by
    unfold opq at hu hm; grind
  rcases key with ⟨a, b, c⟩ | ⟨a, b, c⟩
  · have e1 := rat_mul_nz (Rat.le_of_lt a) (show 0 ≤ yq - yp by grind)
    have e2 := Rat.mul_pos b (show 0 < ya - yq by grind)
    have e3 := rat_mul_np c (show 0 < yb - yq by grind)
    grind
  · have e1 := Rat.mul_nonneg (Rat.le_of_lt a) (show 0 ≤ yq - yp by grind)
    have e2 := rat_mul_np b (show 0 < ya - yq by grind)
    have e3 := Rat.mul_pos c (show 0 < yb - yq by grind)
    grind
theorem strip3 {ya yb yp yq u v m n : Rat} (hab : ya ≤ yb) (R1 : u + m = v + n) (R2 : n * ya - m * yb + v * yp - u * yq = 0)
    (h2 : ya = yq → yb = yq → yp < yq → ¬ opq m n) (h3 : yp < ya) (h4 : yb ≤ yq) (hm : m ≠ 0) (hn : n ≠ 0) : (opq u v ∧ opq m n) ↔ ((m < 0) ↔ ¬ (n < 0)) := by
  have Fp : n * (ya - yp) - m * (yb - yp) - u * (yq - yp) = 0 := by grind
  have Fq : v * (yq - yp) + n * (yq - ya) - m * (yq - yb) = 0 := by grind
  constructor
  · rintro ⟨-, hm⟩; unfold opq at hm; grind
  · intro h
    have key : (m < 0 ∧ 0 < n) ∨ (0 < m ∧ n < 0) := by grind
    refine ⟨?_, key⟩
    have hpq : 0 < yq - yp := by grind
    rcases key with ⟨a, b⟩ | ⟨a, b⟩
    · have e1 := Rat.mul_pos b (show 0 < ya - yp by grind)
      have e2 := rat_mul_np a (show 0 < yb - yp by grind)
      have hu : 0 < u := rat_pos_of_mul (Rat.le_of_lt hpq) (by grind)
      have e3 := Rat.mul_nonneg (Rat.le_of_lt b) (show 0 ≤ yq - ya by grind)
      have e4 := rat_mul_nz (Rat.le_of_lt a) (show 0 ≤ yq - yb by grind)
      refine Or.inr ⟨hu, ?_⟩
      rcases rat_tri v with q | q | q
      · exact q
      · exfalso
        subst q
        have e5 : n * (yq - ya) = 0 := by grind
        have e6 : m * (yq - yb) = 0 := by grind
        have e7 : ya = yq := by rcases Rat.mul_eq_zero.mp e5 with q | q <;> grind
        have e8 : yb = yq := by rcases Rat.mul_eq_zero.mp e6 with q | q <;> grind
        exact h2 e7 e8 (by grind) (Or.inl ⟨a, b⟩)
      · exfalso
        have := Rat.mul_pos q hpq
        grind
    · have e1 := rat_mul_np b (show 0 < ya - yp by grind)
      have e2 := Rat.mul_pos a (show 0 < yb - yp by grind)
      have hu : u < 0 := rat_neg_of_mul (Rat.le_of_lt hpq) (by grind)
      have e3 := rat_mul_nz (Rat.le_of_lt b) (show 0 ≤ yq - ya by grind)
      have e4 := Rat.mul_nonneg (Rat.le_of_lt a) (show 0 ≤ yq - yb by grind)
      refine Or.inl ⟨hu, ?_⟩
      rcases rat_tri v with q | q | q
      · exfalso
        have := rat_mul_np q hpq
        grind
      · exfalso
        subst q
        have e5 : n * (yq - ya) = 0 := by grind
        have e6 : m * (yq - yb) = 0 := by grind
        have e7 : ya = yq := by rcases Rat.mul_eq_zero.mp e5 with q | q <;> grind
        have e8 : yb = yq := by rcases Rat.mul_eq_zero.mp e6 with q | q <;> grind
        exact h2 e7 e8 (by grind) (Or.inr ⟨a, b⟩)
      · exact q
theorem strip4 {ya yb yp yq u v m n : Rat} (R1 : u + m = v + n) (R2 : n * ya - m * yb + v * yp - u * yq = 0)
    (h3 : ya ≤ yp) (h4 : yp < yb) (h5 : yb ≤ yq) (hu : u ≠ 0) (hn : n ≠ 0) : (opq u v ∧ opq m n) ↔ ((0 < u) ↔ ¬ (n < 0)) := by
  have Fb : n * (yb - ya) + v * (yb - yp) + u * (yq - yb) = 0 := by grind
  have Fa : m * (yb - ya) - v * (yp - ya) + u * (yq - ya) = 0 := by grind
  have z1 : 0 < yb - ya := by grind
  have z2 : 0 < yb - yp := by grind
  have z3 : 0 ≤ yq - yb := by grind
  have z4 : 0 ≤ yp - ya := by grind
  have z5 : 0 < yq - ya := by grind
  rcases rat_tri u with u1 | u1 | u1
  · rcases rat_tri n with n1 | n1 | n1
    · have e1 := rat_mul_np n1 z1
      have e2 := rat_mul_nz (Rat.le_of_lt u1) z3
      have hv : 0 < v := rat_pos_of_mul (Rat.le_of_lt z2) (by grind)
      have e3 := Rat.mul_nonneg (Rat.le_of_lt hv) z4
      have e4 := rat_mul_np u1 z5
      have hm : 0 < m := rat_pos_of_mul (Rat.le_of_lt z1) (by grind)
      exact ⟨fun _ => by grind, fun _ => ⟨Or.inl ⟨u1, hv⟩, Or.inr ⟨hm, n1⟩⟩⟩
    · exact absurd n1 hn
    · refine ⟨?_, fun h => by grind⟩
      rintro ⟨a, b⟩
      exfalso
      have hv : 0 < v := by unfold opq at a; grind
      have hm : m < 0 := by unfold opq at b; grind
      have e3 := Rat.mul_nonneg (Rat.le_of_lt hv) z4
      have e4 := rat_mul_np u1 z5
      have e5 := rat_mul_np hm z1
      grind
  · exact absurd u1 hu
  · rcases rat_tri n with n1 | n1 | n1
    · refine ⟨?_, fun h => by grind⟩
      rintro ⟨a, b⟩
      exfalso
      have hv : v < 0 := by unfold opq at a; grind
      have hm : 0 < m := by unfold opq at b; grind
      have e3 := rat_mul_nz (Rat.le_of_lt hv) z4
      have e4 := Rat.mul_pos u1 z5
      have e5 := Rat.mul_pos hm z1
      grind
    · exact absurd n1 hn
    · have e1 := Rat.mul_pos n1 z1
      have e2 := Rat.mul_nonneg (Rat.le_of_lt u1) z3
      have hv : v < 0 := rat_neg_of_mul (Rat.le_of_lt z2) (by grind)
      have e3 := rat_mul_nz (Rat.le_of_lt hv) z4
      have e4 := Rat.mul_pos u1 z5
      have hm : m < 0 := rat_neg_of_mul (Rat.le_of_lt z1) (by grind)
      exact ⟨fun _ => by grind, fun _ => ⟨Or.inr ⟨u1, hv⟩, Or.inl ⟨hm, n1⟩⟩⟩
theorem strip5 {ya yb yp yq u v m n : Rat} (R1 : u + m = v + n) (R2 : n * ya - m * yb + v * yp - u * yq = 0)
    (h3 : ya ≤ yp) (h4 : yp ≤ yq) (h5 : yq < yb) (hu : u ≠ 0) (hv : v ≠ 0) (h6 : yp = ya → yq = ya → ya < yb → ¬ opq u v) : (opq u v ∧ opq m n) ↔ ((0 < u) ↔ ¬ (0 < v)) := by
  have Fb : n * (yb - ya) + v * (yb - yp) - u * (yb - yq) = 0 := by grind
  have Fa : m * (yb - ya) - v * (yp - ya) + u * (yq - ya) = 0 := by grind
  have z1 : 0 < yb - ya := by grind
  have z2 : 0 < yb - yp := by grind
  have z3 : 0 < yb - yq := by grind
  have z4 : 0 ≤ yp - ya := by grind
  have z5 : 0 ≤ yq - ya := by grind
  have hm0 : opq u v → m ≠ 0 := by
    intro ho hm
    subst hm
    have e5 : v * (yp - ya) = 0 ∧ u * (yq - ya) = 0 := by
      rcases ho with ⟨a, b⟩ | ⟨a, b⟩
      · have e1 := Rat.mul_nonneg (Rat.le_of_lt b) z4
        have e2 := rat_mul_nz (Rat.le_of_lt a) z5
        exact ⟨by grind, by grind⟩
      · have e1 := rat_mul_nz (Rat.le_of_lt b) z4
        have e2 := Rat.mul_nonneg (Rat.le_of_lt a) z5
        exact ⟨by grind, by grind⟩
    have e7 : yp = ya := by rcases Rat.mul_eq_zero.mp e5.1 with q | q <;> grind
    have e8 : yq = ya := by rcases Rat.mul_eq_zero.mp e5.2 with q | q <;> grind
    exact h6 e7 e8 (by grind) ho
  rcases rat_tri u with u1 | u1 | u1
  · rcases rat_tri v with v1 | v1 | v1
    · exact ⟨fun h => by have := h.1; unfold opq at this; grind, fun h => by grind⟩
    · exact absurd v1 hv
    · have hm0 := hm0 (Or.inl ⟨u1, v1⟩)
      have e1 := Rat.mul_pos v1 z2
      have e2 := rat_mul_np u1 z3
      have hn : n < 0 := rat_neg_of_mul (Rat.le_of_lt z1) (by grind)
      have e3 := Rat.mul_nonneg (Rat.le_of_lt v1) z4
      have e4 := rat_mul_nz (Rat.le_of_lt u1) z5
      have hm : 0 < m := by
        rcases rat_tri m with q | q | q
        · have := rat_mul_np q z1; grind
        · exact absurd q hm0
        · exact q
      exact ⟨fun _ => by grind, fun _ => ⟨Or.inl ⟨u1, v1⟩, Or.inr ⟨hm, hn⟩⟩⟩
  · exact absurd u1 hu
  · rcases rat_tri v with v1 | v1 | v1
    · have hm0 := hm0 (Or.inr ⟨u1, v1⟩)
      have e1 := rat_mul_np v1 z2
      have e2 := Rat.mul_pos u1 z3
      have hn : 0 < n := rat_pos_of_mul (Rat.le_of_lt z1) (by grind)
      have e3 := rat_mul_nz (Rat.le_of_lt v1) z4
      have e4 := Rat.mul_nonneg (Rat.le_of_lt u1) z5
      have hm : m < 0 := by
        rcases rat_tri m with q | q | q
        · exact q
        · exact absurd q hm0
        · have := Rat.mul_pos q z1; grind
      exact ⟨fun _ => by grind, fun _ => ⟨Or.inr ⟨u1, v1⟩, Or.inl ⟨hm, hn⟩⟩⟩
    · exact absurd v1 hv
    · exact ⟨fun h => by have := h.1; unfold opq at this; grind, fun h => by grind⟩
theorem strip6 {ya yb yp yq u v m n : Rat} (R1 : u + m = v + n) (R2 : n * ya - m * yb + v * yp - u * yq = 0)
    (h3 : yp < ya) (h4 : ya ≤ yq) (h5 : yq < yb) (hv : v ≠ 0) (hm : m ≠ 0) : (opq u v ∧ opq m n) ↔ ((0 < v) ↔ ¬ (m < 0)) := by
  have Fb : n * (yb - ya) + v * (yb - yp) - u * (yb - yq) = 0 := by grind
  have Fa : m * (yb - ya) + v * (ya - yp) + u * (yq - ya) = 0 := by grind
  have Fq : v * (yq - yp) + n * (yq - ya) + m * (yb - yq) = 0 := by grind
  have z1 : 0 < yb - ya := by grind
  have z2 : 0 < yb - yp := by grind
  have z3 : 0 < yb - yq := by grind
  have z4 : 0 < ya - yp := by grind
  have z5 : 0 ≤ yq - ya := by grind
  have z6 : 0 < yq - yp := by grind
  rcases rat_tri v with v1 | v1 | v1
  · rcases rat_tri m with m1 | m1 | m1
    · have e1 := rat_mul_np m1 z1
      have e2 := rat_mul_np v1 z4
      have hu : 0 < u := rat_pos_of_mul z5 (by grind)
      have e3 := rat_mul_np v1 z6
      have e4 := rat_mul_np m1 z3
      have hn : 0 < n := rat_pos_of_mul z5 (by grind)
      exact ⟨fun _ => by grind, fun _ => ⟨Or.inr ⟨hu, v1⟩, Or.inl ⟨m1, hn⟩⟩⟩
    · exact absurd m1 hm
    · refine ⟨?_, fun h => by grind⟩
      rintro ⟨a, b⟩
      exfalso
      have hu : 0 < u := by unfold opq at a; grind
      have hn : n < 0 := by unfold opq at b; grind
      have e1 := rat_mul_np hn z1
      have e2 := rat_mul_np v1 z2
      have e3 := Rat.mul_pos hu z3
      grind
  · exact absurd v1 hv
  · rcases rat_tri m with m1 | m1 | m1
    · refine ⟨?_, fun h => by grind⟩
      rintro ⟨a, b⟩
      exfalso
      have hu : u < 0 := by unfold opq at a; grind
      have hn : 0 < n := by unfold opq at b; grind
      have e1 := Rat.mul_pos hn z1
      have e2 := Rat.mul_pos v1 z2
      have e3 := rat_mul_np hu z3
      grind
    · exact absurd m1 hm
    · have e1 := Rat.mul_pos m1 z1
      have e2 := Rat.mul_pos v1 z4
      have hu : u < 0 := rat_neg_of_mul z5 (by grind)
      have e3 := Rat.mul_pos v1 z6
      have e4 := Rat.mul_pos m1 z3
      have hn : n < 0 := rat_neg_of_mul z5 (by grind)
      exact ⟨fun _ => by grind, fun _ => ⟨Or.inl ⟨hu, v1⟩, Or.inr ⟨m1, hn⟩⟩⟩
def crX (a b p : Pt) : Bool := decide (crXp a b p)
def crL (p q v : Pt) : Bool := decide (crLp p q v)
def pX (a b p q : Pt) : Bool := decide (pXp a b p q)
def onB (a b p : Pt) : Bool := decide (onS a b p)
theorem ori_swap (a b p : Pt) : ori b a p = -ori a b p := by unfold ori; grind
theorem opq_neg {x y : Rat} : opq (-x) (-y) ↔ opq x y := by unfold opq; grind
theorem opq_comm {x y : Rat} : opq y x ↔ opq x y := by unfold opq; grind
theorem crX_swap (a b p : Pt) : crX b a p = crX a b p := by
  unfold crX crXp
  rw [ori_swap]
  apply decide_eq_decide.mpr
  grind
theorem crL_swap (p q v : Pt) : crL q p v = crL p q v := by
  unfold crL crLp
  rw [ori_swap]
  apply decide_eq_decide.mpr
  grind
theorem pX_swap (a b p q : Pt) : pX b a p q = pX a b p q := by
  unfold pX pXp
  apply decide_eq_decide.mpr
  rw [ori_swap a b p, ori_swap a b q, opq_neg, opq_comm (x := ori p q a)]
theorem pX_swap2 (a b p q : Pt) : pX a b q p = pX a b p q := by
  unfold pX pXp
  apply decide_eq_decide.mpr
  rw [ori_swap p q a, ori_swap p q b, opq_neg, opq_comm (x := ori a b p)]
theorem pX_sym (a b p q : Pt) : pX p q a b = pX a b p q := by
  unfold pX pXp
  apply decide_eq_decide.mpr
  exact ⟨fun h => ⟨h.2, h.1⟩, fun h => ⟨h.2, h.1⟩⟩
theorem onS_swap (a b p : Pt) : onS b a p ↔ onS a b p := by
  unfold onS bt
  rw [ori_swap]
  grind
theorem onB_swap (a b p : Pt) : onB b a p = onB a b p := decide_eq_decide.mpr (onS_swap a b p)
theorem dec_xor {X A B : Prop} [Decidable X] [Decidable A] [Decidable B] (h : X ↔ (A ↔ ¬ B)) : decide X = (decide A ^^ decide B) := by
  by_cases ha : A <;> by_cases hb : B <;> simp_all
theorem on_height {a b p : Pt} (h0 : ori a b p = 0) (h1 : a.2 ≤ p.2) (h2 : p.2 ≤ b.2) (h3 : a.2 < b.2) : onS a b p := by
  refine ⟨?_, Or.inl ⟨h1, h2⟩, h0⟩
  unfold ori at h0
  have z : 0 < b.2 - a.2 := by grind
  rcases Rat.le_total (a := a.1) (b := b.1) with q | q
  · have e1 := Rat.mul_nonneg (show 0 ≤ b.1 - a.1 by grind) (show 0 ≤ p.2 - a.2 by grind)
    have e2 := Rat.mul_nonneg (show 0 ≤ b.1 - a.1 by grind) (show 0 ≤ b.2 - p.2 by grind)
    refine Or.inl ⟨?_, ?_⟩
    · apply Rat.not_lt.mp; intro w
      have := rat_mul_np (show p.1 - a.1 < 0 by grind) z
      grind
    · apply Rat.not_lt.mp; intro w
      have := rat_mul_np (show b.1 - p.1 < 0 by grind) z
      grind
  · have e1 := Rat.mul_nonneg (show 0 ≤ a.1 - b.1 by grind) (show 0 ≤ p.2 - a.2 by grind)
    have e2 := Rat.mul_nonneg (show 0 ≤ a.1 - b.1 by grind) (show 0 ≤ b.2 - p.2 by grind)
    refine Or.inr ⟨?_, ?_⟩
    · apply Rat.not_lt.mp; intro w
      have := rat_mul_np (show p.1 - b.1 < 0 by grind) z
      grind
    · apply Rat.not_lt.mp; intro w
      have := rat_mul_np (show a.1 - p.1 < 0 by grind) z
      grind
theorem crX_le {a b p : Pt} (h : a.2 ≤ b.2) : crX a b p = decide (a.2 ≤ p.2 ∧ p.2 < b.2 ∧ 0 < ori a b p) := decide_eq_decide.mpr (by unfold crXp; grind)
theorem crL_le {p q v : Pt} (h : p.2 ≤ q.2) : crL p q v = decide (p.2 < v.2 ∧ v.2 ≤ q.2 ∧ ori p q v < 0) := decide_eq_decide.mpr (by unfold crLp; grind)
theorem strip_le {a b p q : Pt} (hab : a.2 ≤ b.2) (hpq : p.2 ≤ q.2) (hA : ¬ onS p q a) (hB : ¬ onS p q b) (hP : ¬ onS a b p) (hQ : ¬ onS a b q) :
    (crX a b p ^^ crX a b q ^^ pX a b p q) = (crL p q a ^^ crL p q b) := by
  have R1 : ori a b p + ori p q a = ori a b q + ori p q b := by unfold ori; grind
  have R2 : ori p q b * a.2 - ori p q a * b.2 + ori a b q * p.2 - ori a b p * q.2 = 0 := by unfold ori; grind
  have N1 : crX a b p = decide (a.2 ≤ p.2 ∧ p.2 < b.2 ∧ 0 < ori a b p) := crX_le hab
  have N2 : crX a b q = decide (a.2 ≤ q.2 ∧ q.2 < b.2 ∧ 0 < ori a b q) := crX_le hab
  have N3 : crL p q a = decide (p.2 < a.2 ∧ a.2 ≤ q.2 ∧ ori p q a < 0) := crL_le hpq
  have N4 : crL p q b = decide (p.2 < b.2 ∧ b.2 ≤ q.2 ∧ ori p q b < 0) := crL_le hpq
  have N5 : pX a b p q = decide (opq (ori a b p) (ori a b q) ∧ opq (ori p q a) (ori p q b)) := rfl
  have H1 : a.2 = b.2 → b.2 = p.2 → ori a b p = 0 := by intro h g; unfold ori; grind
  have H2 : a.2 = q.2 → b.2 = q.2 → p.2 < q.2 → ¬ opq (ori p q a) (ori p q b) := by
    intro h g k ho
    apply hQ
    have e1 : ori p q a = (q.1 - a.1) * (q.2 - p.2) := by unfold ori; grind
    have e2 : ori p q b = (q.1 - b.1) * (q.2 - p.2) := by unfold ori; grind
    have z : 0 ≤ q.2 - p.2 := by grind
    refine ⟨?_, Or.inl ⟨by grind, by grind⟩, by unfold ori; grind⟩
    rcases ho with ⟨x, y⟩ | ⟨x, y⟩
    · rw [e1] at x; rw [e2] at y
      have x := rat_neg_of_mul z x
      have y := rat_pos_of_mul z y
      unfold bt; grind
    · rw [e1] at x; rw [e2] at y
      have x := rat_pos_of_mul z x
      have y := rat_neg_of_mul z y
      unfold bt; grind
  have H3 : p.2 = a.2 → q.2 = a.2 → a.2 < b.2 → ¬ opq (ori a b p) (ori a b q) := by
    intro h g k ho
    apply hA
    have e1 : ori a b p = (a.1 - p.1) * (b.2 - a.2) := by unfold ori; grind
    have e2 : ori a b q = (a.1 - q.1) * (b.2 - a.2) := by unfold ori; grind
    have z : 0 ≤ b.2 - a.2 := by grind
    refine ⟨?_, Or.inl ⟨by grind, by grind⟩, by unfold ori; grind⟩
    rcases ho with ⟨x, y⟩ | ⟨x, y⟩
    · rw [e1] at x; rw [e2] at y
      have x := rat_neg_of_mul z x
      have y := rat_pos_of_mul z y
      unfold bt; grind
    · rw [e1] at x; rw [e2] at y
      have x := rat_pos_of_mul z x
      have y := rat_neg_of_mul z y
      unfold bt; grind
  have E_P : a.2 ≤ p.2 → p.2 < b.2 → ori a b p ≠ 0 := fun h g k => hP (on_height k h (by grind) (by grind))
  have E_Q : a.2 ≤ q.2 → q.2 < b.2 → ori a b q ≠ 0 := fun h g k => hQ (on_height k h (by grind) (by grind))
  have E_A : p.2 < a.2 → a.2 ≤ q.2 → ori p q a ≠ 0 := fun h g k => hA (on_height k (by grind) g (by grind))
  have E_B : p.2 < b.2 → b.2 ≤ q.2 → ori p q b ≠ 0 := fun h g k => hB (on_height k (by grind) g (by grind))
  have F (x y : Bool) : (false ^^ false ^^ (x ^^ y)) = (x ^^ y) := by cases x <;> cases y <;> rfl
  by_cases c1 : b.2 ≤ p.2
  · have hX := strip1 hab hpq R1 R2 H1 c1
    rw [N1, N2, N3, N4, N5, decide_eq_false hX, decide_eq_false (by grind), decide_eq_false (by grind), decide_eq_false (by grind), decide_eq_false (by grind)]; rfl
  by_cases c2 : q.2 < a.2
  · have hX := strip2 hab hpq R1 R2 c2
    rw [N1, N2, N3, N4, N5, decide_eq_false hX, decide_eq_false (by grind), decide_eq_false (by grind), decide_eq_false (by grind), decide_eq_false (by grind)]; rfl
  have c1 := Rat.not_le.mp c1
  have c2 := Rat.not_lt.mp c2
  by_cases c3 : a.2 ≤ p.2
  · by_cases c4 : b.2 ≤ q.2
    · have hX := dec_xor (strip4 R1 R2 c3 c1 c4 (E_P c3 c1) (E_B c1 c4))
      have M1 : crX a b p = decide (0 < ori a b p) := by rw [N1]; exact decide_eq_decide.mpr (by grind)
      have M2 : crX a b q = false := by rw [N2]; exact decide_eq_false (by grind)
      have M3 : crL p q a = false := by rw [N3]; exact decide_eq_false (by grind)
      have M4 : crL p q b = decide (ori p q b < 0) := by rw [N4]; exact decide_eq_decide.mpr (by grind)
      rw [M1, M2, M3, M4, N5, hX]
      cases decide (0 < ori a b p) <;> cases decide (ori p q b < 0) <;> rfl
    · have c4 := Rat.not_le.mp c4
      have hX := dec_xor (strip5 R1 R2 c3 hpq c4 (E_P c3 c1) (E_Q c2 c4) H3)
      have M1 : crX a b p = decide (0 < ori a b p) := by rw [N1]; exact decide_eq_decide.mpr (by grind)
      have M2 : crX a b q = decide (0 < ori a b q) := by rw [N2]; exact decide_eq_decide.mpr (by grind)
      have M3 : crL p q a = false := by rw [N3]; exact decide_eq_false (by grind)
      have M4 : crL p q b = false := by rw [N4]; exact decide_eq_false (by grind)
      rw [M1, M2, M3, M4, N5, hX]
      cases decide (0 < ori a b p) <;> cases decide (0 < ori a b q) <;> rfl
  · have c3 := Rat.not_le.mp c3
    by_cases c4 : b.2 ≤ q.2
    · have hX := dec_xor (strip3 hab R1 R2 H2 c3 c4 (E_A c3 c2) (E_B c1 c4))
      have M1 : crX a b p = false := by rw [N1]; exact decide_eq_false (by grind)
      have M2 : crX a b q = false := by rw [N2]; exact decide_eq_false (by grind)
      have M3 : crL p q a = decide (ori p q a < 0) := by rw [N3]; exact decide_eq_decide.mpr (by grind)
      have M4 : crL p q b = decide (ori p q b < 0) := by rw [N4]; exact decide_eq_decide.mpr (by grind)
      rw [M1, M2, M3, M4, N5, hX]
      cases decide (ori p q a < 0) <;> cases decide (ori p q b < 0) <;> rfl
    · have c4 := Rat.not_le.mp c4
      have hX := dec_xor (strip6 R1 R2 c3 c2 c4 (E_Q c2 c4) (E_A c3 c2))
      have M1 : crX a b p = false := by rw [N1]; exact decide_eq_false (by grind)
      have M2 : crX a b q = decide (0 < ori a b q) := by rw [N2]; exact decide_eq_decide.mpr (by grind)
      have M3 : crL p q a = decide (ori p q a < 0) := by rw [N3]; exact decide_eq_decide.mpr (by grind)
      have M4 : crL p q b = false := by rw [N4]; exact decide_eq_false (by grind)
      rw [M1, M2, M3, M4, N5, hX]
      cases decide (0 < ori a b q) <;> cases decide (ori p q a < 0) <;> rfl
theorem bx_comm (x y z : Bool) : (y ^^ x ^^ z) = (x ^^ y ^^ z) := by cases x <;> cases y <;> cases z <;> rfl
/-- the strip between two places: of a segment that has neither, and no end of which lies between them -/
theorem strip {a b p q : Pt} (hA : ¬ onS p q a) (hB : ¬ onS p q b) (hP : ¬ onS a b p) (hQ : ¬ onS a b q) :
    (crX a b p ^^ crX a b q ^^ pX a b p q) = (crL p q a ^^ crL p q b) := by
  rcases Rat.le_total (a := a.2) (b := b.2) with h | h <;> rcases Rat.le_total (a := p.2) (b := q.2) with g | g
  · exact strip_le h g hA hB hP hQ
  · have := strip_le h g (mt (onS_swap _ _ _).mp hA) (mt (onS_swap _ _ _).mp hB) hQ hP
    rw [pX_swap2, crL_swap p q a, crL_swap p q b, bx_comm] at this
    exact this
  · have := strip_le h g hB hA (mt (onS_swap _ _ _).mp hP) (mt (onS_swap _ _ _).mp hQ)
    rw [crX_swap a b p, crX_swap a b q, pX_swap, Bool.xor_comm (crL p q b)] at this
    exact this
  · have := strip_le h g (mt (onS_swap _ _ _).mp hB) (mt (onS_swap _ _ _).mp hA) (mt (onS_swap _ _ _).mp hQ) (mt (onS_swap _ _ _).mp hP)
    rw [crX_swap a b p, crX_swap a b q, pX_swap, pX_swap2, crL_swap p q a, crL_swap p q b, bx_comm, Bool.xor_comm (crL p q b)] at this
    exact this
/-- all on one line: nothing is crossed -/
theorem strip_line {a b p q : Pt} (h1 : ori a b p = 0) (h2 : ori a b q = 0) (h3 : ori p q a = 0) (h4 : ori p q b = 0) :
    (crX a b p ^^ crX a b q ^^ pX a b p q) = (crL p q a ^^ crL p q b) := by
  have n1 : crX a b p = false := decide_eq_false (by unfold crXp; grind)
  have n2 : crX a b q = false := decide_eq_false (by unfold crXp; grind)
  have n3 : crL p q a = false := decide_eq_false (by unfold crLp; grind)
  have n4 : crL p q b = false := decide_eq_false (by unfold crLp; grind)
  have n5 : pX a b p q = false := decide_eq_false (by unfold pXp opq; grind)
  rw [n1, n2, n3, n4, n5]; rfl
/-! odd or not, over a list -/
def par {α : Type} (f : α → Bool) : List α → Bool
  | [] => false
  | x :: l => f x ^^ par f l
theorem par_congr {α : Type} {f g : α → Bool} : ∀ {l : List α}, (∀ x ∈ l, f x = g x) → par f l = par g l
  | [], _ => rfl
  | x :: l, h => by
    show (f x ^^ par f l) = (g x ^^ par g l)
    rw [h x List.mem_cons_self, par_congr (fun y hy => h y (List.mem_cons_of_mem _ hy))]
theorem par_xor {α : Type} {f g : α → Bool} : ∀ l : List α, par (fun x => f x ^^ g x) l = (par f l ^^ par g l)
  | [] => rfl
  | x :: l => by
    show ((f x ^^ g x) ^^ par (fun x => f x ^^ g x) l) = ((f x ^^ par f l) ^^ (g x ^^ par g l))
    rw [par_xor l]
    cases f x <;> cases g x <;> cases par f l <;> cases par g l <;> rfl
theorem par_false {α : Type} {f : α → Bool} {l : List α} (h : ∀ x ∈ l, f x = false) : par f l = false := by
  rw [par_congr h]
  induction l with
  | nil => rfl
  | cons x l ih => show (false ^^ par _ l) = false; rw [ih (fun y hy => h y (List.mem_cons_of_mem _ hy))]; rfl
theorem par_append {α : Type} {f : α → Bool} : ∀ l k : List α, par f (l ++ k) = (par f l ^^ par f k)
  | [], k => by show par f k = (false ^^ par f k); cases par f k <;> rfl
  | x :: l, k => by
    show (f x ^^ par f (l ++ k)) = ((f x ^^ par f l) ^^ par f k)
    rw [par_append l k]
    cases f x <;> cases par f l <;> cases par f k <;> rfl
theorem par_map {α β : Type} {f : β → Bool} {e : α → β} : ∀ l : List α, par f (l.map e) = par (fun x => f (e x)) l
  | [] => rfl
  | x :: l => by show (f (e x) ^^ par f (l.map e)) = (f (e x) ^^ par _ l); rw [par_map l]
theorem par_any {α : Type} {f : α → Bool} : ∀ {l : List α}, par f l = true → ∃ x ∈ l, f x = true
  | [], h => by cases h
  | x :: l, h => by
    cases hx : f x
    · have h : (f x ^^ par f l) = true := h
      rw [hx] at h
      obtain ⟨y, hy, hf⟩ := par_any (l := l) (by simpa using h)
      exact ⟨y, List.mem_cons_of_mem _ hy, hf⟩
    · exact ⟨x, List.mem_cons_self, hx⟩
def crd (L : List Sq) (p : Pt) : Bool := par (fun s => crX s.1 s.2 p) L
def hav (L : List Sq) (p : Pt) : Bool := par (fun s => onB s.1 s.2 p) L
def closedL (L : List Sq) : Prop := ∀ g : Pt → Bool, par (fun s => g s.1 ^^ g s.2) L = false
theorem crd_move {L : List Sq} {p q : Pt} (hc : closedL L) (h : ∀ s ∈ L, (crX s.1 s.2 p ^^ crX s.1 s.2 q ^^ pX s.1 s.2 p q) = (crL p q s.1 ^^ crL p q s.2)) : (crd L p ^^ crd L q) = par (fun s => pX s.1 s.2 p q) L := by
  have h1 := par_congr h
  rw [hc (crL p q), par_xor, par_xor] at h1
  unfold crd
  revert h1
  cases par (fun s => crX s.1 s.2 p) L <;> cases par (fun s => crX s.1 s.2 q) L <;> cases par (fun s => pX s.1 s.2 p q) L <;> decide
