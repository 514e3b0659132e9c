/-! small steps: signs of a + r b for small r -/
abbrev lexp (a b : Rat) : Prop := 0 < a ∨ (a = 0 ∧ 0 < b)
theorem dec_iff {P Q : Prop} [Decidable P] [Decidable Q] (h : P ↔ Q) : decide P = decide Q := decide_eq_decide.mpr h
theorem small1 (a b : Rat) : ∃ ρ : Rat, 0 < ρ ∧ ∀ r, 0 < r → r < ρ → (0 < a + r * b ↔ lexp a b) ∧ (a + r * b < 0 ↔ lexp (-a) (-b)) := by
  rcases rat_tri a with h | h | h
  · rcases Rat.le_total (a := b) (b := 0) with q | q
    · refine ⟨1, by decide, fun r h1 h2 => ?_⟩
      have := rat_mul_zn (Rat.le_of_lt h1) q
      unfold lexp
      grind
    · have z : 0 < b + 1 := by grind
      refine ⟨(-a) / (b + 1), (Rat.lt_div_iff z).mpr (by grind), fun r h1 h2 => ?_⟩
      have e := (Rat.lt_div_iff z).mp h2
      unfold lexp
      grind
  · refine ⟨1, by decide, fun r h1 h2 => ?_⟩
    have f := Rat.mul_pos_iff_of_pos_left (b := b) h1
    have g := Rat.mul_neg_iff_of_pos_left (b := b) h1
    unfold lexp
    grind
  · rcases Rat.le_total (a := 0) (b := b) with q | q
    · refine ⟨1, by decide, fun r h1 h2 => ?_⟩
      have := Rat.mul_nonneg (Rat.le_of_lt h1) q
      unfold lexp
      grind
    · have z : 0 < -b + 1 := by grind
      refine ⟨a / (-b + 1), (Rat.lt_div_iff z).mpr (by grind), fun r h1 h2 => ?_⟩
      have e := (Rat.lt_div_iff z).mp h2
      unfold lexp
      grind
theorem small (l : List (Rat × Rat)) : ∃ ρ : Rat, 0 < ρ ∧ ∀ r, 0 < r → r < ρ → ∀ x ∈ l, (0 < x.1 + r * x.2 ↔ lexp x.1 x.2) ∧ (x.1 + r * x.2 < 0 ↔ lexp (-x.1) (-x.2)) := by
  induction l with
  | nil => exact ⟨1, by decide, fun _ _ _ x hx => by cases hx⟩
  | cons y l ih =>
    obtain ⟨ρ, h1, h2⟩ := ih
    obtain ⟨σ, g1, g2⟩ := small1 y.1 y.2
    rcases Rat.le_total (a := ρ) (b := σ) with q | q
    · refine ⟨ρ, h1, fun r a b x hx => ?_⟩
      rcases List.mem_cons.mp hx with e | e
      · rw [e]; exact g2 r a (by grind)
      · exact h2 r a b x e
    · refine ⟨σ, g1, fun r a b x hx => ?_⟩
      rcases List.mem_cons.mp hx with e | e
      · rw [e]; exact g2 r a b
      · exact h2 r a (by grind) x e
/-! a step from a place in a direction, and much less in another one -/
def gB (h y dv lv : Rat) : Bool := if h ≠ y then decide (y < h) else if dv ≠ 0 then decide (dv < 0) else decide (lv < 0)
def gPos (x y z : Rat) : Bool := decide (0 < x ∨ (x = 0 ∧ (0 < y ∨ (y = 0 ∧ 0 < z))))
def crs (d e : Pt) : Rat := d.1 * e.2 - d.2 * e.1
def dir (s : Sq) : Pt := (s.2.1 - s.1.1, s.2.2 - s.1.2)
def gOdd (s : Sq) (v d l : Pt) : Bool := (gB s.1.2 v.2 d.2 l.2 != gB s.2.2 v.2 d.2 l.2) && (gPos (ori s.1 s.2 v) (crs (dir s) d) (crs (dir s) l) == gB s.2.2 v.2 d.2 l.2)
/-- what is asked of a small step r from v in direction d, of one segment -/
def smallFor (s : Sq) (v d : Pt) : List (Rat × Rat) := [(s.1.2 - v.2, -d.2), (s.2.2 - v.2, -d.2), (ori s.1 s.2 v, crs (dir s) d)]
def isSmall (s : Sq) (v d : Pt) (r : Rat) : Prop := 0 < r ∧ ∀ x ∈ smallFor s v d, (0 < x.1 + r * x.2 ↔ lexp x.1 x.2) ∧ (x.1 + r * x.2 < 0 ↔ lexp (-x.1) (-x.2))
def goP (v d : Pt) (r : Rat) : Pt := (v.1 + r * d.1, v.2 + r * d.2)
theorem ori_go (s : Sq) (v d : Pt) (r : Rat) : ori s.1 s.2 (goP v d r) = ori s.1 s.2 v + r * crs (dir s) d := by
  unfold ori goP crs dir; grind
theorem isSmall_ori {s : Sq} {v d : Pt} {r : Rat} (h : isSmall s v d r) : (0 < ori s.1 s.2 (goP v d r) ↔ lexp (ori s.1 s.2 v) (crs (dir s) d)) ∧ (ori s.1 s.2 (goP v d r) < 0 ↔ lexp (-ori s.1 s.2 v) (-crs (dir s) d)) := by
  rw [ori_go]
  exact h.2 (ori s.1 s.2 v, crs (dir s) d) (by simp [smallFor])
theorem isSmall_y1 {s : Sq} {v d : Pt} {r : Rat} (h : isSmall s v d r) : ((goP v d r).2 < s.1.2 ↔ lexp (s.1.2 - v.2) (-d.2)) ∧ (s.1.2 < (goP v d r).2 ↔ lexp (-(s.1.2 - v.2)) d.2) := by
  have := h.2 (s.1.2 - v.2, -d.2) (by simp [smallFor])
  have e : (goP v d r).2 = v.2 + r * d.2 := rfl
  unfold lexp at this ⊢
  grind
theorem isSmall_y2 {s : Sq} {v d : Pt} {r : Rat} (h : isSmall s v d r) : ((goP v d r).2 < s.2.2 ↔ lexp (s.2.2 - v.2) (-d.2)) ∧ (s.2.2 < (goP v d r).2 ↔ lexp (-(s.2.2 - v.2)) d.2) := by
  have := h.2 (s.2.2 - v.2, -d.2) (by simp [smallFor])
  have e : (goP v d r).2 = v.2 + r * d.2 := rfl
  unfold lexp at this ⊢
  grind
theorem gB_low {s : Sq} {v d l : Pt} {r : Rat} (h : isSmall s v d r) (hl : d.2 ≠ 0 ∨ 0 ≤ l.2) : gB s.1.2 v.2 d.2 l.2 = decide ((goP v d r).2 < s.1.2) := by
  rw [dec_iff (isSmall_y1 h).1]
  unfold gB lexp
  split
  · exact decide_eq_decide.mpr (by grind)
  · split
    · exact decide_eq_decide.mpr (by grind)
    · rw [decide_eq_false (by grind), decide_eq_false (by grind)]
theorem gB_high {s : Sq} {v d l : Pt} {r : Rat} (h : isSmall s v d r) (hl : d.2 ≠ 0 ∨ 0 ≤ l.2) : gB s.2.2 v.2 d.2 l.2 = decide ((goP v d r).2 < s.2.2) := by
  rw [dec_iff (isSmall_y2 h).1]
  unfold gB lexp
  split
  · exact decide_eq_decide.mpr (by grind)
  · split
    · exact decide_eq_decide.mpr (by grind)
    · rw [decide_eq_false (by grind), decide_eq_false (by grind)]
/-- off the line of a segment -/
theorem gOdd_off {s : Sq} {v d l : Pt} {r : Rat} (h : isSmall s v d r) (hl : d.2 ≠ 0 ∨ 0 ≤ l.2) (ho : ori s.1 s.2 (goP v d r) ≠ 0) : gOdd s v d l = crX s.1 s.2 (goP v d r) := by
  unfold gOdd
  rw [gB_low h hl, gB_high h hl]
  have hp := isSmall_ori h
  have e : gPos (ori s.1 s.2 v) (crs (dir s) d) (crs (dir s) l) = decide (0 < ori s.1 s.2 (goP v d r)) := by
    rw [dec_iff hp.1]
    unfold gPos
    apply decide_eq_decide.mpr
    unfold lexp at hp ⊢
    grind
  rw [e]
  unfold crX crXp
  by_cases a : (goP v d r).2 < s.1.2 <;> by_cases b : (goP v d r).2 < s.2.2
  · rw [decide_eq_true a, decide_eq_true b]; exact (decide_eq_false (by grind)).symm
  · rw [decide_eq_true a, decide_eq_false b]
    by_cases c : 0 < ori s.1 s.2 (goP v d r)
    · rw [decide_eq_true c, decide_eq_false (by grind)]; rfl
    · rw [decide_eq_false c, decide_eq_true (by grind)]; rfl
  · rw [decide_eq_false a, decide_eq_true b]
    by_cases c : 0 < ori s.1 s.2 (goP v d r)
    · rw [decide_eq_true c, decide_eq_true (by grind)]; rfl
    · rw [decide_eq_false c, decide_eq_false (by grind)]; rfl
  · rw [decide_eq_false a, decide_eq_false b]; exact (decide_eq_false (by grind)).symm
theorem crX_line {a b p : Pt} (h : ori a b p = 0) : crX a b p = false := decide_eq_false (by unfold crXp; grind)
theorem onB_off {a b p : Pt} (h : ori a b p ≠ 0) : onB a b p = false := decide_eq_false (fun q => h q.2.2)
/-- on the line of a segment that isn't level: has it, or not -/
theorem lex0 {s : Sq} {v d : Pt} {r : Rat} (h : isSmall s v d r) (ho : ori s.1 s.2 (goP v d r) = 0) : ori s.1 s.2 v = 0 ∧ crs (dir s) d = 0 := by
  have hp := isSmall_ori h
  unfold lexp at hp
  grind
theorem slant {s : Sq} {d : Pt} (hs : ndg s) (hd : d.2 ≠ 0) (hc : crs (dir s) d = 0) : s.1.2 ≠ s.2.2 := by
  intro q
  rcases hs with w | w
  · unfold crs dir at hc
    have e : (s.2.1 - s.1.1) * d.2 = 0 := by grind
    rcases Rat.mul_eq_zero.mp e with z | z <;> grind
  · exact w q
theorem onB_slant {s : Sq} {v d : Pt} {r : Rat} (hs : ndg s) (hd : d.2 ≠ 0) (h : isSmall s v d r) (ho : ori s.1 s.2 (goP v d r) = 0) : onB s.1 s.2 (goP v d r) = (decide ((goP v d r).2 < s.1.2) != decide ((goP v d r).2 < s.2.2)) := by
  have hz := lex0 h ho
  have hn := slant hs hd hz.2
  have n1 : (goP v d r).2 ≠ s.1.2 := by
    have := isSmall_y1 h
    unfold lexp at this
    grind
  have n2 : (goP v d r).2 ≠ s.2.2 := by
    have := isSmall_y2 h
    unfold lexp at this
    grind
  by_cases a : (goP v d r).2 < s.1.2 <;> by_cases b : (goP v d r).2 < s.2.2
  · rw [decide_eq_true a, decide_eq_true b]
    exact decide_eq_false (fun q => by have := q.2.1; unfold bt at this; grind)
  · rw [decide_eq_true a, decide_eq_false b]
    exact decide_eq_true ((onS_swap _ _ _).mp (on_height (by rw [ori_swap, ho]; grind) (by grind) (by grind) (by grind)))
  · rw [decide_eq_false a, decide_eq_true b]
    exact decide_eq_true (on_height ho (by grind) (by grind) (by grind))
  · rw [decide_eq_false a, decide_eq_false b]
    exact decide_eq_false (fun q => by have := q.2.1; unfold bt at this; grind)
theorem level {s : Sq} {v d : Pt} {r : Rat} (hdd : d.1 ≠ 0 ∨ d.2 ≠ 0) (h : isSmall s v d r) (ho : ori s.1 s.2 (goP v d r) = 0) (hd : d.2 = 0) : s.1.2 = s.2.2 := by
  have hz := lex0 h ho
  have e : (s.2.2 - s.1.2) * d.1 = 0 := by have := hz.2; unfold crs dir at this; grind
  rcases Rat.mul_eq_zero.mp e with z | z
  · grind
  · grind
/-- without a lean, of a segment that doesn't go along -/
theorem gOdd_none {s : Sq} {v d : Pt} {r : Rat} (hs : ndg s) (hdd : d.1 ≠ 0 ∨ d.2 ≠ 0) (h : isSmall s v d r) (hn : onB s.1 s.2 (goP v d r) = false) : gOdd s v d (0, 0) = crX s.1 s.2 (goP v d r) := by
  by_cases ho : ori s.1 s.2 (goP v d r) = 0
  · rw [crX_line ho]
    unfold gOdd
    rw [gB_low h (Or.inr (by decide)), gB_high h (Or.inr (by decide))]
    by_cases hd : d.2 = 0
    · rw [level hdd h ho hd]; simp
    · rw [onB_slant hs hd h ho] at hn
      rw [hn]; rfl
  · exact gOdd_off h (Or.inr (by decide)) ho
/-- from a place that a segment doesn't have, with no step at all -/
theorem gOdd_zero {s : Sq} {v : Pt} (hn : ¬ onS s.1 s.2 v) : gOdd s v (0, 0) (0, 0) = crX s.1 s.2 v := by
  have e1 : gB s.1.2 v.2 0 0 = decide (v.2 < s.1.2) := by
    unfold gB; split
    · rfl
    · simp; grind
  have e2 : gB s.2.2 v.2 0 0 = decide (v.2 < s.2.2) := by
    unfold gB; split
    · rfl
    · simp; grind
  unfold gOdd
  show ((gB s.1.2 v.2 0 0 != gB s.2.2 v.2 0 0) && (gPos (ori s.1 s.2 v) (crs (dir s) (0, 0)) (crs (dir s) (0, 0)) == gB s.2.2 v.2 0 0)) = _
  have e3 : crs (dir s) (0, 0) = 0 := by unfold crs; grind
  have e4 : gPos (ori s.1 s.2 v) (crs (dir s) (0, 0)) (crs (dir s) (0, 0)) = decide (0 < ori s.1 s.2 v) := by
    rw [e3]; unfold gPos; exact decide_eq_decide.mpr (by grind)
  rw [e1, e2, e4]
  unfold crX crXp
  by_cases a : v.2 < s.1.2 <;> by_cases b : v.2 < s.2.2
  · rw [decide_eq_true a, decide_eq_true b]; exact (decide_eq_false (by grind)).symm
  · have ho : ori s.1 s.2 v ≠ 0 := fun q => hn ((onS_swap _ _ _).mp (on_height (by rw [ori_swap, q]; grind) (by grind) (by grind) (by grind)))
    rw [decide_eq_true a, decide_eq_false b]
    by_cases c : 0 < ori s.1 s.2 v
    · rw [decide_eq_true c, decide_eq_false (by grind)]; rfl
    · rw [decide_eq_false c, decide_eq_true (by grind)]; rfl
  · have ho : ori s.1 s.2 v ≠ 0 := fun q => hn (on_height q (by grind) (by grind) (by grind))
    rw [decide_eq_false a, decide_eq_true b]
    by_cases c : 0 < ori s.1 s.2 v
    · rw [decide_eq_true c, decide_eq_true (by grind)]; rfl
    · rw [decide_eq_false c, decide_eq_false (by grind)]; rfl
  · rw [decide_eq_false a, decide_eq_false b]; exact (decide_eq_false (by grind)).symm
/-- the lean to a side: σ is 1 (left) or -1 (right) -/
def leanOf (d : Pt) (σ : Rat) : Pt := (-σ * d.2, σ * d.1)
/-- the side that a line straight to the right leaves out what goes along -/
abbrev isFirst (d : Pt) (σ : Rat) : Prop := (d.2 ≠ 0 ∧ σ * d.2 < 0) ∨ (d.2 = 0 ∧ 0 < σ * d.1)
theorem lean_sign {s : Sq} {d : Pt} {σ : Rat} (hc : crs (dir s) d = 0) : d.2 * crs (dir s) (leanOf d σ) = σ * ((s.2.2 - s.1.2) * (d.1 * d.1 + d.2 * d.2)) := by
  unfold crs dir leanOf at *
  grind
theorem sq_pos {d : Pt} (h : d.2 ≠ 0) : 0 < d.1 * d.1 + d.2 * d.2 := by
  have e1 : 0 ≤ d.1 * d.1 := by
    rcases Rat.le_total (a := 0) (b := d.1) with q | q
    · exact Rat.mul_nonneg q q
    · exact rat_mul_zz q q
  have e2 : 0 < d.2 * d.2 := by
    rcases rat_tri d.2 with q | q | q
    · exact rat_mul_nn q q
    · exact absurd q h
    · exact Rat.mul_pos q q
  grind
theorem pos_iff_mul {x y z : Rat} (h : x * y = z) (hx : 0 < x) : (0 < y ↔ 0 < z) := by rw [← h]; exact (Rat.mul_pos_iff_of_pos_left hx).symm
theorem pos_iff_mul2 {x y z : Rat} (h : x * y = z) (hx : x < 0) : (0 < y ↔ z < 0) := by
  have e : (-x) * y = -z := by grind
  have := pos_iff_mul e (by grind)
  grind
/-- on the line of a slanting segment, with a lean -/
theorem gOdd_slant {s : Sq} {v d : Pt} {r σ : Rat} (hs : ndg s) (hd : d.2 ≠ 0) (h : isSmall s v d r) (ho : ori s.1 s.2 (goP v d r) = 0) (hσ : σ ≠ 0) : gOdd s v d (leanOf d σ) = (onB s.1 s.2 (goP v d r) && decide (0 < σ * d.2)) := by
  have hz := lex0 h ho
  unfold gOdd
  rw [gB_low h (Or.inl hd), gB_high h (Or.inl hd), onB_slant hs hd h ho]
  have e : gPos (ori s.1 s.2 v) (crs (dir s) d) (crs (dir s) (leanOf d σ)) = decide (0 < crs (dir s) (leanOf d σ)) := by
    unfold gPos; rw [hz.1, hz.2]; exact decide_eq_decide.mpr (by grind)
  rw [e]
  have hl := lean_sign (σ := σ) hz.2
  have hN := sq_pos hd
  by_cases a : (goP v d r).2 < s.1.2 <;> by_cases b : (goP v d r).2 < s.2.2
  · rw [decide_eq_true a, decide_eq_true b]; rfl
  · rw [decide_eq_true a, decide_eq_false b]
    have k : s.2.2 - s.1.2 < 0 := by grind
    have k2 := rat_mul_np k hN
    have key : (0 < crs (dir s) (leanOf d σ)) ↔ ¬ (0 < σ * d.2) := by
      rcases rat_tri d.2 with q | q | q
      · rw [pos_iff_mul2 hl q]
        rcases rat_tri σ with w | w | w
        · have z1 := rat_mul_nn w k2; have z2 := rat_mul_nn w q; grind
        · exact absurd w hσ
        · have z1 := rat_mul_pn w k2; have z2 := rat_mul_pn w q; grind
      · exact absurd q hd
      · rw [pos_iff_mul hl q]
        rcases rat_tri σ with w | w | w
        · have z1 := rat_mul_nn w k2; have z2 := rat_mul_np w q; grind
        · exact absurd w hσ
        · have z1 := rat_mul_pn w k2; have z2 := Rat.mul_pos w q; grind
    by_cases c : 0 < σ * d.2
    · rw [decide_eq_true c, decide_eq_false (by grind)]; rfl
    · rw [decide_eq_false c, decide_eq_true (by grind)]; rfl
  · rw [decide_eq_false a, decide_eq_true b]
    have k : 0 < s.2.2 - s.1.2 := by grind
    have k2 := Rat.mul_pos k hN
    have key : (0 < crs (dir s) (leanOf d σ)) ↔ (0 < σ * d.2) := by
      rcases rat_tri d.2 with q | q | q
      · rw [pos_iff_mul2 hl q]
        rcases rat_tri σ with w | w | w
        · have z1 := rat_mul_np w k2; have z2 := rat_mul_nn w q; grind
        · exact absurd w hσ
        · have z1 := Rat.mul_pos w k2; have z2 := rat_mul_pn w q; grind
      · exact absurd q hd
      · rw [pos_iff_mul hl q]
        rcases rat_tri σ with w | w | w
        · have z1 := rat_mul_np w k2; have z2 := rat_mul_np w q; grind
        · exact absurd w hσ
        · have z1 := Rat.mul_pos w k2; have z2 := Rat.mul_pos w q; grind
    by_cases c : 0 < σ * d.2
    · rw [decide_eq_true c, decide_eq_true (by grind)]; rfl
    · rw [decide_eq_false c, decide_eq_false (by grind)]; rfl
  · rw [decide_eq_false a, decide_eq_false b]; rfl
/-- the first side: what goes along is left out -/
theorem gOdd_first {s : Sq} {v d : Pt} {r σ : Rat} (hs : ndg s) (h : isSmall s v d r) (hσ : σ ≠ 0) (hf : isFirst d σ) : gOdd s v d (leanOf d σ) = crX s.1 s.2 (goP v d r) := by
  have hl : d.2 ≠ 0 ∨ 0 ≤ (leanOf d σ).2 := by
    rcases hf with ⟨a, b⟩ | ⟨a, b⟩
    · exact Or.inl a
    · exact Or.inr (Rat.le_of_lt b)
  by_cases ho : ori s.1 s.2 (goP v d r) = 0
  · rw [crX_line ho]
    by_cases hd : d.2 = 0
    · have hdd : d.1 ≠ 0 ∨ d.2 ≠ 0 := by
        rcases hf with ⟨a, b⟩ | ⟨a, b⟩
        · exact Or.inr a
        · refine Or.inl (fun q => ?_)
          rw [q] at b; grind
      unfold gOdd
      rw [gB_low h hl, gB_high h hl, level hdd h ho hd]; simp
    · rw [gOdd_slant hs hd h ho hσ, decide_eq_false (by unfold isFirst at hf; grind)]
      cases onB s.1 s.2 (goP v d r) <;> rfl
  · exact gOdd_off h hl ho
/-- the other side of a slanting direction -/
theorem gOdd_other {s : Sq} {v d : Pt} {r σ : Rat} (hs : ndg s) (h : isSmall s v d r) (hσ : σ ≠ 0) (hd : d.2 ≠ 0) (hf : ¬ isFirst d σ) : gOdd s v d (leanOf d σ) = (crX s.1 s.2 (goP v d r) ^^ onB s.1 s.2 (goP v d r)) := by
  by_cases ho : ori s.1 s.2 (goP v d r) = 0
  · have hp : 0 < σ * d.2 := by
      rcases rat_tri (σ * d.2) with q | q | q
      · exact absurd (Or.inl ⟨hd, q⟩) hf
      · rcases Rat.mul_eq_zero.mp q with w | w
        · exact absurd w hσ
        · exact absurd w hd
      · exact q
    rw [crX_line ho, gOdd_slant hs hd h ho hσ, decide_eq_true hp]
    cases onB s.1 s.2 (goP v d r) <;> rfl
  · rw [gOdd_off h (Or.inl hd) ho, onB_off ho]
    cases crX s.1 s.2 (goP v d r) <;> rfl
/-- the other side of a level direction: what lies on the line to the right -/
def onRay (p v : Pt) : Bool := decide (v.2 = p.2 ∧ p.1 < v.1)
theorem gB_down {h y lv : Rat} (hl : lv < 0) : gB h y 0 lv = decide (y ≤ h) := by
  unfold gB; split
  · exact decide_eq_decide.mpr (by grind)
  · simp
    exact ⟨fun _ => by grind, fun _ => hl⟩
theorem gOdd_level {s : Sq} {v d : Pt} {r σ : Rat} (hs : ndg s) (h : isSmall s v d r) (hd : d.2 = 0) (hf : σ * d.1 < 0) (hp : onS s.1 s.2 (goP v d r) → crs (dir s) d = 0) (hA : goP v d r ≠ s.1) (hB : goP v d r ≠ s.2) :
    gOdd s v d (leanOf d σ) = ((crX s.1 s.2 (goP v d r) ^^ onB s.1 s.2 (goP v d r)) ^^ (onRay (goP v d r) s.1 ^^ onRay (goP v d r) s.2)) := by
  have hdd : d.1 ≠ 0 ∨ d.2 ≠ 0 := by
    refine Or.inl (fun q => ?_)
    rw [q] at hf; grind
  have hy : (goP v d r).2 = v.2 := by show v.2 + r * d.2 = v.2; rw [hd]; grind
  have eo : gOdd s v d (leanOf d σ) = ((decide (v.2 ≤ s.1.2) != decide (v.2 ≤ s.2.2)) && (gPos (ori s.1 s.2 v) (crs (dir s) d) (crs (dir s) (leanOf d σ)) == decide (v.2 ≤ s.2.2))) := by
    unfold gOdd
    rw [hd, gB_down (show (leanOf d σ).2 < 0 from hf), gB_down (show (leanOf d σ).2 < 0 from hf)]
  rw [eo, ← hy]
  have hsm := isSmall_ori h
  have hz := fun ho => level hdd h ho hd
  generalize hP : goP v d r = P at *
  have ex : ori s.1 s.2 P = (s.2.1 - s.1.1) * (P.2 - s.1.2) - (s.2.2 - s.1.2) * (P.1 - s.1.1) := rfl
  have eg : ori s.1 s.2 P ≠ 0 → gPos (ori s.1 s.2 v) (crs (dir s) d) (crs (dir s) (leanOf d σ)) = decide (0 < ori s.1 s.2 P) := by
    intro ho
    unfold gPos
    apply decide_eq_decide.mpr
    unfold lexp at hsm
    grind
  by_cases cA : P.2 < s.1.2
  · by_cases cB : P.2 < s.2.2
    · -- both above
      rw [decide_eq_true (by grind), decide_eq_true (by grind)]
      have n1 : crX s.1 s.2 P = false := decide_eq_false (by unfold crXp; grind)
      have n2 : onB s.1 s.2 P = false := decide_eq_false (fun q => by have := q.2.1; unfold bt at this; grind)
      have n3 : onRay P s.1 = false := decide_eq_false (by grind)
      have n4 : onRay P s.2 = false := decide_eq_false (by grind)
      rw [n1, n2, n3, n4]; rfl
    · by_cases cC : s.2.2 = P.2
      · -- the second one level
        rw [decide_eq_true (by grind), decide_eq_true (by grind)]
        have hx : ori s.1 s.2 P = (P.1 - s.2.1) * (s.1.2 - s.2.2) := by rw [ex]; grind
        have z : 0 < s.1.2 - s.2.2 := by grind
        have n3 : onRay P s.1 = false := decide_eq_false (by grind)
        have hne : P.1 ≠ s.2.1 := fun q => hB (pt_ext q cC.symm)
        have ho : ori s.1 s.2 P ≠ 0 := fun q => by
          rw [hx] at q
          rcases Rat.mul_eq_zero.mp q with w | w <;> grind
        have n2 := onB_off ho
        have n1 : crX s.1 s.2 P = onRay P s.2 := by
          unfold crX onRay crXp
          apply decide_eq_decide.mpr
          rw [hx]
          have g := Rat.mul_neg_iff_of_pos_right (a := P.1 - s.2.1) z
          grind
        rw [n1, n2, n3]
        cases onRay P s.2 <;> rfl
      · -- the second one below
        have n3 : onRay P s.1 = false := decide_eq_false (by grind)
        have n4 : onRay P s.2 = false := decide_eq_false (by grind)
        have ho : ori s.1 s.2 P ≠ 0 := fun q => by have := hz q; grind
        rw [n3, n4, eg ho, onB_off ho, decide_eq_true (show P.2 ≤ s.1.2 by grind), decide_eq_false (show ¬ P.2 ≤ s.2.2 by grind)]
        have n1 : crX s.1 s.2 P = !decide (0 < ori s.1 s.2 P) := by
          by_cases c : 0 < ori s.1 s.2 P
          · rw [decide_eq_true c]; exact decide_eq_false (by unfold crXp; grind)
          · rw [decide_eq_false c]; exact decide_eq_true (by unfold crXp; grind)
        rw [n1]
        cases decide (0 < ori s.1 s.2 P) <;> rfl
  · by_cases cE : s.1.2 = P.2
    · by_cases cB : P.2 < s.2.2
      · -- the first one level, the second above
        rw [decide_eq_true (show P.2 ≤ s.1.2 by grind), decide_eq_true (show P.2 ≤ s.2.2 by grind)]
        have hx : ori s.1 s.2 P = (s.1.1 - P.1) * (s.2.2 - s.1.2) := by rw [ex]; grind
        have z : 0 < s.2.2 - s.1.2 := by grind
        have n4 : onRay P s.2 = false := decide_eq_false (by grind)
        have hne : P.1 ≠ s.1.1 := fun q => hA (pt_ext q cE.symm)
        have ho : ori s.1 s.2 P ≠ 0 := fun q => by
          rw [hx] at q
          rcases Rat.mul_eq_zero.mp q with w | w <;> grind
        have n1 : crX s.1 s.2 P = onRay P s.1 := by
          unfold crX onRay crXp
          apply decide_eq_decide.mpr
          rw [hx]
          have g := Rat.mul_pos_iff_of_pos_right (a := s.1.1 - P.1) z
          grind
        rw [n1, onB_off ho, n4]
        cases onRay P s.1 <;> rfl
      · by_cases cC : s.2.2 = P.2
        · -- both level
          rw [decide_eq_true (show P.2 ≤ s.1.2 by grind), decide_eq_true (show P.2 ≤ s.2.2 by grind)]
          have ho : ori s.1 s.2 P = 0 := by rw [ex]; grind
          have hne : P.1 ≠ s.1.1 := fun q => hA (pt_ext q cE.symm)
          have hnf : P.1 ≠ s.2.1 := fun q => hB (pt_ext q cC.symm)
          rw [crX_line ho]
          have n2 : onB s.1 s.2 P = (onRay P s.1 ^^ onRay P s.2) := by
            have e : onB s.1 s.2 P = decide ((P.1 < s.1.1) ↔ ¬ (P.1 < s.2.1)) := by
              unfold onB onS bt
              apply decide_eq_decide.mpr
              grind
            rw [e, dec_xor Iff.rfl]
            unfold onRay
            congr 1
            · exact decide_eq_decide.mpr (by grind)
            · exact decide_eq_decide.mpr (by grind)
          rw [n2]
          cases onRay P s.1 <;> cases onRay P s.2 <;> rfl
        · -- the first one level, the second below
          have hx : ori s.1 s.2 P = (P.1 - s.1.1) * (s.1.2 - s.2.2) := by rw [ex]; grind
          have z : 0 < s.1.2 - s.2.2 := by grind
          have n4 : onRay P s.2 = false := decide_eq_false (by grind)
          have hne : P.1 ≠ s.1.1 := fun q => hA (pt_ext q cE.symm)
          have ho : ori s.1 s.2 P ≠ 0 := fun q => by
            rw [hx] at q
            rcases Rat.mul_eq_zero.mp q with w | w <;> grind
          have n1 : crX s.1 s.2 P = false := decide_eq_false (by unfold crXp; grind)
          have g := Rat.mul_pos_iff_of_pos_right (a := P.1 - s.1.1) z
          have n3 : onRay P s.1 = !decide (0 < ori s.1 s.2 P) := by
            by_cases c : 0 < ori s.1 s.2 P
            · rw [decide_eq_true c]; exact decide_eq_false (by rw [hx] at c; grind)
            · rw [decide_eq_false c]; exact decide_eq_true (by rw [hx] at c; grind)
          rw [n1, onB_off ho, n4, n3, eg ho, decide_eq_true (show P.2 ≤ s.1.2 by grind), decide_eq_false (show ¬ P.2 ≤ s.2.2 by grind)]
          cases decide (0 < ori s.1 s.2 P) <;> rfl
    · -- the first one below
      have n3 : onRay P s.1 = false := decide_eq_false (by grind)
      by_cases cB : P.2 < s.2.2
      · have n4 : onRay P s.2 = false := decide_eq_false (by grind)
        have ho : ori s.1 s.2 P ≠ 0 := fun q => by have := hz q; grind
        have n1 : crX s.1 s.2 P = decide (0 < ori s.1 s.2 P) := by
          unfold crX crXp
          exact decide_eq_decide.mpr (by grind)
        rw [n1, n3, n4, onB_off ho, eg ho, decide_eq_false (show ¬ P.2 ≤ s.1.2 by grind), decide_eq_true (show P.2 ≤ s.2.2 by grind)]
        cases decide (0 < ori s.1 s.2 P) <;> rfl
      · by_cases cC : s.2.2 = P.2
        · have hx : ori s.1 s.2 P = (s.2.1 - P.1) * (s.2.2 - s.1.2) := by rw [ex]; grind
          have z : 0 < s.2.2 - s.1.2 := by grind
          have hnf : P.1 ≠ s.2.1 := fun q => hB (pt_ext q cC.symm)
          have ho : ori s.1 s.2 P ≠ 0 := fun q => by
            rw [hx] at q
            rcases Rat.mul_eq_zero.mp q with w | w <;> grind
          have n1 : crX s.1 s.2 P = false := decide_eq_false (by unfold crXp; grind)
          have g := Rat.mul_pos_iff_of_pos_right (a := s.2.1 - P.1) z
          have n4 : onRay P s.2 = decide (0 < ori s.1 s.2 P) := by
            unfold onRay
            apply decide_eq_decide.mpr
            rw [hx]; grind
          rw [n1, onB_off ho, n4, n3, eg ho, decide_eq_false (show ¬ P.2 ≤ s.1.2 by grind), decide_eq_true (show P.2 ≤ s.2.2 by grind)]
          cases decide (0 < ori s.1 s.2 P) <;> rfl
        · rw [decide_eq_false (show ¬ P.2 ≤ s.1.2 by grind), decide_eq_false (show ¬ P.2 ≤ s.2.2 by grind)]
          have n1 : crX s.1 s.2 P = false := decide_eq_false (by unfold crXp; grind)
          have n2 : onB s.1 s.2 P = false := decide_eq_false (fun q => by have := q.2.1; unfold bt at this; grind)
          have n4 : onRay P s.2 = false := decide_eq_false (by grind)
          rw [n1, n2, n3, n4]; rfl
