/-! along a segment -/
def at_ (s : Sq) (t : Rat) : Pt := (s.1.1 + t * (s.2.1 - s.1.1), s.1.2 + t * (s.2.2 - s.1.2))
def ndg (s : Sq) : Prop := s.1.1 ≠ s.2.1 ∨ s.1.2 ≠ s.2.2
def parl (s s' : Sq) : Prop := (s.2.1 - s.1.1) * (s'.2.2 - s'.1.2) - (s.2.2 - s.1.2) * (s'.2.1 - s'.1.1) = 0
theorem at_0 (s : Sq) : at_ s 0 = s.1 := by
  unfold at_
  apply Prod.ext
  · show s.1.1 + 0 * (s.2.1 - s.1.1) = s.1.1; grind
  · show s.1.2 + 0 * (s.2.2 - s.1.2) = s.1.2; grind
theorem at_1 (s : Sq) : at_ s 1 = s.2 := by
  unfold at_
  apply Prod.ext
  · show s.1.1 + 1 * (s.2.1 - s.1.1) = s.2.1; grind
  · show s.1.2 + 1 * (s.2.2 - s.1.2) = s.2.2; grind
theorem at_x (s : Sq) (t : Rat) : (at_ s t).1 = s.1.1 + t * (s.2.1 - s.1.1) := rfl
theorem at_y (s : Sq) (t : Rat) : (at_ s t).2 = s.1.2 + t * (s.2.2 - s.1.2) := rfl
theorem ori_at (a b : Pt) (s : Sq) (t : Rat) : ori a b (at_ s t) = ori a b s.1 + t * (ori a b s.2 - ori a b s.1) := by
  unfold ori; rw [at_x, at_y]; grind
theorem ori_of_at (s : Sq) (t t' : Rat) (v : Pt) : ori (at_ s t) (at_ s t') v = (t' - t) * ori s.1 s.2 v := by
  unfold ori; rw [at_x, at_y, at_x, at_y]; grind
theorem ori_self (s : Sq) (t : Rat) : ori s.1 s.2 (at_ s t) = 0 := by
  unfold ori; rw [at_x, at_y]; grind
theorem pt_ext {p q : Pt} (h1 : p.1 = q.1) (h2 : p.2 = q.2) : p = q := Prod.ext h1 h2
theorem rat_cancel {a x y : Rat} (ha : a ≠ 0) (h : x * a = y * a) : x = y := by
  have e : (x - y) * a = 0 := by grind
  rcases Rat.mul_eq_zero.mp e with q | q
  · grind
  · exact absurd q ha
theorem at_inj {s : Sq} (hs : ndg s) {t t' : Rat} (h : at_ s t = at_ s t') : t = t' := by
  have h1 := congrArg Prod.fst h
  have h2 := congrArg Prod.snd h
  rw [at_x, at_x] at h1; rw [at_y, at_y] at h2
  rcases hs with q | q
  · exact rat_cancel (a := s.2.1 - s.1.1) (by grind) (by grind)
  · exact rat_cancel (a := s.2.2 - s.1.2) (by grind) (by grind)
theorem col_at {s : Sq} (hs : ndg s) {p : Pt} (h : ori s.1 s.2 p = 0) : ∃ t, p = at_ s t := by
  unfold ori at h
  rcases hs with q | q
  · have z : s.2.1 - s.1.1 ≠ 0 := by grind
    refine ⟨(p.1 - s.1.1) / (s.2.1 - s.1.1), ?_⟩
    have e := Rat.div_mul_cancel (a := p.1 - s.1.1) z
    apply pt_ext
    · rw [at_x]; grind
    · rw [at_y]
      apply rat_cancel z
      grind
  · have z : s.2.2 - s.1.2 ≠ 0 := by grind
    refine ⟨(p.2 - s.1.2) / (s.2.2 - s.1.2), ?_⟩
    have e := Rat.div_mul_cancel (a := p.2 - s.1.2) z
    apply pt_ext
    · rw [at_x]
      apply rat_cancel z
      grind
    · rw [at_y]; grind
theorem bt_mul {a v b d c : Rat} (h : bt a v b) : bt (c + a * d) (c + v * d) (c + b * d) := by
  rcases Rat.le_total (a := 0) (b := d) with q | q
  · rcases h with ⟨x, y⟩ | ⟨x, y⟩
    · have e1 := Rat.mul_nonneg (show 0 ≤ v - a by grind) q
      have e2 := Rat.mul_nonneg (show 0 ≤ b - v by grind) q
      exact Or.inl ⟨by grind, by grind⟩
    · have e1 := Rat.mul_nonneg (show 0 ≤ v - b by grind) q
      have e2 := Rat.mul_nonneg (show 0 ≤ a - v by grind) q
      exact Or.inr ⟨by grind, by grind⟩
  · rcases h with ⟨x, y⟩ | ⟨x, y⟩
    · have e1 := rat_mul_zn (show 0 ≤ v - a by grind) q
      have e2 := rat_mul_zn (show 0 ≤ b - v by grind) q
      exact Or.inr ⟨by grind, by grind⟩
    · have e1 := rat_mul_zn (show 0 ≤ v - b by grind) q
      have e2 := rat_mul_zn (show 0 ≤ a - v by grind) q
      exact Or.inl ⟨by grind, by grind⟩
theorem bt_unmul {a v b d c : Rat} (hd : d ≠ 0) (h : bt (c + a * d) (c + v * d) (c + b * d)) : bt a v b := by
  have e1 := bt_mul (d := d⁻¹) (c := -(c * d⁻¹)) h
  have z := Rat.mul_inv_cancel d hd
  have f (x : Rat) : -(c * d⁻¹) + (c + x * d) * d⁻¹ = x := by
    have : x * (d * d⁻¹) = x := by rw [z]; grind
    grind
  rw [f, f, f] at e1
  exact e1
theorem on_at_iff {s : Sq} (hs : ndg s) (α β t : Rat) : onS (at_ s α) (at_ s β) (at_ s t) ↔ bt α t β := by
  constructor
  · rintro ⟨h1, h2, -⟩
    rw [at_x, at_x, at_x] at h1
    rw [at_y, at_y, at_y] at h2
    rcases hs with q | q
    · exact bt_unmul (d := s.2.1 - s.1.1) (by grind) h1
    · exact bt_unmul (d := s.2.2 - s.1.2) (by grind) h2
  · intro h
    refine ⟨?_, ?_, ?_⟩
    · rw [at_x, at_x, at_x]; exact bt_mul h
    · rw [at_y, at_y, at_y]; exact bt_mul h
    · rw [ori_of_at, ori_self]; grind
theorem on_at {s : Sq} (hs : ndg s) {p : Pt} : onS s.1 s.2 p ↔ ∃ t, 0 ≤ t ∧ t ≤ 1 ∧ p = at_ s t := by
  constructor
  · intro h
    obtain ⟨t, rfl⟩ := col_at hs h.2.2
    rw [← at_0 s, ← at_1 s] at h
    have h : onS (at_ s 0) (at_ s 1) (at_ s t) := by
      have e0 := at_0 s
      have e1 := at_1 s
      grind
    have h := (on_at_iff hs _ _ _).mp h
    exact ⟨t, by grind, by grind, rfl⟩
  · rintro ⟨t, h1, h2, rfl⟩
    have h := (on_at_iff hs 0 1 t).mpr (Or.inl ⟨h1, h2⟩)
    rw [at_0, at_1] at h
    exact h
theorem on_piece {s : Sq} (hs : ndg s) {t t' : Rat} (h : t ≤ t') {v : Pt} (hv : onS (at_ s t) (at_ s t') v) (hn : t ≠ t') : ∃ τ, t ≤ τ ∧ τ ≤ t' ∧ v = at_ s τ := by
  have h0 := hv.2.2
  rw [ori_of_at] at h0
  have h1 : ori s.1 s.2 v = 0 := by
    rcases Rat.mul_eq_zero.mp h0 with q | q
    · exact absurd q (by grind)
    · exact q
  obtain ⟨τ, rfl⟩ := col_at hs h1
  have := (on_at_iff hs _ _ _).mp hv
  exact ⟨τ, by grind, by grind, rfl⟩
/-- of three directions: the first and the second, the second and the third along each other -/
theorem par_trans {d e f : Pt} (he : e.1 ≠ 0 ∨ e.2 ≠ 0) (h1 : d.1 * e.2 - d.2 * e.1 = 0) (h2 : e.1 * f.2 - e.2 * f.1 = 0) : d.1 * f.2 - d.2 * f.1 = 0 := by
  have e1 : e.1 * (d.1 * f.2 - d.2 * f.1) = 0 := by grind
  have e2 : e.2 * (d.1 * f.2 - d.2 * f.1) = 0 := by grind
  rcases he with q | q
  · rcases Rat.mul_eq_zero.mp e1 with w | w
    · exact absurd w q
    · exact w
  · rcases Rat.mul_eq_zero.mp e2 with w | w
    · exact absurd w q
    · exact w
theorem parl_ori {s s' : Sq} (h : parl s s') (p : Pt) (hp : ori s'.1 s'.2 p = 0) (t t' : Rat) (e : p = at_ s t) : ori s'.1 s'.2 (at_ s t') = 0 := by
  subst e
  rw [ori_at] at hp ⊢
  have : ori s'.1 s'.2 s.2 - ori s'.1 s'.2 s.1 = 0 := by unfold ori; unfold parl at h; grind
  rw [this] at hp ⊢
  grind
theorem parl_col {s s' : Sq} (hs' : ndg s') (h : parl s s') {t : Rat} (hp : ori s'.1 s'.2 (at_ s t) = 0) : ori s.1 s.2 s'.1 = 0 ∧ ori s.1 s.2 s'.2 = 0 := by
  have e1 : ori s.1 s.2 s'.1 = 0 := by
    have := par_trans (d := (s.2.1 - s.1.1, s.2.2 - s.1.2)) (e := (s'.2.1 - s'.1.1, s'.2.2 - s'.1.2)) (f := ((at_ s t).1 - s'.1.1, (at_ s t).2 - s'.1.2)) (by unfold ndg at hs'; show s'.2.1 - s'.1.1 ≠ 0 ∨ s'.2.2 - s'.1.2 ≠ 0; grind) (by unfold parl at h; exact h) (by unfold ori at hp; show (s'.2.1 - s'.1.1) * ((at_ s t).2 - s'.1.2) - (s'.2.2 - s'.1.2) * ((at_ s t).1 - s'.1.1) = 0; grind)
    have this : (s.2.1 - s.1.1) * ((at_ s t).2 - s'.1.2) - (s.2.2 - s.1.2) * ((at_ s t).1 - s'.1.1) = 0 := this
    rw [at_x, at_y] at this
    unfold ori
    grind
  refine ⟨e1, ?_⟩
  unfold parl at h
  unfold ori at e1 ⊢
  grind
def clearOf (s s' : Sq) (t t' : Rat) : Prop := (∀ τ, t ≤ τ → τ ≤ t' → at_ s τ ≠ s'.1 ∧ at_ s τ ≠ s'.2) ∧ (onS s'.1 s'.2 (at_ s t) → parl s s') ∧ (onS s'.1 s'.2 (at_ s t') → parl s s')
theorem clear_strip {s s' : Sq} (hs : ndg s) (hs' : ndg s') {t t' : Rat} (ht : t < t') (h : clearOf s s' t t') :
    (crX s'.1 s'.2 (at_ s t) ^^ crX s'.1 s'.2 (at_ s t') ^^ pX s'.1 s'.2 (at_ s t) (at_ s t')) = (crL (at_ s t) (at_ s t') s'.1 ^^ crL (at_ s t) (at_ s t') s'.2) := by
  obtain ⟨h1, h2, h3⟩ := h
  have hA : ¬ onS (at_ s t) (at_ s t') s'.1 := by
    intro q
    obtain ⟨τ, a, b, e⟩ := on_piece hs (Rat.le_of_lt ht) q (by grind)
    exact (h1 τ a b).1 e.symm
  have hB : ¬ onS (at_ s t) (at_ s t') s'.2 := by
    intro q
    obtain ⟨τ, a, b, e⟩ := on_piece hs (Rat.le_of_lt ht) q (by grind)
    exact (h1 τ a b).2 e.symm
  by_cases hP : onS s'.1 s'.2 (at_ s t)
  · have hp := h2 hP
    have hc := parl_col hs' hp hP.2.2
    exact strip_line hP.2.2 (parl_ori hp _ hP.2.2 t t' rfl) (by rw [ori_of_at, hc.1]; grind) (by rw [ori_of_at, hc.2]; grind)
  · by_cases hQ : onS s'.1 s'.2 (at_ s t')
    · have hp := h3 hQ
      have hc := parl_col hs' hp hQ.2.2
      exact strip_line (parl_ori hp _ hQ.2.2 t' t rfl) hQ.2.2 (by rw [ori_of_at, hc.1]; grind) (by rw [ori_of_at, hc.2]; grind)
    · exact strip hA hB hP hQ
theorem clear_on1 {s s' : Sq} (hs : ndg s) (hs' : ndg s') {t t' x y : Rat} (h : clearOf s s' t t') (hx : t ≤ x) (hx' : x ≤ t') (hy : t ≤ y) (hy' : y ≤ t') (hp : onS s'.1 s'.2 (at_ s x) → parl s s') (hq : onS s'.1 s'.2 (at_ s x)) : onS s'.1 s'.2 (at_ s y) := by
  have hc := parl_col hs' (hp hq) hq.2.2
  obtain ⟨α, eα⟩ := col_at hs hc.1
  obtain ⟨β, eβ⟩ := col_at hs hc.2
  rw [eα, eβ] at hq ⊢
  have g := (on_at_iff hs _ _ _).mp hq
  apply (on_at_iff hs _ _ _).mpr
  have nα : ¬ (t ≤ α ∧ α ≤ t') := fun q => (h.1 α q.1 q.2).1 eα.symm
  have nβ : ¬ (t ≤ β ∧ β ≤ t') := fun q => (h.1 β q.1 q.2).2 eβ.symm
  unfold bt at g ⊢
  grind
theorem clear_on {s s' : Sq} (hs : ndg s) (hs' : ndg s') {t t' : Rat} (ht : t ≤ t') (h : clearOf s s' t t') : onS s'.1 s'.2 (at_ s t) ↔ onS s'.1 s'.2 (at_ s t') :=
  ⟨fun q => clear_on1 hs hs' h Rat.le_refl ht ht Rat.le_refl h.2.1 q, fun q => clear_on1 hs hs' h ht Rat.le_refl Rat.le_refl ht h.2.2 q⟩
/-- between two places of a segment with no end of another between them, all that have one along it: the crossings to the right of it change by the segments that cross it there -/
theorem crd_along {L : List Sq} (hc : closedL L) {s : Sq} (hs : ndg s) {t t' : Rat} (ht : t < t') (h : ∀ s' ∈ L, ndg s' ∧ clearOf s s' t t') : (crd L (at_ s t) ^^ crd L (at_ s t')) = par (fun s' => pX s'.1 s'.2 (at_ s t) (at_ s t')) L :=
  crd_move hc fun s' hs' => clear_strip hs (h s' hs').1 ht (h s' hs').2
theorem hav_along {L : List Sq} {s : Sq} (hs : ndg s) {t t' : Rat} (ht : t ≤ t') (h : ∀ s' ∈ L, ndg s' ∧ clearOf s s' t t') : hav L (at_ s t) = hav L (at_ s t') :=
  par_congr fun s' hs' => decide_eq_decide.mpr (clear_on hs (h s' hs').1 ht (h s' hs').2)
def anyOn (L : List Sq) (p : Pt) : Bool := L.any fun s => onB s.1 s.2 p
theorem anyOn_along {L : List Sq} {s : Sq} (hs : ndg s) {t t' : Rat} (ht : t ≤ t') (h : ∀ s' ∈ L, ndg s' ∧ clearOf s s' t t') : anyOn L (at_ s t) = anyOn L (at_ s t') := by
  unfold anyOn
  rw [Bool.eq_iff_iff, List.any_eq_true, List.any_eq_true]
  constructor
  · rintro ⟨s', m, q⟩
    exact ⟨s', m, decide_eq_true ((clear_on hs (h s' m).1 ht (h s' m).2).mp (of_decide_eq_true q))⟩
  · rintro ⟨s', m, q⟩
    exact ⟨s', m, decide_eq_true ((clear_on hs (h s' m).1 ht (h s' m).2).mpr (of_decide_eq_true q))⟩
/-! crossings of a segment with another one, by their place -/
theorem pX_piece {a b : Pt} {s : Sq} {t t' : Rat} (ht : t < t') : pX a b (at_ s t) (at_ s t') = decide (opq (ori a b s.1 + t * (ori a b s.2 - ori a b s.1)) (ori a b s.1 + t' * (ori a b s.2 - ori a b s.1)) ∧ opq (ori s.1 s.2 a) (ori s.1 s.2 b)) := by
  unfold pX pXp
  apply decide_eq_decide.mpr
  rw [ori_at, ori_at, ori_of_at, ori_of_at]
  have z : 0 < t' - t := by grind
  have f (x : Rat) : (0 < (t' - t) * x ↔ 0 < x) := Rat.mul_pos_iff_of_pos_left z
  have g (x : Rat) : ((t' - t) * x < 0 ↔ x < 0) := Rat.mul_neg_iff_of_pos_left z
  unfold opq
  rw [f, f, g, g]
theorem lin_sign {u0 u1 τ : Rat} (hz : u0 + τ * (u1 - u0) = 0) (t : Rat) : u0 + t * (u1 - u0) = (t - τ) * (u1 - u0) := by grind
theorem pX_cross {a b : Pt} {s : Sq} (hX : pXp a b s.1 s.2) {τ : Rat} (hz : ori a b s.1 + τ * (ori a b s.2 - ori a b s.1) = 0) {t t' : Rat} (ht : t < t') : pX a b (at_ s t) (at_ s t') = decide (t < τ ∧ τ < t') := by
  rw [pX_piece ht, lin_sign hz, lin_sign hz]
  apply decide_eq_decide.mpr
  obtain ⟨h1, h2⟩ := hX
  constructor
  · rintro ⟨g, -⟩
    rcases h1 with ⟨x, y⟩ | ⟨x, y⟩
    · have z : 0 < ori a b s.2 - ori a b s.1 := by grind
      rcases g with ⟨c, d⟩ | ⟨c, d⟩
      · have c := rat_neg_of_mul (Rat.le_of_lt z) c
        have d := rat_pos_of_mul (Rat.le_of_lt z) d
        grind
      · have c := rat_pos_of_mul (Rat.le_of_lt z) c
        have d := rat_neg_of_mul (Rat.le_of_lt z) d
        grind
    · have z : 0 < -(ori a b s.2 - ori a b s.1) := by grind
      rcases g with ⟨c, d⟩ | ⟨c, d⟩
      · have c := rat_pos_of_mul (x := t - τ) (Rat.le_of_lt z) (by grind)
        have d := rat_neg_of_mul (x := t' - τ) (Rat.le_of_lt z) (by grind)
        grind
      · have c := rat_neg_of_mul (x := t - τ) (Rat.le_of_lt z) (by grind)
        have d := rat_pos_of_mul (x := t' - τ) (Rat.le_of_lt z) (by grind)
        grind
  · rintro ⟨g1, g2⟩
    refine ⟨?_, h2⟩
    rcases h1 with ⟨x, y⟩ | ⟨x, y⟩
    · have z : 0 < ori a b s.2 - ori a b s.1 := by grind
      exact Or.inl ⟨rat_mul_np (by grind) z, Rat.mul_pos (by grind) z⟩
    · have z : ori a b s.2 - ori a b s.1 < 0 := by grind
      exact Or.inr ⟨rat_mul_nn (by grind) z, rat_mul_pn (by grind) z⟩
theorem pX_none {a b : Pt} {s : Sq} (hX : ¬ pXp a b s.1 s.2) {t t' : Rat} (h0 : 0 ≤ t) (ht : t < t') (h1 : t' ≤ 1) : pX a b (at_ s t) (at_ s t') = false := by
  rw [pX_piece ht]
  apply decide_eq_false
  rintro ⟨g, k⟩
  apply hX
  refine ⟨?_, k⟩
  rcases g with ⟨c, d⟩ | ⟨c, d⟩
  · have z : 0 < ori a b s.2 - ori a b s.1 := by
      have e : (ori a b s.2 - ori a b s.1) * (t' - t) = (ori a b s.1 + t' * (ori a b s.2 - ori a b s.1)) - (ori a b s.1 + t * (ori a b s.2 - ori a b s.1)) := by grind
      exact rat_pos_of_mul (a := t' - t) (by grind) (by grind)
    have e1 := Rat.mul_nonneg h0 (Rat.le_of_lt z)
    have e2 := Rat.mul_nonneg (show 0 ≤ 1 - t' by grind) (Rat.le_of_lt z)
    exact Or.inl ⟨by grind, by grind⟩
  · have z : ori a b s.2 - ori a b s.1 < 0 := by
      have e : (ori a b s.2 - ori a b s.1) * (t' - t) = (ori a b s.1 + t' * (ori a b s.2 - ori a b s.1)) - (ori a b s.1 + t * (ori a b s.2 - ori a b s.1)) := by grind
      exact rat_neg_of_mul (a := t' - t) (by grind) (by grind)
    have e1 := rat_mul_zn h0 (Rat.le_of_lt z)
    have e2 := rat_mul_zn (show 0 ≤ 1 - t' by grind) (Rat.le_of_lt z)
    exact Or.inr ⟨by grind, by grind⟩
