/-! from a place straight to the right: what is met first -/
theorem argmin {α : Type} (f : α → Rat) (C : α → Bool) : ∀ l : List α, (∃ x ∈ l, C x = true) → ∃ x ∈ l, C x = true ∧ ∀ y ∈ l, C y = true → f x ≤ f y
  | [], h => by obtain ⟨x, hx, _⟩ := h; cases hx
  | y :: l, h => by
    by_cases hl : ∃ x ∈ l, C x = true
    · obtain ⟨x, hx, cx, mx⟩ := argmin f C l hl
      by_cases hy : C y = true ∧ f y ≤ f x
      · refine ⟨y, List.mem_cons_self, hy.1, fun z hz cz => ?_⟩
        rcases List.mem_cons.mp hz with e | e
        · rw [e]; exact Rat.le_refl
        · exact Rat.le_trans hy.2 (mx z e cz)
      · refine ⟨x, List.mem_cons_of_mem _ hx, cx, fun z hz cz => ?_⟩
        rcases List.mem_cons.mp hz with e | e
        · subst e
          rcases Rat.le_total (a := f x) (b := f z) with q | q
          · exact q
          · exact absurd ⟨cz, q⟩ hy
        · exact mx z e cz
    · obtain ⟨x, hx, cx⟩ := h
      rcases List.mem_cons.mp hx with e | e
      · subst e
        refine ⟨x, List.mem_cons_self, cx, fun z hz cz => ?_⟩
        rcases List.mem_cons.mp hz with e | e
        · rw [e]; exact Rat.le_refl
        · exact absurd ⟨z, e, cz⟩ hl
      · exact absurd ⟨x, e, cx⟩ hl
def xh (s : Sq) (y : Rat) : Rat := s.1.1 + (y - s.1.2) * (s.2.1 - s.1.1) / (s.2.2 - s.1.2)
theorem ori_xh {s : Sq} {x y : Rat} (h : s.1.2 ≠ s.2.2) : ori s.1 s.2 (x, y) = (xh s y - x) * (s.2.2 - s.1.2) := by
  have z : s.2.2 - s.1.2 ≠ 0 := by grind
  have e := Rat.div_mul_cancel (a := (y - s.1.2) * (s.2.1 - s.1.1)) z
  show (s.2.1 - s.1.1) * (y - s.1.2) - (s.2.2 - s.1.2) * (x - s.1.1) = _
  unfold xh
  grind
abbrev strd (s : Sq) (y : Rat) : Prop := (s.1.2 < y ∧ y < s.2.2) ∨ (s.2.2 < y ∧ y < s.1.2)
theorem crX_at {s : Sq} {x y : Rat} (h : strd s y) : crX s.1 s.2 (x, y) = decide (x < xh s y) := by
  have hn : s.1.2 ≠ s.2.2 := by grind
  unfold crX crXp
  apply decide_eq_decide.mpr
  rw [ori_xh hn]
  show (y < s.1.2 ∧ s.2.2 ≤ y ∧ (xh s y - x) * (s.2.2 - s.1.2) < 0) ∨ (s.1.2 ≤ y ∧ y < s.2.2 ∧ 0 < (xh s y - x) * (s.2.2 - s.1.2)) ↔ x < xh s y
  rcases h with ⟨a, b⟩ | ⟨a, b⟩
  · have g := Rat.mul_pos_iff_of_pos_right (a := xh s y - x) (b := s.2.2 - s.1.2) (by grind)
    grind
  · have g := Rat.mul_pos_iff_of_pos_right (a := xh s y - x) (b := -(s.2.2 - s.1.2)) (by grind)
    grind
theorem onB_at {s : Sq} {x y : Rat} (h : strd s y) : onB s.1 s.2 (x, y) = decide (x = xh s y) := by
  have hn : s.1.2 ≠ s.2.2 := by grind
  unfold onB
  apply decide_eq_decide.mpr
  constructor
  · intro q
    have q := q.2.2
    rw [ori_xh hn] at q
    rcases Rat.mul_eq_zero.mp q with w | w <;> grind
  · intro q
    have ho : ori s.1 s.2 (x, y) = 0 := by rw [ori_xh hn, q]; grind
    rcases h with ⟨a, b⟩ | ⟨a, b⟩
    · exact on_height ho (Rat.le_of_lt a) (Rat.le_of_lt b) (by grind)
    · exact (onS_swap _ _ _).mp (on_height (by rw [ori_swap, ho]; grind) (Rat.le_of_lt a) (Rat.le_of_lt b) (by grind))
theorem crX_no {s : Sq} {x y : Rat} (h : ¬ strd s y) (h1 : s.1.2 ≠ y) (h2 : s.2.2 ≠ y) : crX s.1 s.2 (x, y) = false := by
  apply decide_eq_false
  show ¬ ((y < s.1.2 ∧ s.2.2 ≤ y ∧ ori s.1 s.2 (x, y) < 0) ∨ (s.1.2 ≤ y ∧ y < s.2.2 ∧ 0 < ori s.1 s.2 (x, y)))
  grind
theorem onB_no {s : Sq} {x y : Rat} (h : ¬ strd s y) (h1 : s.1.2 ≠ y) (h2 : s.2.2 ≠ y) : onB s.1 s.2 (x, y) = false := by
  apply decide_eq_false
  intro q
  have q : bt s.1.2 y s.2.2 := q.2.1
  unfold bt at q
  grind
theorem ray_up {s : Sq} {p : Pt} {y : Rat} (hp : ¬ onS s.1 s.2 p) (h1 : (y < s.1.2 ↔ p.2 < s.1.2)) (h2 : (y < s.2.2 ↔ p.2 < s.2.2)) (h3 : ori s.1 s.2 p ≠ 0 → (0 < ori s.1 s.2 (p.1, y) ↔ 0 < ori s.1 s.2 p) ∧ ori s.1 s.2 (p.1, y) ≠ 0) : crX s.1 s.2 (p.1, y) = crX s.1 s.2 p := by
  unfold crX crXp
  apply decide_eq_decide.mpr
  show (y < s.1.2 ∧ s.2.2 ≤ y ∧ ori s.1 s.2 (p.1, y) < 0) ∨ (s.1.2 ≤ y ∧ y < s.2.2 ∧ 0 < ori s.1 s.2 (p.1, y)) ↔ _
  by_cases a : p.2 < s.1.2 <;> by_cases b : p.2 < s.2.2
  · grind
  · have ho : ori s.1 s.2 p ≠ 0 := fun q => hp ((onS_swap _ _ _).mp (on_height (by rw [ori_swap, q]; grind) (by grind) (by grind) (by grind)))
    have := h3 ho
    grind
  · have ho : ori s.1 s.2 p ≠ 0 := fun q => hp (on_height q (by grind) (by grind) (by grind))
    have := h3 ho
    grind
  · grind
theorem ray {L : List Sq} {p : Pt} (hp : ∀ s ∈ L, ¬ onS s.1 s.2 p) (F : List Rat) (hF : ∀ s ∈ L, s.1.2 ∈ F ∧ s.2.2 ∈ F) : (∀ s ∈ L, crX s.1 s.2 p = false) ∨ ∃ s ∈ L, ∃ q : Pt, onS s.1 s.2 q ∧ s.1.2 ≠ s.2.2 ∧ q.2 ∉ F ∧ ∀ s' ∈ L, crX s'.1 s'.2 p = (crX s'.1 s'.2 q ^^ onB s'.1 s'.2 q) := by
  obtain ⟨ρ, hρ, hr⟩ := small (F.map (fun h => (h - p.2, -1)) ++ L.map (fun s => (ori s.1 s.2 p, s.2.1 - s.1.1)))
  have hr := hr (ρ / 2) (by grind) (by grind)
  have r0 : 0 < ρ / 2 := by grind
  generalize ρ / 2 = r at hr r0
  have hh : ∀ h ∈ F, (p.2 + r < h ↔ p.2 < h) ∧ h ≠ p.2 + r := by
    intro h hm
    have := hr (h - p.2, -1) (List.mem_append_left _ (List.mem_map.mpr ⟨h, hm, rfl⟩))
    unfold lexp at this
    grind
  have ho : ∀ s ∈ L, ori s.1 s.2 p ≠ 0 → (0 < ori s.1 s.2 (p.1, p.2 + r) ↔ 0 < ori s.1 s.2 p) ∧ ori s.1 s.2 (p.1, p.2 + r) ≠ 0 := by
    intro s hs hz
    have := hr (ori s.1 s.2 p, s.2.1 - s.1.1) (List.mem_append_right _ (List.mem_map.mpr ⟨s, hs, rfl⟩))
    have e : ori s.1 s.2 (p.1, p.2 + r) = ori s.1 s.2 p + r * (s.2.1 - s.1.1) := by unfold ori; grind
    rw [e]
    unfold lexp at this
    grind
  have eX : ∀ s ∈ L, crX s.1 s.2 (p.1, p.2 + r) = crX s.1 s.2 p := fun s hs => ray_up (hp s hs) (hh _ (hF s hs).1).1 (hh _ (hF s hs).2).1 (ho s hs)
  generalize hy : p.2 + r = y at *
  by_cases hany : ∃ s ∈ L, crX s.1 s.2 (p.1, y) = true
  · obtain ⟨s, hs, cs, ms⟩ := argmin (fun s => xh s y) (fun s => crX s.1 s.2 (p.1, y)) L hany
    have ns := fun s hs => (hh _ (hF s hs).1).2
    have nt := fun s hs => (hh _ (hF s hs).2).2
    have st : strd s y := by
      apply Decidable.byContradiction
      intro q
      have cs : crX s.1 s.2 (p.1, y) = true := cs
      rw [crX_no q (ns s hs) (nt s hs)] at cs
      cases cs
    have lt : p.1 < xh s y := by
      have cs : crX s.1 s.2 (p.1, y) = true := cs
      rw [crX_at st] at cs
      exact of_decide_eq_true cs
    refine Or.inr ⟨s, hs, (xh s y, y), ?_, by grind, fun hm => (hh y hm).2 rfl, fun s' hs' => ?_⟩
    · exact of_decide_eq_true (p := onS s.1 s.2 (xh s y, y)) (by
        have := onB_at (x := xh s y) st
        unfold onB at this
        rw [this]; exact decide_eq_true rfl)
    · rw [← eX s' hs']
      by_cases st' : strd s' y
      · have m' : p.1 < xh s' y → xh s y ≤ xh s' y := fun q => ms s' hs' (by show crX s'.1 s'.2 (p.1, y) = true; rw [crX_at st']; exact decide_eq_true q)
        rw [crX_at st', crX_at st', onB_at st']
        by_cases c : p.1 < xh s' y
        · rw [decide_eq_true c]
          by_cases e : xh s y = xh s' y
          · rw [decide_eq_true e, decide_eq_false (by grind)]; rfl
          · rw [decide_eq_false e, decide_eq_true (by grind)]; rfl
        · rw [decide_eq_false c, decide_eq_false (by grind), decide_eq_false (by grind)]; rfl
      · rw [crX_no st' (ns s' hs') (nt s' hs'), crX_no st' (ns s' hs') (nt s' hs'), onB_no st' (ns s' hs') (nt s' hs')]; rfl
  · refine Or.inl (fun s hs => ?_)
    rw [← eX s hs]
    cases hc : crX s.1 s.2 (p.1, y)
    · rfl
    · exact absurd ⟨s, hs, hc⟩ hany
