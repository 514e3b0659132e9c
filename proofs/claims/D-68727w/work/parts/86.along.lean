/-! plain law 2: generic places of a segment; what stays along it -/
section PL2
theorem r_div_pos {a b : Rat} (ha : 0 < a) (hb : 0 < b) : 0 < a / b := by
  refine rat_pos_of_mul (Rat.le_of_lt hb) ?_
  have : a / b * b = a := by grind
  rw [this]; exact ha
theorem avoid : ∀ (B : List Rat) (t t' : Rat), t < t' → ∃ τ, t < τ ∧ τ < t' ∧ τ ∉ B
  | [], t, t', h => ⟨(t + t') / 2, by grind, by grind, by simp⟩
  | b :: B, t, t', h => by
    obtain ⟨τ, h1, h2, h3⟩ := avoid B t ((t + t') / 2) (by grind)
    by_cases hb : τ = b
    · obtain ⟨τ', g1, g2, g3⟩ := avoid B ((t + t') / 2) t' (by grind)
      refine ⟨τ', by grind, g2, fun q => ?_⟩
      rcases List.mem_cons.mp q with q | q
      · grind
      · exact g3 q
    · refine ⟨τ, h1, by grind, fun q => ?_⟩
      rcases List.mem_cons.mp q with q | q
      · exact hb q
      · exact h3 q
theorem finU {α : Type} (P : α → Rat → Prop) : ∀ l : List α, (∀ x ∈ l, ∃ B : List Rat, ∀ τ, P x τ → τ ∈ B) → ∃ B : List Rat, ∀ x ∈ l, ∀ τ, P x τ → τ ∈ B
  | [], _ => ⟨[], fun x h => by cases h⟩
  | x :: l, h => by
    obtain ⟨B1, h1⟩ := h x List.mem_cons_self
    obtain ⟨B2, h2⟩ := finU P l (fun y hy => h y (List.mem_cons_of_mem _ hy))
    refine ⟨B1 ++ B2, fun y hy τ q => ?_⟩
    rcases List.mem_cons.mp hy with rfl | hy
    · exact List.mem_append_left _ (h1 τ q)
    · exact List.mem_append_right _ (h2 y hy τ q)
theorem one_pt {s : Sq} (hs : ndg s) (q : Pt) : ∃ B : List Rat, ∀ τ, at_ s τ = q → τ ∈ B := by
  by_cases h : ∃ τ, at_ s τ = q
  · obtain ⟨τ, h⟩ := h
    exact ⟨[τ], fun τ' h' => by rw [at_inj hs (h'.trans h.symm)]; exact List.mem_singleton.mpr rfl⟩
  · exact ⟨[], fun τ h' => absurd ⟨τ, h'⟩ h⟩
theorem ori_dir (s s' : Sq) : ori s'.1 s'.2 s.2 - ori s'.1 s'.2 s.1 = -((s.2.1 - s.1.1) * (s'.2.2 - s'.1.2) - (s.2.2 - s.1.2) * (s'.2.1 - s'.1.1)) := by unfold ori; grind
theorem one_line {s s' : Sq} (hn : ¬ parl s s') : ∃ B : List Rat, ∀ τ, ori s'.1 s'.2 (at_ s τ) = 0 → τ ∈ B := by
  by_cases h : ∃ τ, ori s'.1 s'.2 (at_ s τ) = 0
  · obtain ⟨τ, h⟩ := h
    refine ⟨[τ], fun τ' h' => ?_⟩
    rw [ori_at] at h h'
    have hd : ori s'.1 s'.2 s.2 - ori s'.1 s'.2 s.1 ≠ 0 := by
      rw [ori_dir]; intro q; exact hn (by unfold parl; grind)
    have : τ' = τ := rat_cancel hd (by grind)
    rw [this]; exact List.mem_singleton.mpr rfl
  · exact ⟨[], fun τ h' => absurd ⟨τ, h'⟩ h⟩
/-- a piece of a segment has a generic place, and one off any few places -/
theorem gen_ex {LL : List Sq} {QQ : List Pt} {s : Sq} (hs : s ∈ LL) (hn : ndg s) (F : List Rat) {t t' : Rat} (h0 : 0 ≤ t) (ht : t < t') (h1 : t' ≤ 1) : ∃ τ, t < τ ∧ τ < t' ∧ τ ∉ F ∧ gen LL QQ s (at_ s τ) := by
  obtain ⟨B1, hB1⟩ := finU (fun (q : Pt) τ => at_ s τ = q) QQ (fun q _ => one_pt hn q)
  obtain ⟨B2, hB2⟩ := finU (fun (s' : Sq) τ => ¬ parl s s' ∧ ori s'.1 s'.2 (at_ s τ) = 0) LL (fun s' _ => by
    by_cases hp : parl s s'
    · exact ⟨[], fun τ h => absurd hp h.1⟩
    · obtain ⟨B, hB⟩ := one_line hp
      exact ⟨B, fun τ h => hB τ h.2⟩)
  obtain ⟨τ, g1, g2, g3⟩ := avoid (F ++ (B1 ++ B2)) t t' ht
  refine ⟨τ, g1, g2, fun q => g3 (List.mem_append_left _ q), hs, (on_at hn).mpr ⟨τ, by grind, by grind, rfl⟩, fun q => ?_, fun s' h' ho => ?_⟩
  · exact g3 (List.mem_append_right _ (List.mem_append_left _ (hB1 _ q τ rfl)))
  · by_cases hp : parl s s'
    · exact hp
    · exact absurd (List.mem_append_right _ (List.mem_append_right _ (hB2 s' h' τ ⟨hp, ho.2.2⟩))) g3
/-- where two segments cross -/
theorem cross_at {s s' : Sq} (hX : pXp s'.1 s'.2 s.1 s.2) : ∃ τ, 0 < τ ∧ τ < 1 ∧ ori s'.1 s'.2 (at_ s τ) = 0 := by
  have h1 := hX.1
  generalize hu : ori s'.1 s'.2 s.1 = u at h1
  generalize hv : ori s'.1 s'.2 s.2 = v at h1
  have hne : u - v ≠ 0 := by rcases h1 with h | h <;> grind
  refine ⟨u / (u - v), ?_, ?_, ?_⟩
  · rcases h1 with h | h
    · have : u / (u - v) = (-u) / (v - u) := by grind
      rw [this]; exact r_div_pos (by grind) (by grind)
    · exact r_div_pos h.1 (by grind)
  · have e : u / (u - v) = 1 - (-v) / (u - v) := by grind
    have : 0 < (-v) / (u - v) := by
      rcases h1 with h | h
      · have : (-v) / (u - v) = v / (v - u) := by grind
        rw [this]; exact r_div_pos h.2 (by grind)
      · exact r_div_pos (by grind) (by grind)
    grind
  · rw [ori_at, hu, hv]; grind
theorem cross_one {s s' : Sq} (hX : pXp s'.1 s'.2 s.1 s.2) {τ τ' : Rat} (h : ori s'.1 s'.2 (at_ s τ) = 0) (h' : ori s'.1 s'.2 (at_ s τ') = 0) : τ = τ' := by
  have h1 := hX.1
  rw [ori_at] at h h'
  have hd : ori s'.1 s'.2 s.2 - ori s'.1 s'.2 s.1 ≠ 0 := by rcases h1 with q | q <;> grind
  exact rat_cancel hd (by grind)
/-- how often a piece is crossed -/
theorem pX_at {s s' : Sq} {t t' : Rat} (h0 : 0 ≤ t) (ht : t < t') (h1 : t' ≤ 1) : pX s'.1 s'.2 (at_ s t) (at_ s t') = true ↔ ∃ τ, t < τ ∧ τ < t' ∧ pXp s'.1 s'.2 s.1 s.2 ∧ ori s'.1 s'.2 (at_ s τ) = 0 := by
  by_cases hX : pXp s'.1 s'.2 s.1 s.2
  · obtain ⟨τ, -, -, hz⟩ := cross_at hX
    rw [pX_cross hX (τ := τ) (by rw [← ori_at]; exact hz) ht, decide_eq_true_iff]
    constructor
    · rintro ⟨a, b⟩; exact ⟨τ, a, b, hX, hz⟩
    · rintro ⟨τ', a, b, -, h⟩; rw [cross_one hX hz h]; exact ⟨a, b⟩
  · rw [pX_none hX h0 ht h1]
    constructor
    · intro h; cases h
    · rintro ⟨τ', -, -, h, -⟩; exact absurd h hX
section TWO2
variable {LL : List Sq} {kd : Nat} {Q : List Pt} {L : List Sq} {E : Pt → Bool} {s : Sq} {t t' : Rat}
/-- all segments through a place lie along s -/
def pll (LL : List Sq) (s : Sq) (p : Pt) : Prop := ∀ s' ∈ LL, onS s'.1 s'.2 p → parl s s'
theorem pll_clear (g1 : pll LL s (at_ s t)) (g2 : pll LL s (at_ s t')) (hno : ∀ τ, t ≤ τ → τ ≤ t' → ¬ isEnd LL (at_ s τ)) : ∀ s' ∈ LL, clearOf s s' t t' := fun s' h' =>
  ⟨fun τ h1 h2 => ⟨fun e => hno τ h1 h2 ⟨s', h', Or.inl e⟩, fun e => hno τ h1 h2 ⟨s', h', Or.inr e⟩⟩, g1 s' h', g2 s' h'⟩
/-- a shape along a piece with no ends of segments: on it or not stays; the crossings tell how often it turns -/
theorem along (h : shOK kd Q L E) (hL : ∀ x ∈ L, x ∈ LL) (hn : ndg s) (ht : t < t') (g1 : pll LL s (at_ s t)) (g2 : pll LL s (at_ s t')) (hno : ∀ τ, t ≤ τ → τ ≤ t' → ¬ isEnd LL (at_ s τ)) :
    anyOn L (at_ s t) = anyOn L (at_ s t') ∧ hav L (at_ s t) = hav L (at_ s t') ∧ (kd = 3 → (crd L (at_ s t) ^^ crd L (at_ s t')) = par (fun s' => pX s'.1 s'.2 (at_ s t) (at_ s t')) L) := by
  have hc : ∀ s' ∈ L, ndg s' ∧ clearOf s s' t t' := fun s' h' => ⟨(h.2.1 s' h').1, pll_clear g1 g2 hno s' (hL s' h')⟩
  exact ⟨anyOn_along hn (Rat.le_of_lt ht) hc, hav_along hn (Rat.le_of_lt ht) hc, fun h3 => crd_along (h.2.2.2.1 h3) hn ht hc⟩
def noX (LL : List Sq) (s : Sq) (t t' : Rat) : Prop := ∀ s' ∈ LL, ∀ τ, t < τ → τ < t' → pXp s'.1 s'.2 s.1 s.2 → ori s'.1 s'.2 (at_ s τ) = 0 → False
theorem along0 (h : shOK kd Q L E) (hL : ∀ x ∈ L, x ∈ LL) (hn : ndg s) (h0 : 0 ≤ t) (ht : t < t') (h1 : t' ≤ 1) (g1 : pll LL s (at_ s t)) (g2 : pll LL s (at_ s t')) (hno : ∀ τ, t ≤ τ → τ ≤ t' → ¬ isEnd LL (at_ s τ)) (hx : noX LL s t t') :
    anyOn L (at_ s t) = anyOn L (at_ s t') ∧ hav L (at_ s t) = hav L (at_ s t') ∧ (kd = 3 → crd L (at_ s t) = crd L (at_ s t')) := by
  obtain ⟨a1, a2, a3⟩ := along h hL hn ht g1 g2 hno
  refine ⟨a1, a2, fun h3 => ?_⟩
  have := a3 h3
  rw [par_false (fun s' h' => by
    cases hp : pX s'.1 s'.2 (at_ s t) (at_ s t') with
    | false => rfl
    | true =>
      obtain ⟨τ, q1, q2, q3, q4⟩ := (pX_at h0 ht h1).mp hp
      exact (hx s' (hL s' h') τ q1 q2 q3 q4).elim)] at this
  cases h5 : crd L (at_ s t) <;> cases h6 : crd L (at_ s t') <;> rw [h5, h6] at this <;> first | rfl | cases this
theorem alongW (h : shOK kd Q L E) (hL : ∀ x ∈ L, x ∈ LL) (hn : ndg s) (h0 : 0 ≤ t) (ht : t < t') (h1 : t' ≤ 1) (g1 : pll LL s (at_ s t)) (g2 : pll LL s (at_ s t')) (q1 : kd < 3 → at_ s t ∉ Q) (q2 : kd < 3 → at_ s t' ∉ Q) (hno : ∀ τ, t ≤ τ → τ ≤ t' → ¬ isEnd LL (at_ s τ)) (hx : noX LL s t t') :
    whR kd Q L E (at_ s t) = whR kd Q L E (at_ s t') ∧ ∀ o, sdR kd L o (at_ s t) = sdR kd L o (at_ s t') := by
  obtain ⟨a1, a2, a3⟩ := along0 h hL hn h0 ht h1 g1 g2 hno hx
  exact ⟨whR_same h q1 q2 a1 a3, fun o => sdR_same a2 a3⟩
end TWO2
/-- two segments that share an inner place and are not along one line cross there -/
theorem on_inner {s : Sq} (hs : ndg s) {p : Pt} (h : onS s.1 s.2 p) (h1 : p ≠ s.1) (h2 : p ≠ s.2) : ∃ τ, 0 < τ ∧ τ < 1 ∧ p = at_ s τ := by
  obtain ⟨τ, a, b, e⟩ := (on_at hs).mp h
  refine ⟨τ, ?_, ?_, e⟩
  · rcases rat_tri τ with q | q | q
    · grind
    · subst q; rw [at_0] at e; exact absurd e h1
    · exact q
  · rcases rat_tri (τ - 1) with q | q | q
    · grind
    · have : τ = 1 := by grind
      subst this; rw [at_1] at e; exact absurd e h2
    · grind
theorem opq_lin {u v τ : Rat} (h : u + τ * (v - u) = 0) (h0 : 0 < τ) (h1 : τ < 1) (hn : v - u ≠ 0) : opq u v := by
  have e1 : u = -(τ * (v - u)) := by grind
  have e2 : v = (1 - τ) * (v - u) := by grind
  rcases rat_tri (v - u) with q | q | q
  · have a1 := rat_mul_pn h0 q
    have a2 := rat_mul_pn (show 0 < 1 - τ by grind) q
    right; constructor <;> grind
  · exact absurd q hn
  · have a1 := Rat.mul_pos h0 q
    have a2 := Rat.mul_pos (show 0 < 1 - τ by grind) q
    left; constructor <;> grind
theorem inner_cross {s s' : Sq} (hs : ndg s) (hs' : ndg s') {p : Pt} (h : onS s.1 s.2 p) (h' : onS s'.1 s'.2 p) (h1 : p ≠ s.1) (h2 : p ≠ s.2) (h1' : p ≠ s'.1) (h2' : p ≠ s'.2) (hn : ¬ parl s s') : pXp s'.1 s'.2 s.1 s.2 := by
  obtain ⟨τ, a, b, e⟩ := on_inner hs h h1 h2
  obtain ⟨τ', a', b', e'⟩ := on_inner hs' h' h1' h2'
  constructor
  · refine opq_lin (τ := τ) ?_ a b ?_
    · rw [← ori_at, ← e]; exact h'.2.2
    · rw [ori_dir]; intro q; exact hn (by unfold parl; grind)
  · refine opq_lin (τ := τ') ?_ a' b' ?_
    · rw [← ori_at, ← e']; exact h.2.2
    · rw [ori_dir]; intro q; exact hn (by unfold parl; grind)
theorem pll_of {LL : List Sq} {s : Sq} {p : Pt} (hs : ndg s) (hall : ∀ x ∈ LL, ndg x) (hm : s ∈ LL) (ho : onS s.1 s.2 p) (he : ¬ isEnd LL p) (hx : ∀ s' ∈ LL, pXp s'.1 s'.2 s.1 s.2 → ori s'.1 s'.2 p = 0 → False) : pll LL s p := fun s' h' ho' => by
  by_cases hp : parl s s'
  · exact hp
  · exact (hx s' h' (inner_cross hs (hall s' h') ho ho' (fun e => he ⟨s, hm, Or.inl e⟩) (fun e => he ⟨s, hm, Or.inr e⟩) (fun e => he ⟨s', h', Or.inl e⟩) (fun e => he ⟨s', h', Or.inr e⟩) hp) ho'.2.2).elim
/-- beyond a place there is room before the next of a few -/
theorem gap : ∀ (B : List Rat) (t : Rat), t < 1 → ∃ t', t < t' ∧ t' ≤ 1 ∧ ∀ b ∈ B, t < b → t' ≤ b
  | [], t, h => ⟨1, h, by grind, fun b hb => by cases hb⟩
  | b :: B, t, h => by
    obtain ⟨t', h1, h2, h3⟩ := gap B t h
    by_cases hb : t < b ∧ b < t'
    · refine ⟨b, hb.1, by grind, fun c hc hl => ?_⟩
      rcases List.mem_cons.mp hc with rfl | hc
      · grind
      · have := h3 c hc hl; grind
    · refine ⟨t', h1, h2, fun c hc hl => ?_⟩
      rcases List.mem_cons.mp hc with rfl | hc
      · grind
      · exact h3 c hc hl
end PL2
