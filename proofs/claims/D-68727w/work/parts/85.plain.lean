/-! plain law 1: marks, the canonical marks K over two shapes -/
section PL1
theorem noteL_ge {v : Int} {k : Nat} : ∀ (L : List Mk) (MX : Nat → Int), v ≤ noteL MX L k ↔ (v ≤ MX k ∨ ∃ m ∈ L, 3 * m.1 + m.2.1 = k ∧ v ≤ (m.2.2 : Int))
  | [], MX => by simp [noteL]
  | x :: l, MX => by
    rw [noteL, noteL_ge l]
    by_cases h : 3 * x.1 + x.2.1 = k
    · have e : noteF MX x.1 x.2.1 x.2.2 k = max (MX k) (x.2.2 : Int) := by rw [noteF, h, updZ_s]
      rw [e]
      constructor
      · rintro (h1 | ⟨m, h1, h2⟩)
        · rcases Int.le_total (MX k) (x.2.2 : Int) with q | q
          · rw [Int.max_eq_right q] at h1; exact Or.inr ⟨x, List.mem_cons_self, h, h1⟩
          · rw [Int.max_eq_left q] at h1; exact Or.inl h1
        · exact Or.inr ⟨m, List.mem_cons_of_mem _ h1, h2⟩
      · rintro (h1 | ⟨m, h1, h2, h3⟩)
        · exact Or.inl (by omega)
        · rcases List.mem_cons.mp h1 with rfl | h1
          · exact Or.inl (by omega)
          · exact Or.inr ⟨m, h1, h2, h3⟩
    · have e : noteF MX x.1 x.2.1 x.2.2 k = MX k := by rw [noteF, updZ_n (fun q => h q.symm)]
      rw [e]
      constructor
      · rintro (h1 | ⟨m, h1, h2⟩)
        · exact Or.inl h1
        · exact Or.inr ⟨m, List.mem_cons_of_mem _ h1, h2⟩
      · rintro (h1 | ⟨m, h1, h2, h3⟩)
        · exact Or.inl h1
        · rcases List.mem_cons.mp h1 with rfl | h1
          · exact absurd h2 h
          · exact Or.inr ⟨m, h1, h2, h3⟩
def doms (m m' : Mk) : Prop := m'.1 = m.1 ∧ m'.2.1 = m.2.1 ∧ m.2.2 ≤ m'.2.2
theorem doms.rfl' (m : Mk) : doms m m := ⟨rfl, rfl, Nat.le_refl _⟩
theorem doms.trans {a b c : Mk} (h : doms a b) (g : doms b c) : doms a c := ⟨g.1.trans h.1, g.2.1.trans h.2.1, Nat.le_trans h.2.2 g.2.2⟩
def leM (K : Mk → Prop) (m : Mk) : Prop := (m.1 = 2 ∧ m.2.1 = 2) ∨ ∃ m', K m' ∧ doms m m'
theorem leM.of {K : Mk → Prop} {m : Mk} (h : K m) : leM K m := Or.inr ⟨m, h, doms.rfl' m⟩
def okM (m : Mk) : Prop := m.1 < 3 ∧ m.2.1 < 3 ∧ m.2.2 ≤ 2
theorem noteL_le {K : Mk → Prop} {L L' : List Mk} {MX MX' : Nat → Int} (h1 : ∀ m ∈ L, okM m) (h2 : ∀ m ∈ L, leM K m) (h3 : ∀ m, K m → ∃ m' ∈ L', doms m m') (e1 : ∀ k, k < 9 → MX k = MX' k) (e8 : MX' 8 = 2) {k : Nat} (hk : k < 9) : noteL MX L k ≤ noteL MX' L' k := by
  refine (noteL_ge L' MX').mpr ?_
  rcases (noteL_ge (v := noteL MX L k) L MX).mp (Int.le_refl _) with h | ⟨m, hm, ha, hb⟩
  · exact Or.inl (by rw [← e1 k hk]; exact h)
  · rcases h2 m hm with ⟨q1, q2⟩ | ⟨m', hK, hd⟩
    · have : k = 8 := by omega
      subst this
      have := (h1 m hm).2.2
      exact Or.inl (by omega)
    · obtain ⟨m'', hm'', hd'⟩ := h3 m' hK
      have hd2 := hd.trans hd'
      refine Or.inr ⟨m'', hm'', ?_, ?_⟩
      · rw [hd2.1, hd2.2.1]; exact ha
      · have := hd2.2.2; omega
/-! ### shapes over Rat -/
def whR (kd : Nat) (Q : List Pt) (L : List Sq) (E : Pt → Bool) (p : Pt) : Nat :=
  if kd = 1 then (if p ∈ Q then 0 else 2)
  else if kd = 2 then (if E p = true then 1 else if anyOn L p = true then 0 else 2)
  else if anyOn L p = true then 1 else if crd L p = true then 0 else 2
def sdR (kd : Nat) (L : List Sq) (o : Bool) (p : Pt) : Nat := if kd = 3 ∧ (crd L p ^^ (o && hav L p)) = true then 0 else 2
theorem whR_lt (kd : Nat) (Q : List Pt) (L : List Sq) (E : Pt → Bool) (p : Pt) : whR kd Q L E p < 3 := by
  unfold whR; split <;> (split <;> first | omega | (split <;> first | omega | (split <;> omega)))
theorem sdR_lt (kd : Nat) (L : List Sq) (o : Bool) (p : Pt) : sdR kd L o p < 3 := by unfold sdR; split <;> omega
def isEnd (L : List Sq) (p : Pt) : Prop := ∃ s ∈ L, p = s.1 ∨ p = s.2
/-- a shape: its kind, points, segments, places where an odd number of ends lie -/
def shOK (kd : Nat) (Q : List Pt) (L : List Sq) (E : Pt → Bool) : Prop :=
  (1 ≤ kd ∧ kd ≤ 3) ∧ (∀ s ∈ L, ndg s ∧ s.1 ∈ Q ∧ s.2 ∈ Q) ∧ (kd = 1 → L = []) ∧ (kd = 3 → closedL L) ∧ (kd = 2 → ∀ p, E p = true → isEnd L p)
def gen (LL : List Sq) (QQ : List Pt) (s : Sq) (p : Pt) : Prop := s ∈ LL ∧ onS s.1 s.2 p ∧ p ∉ QQ ∧ ∀ s' ∈ LL, onS s'.1 s'.2 p → parl s s'
section TWO
variable (kd0 : Nat) (Q0 : List Pt) (L0 : List Sq) (E0 : Pt → Bool) (kd1 : Nat) (Q1 : List Pt) (L1 : List Sq) (E1 : Pt → Bool)
def plR (p : Pt) : Mk := (whR kd0 Q0 L0 E0 p, whR kd1 Q1 L1 E1 p, 0)
def pcR (p : Pt) : List Mk := [(whR kd0 Q0 L0 E0 p, whR kd1 Q1 L1 E1 p, 1), (sdR kd0 L0 false p, sdR kd1 L1 false p, 2), (sdR kd0 L0 true p, sdR kd1 L1 true p, 2)]
def mkd (p : Pt) : Prop := isEnd (L0 ++ L1) p ∨ (kd0 < 3 ∧ p ∈ Q0) ∨ (kd1 < 3 ∧ p ∈ Q1)
def crsg (s t : Sq) (p : Pt) : Prop := pXp t.1 t.2 s.1 s.2 ∧ onS s.1 s.2 p ∧ ori t.1 t.2 p = 0
def KK (m : Mk) : Prop :=
  (∃ p, mkd kd0 Q0 L0 kd1 Q1 L1 p ∧ m = plR kd0 Q0 L0 E0 kd1 Q1 L1 E1 p) ∨
  (∃ s ∈ L0 ++ L1, ∃ t ∈ L0 ++ L1, ∃ p, crsg s t p ∧ m = plR kd0 Q0 L0 E0 kd1 Q1 L1 E1 p) ∨
  (∃ s p, gen (L0 ++ L1) (Q0 ++ Q1) s p ∧ m ∈ pcR kd0 Q0 L0 E0 kd1 Q1 L1 E1 p)
end TWO
theorem plR_ok {kd0 : Nat} {Q0 : List Pt} {L0 : List Sq} {E0 : Pt → Bool} {kd1 : Nat} {Q1 : List Pt} {L1 : List Sq} {E1 : Pt → Bool} (p : Pt) : okM (plR kd0 Q0 L0 E0 kd1 Q1 L1 E1 p) := ⟨whR_lt .., whR_lt .., Nat.zero_le _⟩
theorem pcR_ok {kd0 : Nat} {Q0 : List Pt} {L0 : List Sq} {E0 : Pt → Bool} {kd1 : Nat} {Q1 : List Pt} {L1 : List Sq} {E1 : Pt → Bool} {p : Pt} : ∀ m ∈ pcR kd0 Q0 L0 E0 kd1 Q1 L1 E1 p, okM m := by
  intro m hm
  simp only [pcR, List.mem_cons, List.not_mem_nil, or_false] at hm
  rcases hm with rfl | rfl | rfl
  · exact ⟨whR_lt .., whR_lt .., Nat.le_of_ble_eq_true rfl⟩
  · exact ⟨sdR_lt .., sdR_lt .., Nat.le_of_ble_eq_true rfl⟩
  · exact ⟨sdR_lt .., sdR_lt .., Nat.le_of_ble_eq_true rfl⟩
/-! ### one shape along a segment -/
section ONE
variable {kd : Nat} {Q : List Pt} {L : List Sq} {E : Pt → Bool} {p p' : Pt}
theorem E_off (h : shOK kd Q L E) (h2 : kd = 2) (hp : p ∉ Q) : E p = false := by
  cases hE : E p with
  | false => rfl
  | true =>
    obtain ⟨s, hs, h1⟩ := h.2.2.2.2 h2 p hE
    have := h.2.1 s hs
    rcases h1 with rfl | rfl
    · exact absurd this.2.1 hp
    · exact absurd this.2.2 hp
/-- where a place is that is no point of the shape -/
theorem whR_off (h : shOK kd Q L E) (hp : kd < 3 → p ∉ Q) : whR kd Q L E p = lkW kd (anyOn L p) (crd L p) := by
  unfold whR lkW
  obtain ⟨⟨h1, h3⟩, -⟩ := id h
  rcases (show kd = 1 ∨ kd = 2 ∨ kd = 3 by omega) with rfl | rfl | rfl
  · simp [hp (by decide)]
  · simp [E_off h rfl (hp (by decide))]
  · simp
theorem whR_same (h : shOK kd Q L E) (hp : kd < 3 → p ∉ Q) (hp' : kd < 3 → p' ∉ Q) (ha : anyOn L p = anyOn L p') (hc : kd = 3 → crd L p = crd L p') : whR kd Q L E p = whR kd Q L E p' := by
  rw [whR_off h hp, whR_off h hp', ha]
  unfold lkW
  by_cases h3 : kd = 3
  · rw [hc h3]
  · simp [h3]
theorem sdR_same {o : Bool} (hv : hav L p = hav L p') (hc : kd = 3 → crd L p = crd L p') : sdR kd L o p = sdR kd L o p' := by
  unfold sdR
  by_cases h3 : kd = 3
  · rw [hv, hc h3]
  · rw [if_neg (fun q => h3 q.1), if_neg (fun q => h3 q.1)]
end ONE
theorem crd_nil (p : Pt) : crd [] p = false := rfl
theorem anyOn_iff {L : List Sq} {p : Pt} : anyOn L p = true ↔ ∃ s ∈ L, onS s.1 s.2 p := by
  unfold anyOn onB
  rw [List.any_eq_true]
  constructor
  · rintro ⟨s, h1, h2⟩; exact ⟨s, h1, of_decide_eq_true h2⟩
  · rintro ⟨s, h1, h2⟩; exact ⟨s, h1, decide_eq_true h2⟩
end PL1
