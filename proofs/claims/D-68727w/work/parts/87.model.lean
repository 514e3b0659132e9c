/-! plain law 3: the marks of the cuts are the canonical ones -/
section PL3
variable {kd0 : Nat} {Q0 : List Pt} {L0 : List Sq} {E0 : Pt → Bool} {kd1 : Nat} {Q1 : List Pt} {L1 : List Sq} {E1 : Pt → Bool}
theorem two_ndg (h0 : shOK kd0 Q0 L0 E0) (h1 : shOK kd1 Q1 L1 E1) : ∀ s ∈ L0 ++ L1, ndg s := fun s h => by
  rcases List.mem_append.mp h with h | h
  · exact (h0.2.1 s h).1
  · exact (h1.2.1 s h).1
theorem two_end (h0 : shOK kd0 Q0 L0 E0) (h1 : shOK kd1 Q1 L1 E1) {p : Pt} (he : isEnd (L0 ++ L1) p) : p ∈ Q0 ++ Q1 := by
  obtain ⟨s, hs, e⟩ := he
  rcases List.mem_append.mp hs with h | h
  · have := h0.2.1 s h
    rcases e with rfl | rfl
    · exact List.mem_append_left _ this.2.1
    · exact List.mem_append_left _ this.2.2
  · have := h1.2.1 s h
    rcases e with rfl | rfl
    · exact List.mem_append_right _ this.2.1
    · exact List.mem_append_right _ this.2.2
theorem events (LL : List Sq) {s : Sq} (hs : ndg s) : ∃ B : List Rat, (∀ τ, isEnd LL (at_ s τ) → τ ∈ B) ∧ ∀ s' ∈ LL, ∀ τ, pXp s'.1 s'.2 s.1 s.2 → ori s'.1 s'.2 (at_ s τ) = 0 → τ ∈ B := by
  obtain ⟨B1, h1⟩ := finU (fun (s' : Sq) τ => at_ s τ = s'.1) LL (fun s' _ => one_pt hs s'.1)
  obtain ⟨B2, h2⟩ := finU (fun (s' : Sq) τ => at_ s τ = s'.2) LL (fun s' _ => one_pt hs s'.2)
  obtain ⟨B3, h3⟩ := finU (fun (s' : Sq) τ => pXp s'.1 s'.2 s.1 s.2 ∧ ori s'.1 s'.2 (at_ s τ) = 0) LL (fun s' _ => by
    by_cases hX : pXp s'.1 s'.2 s.1 s.2
    · obtain ⟨τ, -, -, hz⟩ := cross_at hX
      exact ⟨[τ], fun τ' h => by rw [cross_one hX h.2 hz]; exact List.mem_singleton.mpr rfl⟩
    · exact ⟨[], fun τ h => absurd h.1 hX⟩)
  refine ⟨B1 ++ (B2 ++ B3), fun τ he => ?_, fun s' h' τ hX hz => List.mem_append_right _ (List.mem_append_right _ (h3 s' h' τ ⟨hX, hz⟩))⟩
  obtain ⟨s', h', e | e⟩ := he
  · exact List.mem_append_left _ (h1 s' h' τ e)
  · exact List.mem_append_right _ (List.mem_append_left _ (h2 s' h' τ e))
theorem lkW_ff (kd : Nat) : lkW kd false false = 2 := by unfold lkW; split <;> (first | rfl | (split <;> rfl))
theorem cross_heights (LL : List Sq) (hn : ∀ s ∈ LL, ndg s) : ∃ B : List Rat, ∀ s ∈ LL, ∀ t ∈ LL, ∀ q, crsg s t q → q.2 ∈ B := by
  obtain ⟨B, h⟩ := finU (fun (x : Sq × Sq) y => ∃ q, crsg x.1 x.2 q ∧ q.2 = y) (LL.flatMap fun s => LL.map fun t => (s, t)) (fun x hx => by
    obtain ⟨s, hs, hx⟩ := List.mem_flatMap.mp hx
    obtain ⟨t, ht, rfl⟩ := List.mem_map.mp hx
    by_cases hX : pXp t.1 t.2 s.1 s.2
    · obtain ⟨τ, -, -, hz⟩ := cross_at hX
      refine ⟨[(at_ s τ).2], ?_⟩
      rintro y ⟨q, ⟨-, ho, hq⟩, rfl⟩
      obtain ⟨τ', -, -, e⟩ := (on_at (hn s hs)).mp ho
      rw [e] at hq ⊢
      rw [cross_one hX hq hz]; exact List.mem_singleton.mpr rfl
    · exact ⟨[], fun y hy => by obtain ⟨q, h, -⟩ := hy; exact absurd h.1 hX⟩)
  exact ⟨B, fun s hs t ht q hq => h (s, t) (List.mem_flatMap.mpr ⟨s, hs, List.mem_map.mpr ⟨t, ht, rfl⟩⟩) q.2 ⟨q, hq, rfl⟩⟩
/-- from a place inside (or outside) all around: a generic place whose far side is like it -/
theorem ray_gen (h0 : shOK kd0 Q0 L0 E0) (h1 : shOK kd1 Q1 L1 E1) {LS : List Sq} (hsub : ∀ x ∈ LS, x ∈ L0 ++ L1) {p : Pt} (hno : ∀ s ∈ LS, ¬ onS s.1 s.2 p) :
    (∀ s ∈ LS, crX s.1 s.2 p = false) ∨ ∃ s q, s ∈ LS ∧ gen (L0 ++ L1) (Q0 ++ Q1) s q ∧ ∀ s' ∈ LS, crX s'.1 s'.2 p = (crX s'.1 s'.2 q ^^ onB s'.1 s'.2 q) := by
  obtain ⟨B, hB⟩ := cross_heights (L0 ++ L1) (two_ndg h0 h1)
  rcases ray hno ((Q0 ++ Q1).map (fun q => q.2) ++ B) (fun s hs => ⟨List.mem_append_left _ (List.mem_map.mpr ⟨s.1, two_end h0 h1 ⟨s, hsub s hs, Or.inl rfl⟩, rfl⟩), List.mem_append_left _ (List.mem_map.mpr ⟨s.2, two_end h0 h1 ⟨s, hsub s hs, Or.inr rfl⟩, rfl⟩)⟩) with h | ⟨s, hs, q, ho, -, hF, hq⟩
  · exact Or.inl h
  · have hnQ : q ∉ Q0 ++ Q1 := fun z => hF (List.mem_append_left _ (List.mem_map.mpr ⟨q, z, rfl⟩))
    refine Or.inr ⟨s, q, hs, ⟨hsub s hs, ho, hnQ, ?_⟩, hq⟩
    exact pll_of (two_ndg h0 h1 s (hsub s hs)) (two_ndg h0 h1) (hsub s hs) ho (fun e => hnQ (two_end h0 h1 e)) (fun s' h' hX hz => hF (List.mem_append_right _ (hB s (hsub s hs) s' h' q ⟨hX, ho, hz⟩)))
theorem crd_far {L : List Sq} {p q : Pt} (h : ∀ s' ∈ L, crX s'.1 s'.2 p = (crX s'.1 s'.2 q ^^ onB s'.1 s'.2 q)) : crd L p = (crd L q ^^ hav L q) := by
  unfold crd hav
  rw [par_congr h, par_xor]
theorem whR_far {kd : Nat} {Q : List Pt} {L : List Sq} {E : Pt → Bool} {p q : Pt} (h : shOK kd Q L E) (hp : kd < 3 → p ∉ Q) (hn : anyOn L p = false) (hc : crd L p = (crd L q ^^ hav L q)) : whR kd Q L E p = sdR kd L true q := by
  rw [whR_off h hp, hn]
  unfold lkW sdR
  obtain ⟨⟨a, b⟩, -⟩ := h
  rcases (show kd = 1 ∨ kd = 2 ∨ kd = 3 by omega) with rfl | rfl | rfl
  · simp
  · simp
  · rw [hc]; simp
/-- a point that neither ends a segment nor belongs to points or lines: its mark says no more -/
theorem iso (h0 : shOK kd0 Q0 L0 E0) (h1 : shOK kd1 Q1 L1 E1) {p : Pt} (hm : ¬ mkd kd0 Q0 L0 kd1 Q1 L1 p) : leM (KK kd0 Q0 L0 E0 kd1 Q1 L1 E1) (plR kd0 Q0 L0 E0 kd1 Q1 L1 E1 p) := by
  have hn := two_ndg h0 h1
  have he : ¬ isEnd (L0 ++ L1) p := fun e => hm (Or.inl e)
  have p0 : kd0 < 3 → p ∉ Q0 := fun a b => hm (Or.inr (Or.inl ⟨a, b⟩))
  have p1 : kd1 < 3 → p ∉ Q1 := fun a b => hm (Or.inr (Or.inr ⟨a, b⟩))
  by_cases hon : ∃ s ∈ L0 ++ L1, onS s.1 s.2 p
  · obtain ⟨s, hs, ho⟩ := hon
    by_cases hx : ∃ s' ∈ L0 ++ L1, pXp s'.1 s'.2 s.1 s.2 ∧ ori s'.1 s'.2 p = 0
    · obtain ⟨s', h', hX, hz⟩ := hx
      exact leM.of (Or.inr (Or.inl ⟨s, hs, s', h', p, ⟨hX, ho, hz⟩, rfl⟩))
    · have hpl := pll_of (hn s hs) hn hs ho he (fun s' h' a b => hx ⟨s', h', a, b⟩)
      obtain ⟨τ, a, b, e⟩ := on_inner (hn s hs) ho (fun e => he ⟨s, hs, Or.inl e⟩) (fun e => he ⟨s, hs, Or.inr e⟩)
      obtain ⟨B, hB1, hB2⟩ := events (L0 ++ L1) (hn s hs)
      obtain ⟨t1, c1, c2, c3⟩ := gap B τ b
      obtain ⟨t, d1, d2, -, hg⟩ := gen_ex (QQ := Q0 ++ Q1) hs (hn s hs) [] (Rat.le_of_lt a) c1 c2
      subst e
      have hno : ∀ x, τ ≤ x → x ≤ t → ¬ isEnd (L0 ++ L1) (at_ s x) := fun x x1 x2 hxe => by
        by_cases q : x = τ
        · rw [q] at hxe; exact he hxe
        · have := c3 x (hB1 x hxe) (by grind); grind
      have hX : noX (L0 ++ L1) s τ t := fun s' h' x x1 x2 x3 x4 => by
        have := c3 x (hB2 s' h' x x3 x4) x1; grind
      have k0 := alongW h0 (fun x h => List.mem_append_left _ h) (hn s hs) (Rat.le_of_lt a) d1 (by grind) hpl hg.2.2.2 p0 (fun _ z => hg.2.2.1 (List.mem_append_left _ z)) hno hX
      have k1 := alongW h1 (fun x h => List.mem_append_right _ h) (hn s hs) (Rat.le_of_lt a) d1 (by grind) hpl hg.2.2.2 p1 (fun _ z => hg.2.2.1 (List.mem_append_right _ z)) hno hX
      refine Or.inr ⟨(whR kd0 Q0 L0 E0 (at_ s t), whR kd1 Q1 L1 E1 (at_ s t), 1), Or.inr (Or.inr ⟨s, at_ s t, hg, List.mem_cons_self⟩), ?_⟩
      exact ⟨k0.1.symm, k1.1.symm, Nat.zero_le _⟩
  · have hno : ∀ s ∈ L0 ++ L1, ¬ onS s.1 s.2 p := fun s hs ho => hon ⟨s, hs, ho⟩
    have a0 : anyOn L0 p = false := by
      cases q : anyOn L0 p with
      | false => rfl
      | true => obtain ⟨s, hs, ho⟩ := anyOn_iff.mp q; exact absurd ho (hno s (List.mem_append_left _ hs))
    have a1 : anyOn L1 p = false := by
      cases q : anyOn L1 p with
      | false => rfl
      | true => obtain ⟨s, hs, ho⟩ := anyOn_iff.mp q; exact absurd ho (hno s (List.mem_append_right _ hs))
    rcases ray_gen h0 h1 (LS := L0 ++ L1) (fun _ h => h) hno with h | ⟨s, q, hs, hg, hq⟩
    · have c0 : crd L0 p = false := par_false fun s hs => h s (List.mem_append_left _ hs)
      have c1 : crd L1 p = false := par_false fun s hs => h s (List.mem_append_right _ hs)
      left
      constructor
      · show whR kd0 Q0 L0 E0 p = 2
        rw [whR_off h0 p0, a0, c0, lkW_ff]
      · show whR kd1 Q1 L1 E1 p = 2
        rw [whR_off h1 p1, a1, c1, lkW_ff]
    · refine Or.inr ⟨(sdR kd0 L0 true q, sdR kd1 L1 true q, 2), Or.inr (Or.inr ⟨s, q, hg, ?_⟩), ?_, ?_, Nat.zero_le _⟩
      · exact List.mem_cons_of_mem _ (List.mem_cons_of_mem _ List.mem_cons_self)
      · exact (whR_far h0 p0 a0 (crd_far fun s' h' => hq s' (List.mem_append_left _ h'))).symm
      · exact (whR_far h1 p1 a1 (crd_far fun s' h' => hq s' (List.mem_append_right _ h'))).symm
theorem pt_le (h0 : shOK kd0 Q0 L0 E0) (h1 : shOK kd1 Q1 L1 E1) (p : Pt) : leM (KK kd0 Q0 L0 E0 kd1 Q1 L1 E1) (plR kd0 Q0 L0 E0 kd1 Q1 L1 E1 p) := by
  by_cases hm : mkd kd0 Q0 L0 kd1 Q1 L1 p
  · exact leM.of (Or.inl ⟨p, hm, rfl⟩)
  · exact iso h0 h1 hm
theorem mkd_pt (h0 : shOK kd0 Q0 L0 E0) (h1 : shOK kd1 Q1 L1 E1) {p : Pt} (hm : mkd kd0 Q0 L0 kd1 Q1 L1 p) : p ∈ Q0 ++ Q1 := by
  rcases hm with h | h | h
  · exact two_end h0 h1 h
  · exact List.mem_append_left _ h.2
  · exact List.mem_append_right _ h.2
/-! ### cuts -/
def cutsOK (LL : List Sq) (QQ : List Pt) (s : Sq) (c : List Rat) : Prop :=
  (∀ τ ∈ c, 0 ≤ τ ∧ τ ≤ 1) ∧ (∀ q ∈ QQ, onS s.1 s.2 q → ∃ τ ∈ c, at_ s τ = q) ∧ (∀ t ∈ LL, ∀ τ, pXp t.1 t.2 s.1 s.2 → ori t.1 t.2 (at_ s τ) = 0 → τ ∈ c) ∧ c.Pairwise (· < ·) ∧ (0 : Rat) ∈ c ∧ (1 : Rat) ∈ c
def adj {α : Type} (x y : α) (l : List α) : Prop := ∃ l1 l2, l = l1 ++ x :: y :: l2
theorem adj_none {x y : Rat} {l : List Rat} (hp : l.Pairwise (· < ·)) (h : adj x y l) : x < y ∧ ∀ z ∈ l, ¬ (x < z ∧ z < y) := by
  obtain ⟨l1, l2, rfl⟩ := h
  rw [List.pairwise_append] at hp
  obtain ⟨-, h2, h3⟩ := hp
  rw [List.pairwise_cons, List.pairwise_cons] at h2
  refine ⟨h2.1 y List.mem_cons_self, fun z hz => ?_⟩
  rcases List.mem_append.mp hz with hz | hz
  · have := h3 z hz x List.mem_cons_self; grind
  · rcases List.mem_cons.mp hz with rfl | hz
    · grind
    · rcases List.mem_cons.mp hz with rfl | hz
      · grind
      · have := h2.2.1 z hz; grind
theorem adj_find {t : Rat} : ∀ {l : List Rat}, l.Pairwise (· < ·) → (∃ a ∈ l, a < t) → (∃ b ∈ l, t < b) → t ∉ l → ∃ x y, adj x y l ∧ x < t ∧ t < y
  | [], _, h, _, _ => by obtain ⟨a, h, -⟩ := h; cases h
  | [a], _, h, h', _ => by
    obtain ⟨x, hx, h1⟩ := h
    obtain ⟨y, hy, h2⟩ := h'
    rw [List.mem_singleton] at hx hy
    subst hx; subst hy; grind
  | a :: b :: l, hp, h, h', hn => by
    rw [List.pairwise_cons] at hp
    by_cases hb : t < b
    · refine ⟨a, b, ⟨[], l, rfl⟩, ?_, hb⟩
      obtain ⟨x, hx, h1⟩ := h
      rcases List.mem_cons.mp hx with rfl | hx
      · exact h1
      · rcases List.mem_cons.mp hx with rfl | hx
        · grind
        · have := (List.pairwise_cons.mp hp.2).1 x hx; grind
    · have hbt : b < t := by
        have : t ≠ b := fun e => hn (by rw [e]; exact List.mem_cons_of_mem _ List.mem_cons_self)
        grind
      obtain ⟨y, hy, h2⟩ := h'
      have hy' : y ∈ b :: l := by
        rcases List.mem_cons.mp hy with rfl | hy
        · have := hp.1 b List.mem_cons_self; grind
        · exact hy
      obtain ⟨x, z, ⟨l1, l2, e⟩, q⟩ := adj_find hp.2 ⟨b, List.mem_cons_self, hbt⟩ ⟨y, hy', h2⟩ (fun z => hn (List.mem_cons_of_mem _ z))
      exact ⟨x, z, ⟨a :: l1, l2, by rw [e]; rfl⟩, q⟩
theorem adj_mem {α : Type} {x y : α} {l : List α} (h : adj x y l) : x ∈ l ∧ y ∈ l := by
  obtain ⟨l1, l2, rfl⟩ := h
  exact ⟨List.mem_append_right _ List.mem_cons_self, List.mem_append_right _ (List.mem_cons_of_mem _ List.mem_cons_self)⟩
theorem cut_gen (h0 : shOK kd0 Q0 L0 E0) (h1 : shOK kd1 Q1 L1 E1) {s : Sq} (hs : s ∈ L0 ++ L1) {c : List Rat} (hc : cutsOK (L0 ++ L1) (Q0 ++ Q1) s c) {t : Rat} (a : 0 ≤ t) (b : t ≤ 1) (hn : t ∉ c) : gen (L0 ++ L1) (Q0 ++ Q1) s (at_ s t) := by
  have hnd := two_ndg h0 h1
  have ho : onS s.1 s.2 (at_ s t) := (on_at (hnd s hs)).mpr ⟨t, a, b, rfl⟩
  have hQ : at_ s t ∉ Q0 ++ Q1 := fun z => by
    obtain ⟨τ, hτ, e⟩ := hc.2.1 _ z ho
    rw [at_inj (hnd s hs) e] at hτ; exact hn hτ
  exact ⟨hs, ho, hQ, pll_of (hnd s hs) hnd hs ho (fun e => hQ (two_end h0 h1 e)) (fun s' h' hX hz => hn (hc.2.2.1 s' h' t hX hz))⟩
theorem mid_gen (h0 : shOK kd0 Q0 L0 E0) (h1 : shOK kd1 Q1 L1 E1) {s : Sq} (hs : s ∈ L0 ++ L1) {c : List Rat} (hc : cutsOK (L0 ++ L1) (Q0 ++ Q1) s c) {x y : Rat} (h : adj x y c) : gen (L0 ++ L1) (Q0 ++ Q1) s (at_ s ((x + y) / 2)) := by
  obtain ⟨hlt, hno⟩ := adj_none hc.2.2.2.1 h
  have hx := hc.1 x (adj_mem h).1
  have hy := hc.1 y (adj_mem h).2
  exact cut_gen h0 h1 hs hc (by grind) (by grind) (fun z => hno _ z (by constructor <;> grind))
theorem gen_cut (h0 : shOK kd0 Q0 L0 E0) (h1 : shOK kd1 Q1 L1 E1) {s : Sq} {c : List Rat} (hc : cutsOK (L0 ++ L1) (Q0 ++ Q1) s c) (hA : ∀ τ ∈ c, at_ s τ ∈ Q0 ++ Q1 ∨ ∃ t ∈ L0 ++ L1, pXp t.1 t.2 s.1 s.2 ∧ ori t.1 t.2 (at_ s τ) = 0) {p : Pt} (hg : gen (L0 ++ L1) (Q0 ++ Q1) s p) : ∃ x y, adj x y c ∧ pcR kd0 Q0 L0 E0 kd1 Q1 L1 E1 p = pcR kd0 Q0 L0 E0 kd1 Q1 L1 E1 (at_ s ((x + y) / 2)) := by
  have hnd := two_ndg h0 h1
  obtain ⟨hs, ho, hQ, hpl⟩ := id hg
  obtain ⟨t, a, b, rfl⟩ := (on_at (hnd s hs)).mp ho
  have hcross : ∀ t' ∈ L0 ++ L1, pXp t'.1 t'.2 s.1 s.2 → ori t'.1 t'.2 (at_ s t) = 0 → False := fun t' h' hX hz => by
    obtain ⟨σ, c1, c2, c3⟩ := cross_at (s := t') (s' := s) ⟨hX.2, hX.1⟩
    obtain ⟨τ, e1, e2, e3⟩ := cross_at hX
    have hτ : t = τ := cross_one hX hz e3
    have hon : onS t'.1 t'.2 (at_ s t) := by
      obtain ⟨σ', e⟩ := col_at (hnd t' h') hz
      have hσ : σ' = σ := cross_one (s := t') (s' := s) ⟨hX.2, hX.1⟩ (by rw [← e]; exact ori_self s t) c3
      exact (on_at (hnd t' h')).mpr ⟨σ', by grind, by grind, e⟩
    have hp := hpl t' h' hon
    have hd := ori_dir s t'
    unfold parl at hp
    rw [hp] at hd
    rcases hX.1 with q | q <;> grind
  have htn : t ∉ c := fun z => by
    rcases hA t z with h | ⟨t', h', hX, hz⟩
    · exact hQ h
    · exact hcross t' h' hX hz
  have ht0 : t ≠ 0 := fun e => htn (by rw [e]; exact hc.2.2.2.2.1)
  have ht1 : t ≠ 1 := fun e => htn (by rw [e]; exact hc.2.2.2.2.2)
  obtain ⟨x, y, hadj, hx, hy⟩ := adj_find hc.2.2.2.1 ⟨0, hc.2.2.2.2.1, by grind⟩ ⟨1, hc.2.2.2.2.2, by grind⟩ htn
  refine ⟨x, y, hadj, ?_⟩
  obtain ⟨hlt, hno⟩ := adj_none hc.2.2.2.1 hadj
  have hx0 := hc.1 x (adj_mem hadj).1
  have hy0 := hc.1 y (adj_mem hadj).2
  have hgm := mid_gen h0 h1 hs hc hadj
  have key : ∀ u v : Rat, x < u → u < v → v < y → gen (L0 ++ L1) (Q0 ++ Q1) s (at_ s u) → gen (L0 ++ L1) (Q0 ++ Q1) s (at_ s v) → pcR kd0 Q0 L0 E0 kd1 Q1 L1 E1 (at_ s u) = pcR kd0 Q0 L0 E0 kd1 Q1 L1 E1 (at_ s v) := fun u v h1' h2' h3' g1 g2 => by
    have hE : ∀ τ, u ≤ τ → τ ≤ v → ¬ isEnd (L0 ++ L1) (at_ s τ) := fun τ q1 q2 he => by
      obtain ⟨τ', hτ', e⟩ := hc.2.1 _ (two_end h0 h1 he) ((on_at (hnd s hs)).mpr ⟨τ, by grind, by grind, rfl⟩)
      rw [at_inj (hnd s hs) e] at hτ'
      exact hno τ hτ' ⟨by grind, by grind⟩
    have hX : noX (L0 ++ L1) s u v := fun s' h' τ q1 q2 q3 q4 => hno τ (hc.2.2.1 s' h' τ q3 q4) ⟨by grind, by grind⟩
    have k0 := alongW h0 (fun x h => List.mem_append_left _ h) (hnd s hs) (by grind) h2' (by grind) g1.2.2.2 g2.2.2.2 (fun _ z => g1.2.2.1 (List.mem_append_left _ z)) (fun _ z => g2.2.2.1 (List.mem_append_left _ z)) hE hX
    have k1 := alongW h1 (fun x h => List.mem_append_right _ h) (hnd s hs) (by grind) h2' (by grind) g1.2.2.2 g2.2.2.2 (fun _ z => g1.2.2.1 (List.mem_append_right _ z)) (fun _ z => g2.2.2.1 (List.mem_append_right _ z)) hE hX
    unfold pcR
    rw [k0.1, k1.1, k0.2, k0.2, k1.2, k1.2]
  rcases rat_tri (t - (x + y) / 2) with q | q | q
  · exact key t ((x + y) / 2) hx (by grind) (by grind) hg hgm
  · rw [show t = (x + y) / 2 by grind]
  · exact (key ((x + y) / 2) t (by grind) (by grind) hy hgm hg).symm
end PL3
