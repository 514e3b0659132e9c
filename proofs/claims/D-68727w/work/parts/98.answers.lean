/-! plain law 14: both matrices, both answers -/
section PL14
/-! ### the questions, by the canonical marks -/
section QK
variable {kd0 : Nat} {Q0 : List Pt} {L0 : List Sq} {E0 : Pt → Bool} {kd1 : Nat} {Q1 : List Pt} {L1 : List Sq} {E1 : Pt → Bool}
theorem KK_ok {m : Mk} (h : KK kd0 Q0 L0 E0 kd1 Q1 L1 E1 m) : okM m := by
  rcases h with ⟨p, -, rfl⟩ | ⟨s, -, t, -, p, -, rfl⟩ | ⟨s, p, -, h⟩
  · exact plR_ok p
  · exact plR_ok p
  · exact pcR_ok m h
theorem KK_swap {m : Mk} (h : KK kd0 Q0 L0 E0 kd1 Q1 L1 E1 m) : KK kd1 Q1 L1 E1 kd0 Q0 L0 E0 (m.2.1, m.1, m.2.2) := by
  have sw : ∀ {x : Sq}, x ∈ L0 ++ L1 → x ∈ L1 ++ L0 := fun hx => by
    rcases List.mem_append.mp hx with q | q
    · exact List.mem_append_right _ q
    · exact List.mem_append_left _ q
  have ws : ∀ {x : Sq}, x ∈ L1 ++ L0 → x ∈ L0 ++ L1 := fun hx => by
    rcases List.mem_append.mp hx with q | q
    · exact List.mem_append_right _ q
    · exact List.mem_append_left _ q
  rcases h with ⟨p, hp, rfl⟩ | ⟨s, hs, t, ht, p, hp, rfl⟩ | ⟨s, p, hg, h⟩
  · refine Or.inl ⟨p, ?_, rfl⟩
    rcases hp with ⟨s, hs, e⟩ | q | q
    · exact Or.inl ⟨s, sw hs, e⟩
    · exact Or.inr (Or.inr q)
    · exact Or.inr (Or.inl q)
  · exact Or.inr (Or.inl ⟨s, sw hs, t, sw ht, p, hp, rfl⟩)
  · refine Or.inr (Or.inr ⟨s, p, ⟨sw hg.1, hg.2.1, fun z => hg.2.2.1 ?_, fun s' h' => hg.2.2.2 s' (ws h')⟩, ?_⟩)
    · rcases List.mem_append.mp z with q | q
      · exact List.mem_append_right _ q
      · exact List.mem_append_left _ q
    · simp only [pcR, List.mem_cons, List.not_mem_nil, or_false] at h ⊢
      rcases h with rfl | rfl | rfl
      · exact Or.inl rfl
      · exact Or.inr (Or.inl rfl)
      · exact Or.inr (Or.inr rfl)
/-- a mark that says 'inside' of the first shape at a dimension -/
def inK (K : Mk → Prop) (d : Nat) : Prop := ∃ m, K m ∧ m.1 = 0 ∧ d ≤ m.2.2
def upK (K : Mk → Prop) (d : Nat) : Prop := ∃ m, K m ∧ m.1 ≤ 1 ∧ d ≤ m.2.2
theorem sd_two {kd : Nat} {L : List Sq} {o : Bool} {p : Pt} (h : kd ≠ 3) : sdR kd L o p = 2 := by unfold sdR; rw [if_neg (fun q => h q.1)]
/-- what a canonical mark is, in short: its first shape's word -/
theorem KK_first {m : Mk} (h : KK kd0 Q0 L0 E0 kd1 Q1 L1 E1 m) : (∃ p, m.1 = whR kd0 Q0 L0 E0 p ∧ (1 ≤ m.2.2 → p ∉ Q0)) ∧ m.2.2 ≤ 1 ∨ (∃ p o, m.1 = sdR kd0 L0 o p) := by
  rcases h with ⟨p, -, rfl⟩ | ⟨s, -, t, -, p, -, rfl⟩ | ⟨s, p, hg, h⟩
  · exact Or.inl ⟨⟨p, rfl, fun q => absurd q (Nat.not_succ_le_zero 0)⟩, Nat.le_of_ble_eq_true rfl⟩
  · exact Or.inl ⟨⟨p, rfl, fun q => absurd q (Nat.not_succ_le_zero 0)⟩, Nat.le_of_ble_eq_true rfl⟩
  · simp only [pcR, List.mem_cons, List.not_mem_nil, or_false] at h
    rcases h with rfl | rfl | rfl
    · exact Or.inl ⟨⟨p, rfl, fun _ q => hg.2.2.1 (List.mem_append_left _ q)⟩, Nat.le_of_ble_eq_true rfl⟩
    · exact Or.inr ⟨p, false, rfl⟩
    · exact Or.inr ⟨p, true, rfl⟩
theorem in_one1 (h0 : shOK 1 Q0 L0 E0) : (inK (KK 1 Q0 L0 E0 kd1 Q1 L1 E1) 0 ↔ Q0 ≠ []) ∧ ¬ inK (KK 1 Q0 L0 E0 kd1 Q1 L1 E1) 1 ∧ (upK (KK 1 Q0 L0 E0 kd1 Q1 L1 E1) 0 ↔ Q0 ≠ []) ∧ ¬ upK (KK 1 Q0 L0 E0 kd1 Q1 L1 E1) 1 := by
  have hup : ∀ d, upK (KK 1 Q0 L0 E0 kd1 Q1 L1 E1) d → d = 0 ∧ Q0 ≠ [] := fun d hd => by
    obtain ⟨m, hm, h1, h2⟩ := hd
    rcases KK_first hm with ⟨⟨p, hp, hq⟩, h3⟩ | ⟨p, o, hp⟩
    · by_cases hpQ : p ∈ Q0
      · refine ⟨?_, fun e => by rw [e] at hpQ; cases hpQ⟩
        by_cases z : 1 ≤ m.2.2
        · exact absurd hpQ (hq z)
        · omega
      · have : whR 1 Q0 L0 E0 p = 2 := by unfold whR; rw [if_pos rfl, if_neg hpQ]
        omega
    · rw [sd_two (by decide)] at hp; omega
  have hin : Q0 ≠ [] → inK (KK 1 Q0 L0 E0 kd1 Q1 L1 E1) 0 := fun hne => by
    obtain ⟨p, hp⟩ := List.exists_mem_of_ne_nil _ hne
    refine ⟨_, Or.inl ⟨p, Or.inr (Or.inl ⟨by decide, hp⟩), rfl⟩, ?_, Nat.zero_le _⟩
    show whR 1 Q0 L0 E0 p = 0
    unfold whR; rw [if_pos rfl, if_pos hp]
  have iu : ∀ d, inK (KK 1 Q0 L0 E0 kd1 Q1 L1 E1) d → upK (KK 1 Q0 L0 E0 kd1 Q1 L1 E1) d := fun d ⟨m, a, b, c⟩ => ⟨m, a, by omega, c⟩
  exact ⟨⟨fun h => (hup 0 (iu 0 h)).2, hin⟩, fun h => by have := (hup 1 (iu 1 h)).1; omega, ⟨fun h => (hup 0 h).2, fun h => iu 0 (hin h)⟩, fun h => by have := (hup 1 h).1; omega⟩
theorem gen_of (h0 : shOK kd0 Q0 L0 E0) (h1 : shOK kd1 Q1 L1 E1) (hne : L0 ≠ []) : ∃ s p, s ∈ L0 ∧ gen (L0 ++ L1) (Q0 ++ Q1) s p := by
  obtain ⟨s, hs⟩ := List.exists_mem_of_ne_nil _ hne
  obtain ⟨τ, -, -, -, hg⟩ := gen_ex (QQ := Q0 ++ Q1) (List.mem_append_left L1 hs) (h0.2.1 s hs).1 [] (show (0 : Rat) ≤ 0 by decide) (show (0 : Rat) < 1 by decide) (by decide)
  exact ⟨s, _, hs, hg⟩
theorem in_one2 (h0 : shOK 2 Q0 L0 E0) (h1 : shOK kd1 Q1 L1 E1) : (L0 ≠ [] → inK (KK 2 Q0 L0 E0 kd1 Q1 L1 E1) 1) ∧ (L0 = [] → ¬ upK (KK 2 Q0 L0 E0 kd1 Q1 L1 E1) 0) ∧ ¬ upK (KK 2 Q0 L0 E0 kd1 Q1 L1 E1) 2 := by
  refine ⟨fun hne => ?_, fun he hd => ?_, fun hd => ?_⟩
  · obtain ⟨s, p, hs, hg⟩ := gen_of h0 h1 hne
    refine ⟨_, Or.inr (Or.inr ⟨s, p, hg, List.mem_cons_self⟩), ?_, Nat.le_refl _⟩
    show whR 2 Q0 L0 E0 p = 0
    rw [whR_off h0 (fun _ z => hg.2.2.1 (List.mem_append_left _ z)), anyOn_iff.mpr ⟨s, hs, hg.2.1⟩]
    rfl
  · obtain ⟨m, hm, a, b⟩ := hd
    rcases KK_first hm with ⟨⟨p, hp, -⟩, -⟩ | ⟨p, o, hp⟩
    · have : whR 2 Q0 L0 E0 p = 2 := by
        unfold whR
        rw [if_neg (by decide), if_pos rfl]
        have hE : E0 p ≠ true := fun q => by
          obtain ⟨s, hs, -⟩ := h0.2.2.2.2 rfl p q
          rw [he] at hs; cases hs
        have hA : anyOn L0 p ≠ true := fun q => by
          obtain ⟨s, hs, -⟩ := anyOn_iff.mp q
          rw [he] at hs; cases hs
        rw [if_neg hE, if_neg hA]
      omega
    · rw [sd_two (by decide)] at hp; omega
  · obtain ⟨m, hm, a, b⟩ := hd
    rcases KK_first hm with ⟨-, h⟩ | ⟨p, o, hp⟩
    · omega
    · rw [sd_two (by decide)] at hp; omega
theorem in_one3 (h0 : shOK 3 Q0 L0 E0) (h1 : shOK kd1 Q1 L1 E1) : (inK (KK 3 Q0 L0 E0 kd1 Q1 L1 E1) 0 → inK (KK 3 Q0 L0 E0 kd1 Q1 L1 E1) 2) ∧ (L0 ≠ [] → upK (KK 3 Q0 L0 E0 kd1 Q1 L1 E1) 1) ∧ (L0 = [] → ¬ upK (KK 3 Q0 L0 E0 kd1 Q1 L1 E1) 0) ∧ (upK (KK 3 Q0 L0 E0 kd1 Q1 L1 E1) 2 → inK (KK 3 Q0 L0 E0 kd1 Q1 L1 E1) 2) := by
  have far : ∀ p, whR 3 Q0 L0 E0 p = 0 → inK (KK 3 Q0 L0 E0 kd1 Q1 L1 E1) 2 := fun p hp => by
    unfold whR at hp
    rw [if_neg (by decide), if_neg (by decide)] at hp
    by_cases hA : anyOn L0 p = true
    · rw [if_pos hA] at hp; cases hp
    · rw [if_neg hA] at hp
      by_cases hc : crd L0 p = true
      · rcases ray_gen h0 h1 (LS := L0) (fun x h => List.mem_append_left _ h) (fun s hs ho => hA (anyOn_iff.mpr ⟨s, hs, ho⟩)) with h | ⟨s, q, hs, hg, hq⟩
        · have : crd L0 p = false := par_false h
          rw [hc] at this; cases this
        · refine ⟨_, Or.inr (Or.inr ⟨s, q, hg, List.mem_cons_of_mem _ (List.mem_cons_of_mem _ List.mem_cons_self)⟩), ?_, Nat.le_refl _⟩
          show sdR 3 L0 true q = 0
          unfold sdR
          rw [if_pos ⟨rfl, by rw [Bool.true_and, ← crd_far hq]; exact hc⟩]
      · rw [if_neg hc] at hp; cases hp
  have sdin : ∀ m, KK 3 Q0 L0 E0 kd1 Q1 L1 E1 m → m.1 ≤ 1 → 2 ≤ m.2.2 → inK (KK 3 Q0 L0 E0 kd1 Q1 L1 E1) 2 := fun m hm a b => by
    rcases KK_first hm with ⟨-, h⟩ | ⟨p, o, hp⟩
    · omega
    · refine ⟨m, hm, ?_, b⟩
      unfold sdR at hp
      split at hp
      · exact hp
      · omega
  refine ⟨fun ⟨m, hm, a, b⟩ => ?_, fun hne => ?_, fun he ⟨m, hm, a, b⟩ => ?_, fun ⟨m, hm, a, b⟩ => sdin m hm a b⟩
  · by_cases z : 2 ≤ m.2.2
    · exact ⟨m, hm, a, z⟩
    · rcases hm with ⟨p, -, rfl⟩ | ⟨s, -, t, -, p, -, rfl⟩ | ⟨s, p, hg, h⟩
      · exact far p a
      · exact far p a
      · simp only [pcR, List.mem_cons, List.not_mem_nil, or_false] at h
        rcases h with rfl | rfl | rfl
        · exact far p a
        · exact absurd (Nat.le_refl 2) z
        · exact absurd (Nat.le_refl 2) z
  · obtain ⟨s, p, hs, hg⟩ := gen_of h0 h1 hne
    refine ⟨_, Or.inr (Or.inr ⟨s, p, hg, List.mem_cons_self⟩), ?_, Nat.le_refl _⟩
    show whR 3 Q0 L0 E0 p ≤ 1
    rw [whR_off h0 (fun q => by omega), anyOn_iff.mpr ⟨s, hs, hg.2.1⟩]
    exact Nat.le_of_eq rfl
  · rcases KK_first hm with ⟨⟨p, hp, -⟩, -⟩ | ⟨p, o, hp⟩
    · have : whR 3 Q0 L0 E0 p = 2 := by
        rw [whR_off h0 (fun q => by omega), he]; rfl
      omega
    · have : sdR 3 L0 o p = 2 := by
        unfold sdR; rw [he, if_neg (fun q => by have := q.2; cases o <;> cases this)]
      omega
end QK
/-! ### a matrix and the canonical marks -/
def mxK (K : Mk → Prop) (MX : Nat → Int) : Prop := (∀ k, k < 9 → -1 ≤ MX k ∧ MX k ≤ 2) ∧ MX 8 = 2 ∧ ∀ k, k < 8 → ∀ d : Nat, ((d : Int) ≤ MX k ↔ ∃ m, K m ∧ 3 * m.1 + m.2.1 = k ∧ d ≤ m.2.2)
theorem mxK_of {K : Mk → Prop} {L : List Mk} {MXi : Nat → Int} (h1 : ∀ m ∈ L, okM m) (h2 : ∀ m ∈ L, leM K m) (h3 : ∀ m, K m → ∃ m' ∈ L, doms m m') (e1 : ∀ k, k < 8 → MXi k = -1) (e8 : MXi 8 = 2) : mxK K (noteL MXi L) := by
  refine ⟨fun k hk => ⟨(noteL_ge L MXi).mpr (Or.inl ?_), ?_⟩, ?_, fun k hk d => ?_⟩
  · by_cases q : k = 8
    · subst q; omega
    · rw [e1 k (by omega)]; decide
  · rcases (noteL_ge (v := noteL MXi L k) L MXi).mp (Int.le_refl _) with h | ⟨m, hm, -, hb⟩
    · by_cases q : k = 8
      · subst q; omega
      · rw [e1 k (by omega)] at h; omega
    · have := (h1 m hm).2.2; omega
  · have a : (2 : Int) ≤ noteL MXi L 8 := (noteL_ge L MXi).mpr (Or.inl (by omega))
    rcases (noteL_ge (v := noteL MXi L 8) L MXi).mp (Int.le_refl _) with h | ⟨m, hm, -, hb⟩
    · omega
    · have := (h1 m hm).2.2; omega
  · rw [noteL_ge]
    constructor
    · rintro (h | ⟨m, hm, ha, hb⟩)
      · rw [e1 k hk] at h; omega
      · rcases h2 m hm with ⟨q1, q2⟩ | ⟨m', hK, hd⟩
        · omega
        · exact ⟨m', hK, by rw [hd.1, hd.2.1]; exact ha, by have := hd.2.2; omega⟩
    · rintro ⟨m, hK, ha, hb⟩
      obtain ⟨m', hm', hd⟩ := h3 m hK
      exact Or.inr ⟨m', hm', by rw [hd.1, hd.2.1]; exact ha, by have := hd.2.2; omega⟩
theorem mxK_eq {K : Mk → Prop} {MX MX' : Nat → Int} (h : mxK K MX) (h' : mxK K MX') : ∀ k, k < 9 → MX k = MX' k := fun k hk => by
  by_cases q : k = 8
  · subst q; rw [h.2.1, h'.2.1]
  · have a := h.1 k hk
    have b := h'.1 k hk
    have key : ∀ d : Nat, ((d : Int) ≤ MX k ↔ (d : Int) ≤ MX' k) := fun d => (h.2.2 k (by omega) d).trans (h'.2.2 k (by omega) d).symm
    have k0 := key 0
    have k1 := key 1
    have k2 := key 2
    omega
theorem in_ge {K : Mk → Prop} (hok : ∀ m, K m → okM m) {MX : Nat → Int} (h : mxK K MX) (d : Nat) : ((d : Int) ≤ qInside MX 0 ↔ inK K d) ∧ ((d : Int) ≤ qDim MX 0 ↔ upK K d) := by
  have f := fun k hk => h.2.2 k hk d
  constructor
  · have e : ((d : Int) ≤ qInside MX 0) ↔ ((d : Int) ≤ MX 0 ∨ (d : Int) ≤ MX 1 ∨ (d : Int) ≤ MX 2) := by
      unfold qInside; rw [if_pos rfl]; omega
    rw [e, f 0 (by decide), f 1 (by decide), f 2 (by decide)]
    constructor
    · rintro (⟨m, a, b, c⟩ | ⟨m, a, b, c⟩ | ⟨m, a, b, c⟩) <;> exact ⟨m, a, by omega, c⟩
    · rintro ⟨m, a, b, c⟩
      have := hok m a
      rcases (show m.2.1 = 0 ∨ m.2.1 = 1 ∨ m.2.1 = 2 by have := this.2.1; omega) with q | q | q
      · exact Or.inl ⟨m, a, by omega, c⟩
      · exact Or.inr (Or.inl ⟨m, a, by omega, c⟩)
      · exact Or.inr (Or.inr ⟨m, a, by omega, c⟩)
  · have e : ((d : Int) ≤ qDim MX 0) ↔ ((d : Int) ≤ MX 0 ∨ (d : Int) ≤ MX 1 ∨ (d : Int) ≤ MX 2 ∨ (d : Int) ≤ MX 3 ∨ (d : Int) ≤ MX 4 ∨ (d : Int) ≤ MX 5) := by
      unfold qDim; rw [if_pos rfl]; omega
    rw [e, f 0 (by decide), f 1 (by decide), f 2 (by decide), f 3 (by decide), f 4 (by decide), f 5 (by decide)]
    constructor
    · rintro (⟨m, a, b, c⟩ | ⟨m, a, b, c⟩ | ⟨m, a, b, c⟩ | ⟨m, a, b, c⟩ | ⟨m, a, b, c⟩ | ⟨m, a, b, c⟩) <;> exact ⟨m, a, by omega, c⟩
    · rintro ⟨m, a, b, c⟩
      have := hok m a
      rcases (show m.1 = 0 ∨ m.1 = 1 by omega) with p | p
      · rcases (show m.2.1 = 0 ∨ m.2.1 = 1 ∨ m.2.1 = 2 by have := this.2.1; omega) with q | q | q
        · exact Or.inl ⟨m, a, by omega, c⟩
        · exact Or.inr (Or.inl ⟨m, a, by omega, c⟩)
        · exact Or.inr (Or.inr (Or.inl ⟨m, a, by omega, c⟩))
      · rcases (show m.2.1 = 0 ∨ m.2.1 = 1 ∨ m.2.1 = 2 by have := this.2.1; omega) with q | q | q
        · exact Or.inr (Or.inr (Or.inr (Or.inl ⟨m, a, by omega, c⟩)))
        · exact Or.inr (Or.inr (Or.inr (Or.inr (Or.inl ⟨m, a, by omega, c⟩))))
        · exact Or.inr (Or.inr (Or.inr (Or.inr (Or.inr ⟨m, a, by omega, c⟩))))
/-- the matrix read the other way round -/
def mxT (MX : Nat → Int) : Nat → Int := fun k => MX (3 * (k % 3) + k / 3)
theorem mxT_K {K K' : Mk → Prop} (hs : ∀ m, K m → K' (m.2.1, m.1, m.2.2)) (hs' : ∀ m, K' m → K (m.2.1, m.1, m.2.2)) (hok : ∀ m, K m → okM m) (hok' : ∀ m, K' m → okM m) {MX : Nat → Int} (h : mxK K MX) : mxK K' (mxT MX) := by
  refine ⟨fun k hk => h.1 _ (by omega), h.2.1, fun k hk d => ?_⟩
  unfold mxT
  rw [h.2.2 (3 * (k % 3) + k / 3) (by omega) d]
  constructor
  · rintro ⟨m, a, b, c⟩
    have := hok m a
    exact ⟨_, hs m a, (by have g1 := this.1; have g2 := this.2.1; show 3 * m.2.1 + m.1 = k; omega), c⟩
  · rintro ⟨m, a, b, c⟩
    have := hok' m a
    exact ⟨_, hs' m a, (by have g1 := this.1; have g2 := this.2.1; show 3 * m.2.1 + m.1 = 3 * (k % 3) + k / 3; omega), c⟩
theorem in_T (MX : Nat → Int) : qInside (mxT MX) 0 = qInside MX 1 ∧ qDim (mxT MX) 0 = qDim MX 1 := by
  constructor
  · show max (max (max (-1) (MX 0)) (MX 3)) (MX 6) = _
    unfold qInside; rw [if_neg (by decide)]
  · show max (max (max (-1) (max (MX 0) (MX 1))) (max (MX 3) (MX 4))) (max (MX 6) (MX 7)) = _
    unfold qDim; rw [if_neg (by decide)]
/-- inside and dimension of a shape by what the Model keeps -/
def inS (kd : Nat) (nq : Nat) (hs ha : Bool) : Int := if kd = 1 then (if 0 < nq then 0 else -1) else if kd = 2 then (if hs then 1 else -1) else (if ha then 2 else -1)
theorem pin0 {x : Int} (b : -1 ≤ x ∧ x ≤ 2) (h0 : ((0 : Nat) : Int) ≤ x) (h1 : ¬ ((1 : Nat) : Int) ≤ x) : x = 0 := by omega
theorem pinN {x : Int} (b : -1 ≤ x ∧ x ≤ 2) (h0 : ¬ ((0 : Nat) : Int) ≤ x) : x = -1 := by omega
theorem pin1 {x : Int} (b : -1 ≤ x ∧ x ≤ 2) (h1 : ((1 : Nat) : Int) ≤ x) (h2 : ¬ ((2 : Nat) : Int) ≤ x) : x = 1 := by omega
theorem pin2 {x : Int} (b : -1 ≤ x ∧ x ≤ 2) (h2 : ((2 : Nat) : Int) ≤ x) : x = 2 := by omega
theorem q_in {kd0 : Nat} {Q0 : List Pt} {L0 : List Sq} {E0 : Pt → Bool} {kd1 : Nat} {Q1 : List Pt} {L1 : List Sq} {E1 : Pt → Bool} (h0 : shOK kd0 Q0 L0 E0) (h1 : shOK kd1 Q1 L1 E1) {MX : Nat → Int} (hM : mxK (KK kd0 Q0 L0 E0 kd1 Q1 L1 E1) MX) {nq : Nat} {hs ha : Bool} (hq : 0 < nq ↔ Q0 ≠ []) (hh : hs = true ↔ L0 ≠ []) (hA : ha = true ↔ inK (KK kd0 Q0 L0 E0 kd1 Q1 L1 E1) 2) :
    qInside MX 0 = inS kd0 nq hs ha ∧ qDim MX 0 = if inS kd0 nq hs ha < 0 ∧ hs = true then 1 else inS kd0 nq hs ha := by
  have g := fun d => in_ge (fun m hm => KK_ok hm) hM d
  have b1 : -1 ≤ qInside MX 0 ∧ qInside MX 0 ≤ 2 := by
    have a0 := hM.1 0 (by decide); have a1 := hM.1 1 (by decide); have a2 := hM.1 2 (by decide)
    unfold qInside; rw [if_pos rfl]; omega
  have b2 : -1 ≤ qDim MX 0 ∧ qDim MX 0 ≤ 2 := by
    have a0 := hM.1 0 (by decide); have a1 := hM.1 1 (by decide); have a2 := hM.1 2 (by decide); have a3 := hM.1 3 (by decide); have a4 := hM.1 4 (by decide); have a5 := hM.1 5 (by decide)
    unfold qDim; rw [if_pos rfl]; omega
  have i0 := (g 0).1; have i1 := (g 1).1; have i2 := (g 2).1
  have u0 := (g 0).2; have u1 := (g 1).2; have u2 := (g 2).2
  have mono : ∀ {d d' : Nat}, d ≤ d' → inK (KK kd0 Q0 L0 E0 kd1 Q1 L1 E1) d' → inK (KK kd0 Q0 L0 E0 kd1 Q1 L1 E1) d := fun hd ⟨m, a, b, c⟩ => ⟨m, a, b, Nat.le_trans hd c⟩
  have mono' : ∀ {d d' : Nat}, d ≤ d' → upK (KK kd0 Q0 L0 E0 kd1 Q1 L1 E1) d' → upK (KK kd0 Q0 L0 E0 kd1 Q1 L1 E1) d := fun hd ⟨m, a, b, c⟩ => ⟨m, a, b, Nat.le_trans hd c⟩
  have iu : ∀ {d : Nat}, inK (KK kd0 Q0 L0 E0 kd1 Q1 L1 E1) d → upK (KK kd0 Q0 L0 E0 kd1 Q1 L1 E1) d := fun ⟨m, a, b, c⟩ => ⟨m, a, by omega, c⟩
  have hk := h0.1
  rcases (show kd0 = 1 ∨ kd0 = 2 ∨ kd0 = 3 by omega) with rfl | rfl | rfl
  · obtain ⟨a1, a2, a3, a4⟩ := in_one1 (kd1 := kd1) (Q1 := Q1) (L1 := L1) (E1 := E1) h0
    have hs0 : hs = false := by
      cases hs with
      | false => rfl
      | true => exact absurd (h0.2.2.1 rfl) (hh.mp rfl)
    subst hs0
    unfold inS
    rw [if_pos rfl]
    by_cases z : 0 < nq
    · rw [if_pos z, if_neg (fun w => by cases w.2)]
      exact ⟨pin0 b1 (i0.mpr (a1.mpr (hq.mp z))) (fun w => a2 (i1.mp w)), pin0 b2 (u0.mpr (a3.mpr (hq.mp z))) (fun w => a4 (u1.mp w))⟩
    · rw [if_neg z, if_neg (fun w => by cases w.2)]
      exact ⟨pinN b1 (fun w => z (hq.mpr (a1.mp (i0.mp w)))), pinN b2 (fun w => z (hq.mpr (a3.mp (u0.mp w))))⟩
  · obtain ⟨a1, a2, a3⟩ := in_one2 h0 h1
    unfold inS
    rw [if_neg (by decide), if_pos rfl]
    cases hs with
    | true =>
      rw [if_pos rfl, if_neg (fun w => absurd w.1 (by decide))]
      exact ⟨pin1 b1 (i1.mpr (a1 (hh.mp rfl))) (fun w => a3 (iu (i2.mp w))), pin1 b2 (u1.mpr (iu (a1 (hh.mp rfl)))) (fun w => a3 (u2.mp w))⟩
    | false =>
      rw [if_neg (show ¬ (false = true) by decide), if_neg (fun w => by cases w.2)]
      have he : L0 = [] := by
        cases hL : L0 with
        | nil => rfl
        | cons x l => have := hh.mpr (by rw [hL]; exact List.cons_ne_nil _ _); cases this
      exact ⟨pinN b1 (fun w => a2 he (iu (i0.mp w))), pinN b2 (fun w => a2 he (u0.mp w))⟩
  · obtain ⟨a1, a2, a3, a4⟩ := in_one3 h0 h1
    unfold inS
    rw [if_neg (by decide), if_neg (by decide)]
    cases ha with
    | true =>
      rw [if_pos rfl, if_neg (fun w => absurd w.1 (by decide))]
      exact ⟨pin2 b1 (i2.mpr (hA.mp rfl)), pin2 b2 (u2.mpr (iu (hA.mp rfl)))⟩
    | false =>
      rw [if_neg (show ¬ (false = true) by decide)]
      have n2 : ¬ inK (KK 3 Q0 L0 E0 kd1 Q1 L1 E1) 2 := fun w => by have := hA.mpr w; cases this
      refine ⟨pinN b1 (fun w => n2 (a1 (i0.mp w))), ?_⟩
      cases hs with
      | true =>
        rw [if_pos ⟨by decide, rfl⟩]
        exact pin1 b2 (u1.mpr (a2 (hh.mp rfl))) (fun w => n2 (a4 (u2.mp w)))
      | false =>
        rw [if_neg (fun w => by cases w.2)]
        have he : L0 = [] := by
          cases hL : L0 with
          | nil => rfl
          | cons x l => have := hh.mpr (by rw [hL]; exact List.cons_ne_nil _ _); cases this
        exact pinN b2 (fun w => a3 he (u0.mp w))
end PL14
