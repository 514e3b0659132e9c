/-! plain law 10: what the first look along a segment says -/
section PL10
variable {kd0 : Nat} {Q0 : List Pt} {L0 : List Sq} {E0 : Pt → Bool} {kd1 : Nat} {Q1 : List Pt} {L1 : List Sq} {E1 : Pt → Bool}
theorem crs_parl {s s' : Sq} : crs (dir s') (dir s) = 0 ↔ parl s s' := by
  unfold crs dir parl
  constructor <;> intro h <;> grind
abbrev leadsR (v d e : Pt) : Prop := 0 < (e.1 - v.1) * d.1 ∨ 0 < (e.2 - v.2) * d.2
def alB (v d : Pt) (s' : Sq) : Bool := decide (onS s'.1 s'.2 v ∧ crs (dir s') d = 0 ∧ (leadsR v d s'.1 ∨ leadsR v d s'.2))
theorem alB_iff {v d : Pt} {s' : Sq} : alB v d s' = true ↔ (onS s'.1 s'.2 v ∧ crs (dir s') d = 0 ∧ (leadsR v d s'.1 ∨ leadsR v d s'.2)) := by
  unfold alB; rw [decide_eq_true_iff]
theorem go_at (s : Sq) (τ u : Rat) : goP (at_ s τ) (dir s) (u - τ) = at_ s u := by
  unfold goP at_ dir
  refine Prod.ext ?_ ?_
  · dsimp only; grind
  · dsimp only; grind
theorem leads_at {s : Sq} (hs : ndg s) (τ α : Rat) : leadsR (at_ s τ) (dir s) (at_ s α) ↔ τ < α := by
  unfold leadsR
  have e1 : ((at_ s α).1 - (at_ s τ).1) * (dir s).1 = (α - τ) * ((s.2.1 - s.1.1) * (s.2.1 - s.1.1)) := by unfold at_ dir; dsimp only; grind
  have e2 : ((at_ s α).2 - (at_ s τ).2) * (dir s).2 = (α - τ) * ((s.2.2 - s.1.2) * (s.2.2 - s.1.2)) := by unfold at_ dir; dsimp only; grind
  rw [e1, e2]
  have sq : ∀ x : Rat, x ≠ 0 → 0 < x * x := fun x hx => by
    rcases rat_tri x with q | q | q
    · exact rat_mul_nn q q
    · exact absurd q hx
    · exact Rat.mul_pos q q
  have sq0 : ∀ x : Rat, 0 ≤ x * x := fun x => by
    rcases rat_tri x with q | q | q
    · exact Rat.le_of_lt (rat_mul_nn q q)
    · rw [q]; grind
    · exact Rat.le_of_lt (Rat.mul_pos q q)
  constructor
  · rintro (h | h)
    · have := rat_pos_of_mul (sq0 _) h; grind
    · have := rat_pos_of_mul (sq0 _) h; grind
  · intro h
    have h' : 0 < α - τ := by grind
    rcases hs with q | q
    · exact Or.inl (Rat.mul_pos h' (sq _ (by grind)))
    · exact Or.inr (Rat.mul_pos h' (sq _ (by grind)))
/-- one segment: it leads on along s behind τ just if a place a little further on lies on it -/
theorem al_one {s s' : Sq} (hs : ndg s) (hs' : ndg s') {τ u : Rat} (hu : τ < u) (hp : onS s'.1 s'.2 (at_ s u) → parl s s') (hA : ∀ x, τ < x → x ≤ u → at_ s x ≠ s'.1) (hB : ∀ x, τ < x → x ≤ u → at_ s x ≠ s'.2) : alB (at_ s τ) (dir s) s' = onB s'.1 s'.2 (at_ s u) := by
  have key : (onS s'.1 s'.2 (at_ s τ) ∧ crs (dir s') (dir s) = 0 ∧ (leadsR (at_ s τ) (dir s) s'.1 ∨ leadsR (at_ s τ) (dir s) s'.2)) ↔ onS s'.1 s'.2 (at_ s u) := by
    by_cases hpl : parl s s'
    · by_cases ho : ori s'.1 s'.2 (at_ s u) = 0
      · obtain ⟨c1, c2⟩ := parl_col hs' hpl ho
        obtain ⟨α, ea⟩ := col_at hs c1
        obtain ⟨β, eb⟩ := col_at hs c2
        rw [ea, eb, on_at_iff hs, on_at_iff hs, leads_at hs, leads_at hs]
        have ha : ¬ (τ < α ∧ α ≤ u) := fun q => hA α q.1 q.2 ea.symm
        have hb : ¬ (τ < β ∧ β ≤ u) := fun q => hB β q.1 q.2 eb.symm
        have hc := crs_parl.mpr hpl
        unfold bt
        constructor
        · rintro ⟨h1, -, h2⟩; grind
        · intro h; refine ⟨by grind, hc, by grind⟩
      · constructor
        · rintro ⟨h1, -, -⟩
          exact absurd (parl_ori hpl _ h1.2.2 τ u rfl) ho
        · intro h; exact absurd h.2.2 ho
    · constructor
      · rintro ⟨-, h, -⟩; exact absurd (crs_parl.mp h) hpl
      · intro h; exact absurd (hp h) hpl
  cases h : onB s'.1 s'.2 (at_ s u) with
  | true => exact alB_iff.mpr (key.mpr (of_decide_eq_true h))
  | false =>
    cases h2 : alB (at_ s τ) (dir s) s' with
    | false => rfl
    | true => exact absurd (key.mp (alB_iff.mp h2)) (of_decide_eq_false h)
theorem lk_eq {kd : Nat} {al od od' : Bool} (h : al = false → od = od') : lkW kd al od = lkW kd al od' := by
  cases al with
  | false => rw [h rfl]
  | true => unfold lkW; simp
/-- how a side of s turns out -/
theorem side_eq {kd : Nat} {Q : List Pt} {L : List Sq} {E : Pt → Bool} (h : shOK kd Q L E) (h3 : kd = 3) {s : Sq} (hs : ndg s) {τ u : Rat} (hsm : ∀ s' ∈ L, isSmall s' (at_ s τ) (dir s) (u - τ)) (hp : pll L s (at_ s u)) (hE : ¬ isEnd L (at_ s u)) {σ : Rat} (hσ : σ ≠ 0) (hσ1 : σ = 1 ∨ σ = -1) :
    par (fun s' => gOdd s' (at_ s τ) (dir s) (leanOf (dir s) σ)) L = (crd L (at_ s u) ^^ (!decide (isFirst (dir s) σ) && hav L (at_ s u))) := by
  have hd : (dir s).1 ≠ 0 ∨ (dir s).2 ≠ 0 := by
    unfold dir
    dsimp only
    rcases hs with q | q
    · exact Or.inl (by grind)
    · exact Or.inr (by grind)
  by_cases hf : isFirst (dir s) σ
  · rw [decide_eq_true hf]
    unfold crd
    rw [par_congr (fun s' h' => by rw [gOdd_first (h.2.1 s' h').1 (hsm s' h') hσ hf, go_at])]
    simp
  · rw [decide_eq_false hf]
    simp only [Bool.not_false, Bool.true_and]
    unfold crd hav
    rw [← par_xor]
    by_cases hd2 : (dir s).2 = 0
    · have hl : σ * (dir s).1 < 0 := by
        have hd1 : (dir s).1 ≠ 0 := by rcases hd with q | q; exact q; exact absurd hd2 q
        unfold isFirst at hf
        rcases hσ1 with rfl | rfl
        · grind
        · grind
      have e5 : par (fun s' => gOdd s' (at_ s τ) (dir s) (leanOf (dir s) σ)) L = par (fun s' => (crX s'.1 s'.2 (at_ s u) ^^ onB s'.1 s'.2 (at_ s u)) ^^ (onRay (at_ s u) s'.1 ^^ onRay (at_ s u) s'.2)) L := par_congr fun s' h' => by
        have e := gOdd_level (h.2.1 s' h').1 (hsm s' h') hd2 hl (by rw [go_at]; exact fun q => crs_parl.mpr (hp s' h' q)) (by rw [go_at]; exact fun q => hE ⟨s', h', Or.inl q⟩) (by rw [go_at]; exact fun q => hE ⟨s', h', Or.inr q⟩)
        rw [go_at] at e
        exact e
      rw [e5, par_xor]
      have hcl := h.2.2.2.1 h3 (fun z => onRay (at_ s u) z)
      rw [hcl, Bool.xor_false]
    · exact par_congr (fun s' h' => by rw [gOdd_other (h.2.1 s' h').1 (hsm s' h') hσ hd2 hf, go_at])
theorem first_not {d : Pt} (hd : d.1 ≠ 0 ∨ d.2 ≠ 0) : decide (isFirst d (-1)) = !decide (isFirst d 1) := by
  by_cases h : isFirst d 1
  · rw [decide_eq_true h]
    apply decide_eq_false
    unfold isFirst at h ⊢
    grind
  · rw [decide_eq_false h]
    apply decide_eq_true
    unfold isFirst at h ⊢
    grind
theorem small_all (LL : List Sq) (v d : Pt) : ∃ ρ : Rat, 0 < ρ ∧ ∀ r, 0 < r → r < ρ → ∀ s' ∈ LL, isSmall s' v d r := by
  obtain ⟨ρ, h1, h2⟩ := small (LL.flatMap fun s' => smallFor s' v d)
  exact ⟨ρ, h1, fun r r1 r2 s' h' => ⟨r1, fun x hx => h2 r r1 r2 x (List.mem_flatMap.mpr ⟨s', h', hx⟩)⟩⟩
def lkG (kd0 : Nat) (L0 : List Sq) (kd1 : Nat) (L1 : List Sq) (s : Sq) (v : Pt) : St :=
  (lkW kd0 (L0.any (alB v (dir s))) (par (fun s' => gOdd s' v (dir s) (0, 0)) L0), lkW kd1 (L1.any (alB v (dir s))) (par (fun s' => gOdd s' v (dir s) (0, 0)) L1),
   (decide (kd0 = 3) && par (fun s' => gOdd s' v (dir s) (leanOf (dir s) 1)) L0), (decide (kd1 = 3) && par (fun s' => gOdd s' v (dir s) (leanOf (dir s) 1)) L1),
   (decide (kd0 = 3) && par (fun s' => gOdd s' v (dir s) (leanOf (dir s) (-1))) L0), (decide (kd1 = 3) && par (fun s' => gOdd s' v (dir s) (leanOf (dir s) (-1))) L1))
theorem any_congr' {α : Type} {f g : α → Bool} : ∀ {l : List α}, (∀ x ∈ l, f x = g x) → l.any f = l.any g
  | [], _ => rfl
  | x :: l, h => by rw [List.any_cons, List.any_cons, h x List.mem_cons_self, any_congr' (fun y hy => h y (List.mem_cons_of_mem _ hy))]
theorem lk_one {kd : Nat} {Q : List Pt} {L : List Sq} {E : Pt → Bool} (h : shOK kd Q L E) {s : Sq} (hs : ndg s) {τ u : Rat} (hu : τ < u) (hsm : ∀ s' ∈ L, isSmall s' (at_ s τ) (dir s) (u - τ)) (hp : pll L s (at_ s u)) (hE : ∀ x, τ < x → x ≤ u → ¬ isEnd L (at_ s x)) :
    lkW kd (L.any (alB (at_ s τ) (dir s))) (par (fun s' => gOdd s' (at_ s τ) (dir s) (0, 0)) L) = lkW kd (anyOn L (at_ s u)) (crd L (at_ s u)) ∧
    (decide (kd = 3) && par (fun s' => gOdd s' (at_ s τ) (dir s) (leanOf (dir s) 1)) L) = (decide (kd = 3) && (crd L (at_ s u) ^^ (!decide (isFirst (dir s) 1) && hav L (at_ s u)))) ∧
    (decide (kd = 3) && par (fun s' => gOdd s' (at_ s τ) (dir s) (leanOf (dir s) (-1))) L) = (decide (kd = 3) && (crd L (at_ s u) ^^ (decide (isFirst (dir s) 1) && hav L (at_ s u)))) := by
  have hd : (dir s).1 ≠ 0 ∨ (dir s).2 ≠ 0 := by
    unfold dir
    dsimp only
    rcases hs with q | q
    · exact Or.inl (by grind)
    · exact Or.inr (by grind)
  have hal : L.any (alB (at_ s τ) (dir s)) = anyOn L (at_ s u) := any_congr' fun s' h' => al_one hs (h.2.1 s' h').1 hu (hp s' h') (fun x x1 x2 e => hE x x1 x2 ⟨s', h', Or.inl e⟩) (fun x x1 x2 e => hE x x1 x2 ⟨s', h', Or.inr e⟩)
  refine ⟨?_, ?_, ?_⟩
  · rw [hal]
    apply lk_eq
    intro hn
    unfold crd
    exact par_congr fun s' h' => by
      have hno : onB s'.1 s'.2 (at_ s u) = false := by
        cases q : onB s'.1 s'.2 (at_ s u) with
        | false => rfl
        | true =>
          have : anyOn L (at_ s u) = true := anyOn_iff.mpr ⟨s', h', of_decide_eq_true q⟩
          rw [hn] at this; cases this
      rw [gOdd_none (h.2.1 s' h').1 hd (hsm s' h') (by rw [go_at]; exact hno), go_at]
  · by_cases h3 : kd = 3
    · rw [side_eq h h3 hs hsm hp (hE u hu (by grind)) (by decide) (Or.inl rfl)]
    · rw [decide_eq_false h3]; rfl
  · by_cases h3 : kd = 3
    · rw [side_eq h h3 hs hsm hp (hE u hu (by grind)) (by decide) (Or.inr rfl), first_not hd, Bool.not_not]
    · rw [decide_eq_false h3]; rfl
/-- the first look holds up to the next event -/
theorem lk_good (h0 : shOK kd0 Q0 L0 E0) (h1 : shOK kd1 Q1 L1 E1) {s : Sq} (hs : s ∈ L0 ++ L1) {ES : List Ev} (hE : evsOK L0 L1 s ES) {τ : Rat} (a : 0 ≤ τ) : goodS kd0 Q0 L0 kd1 Q1 L1 s ES (decide (isFirst (dir s) 1)) τ (lkG kd0 L0 kd1 L1 s (at_ s τ)) := by
  intro t t1 t2 hg hno
  have hn := two_ndg h0 h1 s hs
  obtain ⟨ρ, p1, p2⟩ := small_all (L0 ++ L1) (at_ s τ) (dir s)
  obtain ⟨M, hm, hm1, hm2⟩ : ∃ M, τ < M ∧ M ≤ t ∧ M ≤ τ + ρ := by
    by_cases q : t ≤ τ + ρ
    · exact ⟨t, t1, by grind, q⟩
    · exact ⟨τ + ρ, by grind, by grind, by grind⟩
  obtain ⟨u, u1, u2, -, hgu⟩ := gen_ex (QQ := Q0 ++ Q1) hs hn [] a hm (by grind)
  have hsm := p2 (u - τ) (by grind) (by grind)
  have hend : ∀ x, τ < x → x ≤ t → ¬ isEnd (L0 ++ L1) (at_ s x) := fun x x1 x2 he => by
    have hxt : x ≠ t := fun q => hg.2.2.1 (by rw [← q]; exact two_end h0 h1 he)
    obtain ⟨e, h, e1, -⟩ := hE.2.1 x (by grind) (by grind) he
    exact hno e h ⟨by grind, by grind⟩
  have endL : ∀ {q : Pt}, isEnd L0 q → isEnd (L0 ++ L1) q := fun ⟨z, hz, w⟩ => ⟨z, List.mem_append_left _ hz, w⟩
  have endR : ∀ {q : Pt}, isEnd L1 q → isEnd (L0 ++ L1) q := fun ⟨z, hz, w⟩ => ⟨z, List.mem_append_right _ hz, w⟩
  have g0 := lk_one h0 hn u1 (fun s' h' => hsm s' (List.mem_append_left _ h')) (fun s' h' => hgu.2.2.2 s' (List.mem_append_left _ h')) (fun x x1 x2 he => hend x x1 (by grind) (endL he))
  have g1 := lk_one h1 hn u1 (fun s' h' => hsm s' (List.mem_append_right _ h')) (fun s' h' => hgu.2.2.2 s' (List.mem_append_right _ h')) (fun x x1 x2 he => hend x x1 (by grind) (endR he))
  have hX : noX (L0 ++ L1) s u t := fun s' h' x x1 x2 x3 x4 => by
    obtain ⟨e, h, e1⟩ := crs_ev hE h' ⟨x3, x4⟩
    exact hno e h ⟨by grind, by grind⟩
  have hno' : ∀ x, u ≤ x → x ≤ t → ¬ isEnd (L0 ++ L1) (at_ s x) := fun x x1 x2 => hend x (by grind) x2
  have k0 := along0 h0 (fun x h => List.mem_append_left L1 h) hn (show 0 ≤ u by grind) (show u < t by grind) (by grind) hgu.2.2.2 hg.2.2.2 hno' hX
  have k1 := along0 h1 (fun x h => List.mem_append_right L0 h) hn (show 0 ≤ u by grind) (show u < t by grind) (by grind) hgu.2.2.2 hg.2.2.2 hno' hX
  have hside : ∀ {kd : Nat} {L : List Sq} {p q : Pt} (o : Bool), hav L p = hav L q → (kd = 3 → crd L p = crd L q) → (decide (kd = 3) && (crd L q ^^ (o && hav L q))) = (decide (kd = 3) && (crd L p ^^ (o && hav L p))) := fun {kd L p q} o e1 e2 => by
    by_cases h3 : kd = 3
    · rw [e1, e2 h3]
    · rw [decide_eq_false h3]; rfl
  unfold lkG stR
  rw [g0.1, g0.2.1, g0.2.2, g1.1, g1.2.1, g1.2.2]
  rw [← k0.1, ← k1.1, lk_same (fun h => (k0.2.2 h).symm), lk_same (fun h => (k1.2.2 h).symm), hside _ k0.2.1 k0.2.2, hside _ k1.2.1 k1.2.2, hside _ k0.2.1 k0.2.2, hside _ k1.2.1 k1.2.2]
end PL10
