/-! plain law 8: the walk along a segment, over Rat -/
section PL8
def evR (e : Ev) : Rat := (e.1 : Rat) / (e.2.1 : Rat)
def evP (e : Ev) : Pt := cP (e.2.2.2.1, e.2.2.2.2)
def atW (τ : Rat) (w : Nat) (e : Ev) : Bool := decide (evR e = τ) && (e.2.2.1 == w)
def crsAt (s : Sq) (τ : Rat) (t : Sq) : Bool := decide (pXp t.1 t.2 s.1 s.2 ∧ ori t.1 t.2 (at_ s τ) = 0)
def stR (kd0 : Nat) (L0 : List Sq) (kd1 : Nat) (L1 : List Sq) (fl : Bool) (p : Pt) : St :=
  (lkW kd0 (anyOn L0 p) (crd L0 p), lkW kd1 (anyOn L1 p) (crd L1 p), (decide (kd0 = 3) && (crd L0 p ^^ (!fl && hav L0 p))), (decide (kd1 = 3) && (crd L1 p ^^ (!fl && hav L1 p))), (decide (kd0 = 3) && (crd L0 p ^^ (fl && hav L0 p))), (decide (kd1 = 3) && (crd L1 p ^^ (fl && hav L1 p))))
def evsOK (L0 L1 : List Sq) (s : Sq) (ES : List Ev) : Prop :=
  (∀ e ∈ ES, (0 < evR e ∧ evR e < 1) ∧ (e.2.2.1 = 2 → evP e = at_ s (evR e) ∧ isEnd (L0 ++ L1) (evP e)) ∧ (e.2.2.1 ≠ 2 → ∃ t ∈ L0 ++ L1, pXp t.1 t.2 s.1 s.2 ∧ ori t.1 t.2 (at_ s (evR e)) = 0)) ∧
  (∀ τ, 0 < τ → τ < 1 → isEnd (L0 ++ L1) (at_ s τ) → ∃ e ∈ ES, evR e = τ ∧ e.2.2.1 = 2) ∧
  (∀ τ, L0.countP (crsAt s τ) = ES.countP (atW τ 0)) ∧ (∀ τ, L1.countP (crsAt s τ) = ES.countP (atW τ 1))
def evLe' (a b : Ev) : Prop := evR a < evR b ∨ (evR a = evR b ∧ b.2.2.1 ≤ a.2.2.1)
def sufOK (ES es : List Ev) (τ : Rat) : Prop := (∀ e ∈ es, e ∈ ES ∧ τ < evR e) ∧ (∀ e ∈ ES, τ < evR e → e ∈ es) ∧ es.Pairwise evLe' ∧ ∀ τ' w, τ < τ' → es.countP (atW τ' w) = ES.countP (atW τ' w)
theorem evR_mul {e : Ev} (h : 0 < e.2.1) : evR e * (e.2.1 : Rat) = (e.1 : Rat) := frR_mul (x := (e.1, e.2.1)) h
theorem sameF_R {e f : Ev} (he : 0 < e.2.1) (hf : 0 < f.2.1) : sameF e f = decide (evR f = evR e) := by
  unfold sameF
  apply decide_eq_decide.mpr
  constructor
  · intro h; exact frEq_R (x := (f.1, f.2.1)) (y := (e.1, e.2.1)) hf he h
  · intro h
    rw [← cast_eq, Rat.intCast_mul, Rat.intCast_mul, ← evR_mul he, ← evR_mul hf, h]; grind
theorem evLe_R {e f : Ev} (he : 0 < e.2.1) (hf : 0 < f.2.1) (h : evLe e f) : evLe' e f := by
  rcases h with h | ⟨h, g⟩
  · exact Or.inl ((frLt_R (x := (e.1, e.2.1)) (y := (f.1, f.2.1)) he hf).mp h)
  · exact Or.inr ⟨frEq_R (x := (e.1, e.2.1)) (y := (f.1, f.2.1)) he hf h, g⟩
theorem tw_congr {α : Type} {p q : α → Bool} : ∀ {l : List α}, (∀ x ∈ l, p x = q x) → l.takeWhile p = l.takeWhile q ∧ l.dropWhile p = l.dropWhile q
  | [], _ => ⟨rfl, rfl⟩
  | x :: l, h => by
    have hx := h x List.mem_cons_self
    have ih := tw_congr (l := l) (fun y hy => h y (List.mem_cons_of_mem _ hy))
    rw [List.takeWhile_cons, List.takeWhile_cons, List.dropWhile_cons, List.dropWhile_cons, hx, ih.1, ih.2]
    exact ⟨rfl, rfl⟩
theorem drop_gt {τ : Rat} : ∀ {l : List Ev}, l.Pairwise evLe' → (∀ f ∈ l, τ ≤ evR f) → ∀ f ∈ l.dropWhile (fun f => decide (evR f = τ)), τ < evR f
  | [], _, _ => fun f hf => by cases hf
  | x :: l, hp, hl => fun f hf => by
    rw [List.pairwise_cons] at hp
    rw [List.dropWhile_cons] at hf
    by_cases hx : evR x = τ
    · rw [if_pos (decide_eq_true hx)] at hf
      exact drop_gt hp.2 (fun g hg => hl g (List.mem_cons_of_mem _ hg)) f hf
    · rw [if_neg (by rw [decide_eq_false hx]; decide)] at hf
      have h1 := hl x List.mem_cons_self
      rcases List.mem_cons.mp hf with rfl | hf
      · grind
      · rcases hp.1 f hf with h | h
        · grind
        · grind
theorem take_eq {τ : Rat} {l : List Ev} : ∀ f ∈ l.takeWhile (fun f => decide (evR f = τ)), evR f = τ := fun f hf => by
  have := List.all_eq_true.mp (List.all_takeWhile (p := fun f : Ev => decide (evR f = τ)) (l := l)) f hf
  exact of_decide_eq_true this
theorem cnt_take {τ : Rat} {w : Nat} {l : List Ev} (hp : l.Pairwise evLe') (hl : ∀ f ∈ l, τ ≤ evR f) : cntW w (l.takeWhile (fun f => decide (evR f = τ))) = l.countP (atW τ w) := by
  have e : l.countP (atW τ w) = (l.takeWhile (fun f => decide (evR f = τ))).countP (atW τ w) + (l.dropWhile (fun f => decide (evR f = τ))).countP (atW τ w) := by
    rw [← List.countP_append, List.takeWhile_append_dropWhile]
  have e2 : (l.dropWhile (fun f => decide (evR f = τ))).countP (atW τ w) = 0 := by
    apply List.countP_eq_zero.mpr
    intro f hf
    have := drop_gt hp hl f hf
    unfold atW
    rw [decide_eq_false (by grind)]; simp
  rw [e, e2, Nat.add_zero]
  unfold cntW
  apply List.countP_congr
  intro f hf
  unfold atW
  rw [decide_eq_true (take_eq f hf)]
  simp
theorem cnt_drop {τ τ' : Rat} {w : Nat} {l : List Ev} (h : τ < τ') : (l.dropWhile (fun f => decide (evR f = τ))).countP (atW τ' w) = l.countP (atW τ' w) := by
  have e : l.countP (atW τ' w) = (l.takeWhile (fun f => decide (evR f = τ))).countP (atW τ' w) + (l.dropWhile (fun f => decide (evR f = τ))).countP (atW τ' w) := by
    rw [← List.countP_append, List.takeWhile_append_dropWhile]
  have e2 : (l.takeWhile (fun f => decide (evR f = τ))).countP (atW τ' w) = 0 := by
    apply List.countP_eq_zero.mpr
    intro f hf
    have := take_eq f hf
    unfold atW
    rw [decide_eq_false (by grind)]; simp
  rw [e, e2, Nat.zero_add]
variable {kd0 : Nat} {Q0 : List Pt} {L0 : List Sq} {E0 : Pt → Bool} {kd1 : Nat} {Q1 : List Pt} {L1 : List Sq} {E1 : Pt → Bool}
theorem io_sd {kd : Nat} {L : List Sq} {o : Bool} {p : Pt} : io (decide (kd = 3) && (crd L p ^^ (o && hav L p))) = sdR kd L o p := by
  unfold io sdR
  by_cases h : kd = 3
  · rw [decide_eq_true h, Bool.true_and]
    by_cases g : (crd L p ^^ (o && hav L p)) = true
    · rw [if_pos g, if_pos ⟨h, g⟩]
    · rw [if_neg g, if_neg (fun q => g q.2)]
  · rw [decide_eq_false h, Bool.false_and, if_neg (by decide), if_neg (fun q => h q.1)]
theorem pc_st (h0 : shOK kd0 Q0 L0 E0) (h1 : shOK kd1 Q1 L1 E1) {p : Pt} (hp : p ∉ Q0 ++ Q1) {fl : Bool} {m : Mk} : m ∈ pcMk (stR kd0 L0 kd1 L1 fl p) ↔ m ∈ pcR kd0 Q0 L0 E0 kd1 Q1 L1 E1 p := by
  unfold pcMk stR pcR
  dsimp only
  rw [io_sd, io_sd, io_sd, io_sd, whR_off h0 (fun _ z => hp (List.mem_append_left _ z)), whR_off h1 (fun _ z => hp (List.mem_append_right _ z))]
  cases fl
  · simp only [Bool.not_false, List.mem_cons, List.not_mem_nil, or_false]
    constructor
    · rintro (h | h | h)
      · exact Or.inl h
      · exact Or.inr (Or.inr h)
      · exact Or.inr (Or.inl h)
    · rintro (h | h | h)
      · exact Or.inl h
      · exact Or.inr (Or.inr h)
      · exact Or.inr (Or.inl h)
  · simp only [Bool.not_true]
theorem whR_ne {kd : Nat} {Q : List Pt} {L : List Sq} {E : Pt → Bool} {p : Pt} (h : shOK kd Q L E) (hk : kd ≠ 1) (he : ¬ isEnd L p) : whR kd Q L E p = lkW kd (anyOn L p) (crd L p) := by
  obtain ⟨⟨a, b⟩, -, -, -, h5⟩ := h
  unfold whR lkW
  rcases (show kd = 1 ∨ kd = 2 ∨ kd = 3 by omega) with rfl | rfl | rfl
  · exact absurd rfl hk
  · have : E p = false := by
      cases hE : E p with
      | false => rfl
      | true => exact absurd (h5 rfl p hE) he
    simp [this]
  · simp
theorem turn_lk {kd : Nat} {al od f : Bool} (hk : 1 ≤ kd ∧ kd ≤ 3) : trW kd f (lkW kd al od) = lkW kd al (if kd = 3 then od ^^ f else od) := by
  unfold trW lkW
  rcases (show kd = 1 ∨ kd = 2 ∨ kd = 3 by omega) with rfl | rfl | rfl
  · simp
  · simp
  · cases al <;> cases od <;> cases f <;> simp
theorem turn_sd {kd : Nat} {b f : Bool} (hk : 1 ≤ kd ∧ kd ≤ 3) : trB kd f (decide (kd = 3) && b) = (decide (kd = 3) && (b ^^ f)) := by
  unfold trB
  rcases (show kd = 1 ∨ kd = 2 ∨ kd = 3 by omega) with rfl | rfl | rfl
  · simp
  · simp
  · cases b <;> cases f <;> simp
theorem lk_same {kd : Nat} {al od od' : Bool} (h : kd = 3 → od = od') : lkW kd al od = lkW kd al od' := by
  unfold lkW
  by_cases h3 : kd = 3
  · rw [h h3]
  · simp [h3]
/-- one shape's part of a turn -/
theorem turn_one {kd : Nat} {L : List Sq} {p p' : Pt} {f : Bool} (hk : 1 ≤ kd ∧ kd ≤ 3) (ha : anyOn L p = anyOn L p') (hv : hav L p = hav L p') (hc : kd = 3 → (crd L p ^^ crd L p') = f) :
    lkW kd (anyOn L p') (crd L p') = trW kd f (lkW kd (anyOn L p) (crd L p)) ∧ ∀ o, (decide (kd = 3) && (crd L p' ^^ (o && hav L p'))) = trB kd f (decide (kd = 3) && (crd L p ^^ (o && hav L p))) := by
  constructor
  · rw [turn_lk hk, ha]
    apply lk_same
    intro h3
    rw [if_pos h3, ← hc h3]
    cases crd L p <;> cases crd L p' <;> rfl
  · intro o
    rw [turn_sd hk, hv]
    by_cases h3 : kd = 3
    · rw [← hc h3]
      cases crd L p <;> cases crd L p' <;> cases o <;> cases hav L p' <;> rfl
    · rw [decide_eq_false h3]; rfl
/-- the state holds from τ up to the next event -/
def goodS (kd0 : Nat) (Q0 : List Pt) (L0 : List Sq) (kd1 : Nat) (Q1 : List Pt) (L1 : List Sq) (s : Sq) (ES : List Ev) (fl : Bool) (τ : Rat) (st : St) : Prop :=
  ∀ t, τ < t → t < 1 → gen (L0 ++ L1) (Q0 ++ Q1) s (at_ s t) → (∀ e ∈ ES, ¬ (τ < evR e ∧ evR e < t)) → stR kd0 L0 kd1 L1 fl (at_ s t) = st
section WK
variable {s : Sq} {ES : List Ev} {fl own : Bool} {PLc : Int → Int → Nat × Nat} {LKc : Int → Int → St}
/-- a generic place right behind τ, before the next event -/
theorem next_gen (hs : s ∈ L0 ++ L1) (hn : ndg s) (ES : List Ev) {τ : Rat} (a : 0 ≤ τ) (b : τ < 1) : ∃ t, τ < t ∧ t < 1 ∧ gen (L0 ++ L1) (Q0 ++ Q1) s (at_ s t) ∧ ∀ e ∈ ES, ¬ (τ < evR e ∧ evR e < t) := by
  obtain ⟨t1, c1, c2, c3⟩ := gap (ES.map evR) τ b
  obtain ⟨t, d1, d2, -, hg⟩ := gen_ex (QQ := Q0 ++ Q1) hs hn [] a c1 c2
  refine ⟨t, d1, by grind, hg, fun e he q => ?_⟩
  have := c3 (evR e) (List.mem_map.mpr ⟨e, he, rfl⟩) q.1
  grind
theorem crs_ev (hE : evsOK L0 L1 s ES) {t : Sq} (ht : t ∈ L0 ++ L1) {τ : Rat} (h : pXp t.1 t.2 s.1 s.2 ∧ ori t.1 t.2 (at_ s τ) = 0) : ∃ e ∈ ES, evR e = τ := by
  obtain ⟨-, -, h3, h4⟩ := hE
  rcases List.mem_append.mp ht with ht | ht
  · have : 0 < L0.countP (crsAt s τ) := List.countP_pos_iff.mpr ⟨t, ht, decide_eq_true h⟩
    rw [h3] at this
    obtain ⟨e, he, q⟩ := List.countP_pos_iff.mp this
    unfold atW at q
    simp only [Bool.and_eq_true, decide_eq_true_eq] at q
    exact ⟨e, he, q.1⟩
  · have : 0 < L1.countP (crsAt s τ) := List.countP_pos_iff.mpr ⟨t, ht, decide_eq_true h⟩
    rw [h4] at this
    obtain ⟨e, he, q⟩ := List.countP_pos_iff.mp this
    unfold atW at q
    simp only [Bool.and_eq_true, decide_eq_true_eq] at q
    exact ⟨e, he, q.1⟩
/-- across a place where only crossings lie -/
theorem cross_turn (h0 : shOK kd0 Q0 L0 E0) (h1 : shOK kd1 Q1 L1 E1) (hs : s ∈ L0 ++ L1) (hE : evsOK L0 L1 s ES) {t1 τ t2 : Rat} (a0 : 0 ≤ t1) (a1 : t1 < τ) (a2 : τ < t2) (a3 : t2 < 1) (g1 : gen (L0 ++ L1) (Q0 ++ Q1) s (at_ s t1)) (g2 : gen (L0 ++ L1) (Q0 ++ Q1) s (at_ s t2)) (hev : ∀ e ∈ ES, t1 < evR e → evR e < t2 → evR e = τ) (hnp : ∀ e ∈ ES, evR e = τ → e.2.2.1 ≠ 2) :
    stR kd0 L0 kd1 L1 fl (at_ s t2) = turnSt kd0 kd1 (decide (ES.countP (atW τ 0) % 2 = 1)) (decide (ES.countP (atW τ 1) % 2 = 1)) (stR kd0 L0 kd1 L1 fl (at_ s t1)) := by
  have hn := two_ndg h0 h1 s hs
  have hno : ∀ x, t1 ≤ x → x ≤ t2 → ¬ isEnd (L0 ++ L1) (at_ s x) := fun x x1 x2 he => by
    have hx1 : x ≠ t1 := fun q => g1.2.2.1 (by rw [← q]; exact two_end h0 h1 he)
    have hx2 : x ≠ t2 := fun q => g2.2.2.1 (by rw [← q]; exact two_end h0 h1 he)
    obtain ⟨e, h, e1, e2⟩ := hE.2.1 x (by grind) (by grind) he
    exact hnp e h (hev e h (by grind) (by grind)) e2
  have hpX : ∀ t' ∈ L0 ++ L1, pX t'.1 t'.2 (at_ s t1) (at_ s t2) = crsAt s τ t' := fun t' h' => by
    unfold crsAt
    cases hc : pX t'.1 t'.2 (at_ s t1) (at_ s t2) with
    | true =>
      obtain ⟨x, q1, q2, q3, q4⟩ := (pX_at a0 (by grind) (by grind)).mp hc
      obtain ⟨e, h, e1⟩ := crs_ev hE h' ⟨q3, q4⟩
      have := hev e h (by grind) (by grind)
      symm; apply decide_eq_true
      rw [← this, e1]; exact ⟨q3, q4⟩
    | false =>
      symm; apply decide_eq_false
      intro q
      have := (pX_at (s := s) (s' := t') a0 (show t1 < t2 by grind) (by grind)).mpr ⟨τ, a1, a2, q.1, q.2⟩
      rw [hc] at this; cases this
  have k0 := along h0 (fun x h => List.mem_append_left L1 h) hn (show t1 < t2 by grind) g1.2.2.2 g2.2.2.2 hno
  have k1 := along h1 (fun x h => List.mem_append_right L0 h) hn (show t1 < t2 by grind) g1.2.2.2 g2.2.2.2 hno
  have c0 : kd0 = 3 → (crd L0 (at_ s t1) ^^ crd L0 (at_ s t2)) = decide (ES.countP (atW τ 0) % 2 = 1) := fun h3 => by
    rw [k0.2.2 h3, par_congr (fun t' h' => hpX t' (List.mem_append_left _ h')), par_count, hE.2.2.1]
  have c1 : kd1 = 3 → (crd L1 (at_ s t1) ^^ crd L1 (at_ s t2)) = decide (ES.countP (atW τ 1) % 2 = 1) := fun h3 => by
    rw [k1.2.2 h3, par_congr (fun t' h' => hpX t' (List.mem_append_right _ h')), par_count, hE.2.2.2]
  have u0 := turn_one h0.1 k0.1 k0.2.1 c0
  have u1 := turn_one h1.1 k1.1 k1.2.1 c1
  unfold stR turnSt
  dsimp only
  rw [u0.1, u1.1, u0.2, u1.2, u0.2, u1.2]
theorem own_lk {kd : Nat} {L : List Sq} {Q : List Pt} {E : Pt → Bool} (h : shOK kd Q L E) {p : Pt} (ha : anyOn L p = true) : lkW kd (anyOn L p) (crd L p) = (if kd = 3 then 1 else 0) ∧ kd ≠ 1 := by
  obtain ⟨s, hs, -⟩ := anyOn_iff.mp ha
  have hk : kd ≠ 1 := fun q => by rw [h.2.2.1 q] at hs; cases hs
  refine ⟨?_, hk⟩
  rw [ha]
  unfold lkW
  have := h.1
  rcases (show kd = 1 ∨ kd = 2 ∨ kd = 3 by omega) with rfl | rfl | rfl
  · exact absurd rfl hk
  · rfl
  · rfl
/-- what a shape's part of a crossing's mark says -/
theorem crW_one {kd : Nat} {Q : List Pt} {L : List Sq} {E : Pt → Bool} (h : shOK kd Q L E) (hn : ndg s) {t1 τ : Rat} (a0 : 0 ≤ t1) (a1 : t1 < τ) (a2 : τ < 1) (g1 : pll L s (at_ s t1)) (hE : ∀ x, t1 ≤ x → x ≤ τ → ¬ isEnd L (at_ s x)) (hX : noX L s t1 τ) (b : Bool) (hb : b = true → (s ∈ L ∨ ∃ t ∈ L, crsAt s τ t = true)) (hb2 : b = false → ∀ t ∈ L, crsAt s τ t = false) :
    (b = true → crW kd b (lkW kd (anyOn L (at_ s t1)) (crd L (at_ s t1))) = whR kd Q L E (at_ s τ)) ∧ (b = false → crW kd b (lkW kd (anyOn L (at_ s t1)) (crd L (at_ s t1))) = lkW kd (anyOn L (at_ s t1)) (crd L (at_ s t1)) ∧ ((kd < 3 → at_ s τ ∉ Q) → lkW kd (anyOn L (at_ s t1)) (crd L (at_ s t1)) = whR kd Q L E (at_ s τ))) := by
  constructor
  · intro hbt
    have ha : anyOn L (at_ s τ) = true := by
      rcases hb hbt with hs | ⟨t, ht, hc⟩
      · exact anyOn_iff.mpr ⟨s, hs, (on_at hn).mpr ⟨τ, by grind, by grind, rfl⟩⟩
      · have hc := of_decide_eq_true hc
        obtain ⟨σ, c1, c2, c3⟩ := cross_at (s := t) (s' := s) ⟨hc.1.2, hc.1.1⟩
        have hnt := (h.2.1 t ht).1
        obtain ⟨σ', e⟩ := col_at hnt hc.2
        have hσ : σ' = σ := cross_one (s := t) (s' := s) ⟨hc.1.2, hc.1.1⟩ (by rw [← e]; exact ori_self s τ) c3
        exact anyOn_iff.mpr ⟨t, ht, (on_at hnt).mpr ⟨σ', by grind, by grind, e⟩⟩
    have := own_lk h ha
    rw [whR_ne h this.2 (hE τ (by grind) (by grind)), this.1]
    unfold crW
    rw [if_neg (by rw [hbt]; decide)]
  · intro hbf
    have e1 : crW kd b (lkW kd (anyOn L (at_ s t1)) (crd L (at_ s t1))) = lkW kd (anyOn L (at_ s t1)) (crd L (at_ s t1)) := by unfold crW; rw [if_pos hbf]
    refine ⟨e1, fun hq => ?_⟩
    have g2 : pll L s (at_ s τ) := fun s' h' ho => by
      by_cases hp : parl s s'
      · exact hp
      · exfalso
        refine (of_decide_eq_false (hb2 hbf s' h')) ⟨inner_cross hn (h.2.1 s' h').1 ((on_at hn).mpr ⟨τ, by grind, by grind, rfl⟩) ho ?_ ?_ (fun e => hE τ (by grind) (by grind) ⟨s', h', Or.inl e⟩) (fun e => hE τ (by grind) (by grind) ⟨s', h', Or.inr e⟩) hp, ho.2.2⟩
        · intro e; rw [← at_0 s] at e; have := at_inj hn e; grind
        · intro e; rw [← at_1 s] at e; have := at_inj hn e; grind
    obtain ⟨b1, -, b3⟩ := along0 h (fun x h => h) hn a0 a1 (by grind) g1 g2 hE hX
    rw [whR_off h hq, b1]
    exact lk_same b3
end WK
end PL8
