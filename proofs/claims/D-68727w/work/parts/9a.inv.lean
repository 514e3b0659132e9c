/-! the law's loop: what stays true, in plain Lean -/
section INV
def shI (kd ns np nq nx : Nat) (ST : Nat → Nat) (X Y : Nat → Int) : Prop := ((16 ≤ ns ∧ ns ≤ 128) ∧ np ≤ ns) ∧ ((16 ≤ nx ∧ nx ≤ 128) ∧ nq ≤ nx) ∧ (1 ≤ kd ∧ kd ≤ 3) ∧ olOK ST np nq ∧ (∀ k, cB (X k)) ∧ (∀ k, cB (Y k))
theorem shI.zero : shI 1 16 0 0 16 (fun _ => 0) (fun _ => 0) (fun _ => 0) := ⟨⟨⟨by decide, by decide⟩, by decide⟩, ⟨⟨by decide, by decide⟩, by decide⟩, ⟨by decide, by decide⟩, fun p h => absurd h (Nat.not_lt_zero _), fun _ => cB_0, fun _ => cB_0⟩
variable {kd ns np nq nx : Nat} {ST : Nat → Nat} {X Y : Nat → Int}
theorem shI.shape (h : shI kd ns np nq nx ST X Y) {kk : Nat} (hk : 1 ≤ kk ∧ kk ≤ 3) : shI kk ns 0 0 nx ST X Y := by
  obtain ⟨⟨a, b⟩, ⟨c, d⟩, e, f, g, i⟩ := h
  exact ⟨⟨a, by omega⟩, ⟨c, by omega⟩, hk, fun p h => absurd h (Nat.not_lt_zero _), g, i⟩
theorem olOK.part (h : olOK ST np nq) {ST2 : Nat → Nat} (h4 : ∀ k, k < np → ST2 k = ST k) (h5 : ST2 np = nq) : olOK ST2 (np + 1) nq := by
  intro p hp
  by_cases q : p = np
  · subst q
    rw [h5]
    unfold olEnd
    rw [if_neg (by omega)]
    exact ⟨Nat.le_refl _, Nat.le_refl _⟩
  · have h6 := h p (by omega)
    rw [h4 p (by omega)]
    refine ⟨?_, h6.2⟩
    unfold olEnd at h6 ⊢
    rw [if_pos (by omega)]
    by_cases z : p + 1 < np
    · rw [if_pos z] at h6; rw [h4 (p + 1) z]; exact h6.1
    · rw [if_neg z] at h6
      rw [show p + 1 = np by omega, h5]; exact h6.1
theorem olOK.point (h : olOK ST np nq) : olOK ST np (nq + 1) := by
  intro p hp
  have h6 := h p hp
  unfold olEnd at h6 ⊢
  split
  · rename_i z
    rw [if_pos z] at h6; exact ⟨h6.1, by omega⟩
  · rename_i z
    rw [if_neg z] at h6; exact ⟨by omega, by omega⟩
theorem shI.part (h : shI kd ns np nq nx ST X Y) {ns2 : Nat} {ST2 : Nat → Nat} (hn : np < 64) (hp : np < ns2 ∧ ns2 ≤ max ns (2 * np) ∧ ns ≤ ns2 ∧ (∀ k, k < np → ST2 k = ST k) ∧ ST2 np = nq) : shI kd ns2 (np + 1) nq nx ST2 X Y := by
  obtain ⟨⟨a, b⟩, ⟨c, d⟩, e, f, g, i⟩ := h
  exact ⟨⟨⟨by omega, by omega⟩, by omega⟩, ⟨c, d⟩, e, f.part hp.2.2.2.1 hp.2.2.2.2, g, i⟩
theorem shI.point (h : shI kd ns np nq nx ST X Y) {nx2 : Nat} {X2 Y2 : Nat → Int} {x y : Int} (hn : nq < 64) (hx : cB x) (hy : cB y) (hp : nq < nx2 ∧ nx2 ≤ max nx (2 * nq) ∧ nx ≤ nx2 ∧ (∀ k, k < nq → X2 k = X k ∧ Y2 k = Y k) ∧ X2 nq = x ∧ Y2 nq = y ∧ (∀ zk, zk ≠ nq → (X2 zk = X zk ∨ X2 zk = 0) ∧ (Y2 zk = Y zk ∨ Y2 zk = 0))) : shI kd ns np (nq + 1) nx2 ST X2 Y2 := by
  obtain ⟨⟨a, b⟩, ⟨c, d⟩, e, f, g, i⟩ := h
  refine ⟨⟨a, b⟩, ⟨⟨by omega, by omega⟩, by omega⟩, e, f.point, fun k => ?_, fun k => ?_⟩
  · by_cases q : k = nq
    · rw [q, hp.2.2.2.2.1]; exact hx
    · rcases (hp.2.2.2.2.2.2 k q).1 with z | z
      · rw [z]; exact g k
      · rw [z]; exact cB_0
  · by_cases q : k = nq
    · rw [q, hp.2.2.2.2.2.1]; exact hy
    · rcases (hp.2.2.2.2.2.2 k q).2 with z | z
      · rw [z]; exact i k
      · rw [z]; exact cB_0
/-! ### the Model's shapes -/
variable {XS YS : Nat → Int} {KD PT PN BG : Nat → Nat} {w v : Nat}
theorem agr.shape {kk : Nat} (hk : 1 ≤ kk ∧ kk ≤ 3) : agr kk X Y ST 0 0 XS YS (updZ KD w kk) (updZ PT w 0) (updZ PN w 0) BG w :=
  ⟨updZ_s, updZ_s, updZ_s, fun k h => absurd h (Nat.not_lt_zero _), fun p h => absurd h (Nat.not_lt_zero _), hk, fun p h => absurd h (Nat.not_lt_zero _)⟩
theorem agr.shapeO (h : agr kd X Y ST np nq XS YS KD PT PN BG v) (hv : v ≠ w) {a b c : Nat} : agr kd X Y ST np nq XS YS (updZ KD w a) (updZ PT w b) (updZ PN w c) BG v := by
  obtain ⟨h1, h2, h3, h4⟩ := h
  exact ⟨by rw [updZ_n hv]; exact h1, by rw [updZ_n hv]; exact h2, by rw [updZ_n hv]; exact h3, h4⟩
theorem agr.part (h : agr kd X Y ST np nq XS YS KD PT PN BG w) {ST2 : Nat → Nat} (h4' : ∀ k, k < np → ST2 k = ST k) (h5' : ST2 np = nq) : agr kd X Y ST2 (np + 1) nq XS YS KD PT (updZ PN w (PN w + 1)) (updZ BG (1025 * w + PN w) (PT w)) w := by
  obtain ⟨h1, h2, h3, h4, h5, h6, h7⟩ := h
  refine ⟨h1, h2, by rw [updZ_s, h3], h4, fun p hp => ?_, h6, h7.part h4' h5'⟩
  by_cases q : p = np
  · subst q
    rw [h3, updZ_s, h5', h2]
  · rw [updZ_n (by rw [h3]; omega), h5 p (by omega), h4' p (by omega)]
theorem agr.partO (h : agr kd X Y ST np nq XS YS KD PT PN BG v) (hv : v ≠ w) (h2 : v < 2 ∧ w < 2) (hp : np ≤ 64 ∧ PN w ≤ 64) {b c : Nat} : agr kd X Y ST np nq XS YS KD PT (updZ PN w c) (updZ BG (1025 * w + PN w) b) v := by
  obtain ⟨h1, h2', h3, h4, h5, h6⟩ := h
  refine ⟨h1, h2', by rw [updZ_n hv]; exact h3, h4, fun p hp' => ?_, h6⟩
  rw [updZ_n (by rcases (show v = 0 ∨ v = 1 by omega) with rfl | rfl <;> rcases (show w = 0 ∨ w = 1 by omega) with rfl | rfl <;> first | exact absurd rfl hv | omega)]
  exact h5 p hp'
theorem agr.point (h : agr kd X Y ST np nq XS YS KD PT PN BG w) {X2 Y2 : Nat → Int} {x y : Int} (h4' : ∀ k, k < nq → X2 k = X k ∧ Y2 k = Y k) (hx : X2 nq = x) (hy : Y2 nq = y) : agr kd X2 Y2 ST np (nq + 1) (updZ XS (2048 * w + PT w) x) (updZ YS (2048 * w + PT w) y) KD (updZ PT w (PT w + 1)) PN BG w := by
  obtain ⟨h1, h2, h3, h4, h5, h6, h7⟩ := h
  refine ⟨h1, by rw [updZ_s, h2], h3, fun k hk => ?_, h5, h6, h7.point⟩
  by_cases q : k = nq
  · subst q
    rw [h2, updZ_s, updZ_s, hx, hy]; exact ⟨rfl, rfl⟩
  · rw [updZ_n (by rw [h2]; omega), updZ_n (by rw [h2]; omega), (h4 k (by omega)).1, (h4 k (by omega)).2, (h4' k (by omega)).1, (h4' k (by omega)).2]
    exact ⟨rfl, rfl⟩
theorem agr.pointO (h : agr kd X Y ST np nq XS YS KD PT PN BG v) (hv : v ≠ w) (h2 : v < 2 ∧ w < 2) (hp : nq ≤ 64 ∧ PT w ≤ 64) {b : Nat} {x y : Int} : agr kd X Y ST np nq (updZ XS (2048 * w + PT w) x) (updZ YS (2048 * w + PT w) y) KD (updZ PT w b) PN BG v := by
  obtain ⟨h1, h2', h3, h4, h5, h6⟩ := h
  refine ⟨h1, by rw [updZ_n hv]; exact h2', h3, fun k hk => ?_, h5, h6⟩
  have hne : 2048 * v + k ≠ 2048 * w + PT w := by rcases (show v = 0 ∨ v = 1 by omega) with rfl | rfl <;> rcases (show w = 0 ∨ w = 1 by omega) with rfl | rfl <;> first | exact absurd rfl hv | omega
  rw [updZ_n hne, updZ_n hne]
  exact h4 k hk
theorem upd_cB {f : Nat → Int} (h : ∀ k, cB (f k)) {i : Nat} {x : Int} (hx : cB x) : ∀ k, cB (updZ f i x k) := fun k => by
  by_cases q : k = i
  · rw [q, updZ_s]; exact hx
  · rw [updZ_n q]; exact h k
def mdI (XS YS MX : Nat → Int) : Prop := (∀ k, cB (XS k)) ∧ (∀ k, cB (YS k)) ∧ mxB MX
theorem wi_cB {x : Int} (h : wiZ x (-500000000) 500000000 = true) : cB x := by
  unfold wiZ at h
  simp only [Bool.and_eq_true, decide_eq_true_eq] at h
  exact h
section TW
variable {kda npa nqa kdb npb nqb : Nat} {STa STb : Nat → Nat} {Xa Ya Xb Yb : Nat → Int}
theorem lkaOK (ha : agr kda Xa Ya STa npa nqa XS YS KD PT PN BG 0) (hb : agr kdb Xb Yb STb npb nqb XS YS KD PT PN BG 1) (hl : npa + nqa + npb + nqb ≤ 64) :
    (∀ s, s < 2 → KD s < 4) ∧ (∀ s, s < 2 → PT s ≤ 2048) ∧ (∀ s, s < 2 → PN s ≤ 1024) ∧ (∀ s p, s < 2 → p < PN s → BG (1025 * s + p) ≤ PT s) ∧ (∀ s, s < 2 → olOK (fun p => BG (1025 * s + p)) (PN s) (PT s)) ∧ PT 0 + PT 1 ≤ 64 := by
  have oa := ha.ol
  have ob := hb.ol
  obtain ⟨a1, a2, a3, a4, a5, a6, a7⟩ := ha
  obtain ⟨b1, b2, b3, b4, b5, b6, b7⟩ := hb
  refine ⟨fun s hs => ?_, fun s hs => ?_, fun s hs => ?_, fun s p hs hp => ?_, fun s hs => ?_, by omega⟩
  · rcases (show s = 0 ∨ s = 1 by omega) with rfl | rfl <;> omega
  · rcases (show s = 0 ∨ s = 1 by omega) with rfl | rfl <;> omega
  · rcases (show s = 0 ∨ s = 1 by omega) with rfl | rfl <;> omega
  · rcases (show s = 0 ∨ s = 1 by omega) with rfl | rfl
    · exact (oa p hp).2
    · exact (ob p hp).2
  · rcases (show s = 0 ∨ s = 1 by omega) with rfl | rfl
    · exact oa
    · exact ob
/-! ### the Relator's own cells -/
def rlI (tk rl : Bool) (kda : Nat) (Xa Ya : Nat → Int) (STa : Nat → Nat) (npa nqa kdb : Nat) (Xb Yb : Nat → Int) (STb : Nat → Nat) (npb nqb : Nat) (SX SY EX EY : Nat → Int) (szs of_ ncs : Nat) (WA : Nat → Nat) (MX PA WH : Nat → Int) (nce : Nat) (LX LY HX HY UX UY WX WY KY : Nat → Int) (nct no nf np nb nk nt : Nat) (TH : Nat → Bool) : Prop :=
  sgB SX SY EX EY ∧ (16 ≤ ncs ∧ ncs ≤ 128) ∧
  (tk = true → sgList SX SY EX EY szs = (shapeSegs kda Xa Ya STa npa nqa) ++ (shapeSegs kdb Xb Yb STb npb nqb) ∧ of_ = (shapeSegs kda Xa Ya STa npa nqa).length ∧ szs ≤ ncs ∧ 16 ≤ ncs ∧ ncs ≤ 128 ∧ szs ≤ nqa + nqb ∧ of_ ≤ szs ∧ sgB SX SY EX EY) ∧
  (rl = true → tk = true ∧ compOK kda Xa Ya STa npa nqa kdb Xb Yb STb npb nqb SX SY EX EY of_ szs MX) ∧
  (∀ k, WA k < 3) ∧ mxB MX ∧ evB PA WH ∧ cap4 nce ∧ bxB LX LY HX HY ∧ sgB UX UY WX WY ∧ kyB KY ∧ (16 ≤ nct ∧ nct ≤ 4096) ∧ (16 ≤ no ∧ no ≤ 128) ∧ (16 ≤ nf ∧ nf ≤ 4096) ∧ (16 ≤ np ∧ np ≤ 4096) ∧ (16 ≤ nb ∧ nb ≤ 128) ∧ (16 ≤ nk ∧ nk ≤ 128) ∧ nt = 4096 ∧ (∀ k, TH k = true)
variable {tk rl : Bool} {SX SY EX EY : Nat → Int} {szs of_ ncs : Nat} {WA : Nat → Nat} {MX PA WH : Nat → Int} {nce : Nat} {LX LY HX HY UX UY WX WY KY : Nat → Int} {nct no nf nb nk nt : Nat} {TH : Nat → Bool}
theorem rlI.reset (h : rlI tk rl kda Xa Ya STa npa nqa kdb Xb Yb STb npb nqb SX SY EX EY szs of_ ncs WA MX PA WH nce LX LY HX HY UX UY WX WY KY nct no nf np nb nk nt TH) {kda' : Nat} {Xa' Ya' : Nat → Int} {STa' : Nat → Nat} {npa' nqa' kdb' : Nat} {Xb' Yb' : Nat → Int} {STb' : Nat → Nat} {npb' nqb' : Nat} :
    rlI false false kda' Xa' Ya' STa' npa' nqa' kdb' Xb' Yb' STb' npb' nqb' SX SY EX EY szs of_ ncs WA MX PA WH nce LX LY HX HY UX UY WX WY KY nct no nf np nb nk nt TH :=
  ⟨h.1, h.2.1, (fun q => absurd q (by decide)), (fun q => absurd q (by decide)), h.2.2.2.2⟩
theorem rlI.zero : rlI false false kda Xa Ya STa npa nqa kdb Xb Yb STb npb nqb (fun _ => 0) (fun _ => 0) (fun _ => 0) (fun _ => 0) 0 0 16 (fun _ => 0) (fun _ => 0) (fun _ => 0) (fun _ => 0) 16 (fun _ => 0) (fun _ => 0) (fun _ => 0) (fun _ => 0) (fun _ => 0) (fun _ => 0) (fun _ => 0) (fun _ => 0) (fun _ => 0) 16 16 16 64 16 16 4096 (fun _ => true) :=
  ⟨fun _ => ⟨cB_0, cB_0, cB_0, cB_0⟩, ⟨by decide, by decide⟩, (fun q => absurd q (by decide)), (fun q => absurd q (by decide)), (fun _ => (show (0 : Nat) < 3 by decide)), (fun _ => (show (-1 : Int) ≤ 0 ∧ (0 : Int) ≤ 2 from ⟨by decide, by decide⟩)), (fun _ => (show ((0 : Int) ≤ 0 ∧ (0 : Int) < 4611686018427387904) ∧ ((0 : Int) ≤ 0 ∧ (0 : Int) < 4611686018427387904) from ⟨⟨by decide, by decide⟩, ⟨by decide, by decide⟩⟩)), Or.inl rfl, fun _ => ⟨dB_0, dB_0, dB_0, dB_0⟩, fun _ => ⟨cB_0, cB_0, cB_0, cB_0⟩, fun _ => dB_0, ⟨by decide, by decide⟩, ⟨by decide, by decide⟩, ⟨by decide, by decide⟩, ⟨by decide, by decide⟩, ⟨by decide, by decide⟩, ⟨by decide, by decide⟩, rfl, fun _ => rfl⟩
theorem rlI.asked (h : rlI tk rl kda Xa Ya STa npa nqa kdb Xb Yb STb npb nqb SX SY EX EY szs of_ ncs WA MX PA WH nce LX LY HX HY UX UY WX WY KY nct no nf np nb nk nt TH)
    {SX2 SY2 EX2 EY2 : Nat → Int} {sz2 of2 nc2 : Nat} {WA2 : Nat → Nat} {MX2 PA2 WH2 : Nat → Int} {nce2 : Nat} {LX2 LY2 HX2 HY2 UX9 UY9 WX9 WY9 KY2 : Nat → Int} {no2 nb2 nk2 : Nat}
    (hp : sgList SX2 SY2 EX2 EY2 sz2 = (shapeSegs kda Xa Ya STa npa nqa) ++ (shapeSegs kdb Xb Yb STb npb nqb) ∧ of2 = (shapeSegs kda Xa Ya STa npa nqa).length ∧ sz2 ≤ nc2 ∧ 16 ≤ nc2 ∧ nc2 ≤ 128 ∧ sz2 ≤ nqa + nqb ∧ of2 ≤ sz2 ∧ sgB SX2 SY2 EX2 EY2 ∧ compOK kda Xa Ya STa npa nqa kdb Xb Yb STb npb nqb SX2 SY2 EX2 EY2 of2 sz2 MX2 ∧ mxB MX2 ∧ (∀ k, WA2 k < 3) ∧ evB PA2 WH2 ∧ cap4 nce2 ∧ bxB LX2 LY2 HX2 HY2 ∧ sgB UX9 UY9 WX9 WY9 ∧ kyB KY2 ∧ (16 ≤ no2 ∧ no2 ≤ 128) ∧ (16 ≤ nb2 ∧ nb2 ≤ 128) ∧ (16 ≤ nk2 ∧ nk2 ≤ 128)) :
    rlI true true kda Xa Ya STa npa nqa kdb Xb Yb STb npb nqb SX2 SY2 EX2 EY2 sz2 of2 nc2 WA2 MX2 PA2 WH2 nce2 LX2 LY2 HX2 HY2 UX9 UY9 WX9 WY9 KY2 nct no2 nf np nb2 nk2 nt TH := by
  obtain ⟨-, -, -, -, -, -, -, -, -, -, -, d1, -, d2, d3, -, -, d4, d5⟩ := h
  obtain ⟨q1, q2, q3, q4, q5, q6, q7, q8, q9, qa, qb, qc, qd, qe, qf, qg, qh, qi, qj⟩ := hp
  exact ⟨q8, ⟨q4, q5⟩, fun _ => ⟨q1, q2, q3, q4, q5, q6, q7, q8⟩, fun _ => ⟨rfl, q9⟩, qb, qa, qc, qd, qe, qf, qg, d1, qh, d2, d3, qi, qj, d4, d5⟩
/-- the walk's result hangs on the segments alone -/
theorem compOK.cg {SX' SY' EX' EY' : Nat → Int} {n : Nat} (h : sgList SX SY EX EY n = shapeSegs kda Xa Ya STa npa nqa ++ shapeSegs kdb Xb Yb STb npb nqb) (h' : sgList SX' SY' EX' EY' n = shapeSegs kda Xa Ya STa npa nqa ++ shapeSegs kdb Xb Yb STb npb nqb) (ho : of_ = (shapeSegs kda Xa Ya STa npa nqa).length) (hka : 1 ≤ kda ∧ kda ≤ 3) (hkb : 1 ≤ kdb ∧ kdb ≤ 3) (hc : compOK kda Xa Ya STa npa nqa kdb Xb Yb STb npb nqb SX SY EX EY of_ n MX) : compOK kda Xa Ya STa npa nqa kdb Xb Yb STb npb nqb SX' SY' EX' EY' of_ n MX := by
  have hat : ∀ k, k < n → sgAt SX SY EX EY k = sgAt SX' SY' EX' EY' k := fun k hk => by
    have e := h.trans h'.symm
    have e2 : (sgList SX SY EX EY n)[k]? = (sgList SX' SY' EX' EY' n)[k]? := by rw [e]
    unfold sgList at e2
    rw [List.getElem?_map, List.getElem?_map, List.getElem?_range hk] at e2
    exact Option.some.inj e2
  have hco : ∀ k, k < n → SX k = SX' k ∧ SY k = SY' k ∧ EX k = EX' k ∧ EY k = EY' k := fun k hk => by
    have := hat k hk
    unfold sgAt at this
    simp only [Prod.mk.injEq] at this
    exact ⟨this.1.1, this.1.2, this.2.1, this.2.2⟩
  have hPL : plC kda Xa Ya STa npa nqa kdb Xb Yb STb npb nqb SX SY EX EY of_ n = plC kda Xa Ya STa npa nqa kdb Xb Yb STb npb nqb SX' SY' EX' EY' of_ n := by
    funext x y
    rw [plC_e hka hkb h ho, plC_e hka hkb h' ho]
  have hLK : ∀ s, s < n → lkC kda kdb SX SY EX EY of_ n s = lkC kda kdb SX' SY' EX' EY' of_ n s := fun s hs => by
    funext x y
    rw [lkC_e h ho, lkC_e h' ho, hat s hs]
  have hMt : ∀ s t, s < n → t < n → mtEv SX SY EX EY of_ s t = mtEv SX' SY' EX' EY' of_ s t := fun s t hs ht => by
    unfold mtEv
    rw [(hco s hs).1, (hco s hs).2.1, (hco s hs).2.2.1, (hco s hs).2.2.2, (hco t ht).1, (hco t ht).2.1, (hco t ht).2.2.1, (hco t ht).2.2.2]
  have hEv : ∀ s, s < n → allEv SX SY EX EY of_ n s = allEv SX' SY' EX' EY' of_ n s := fun s hs => by
    unfold allEv
    have : ∀ l : List Nat, (∀ t ∈ l, t < n) → l.flatMap (fun t => if t = s then [] else mtEv SX SY EX EY of_ s t) = l.flatMap (fun t => if t = s then [] else mtEv SX' SY' EX' EY' of_ s t) := fun l => by
      induction l with
      | nil => intro _; rfl
      | cons t l ih =>
        intro hl
        rw [List.flatMap_cons, List.flatMap_cons, ih (fun z hz => hl z (List.mem_cons_of_mem _ hz)), hMt s t hs (hl t List.mem_cons_self)]
    exact this _ (fun t ht => List.mem_range.mp ht)
  obtain ⟨MXi, EE, b1, b2, b3, b4⟩ := hc
  refine ⟨MXi, EE, b1, b2, fun i hi => by rw [← hEv i hi]; exact b3 i hi, ?_⟩
  rw [b4, hPL]
  congr 2
  have : ∀ l : List Nat, (∀ t ∈ l, t < n) → l.flatMap (fun i => walkMk kda Xa Ya STa npa nqa kdb Xb Yb STb npb nqb SX SY EX EY of_ n i (EE i)) = l.flatMap (fun i => walkMk kda Xa Ya STa npa nqa kdb Xb Yb STb npb nqb SX' SY' EX' EY' of_ n i (EE i)) := fun l => by
    induction l with
    | nil => intro _; rfl
    | cons t l ih =>
      intro hl
      have ht := hl t List.mem_cons_self
      rw [List.flatMap_cons, List.flatMap_cons, ih (fun z hz => hl z (List.mem_cons_of_mem _ hz))]
      congr 1
      unfold walkMk
      rw [hPL, hLK t ht, (hco t ht).1, (hco t ht).2.1, (hco t ht).2.2.1, (hco t ht).2.2.2]
  exact this _ (fun t ht => List.mem_range.mp ht)
theorem rlI.located (h : rlI tk rl kda Xa Ya STa npa nqa kdb Xb Yb STb npb nqb SX SY EX EY szs of_ ncs WA MX PA WH nce LX LY HX HY UX UY WX WY KY nct no nf np nb nk nt TH) (hka : 1 ≤ kda ∧ kda ≤ 3) (hkb : 1 ≤ kdb ∧ kdb ≤ 3)
    {SX2 SY2 EX2 EY2 : Nat → Int} {sz2 of2 nc2 : Nat} (hp : sgList SX2 SY2 EX2 EY2 sz2 = (shapeSegs kda Xa Ya STa npa nqa) ++ (shapeSegs kdb Xb Yb STb npb nqb) ∧ of2 = (shapeSegs kda Xa Ya STa npa nqa).length ∧ sz2 ≤ nc2 ∧ 16 ≤ nc2 ∧ nc2 ≤ 128 ∧ sz2 ≤ nqa + nqb ∧ of2 ≤ sz2 ∧ sgB SX2 SY2 EX2 EY2) :
    rlI true rl kda Xa Ya STa npa nqa kdb Xb Yb STb npb nqb SX2 SY2 EX2 EY2 sz2 of2 nc2 WA MX PA WH nce LX LY HX HY UX UY WX WY KY nct no nf np nb nk nt TH := by
  obtain ⟨-, -, h3, h4, h5⟩ := h
  refine ⟨hp.2.2.2.2.2.2.2, ⟨hp.2.2.2.1, hp.2.2.2.2.1⟩, fun _ => hp, fun q => ⟨rfl, ?_⟩, h5⟩
  obtain ⟨t1, t2⟩ := h4 q
  have k := h3 t1
  have e1 : szs = sz2 := by
    have a := congrArg List.length k.1
    have b := congrArg List.length hp.1
    rw [← b] at a
    simpa [sgList] using a
  have e2 : of_ = of2 := by rw [k.2.1, hp.2.1]
  subst e1
  subst e2
  exact t2.cg k.1 hp.1 hp.2.1 hka hkb
end TW
end INV
