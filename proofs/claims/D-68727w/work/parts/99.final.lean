/-! plain law 15: component and Model answer alike -/
section PL15
section CG
variable {kd : Nat} {X Y X' Y' : Nat → Int} {ST ST' : Nat → Nat} {np nq : Nat}
theorem segOf_cg (h : ∀ k, k < nq → X k = X' k ∧ Y k = Y' k) {a b : Nat} (ha : a < nq) (hb : b < nq) : segOf X Y a b = segOf X' Y' a b := by
  unfold segOf ptAt
  rw [(h a ha).1, (h a ha).2, (h b hb).1, (h b hb).2]
theorem runSegs_cg (h : ∀ k, k < nq → X k = X' k ∧ Y k = Y' k) {a : Nat} : ∀ n, a + n < nq ∨ n = 0 → runSegs X Y a n = runSegs X' Y' a n
  | 0, _ => rfl
  | n + 1, hn => by rw [runSegs, runSegs, runSegs_cg h n (by omega), segOf_cg h (by omega) (by omega)]
theorem partSegs_cg (h : ∀ k, k < nq → X k = X' k ∧ Y k = Y' k) {st en : Nat} (he : en ≤ nq) : partSegs kd X Y st en = partSegs kd X' Y' st en := by
  unfold partSegs
  by_cases hl : st < en
  · rw [runSegs_cg h _ (by omega), segOf_cg h (by omega) (by omega)]
  · rw [show en - st - 1 = 0 by omega, if_neg (fun q => hl q.2), if_neg (fun q => hl q.2)]; rfl
theorem olEnd_cg (hS : ∀ p, p < np → ST p = ST' p) (p : Nat) : olEnd ST np nq p = olEnd ST' np nq p := by
  unfold olEnd
  split
  · exact hS _ (by assumption)
  · rfl
theorem allSegs_cg (h : ∀ k, k < nq → X k = X' k ∧ Y k = Y' k) (hS : ∀ p, p < np → ST p = ST' p) (ho : olOK ST np nq) : ∀ n, n ≤ np → allSegs kd X Y ST np nq n = allSegs kd X' Y' ST' np nq n
  | 0, _ => rfl
  | n + 1, hn => by rw [allSegs, allSegs, allSegs_cg h hS ho n (by omega), partSegs_cg h (olEnd_nq ho (by omega)), hS n (by omega), olEnd_cg hS]
theorem shapeSegs_cg (h : ∀ k, k < nq → X k = X' k ∧ Y k = Y' k) (hS : ∀ p, p < np → ST p = ST' p) (ho : olOK ST np nq) : shapeSegs kd X Y ST np nq = shapeSegs kd X' Y' ST' np nq := by
  unfold shapeSegs
  rw [allSegs_cg h hS ho np (Nat.le_refl _)]
theorem shQ_cg (h : ∀ k, k < nq → X k = X' k ∧ Y k = Y' k) : shQ X Y nq = shQ X' Y' nq := by
  unfold shQ
  exact List.map_congr_left fun k hk => by rw [(h k (List.mem_range.mp hk)).1, (h k (List.mem_range.mp hk)).2]
theorem shE_cg (h : ∀ k, k < nq → X k = X' k ∧ Y k = Y' k) (hS : ∀ p, p < np → ST p = ST' p) (ho : olOK ST np nq) : shE X Y ST np nq = shE X' Y' ST' np nq := by
  funext p
  unfold shE
  rw [enG_congr (fun k hk => by rw [(h k hk).1, (h k hk).2]) hS (fun p hp => olEnd_nq ho hp) np (Nat.le_refl _)]
end CG
/-- the Model keeps a shape as the component does -/
def agr (kd : Nat) (X Y : Nat → Int) (ST : Nat → Nat) (np nq : Nat) (XS YS : Nat → Int) (KD PT PN BG : Nat → Nat) (w : Nat) : Prop :=
  KD w = kd ∧ PT w = nq ∧ PN w = np ∧ (∀ k, k < nq → XS (2048 * w + k) = X k ∧ YS (2048 * w + k) = Y k) ∧ (∀ p, p < np → BG (1025 * w + p) = ST p) ∧ (1 ≤ kd ∧ kd ≤ 3) ∧ olOK ST np nq
section AG
variable {kd : Nat} {X Y : Nat → Int} {ST : Nat → Nat} {np nq : Nat} {XS YS : Nat → Int} {KD PT PN BG : Nat → Nat} {w : Nat}
theorem agr.segs (h : agr kd X Y ST np nq XS YS KD PT PN BG w) : mSegs XS YS KD PT PN BG w = shapeSegs kd X Y ST np nq := by
  obtain ⟨rfl, rfl, rfl, h4, h5, -, h7⟩ := h
  unfold mSegs
  exact (shapeSegs_cg (fun k hk => ⟨(h4 k hk).1.symm, (h4 k hk).2.symm⟩) (fun p hp => (h5 p hp).symm) h7).symm
theorem agr.L (h : agr kd X Y ST np nq XS YS KD PT PN BG w) : mL XS YS KD PT PN BG w = shL kd X Y ST np nq := by unfold mL shL; rw [h.segs]
theorem agr.Q (h : agr kd X Y ST np nq XS YS KD PT PN BG w) : mQ XS YS PT w = shQ X Y nq := by
  obtain ⟨rfl, rfl, rfl, h4, h5, -, h7⟩ := h
  exact shQ_cg h4
theorem agr.E (h : agr kd X Y ST np nq XS YS KD PT PN BG w) : mE XS YS PT PN BG w = shE X Y ST np nq := by
  obtain ⟨rfl, rfl, rfl, h4, h5, -, h7⟩ := h
  exact (shE_cg (fun k hk => ⟨(h4 k hk).1.symm, (h4 k hk).2.symm⟩) (fun p hp => (h5 p hp).symm) h7).symm
theorem agr.ol (h : agr kd X Y ST np nq XS YS KD PT PN BG w) : olOK (fun p => BG (1025 * w + p)) (PN w) (PT w) := by
  obtain ⟨rfl, rfl, rfl, h4, h5, -, h7⟩ := h
  intro p hp
  have := h7 p hp
  have e := olEnd_cg (nq := PT w) (fun q hq => h5 q hq) p
  rw [e]
  show BG (1025 * w + p) ≤ _ ∧ BG (1025 * w + p) ≤ _
  rw [h5 p hp]; exact this
end AG
section FIN
variable {kda : Nat} {Xa Ya : Nat → Int} {STa : Nat → Nat} {npa nqa kdb : Nat} {Xb Yb : Nat → Int} {STb : Nat → Nat} {npb nqb : Nat}
variable {XS YS : Nat → Int} {FM TM WO KD PT PN BG : Nat → Nat} {sg : Nat} {SX SY EX EY : Nat → Int} {of_ n : Nat}
/-- both answer alike where a place is -/
theorem fin_loc {px py : Int} (ha : agr kda Xa Ya STa npa nqa XS YS KD PT PN BG 0) (hb : agr kdb Xb Yb STb npb nqb XS YS KD PT PN BG 1) (hL : plist (sgM XS YS FM TM WO) sg = (List.range 2).flatMap (mAll XS YS KD PT PN BG)) (h : sgList SX SY EX EY n = shapeSegs kda Xa Ya STa npa nqa ++ shapeSegs kdb Xb Yb STb npb nqb) (ho : of_ = (shapeSegs kda Xa Ya STa npa nqa).length) :
    plA kda Xa Ya STa npa nqa SX SY EX EY 0 of_ px py = whM px py 0 0 0 1 XS YS FM TM WO KD PT PN BG sg 0 ∧ plA kdb Xb Yb STb npb nqb SX SY EX EY of_ n px py = whM px py 0 0 0 1 XS YS FM TM WO KD PT PN BG sg 1 := by
  rw [whM_e hL (by decide) (by decide), whM_e hL (by decide) (by decide), mP_pt, ha.Q, ha.L, ha.E, hb.Q, hb.L, hb.E, ha.1, hb.1]
  rw [plA_e ha.2.2.2.2.2.1 (fun hf => exR_a h ho hf) (fun hf => parR_a h ho hf), plA_e hb.2.2.2.2.2.1 (fun hf => exR_b h ho hf) (fun hf => parR_b h ho hf)]
  exact ⟨rfl, rfl⟩
theorem hsM_iff (hL : plist (sgM XS YS FM TM WO) sg = (List.range 2).flatMap (mAll XS YS KD PT PN BG)) {s : Nat} (hs : s < 2) : hsM WO sg s = true ↔ mL XS YS KD PT PN BG s ≠ [] := by
  have e : (List.range 2).flatMap (mAll XS YS KD PT PN BG) = mAll XS YS KD PT PN BG 0 ++ mAll XS YS KD PT PN BG 1 := by
    show mAll XS YS KD PT PN BG 0 ++ (mAll XS YS KD PT PN BG 1 ++ []) = _
    rw [List.append_nil]
  rw [e] at hL
  unfold hsM exR
  rw [List.any_eq_true]
  constructor
  · rintro ⟨k, hk, h⟩
    simp only [Bool.and_eq_true, decide_eq_true_eq] at h
    have hm : sgM XS YS FM TM WO k ∈ mAll XS YS KD PT PN BG 0 ++ mAll XS YS KD PT PN BG 1 := by rw [← hL]; exact List.mem_map.mpr ⟨k, hk, rfl⟩
    have : ∃ g, g ∈ mSegs XS YS KD PT PN BG s := by
      rcases List.mem_append.mp hm with q | q
      · obtain ⟨g, hg, e⟩ := List.mem_map.mp q
        have : s = 0 := by have := congrArg Prod.snd e; dsimp only [sgM] at this; omega
        subst this; exact ⟨g, hg⟩
      · obtain ⟨g, hg, e⟩ := List.mem_map.mp q
        have : s = 1 := by have := congrArg Prod.snd e; dsimp only [sgM] at this; omega
        subst this; exact ⟨g, hg⟩
    obtain ⟨g, hg⟩ := this
    intro hn
    have : cS g ∈ mL XS YS KD PT PN BG s := List.mem_map.mpr ⟨g, hg, rfl⟩
    rw [hn] at this; cases this
  · intro hn
    obtain ⟨q, hq⟩ := List.exists_mem_of_ne_nil _ hn
    obtain ⟨g, hg, -⟩ := List.mem_map.mp hq
    have hm : (g, s) ∈ plist (sgM XS YS FM TM WO) sg := by
      rw [hL]
      rcases (show s = 0 ∨ s = 1 by omega) with rfl | rfl
      · exact List.mem_append_left _ (List.mem_map.mpr ⟨g, hg, rfl⟩)
      · exact List.mem_append_right _ (List.mem_map.mpr ⟨g, hg, rfl⟩)
    obtain ⟨k, hk, e⟩ := List.mem_map.mp hm
    refine ⟨k, hk, ?_⟩
    have := congrArg Prod.snd e
    simp only [Bool.and_eq_true, decide_eq_true_eq]
    exact ⟨Nat.zero_le _, this⟩
/-- all that the law compares -/
theorem fin_mx {MXc MXm : Nat → Int} {HA : Nat → Bool} (ha : agr kda Xa Ya STa npa nqa XS YS KD PT PN BG 0) (hb : agr kdb Xb Yb STb npb nqb XS YS KD PT PN BG 1) (hL : plist (sgM XS YS FM TM WO) sg = (List.range 2).flatMap (mAll XS YS KD PT PN BG)) (h : sgList SX SY EX EY n = shapeSegs kda Xa Ya STa npa nqa ++ shapeSegs kdb Xb Yb STb npb nqb) (ho : of_ = (shapeSegs kda Xa Ya STa npa nqa).length)
    (hc : compOK kda Xa Ya STa npa nqa kdb Xb Yb STb npb nqb SX SY EX EY of_ n MXc) (hm : mdOK XS YS FM TM WO KD PT PN BG sg MXm HA) :
    (∀ k, k < 9 → MXc k = MXm k) ∧ (qInside MXc 0 = inM KD PT WO HA sg 0 ∧ qDim MXc 0 = dimM KD PT WO HA sg 0) ∧ (qInside MXc 1 = inM KD PT WO HA sg 1 ∧ qDim MXc 1 = dimM KD PT WO HA sg 1) := by
  have hK : ∀ s, s < 2 → 1 ≤ KD s ∧ KD s ≤ 3 := fun s hs => by
    rcases (show s = 0 ∨ s = 1 by omega) with rfl | rfl
    · rw [ha.1]; exact ha.2.2.2.2.2.1
    · rw [hb.1]; exact hb.2.2.2.2.2.1
  have hO : ∀ s, s < 2 → olOK (fun p => BG (1025 * s + p)) (PN s) (PT s) := fun s hs => by
    rcases (show s = 0 ∨ s = 1 by omega) with rfl | rfl
    · exact ha.ol
    · exact hb.ol
  obtain ⟨MXi, CL, L, a1, a2, a3, a4, rfl, a6, a7⟩ := hm
  obtain ⟨m1, m2, m3⟩ := md_marks hL hK hO a3 a4
  obtain ⟨MXj, EE, b1, b2, b3, rfl⟩ := hc
  obtain ⟨c1, c2⟩ := comp_marks ha.2.2.2.2.2.1 hb.2.2.2.2.2.1 ha.2.2.2.2.2.2 hb.2.2.2.2.2.2 h ho b3 rfl
  have eK : mKK XS YS KD PT PN BG = cKK kda Xa Ya STa npa nqa kdb Xb Yb STb npb nqb := by
    unfold mKK cKK
    rw [ha.Q, ha.L, ha.E, hb.Q, hb.L, hb.E, ha.1, hb.1]
  have M1 := mxK_of m1 m2 m3 a1 a2
  have M2 := mxK_of (fun m hm => (c1 m hm).1) (fun m hm => (c1 m hm).2) c2 b1 b2
  rw [eK] at M1
  have h0 := sh_ok (X := Xa) (Y := Ya) ha.2.2.2.2.2.1 ha.2.2.2.2.2.2
  have h1 := sh_ok (X := Xb) (Y := Yb) hb.2.2.2.2.2.1 hb.2.2.2.2.2.2
  refine ⟨fun k hk => (mxK_eq M1 M2 k hk).symm, ?_, ?_⟩
  · have hs0 := hsM_iff hL (s := 0) (by decide)
    rw [ha.L] at hs0
    have hq : 0 < PT 0 ↔ shQ Xa Ya nqa ≠ [] := by
      rw [ha.2.1]
      unfold shQ
      constructor
      · intro z q; have := congrArg List.length q; simp at this; omega
      · intro z; cases hz : nqa with
        | zero => rw [hz] at z; exact absurd rfl z
        | succ _ => omega
    have hA : HA 0 = true ↔ inK (cKK kda Xa Ya STa npa nqa kdb Xb Yb STb npb nqb) 2 := by
      rw [a6, ← eK]
      unfold arL
      rw [List.any_eq_true]
      constructor
      · rintro ⟨m, hm, q⟩
        simp only [Bool.and_eq_true, decide_eq_true_eq, if_true] at q
        rcases m2 m hm with z | ⟨m', hK', hd⟩
        · omega
        · exact ⟨m', hK', by rw [hd.1]; exact q.2, by have := hd.2.2; omega⟩
      · rintro ⟨m, hK', q1, q2⟩
        obtain ⟨m', hm', hd⟩ := m3 m hK'
        have := (m1 m' hm').2.2
        refine ⟨m', hm', ?_⟩
        simp only [Bool.and_eq_true, decide_eq_true_eq, if_true]
        exact ⟨by have := hd.2.2; omega, by rw [hd.1]; exact q1⟩
    have := q_in h0 h1 M2 hq hs0 hA
    unfold dimM inM
    rw [ha.1]
    exact this
  · have hs1 := hsM_iff hL (s := 1) (by decide)
    rw [hb.L] at hs1
    have hq : 0 < PT 1 ↔ shQ Xb Yb nqb ≠ [] := by
      rw [hb.2.1]
      unfold shQ
      constructor
      · intro z q; have := congrArg List.length q; simp at this; omega
      · intro z; cases hz : nqb with
        | zero => rw [hz] at z; exact absurd rfl z
        | succ _ => omega
    have M3 := mxT_K (fun m hm => KK_swap hm) (fun m hm => KK_swap hm) (fun m hm => KK_ok hm) (fun m hm => KK_ok hm) M2
    have hA : HA 1 = true ↔ inK (KK kdb (shQ Xb Yb nqb) (shL kdb Xb Yb STb npb nqb) (shE Xb Yb STb npb nqb) kda (shQ Xa Ya nqa) (shL kda Xa Ya STa npa nqa) (shE Xa Ya STa npa nqa)) 2 := by
      rw [a7]
      unfold arL
      rw [List.any_eq_true]
      constructor
      · rintro ⟨m, hm, q⟩
        simp only [Bool.and_eq_true, decide_eq_true_eq] at q
        rw [if_neg (by decide)] at q
        rcases m2 m hm with z | ⟨m', hK', hd⟩
        · omega
        · rw [eK] at hK'
          exact ⟨_, KK_swap hK', by show m'.2.1 = 0; rw [hd.2.1]; exact q.2, by have := hd.2.2; show 2 ≤ m'.2.2; omega⟩
      · rintro ⟨m, hK', q1, q2⟩
        have hK2 : cKK kda Xa Ya STa npa nqa kdb Xb Yb STb npb nqb (m.2.1, m.1, m.2.2) := KK_swap hK'
        rw [← eK] at hK2
        obtain ⟨m', hm', hd⟩ := m3 _ hK2
        have := (m1 m' hm').2.2
        refine ⟨m', hm', ?_⟩
        simp only [Bool.and_eq_true, decide_eq_true_eq]
        rw [if_neg (by decide)]
        refine ⟨?_, ?_⟩
        · have h5 := hd.2.2; have h6 : m.2.2 ≤ m'.2.2 := h5; omega
        · have h5 := hd.2.1; have h6 : m'.2.1 = m.1 := h5; omega
    have := q_in h1 h0 M3 hq hs1 hA
    rw [(in_T _).1, (in_T _).2] at this
    unfold dimM inM
    rw [hb.1]
    exact this
/-! ### the answers -/
variable {MXc MXm : Nat → Int}
theorem relF_cg (h : ∀ k, k < 9 → MXc k = MXm k) : ∀ n, n ≤ 9 → relF MXc n = relF MXm n
  | 0, _ => rfl
  | n + 1, hn => by rw [relF, relF, relF_cg h n (by omega), h n (by omega)]
theorem is_cg (h : ∀ k, k < 9 → MXc k = MXm k) {d e : Int} (hd : qInside MXc 0 = d) (he : qInside MXc 1 = e) :
    qEqual MXc = mIs MXm d e 0 ∧ (!qMeets MXc) = mIs MXm d e 1 ∧ (!mxH MXc 0 0 && qMeets MXc) = mIs MXm d e 2 ∧ qCrosses MXc = mIs MXm d e 3 ∧ (mxH MXc 0 0 && qIn MXc) = mIs MXm d e 4 ∧ (mxH MXc 0 0 && qAround MXc) = mIs MXm d e 5 ∧ qOverlaps MXc = mIs MXm d e 6 ∧ (qMeets MXc && qIn MXc) = mIs MXm d e 7 ∧ (qMeets MXc && qAround MXc) = mIs MXm d e 8 := by
  have hH : ∀ a b, 3 * a + b < 9 → mxH MXc a b = mxH MXm a b := fun a b hab => by unfold mxH; rw [h _ hab]
  have h00 := hH 0 0 (by decide); have h02 := hH 0 2 (by decide); have h20 := hH 2 0 (by decide)
  have eM : qMeets MXc = qMeets MXm := by unfold qMeets; rw [h00, hH 0 1 (by decide), hH 1 0 (by decide), hH 1 1 (by decide)]
  have dn : ∀ x : Int, (!decide (0 ≤ x)) = decide (x < 0) := fun x => by
    by_cases q : 0 ≤ x
    · rw [decide_eq_true q, decide_eq_false (by omega)]; rfl
    · rw [decide_eq_false q, decide_eq_true (by omega)]; rfl
  have eI : qIn MXc = mNo MXm 2 5 := by
    unfold qIn; rw [h02, hH 1 2 (by decide)]; unfold mxH mNo; rw [dn, dn]
  have eA : qAround MXc = mNo MXm 6 7 := by
    unfold qAround; rw [h20, hH 2 1 (by decide)]; unfold mxH mNo; rw [dn, dn]
  refine ⟨?_, ?_, ?_, ?_, ?_, ?_, ?_, ?_, ?_⟩
  · unfold qEqual mIs; rw [if_pos rfl, hd, he, h00, eI, eA, Bool.and_assoc]
  · unfold mIs; rw [if_neg (by decide), if_pos rfl, eM]
  · unfold mIs; rw [if_neg (by decide), if_neg (by decide), if_pos rfl, eM, h00]
  · unfold mIs; rw [if_neg (by decide), if_neg (by decide), if_neg (by decide), if_pos rfl]
    unfold qCrosses mCross
    rw [hd, he, h00, h02, h20, h 0 (by decide)]
    by_cases q1 : d < e
    · rw [if_pos q1, if_pos q1]
    · rw [if_neg q1, if_neg q1]
      by_cases q2 : e < d
      · rw [if_pos q2, if_pos q2]
      · rw [if_neg q2, if_neg q2]
        by_cases q3 : MXm 0 = 0
        · have : mxH MXm 0 0 = true := decide_eq_true (by show 0 ≤ MXm 0; omega)
          rw [this]; rfl
        · rw [decide_eq_false q3, Bool.and_false, Bool.and_false]
  · unfold mIs; rw [if_neg (by decide), if_neg (by decide), if_neg (by decide), if_neg (by decide), if_pos rfl, h00, eI]
  · unfold mIs; rw [if_neg (by decide), if_neg (by decide), if_neg (by decide), if_neg (by decide), if_neg (by decide), if_pos rfl, h00, eA]
  · unfold mIs; rw [if_neg (by decide), if_neg (by decide), if_neg (by decide), if_neg (by decide), if_neg (by decide), if_neg (by decide), if_pos rfl]
    unfold qOverlaps
    rw [hd, he, h02, h20, h 0 (by decide)]
    simp only [Bool.and_assoc]
  · unfold mIs; rw [if_neg (by decide), if_neg (by decide), if_neg (by decide), if_neg (by decide), if_neg (by decide), if_neg (by decide), if_neg (by decide), if_pos rfl, eM, eI]
  · unfold mIs; rw [if_neg (by decide), if_neg (by decide), if_neg (by decide), if_neg (by decide), if_neg (by decide), if_neg (by decide), if_neg (by decide), if_neg (by decide), eM, eA]
end FIN
end PL15
