/-! plain law 13: all marks of the component are the canonical ones -/
section PL13
variable {SX SY EX EY : Nat → Int} {of_ n : Nat}
variable {kda : Nat} {Xa Ya : Nat → Int} {STa : Nat → Nat} {npa nqa kdb : Nat} {Xb Yb : Nat → Int} {STb : Nat → Nat} {npb nqb : Nat}
theorem dir_c (s : Nat) : dir (cS (sgAt SX SY EX EY s)) = (((EX s - SX s : Int) : Rat), ((EY s - SY s : Int) : Rat)) := by
  unfold dir cS cP sgAt
  dsimp only
  rw [Rat.intCast_sub, Rat.intCast_sub]
theorem lkC_e {A B : List Sg} (h : sgList SX SY EX EY n = A ++ B) (ho : of_ = A.length) (s : Nat) (px py : Int) : lkC kda kdb SX SY EX EY of_ n s px py = lkG kda (A.map cS) kdb (B.map cS) (cS (sgAt SX SY EX EY s)) (cP (px, py)) := by
  have al0 : alR SX SY EX EY 0 of_ px py (EX s - SX s) (EY s - SY s) = (A.map cS).any (alB (cP (px, py)) (dir (cS (sgAt SX SY EX EY s)))) := by
    unfold alR
    rw [exR_a h ho (F := fun g => alB (cP (px, py)) (((EX s - SX s : Int) : Rat), ((EY s - SY s : Int) : Rat)) (cS g)) (fun k => along_c ..), dir_c, List.any_map]; rfl
  have al1 : alR SX SY EX EY of_ n px py (EX s - SX s) (EY s - SY s) = (B.map cS).any (alB (cP (px, py)) (dir (cS (sgAt SX SY EX EY s)))) := by
    unfold alR
    rw [exR_b h ho (F := fun g => alB (cP (px, py)) (((EX s - SX s : Int) : Rat), ((EY s - SY s : Int) : Rat)) (cS g)) (fun k => along_c ..), dir_c, List.any_map]; rfl
  have od0 : ∀ lu lv : Int, odR SX SY EX EY 0 of_ px py (EX s - SX s) (EY s - SY s) lu lv = par (fun s' => gOdd s' (cP (px, py)) (dir (cS (sgAt SX SY EX EY s))) ((lu : Rat), (lv : Rat))) (A.map cS) := fun lu lv => by
    unfold odR
    rw [parR_a h ho (F := fun g => gOdd (cS g) (cP (px, py)) (((EX s - SX s : Int) : Rat), ((EY s - SY s : Int) : Rat)) ((lu : Rat), (lv : Rat))) (fun k => odd_c ..), dir_c, par_map]
  have od1 : ∀ lu lv : Int, odR SX SY EX EY of_ n px py (EX s - SX s) (EY s - SY s) lu lv = par (fun s' => gOdd s' (cP (px, py)) (dir (cS (sgAt SX SY EX EY s))) ((lu : Rat), (lv : Rat))) (B.map cS) := fun lu lv => by
    unfold odR
    rw [parR_b h ho (F := fun g => gOdd (cS g) (cP (px, py)) (((EX s - SX s : Int) : Rat), ((EY s - SY s : Int) : Rat)) ((lu : Rat), (lv : Rat))) (fun k => odd_c ..), dir_c, par_map]
  have z0 : (((0 : Int) : Rat), ((0 : Int) : Rat)) = ((0, 0) : Pt) := rfl
  have lm : ((((-1) * (EY s - SY s) : Int) : Rat), ((1 * (EX s - SX s) : Int) : Rat)) = leanOf (dir (cS (sgAt SX SY EX EY s))) 1 := by
    rw [dir_c]; unfold leanOf; dsimp only
    rw [Rat.intCast_mul, Rat.intCast_mul]; rfl
  have lp : (((-(-1) * (EY s - SY s) : Int) : Rat), (((-1) * (EX s - SX s) : Int) : Rat)) = leanOf (dir (cS (sgAt SX SY EX EY s))) (-1) := by
    rw [dir_c]; unfold leanOf; dsimp only
    rw [Rat.intCast_mul, Rat.intCast_mul]; rfl
  unfold lkC lkG
  rw [al0, al1, od0, od0, od0, od1, od1, od1, z0, lm, lp]
abbrev cKK (kda : Nat) (Xa Ya : Nat → Int) (STa : Nat → Nat) (npa nqa kdb : Nat) (Xb Yb : Nat → Int) (STb : Nat → Nat) (npb nqb : Nat) : Mk → Prop := KK kda (shQ Xa Ya nqa) (shL kda Xa Ya STa npa nqa) (shE Xa Ya STa npa nqa) kdb (shQ Xb Yb nqb) (shL kdb Xb Yb STb npb nqb) (shE Xb Yb STb npb nqb)
theorem plC_e (hka : 1 ≤ kda ∧ kda ≤ 3) (hkb : 1 ≤ kdb ∧ kdb ≤ 3) (h : sgList SX SY EX EY n = shapeSegs kda Xa Ya STa npa nqa ++ shapeSegs kdb Xb Yb STb npb nqb) (ho : of_ = (shapeSegs kda Xa Ya STa npa nqa).length) (x y : Int) : plC kda Xa Ya STa npa nqa kdb Xb Yb STb npb nqb SX SY EX EY of_ n x y = (whR kda (shQ Xa Ya nqa) (shL kda Xa Ya STa npa nqa) (shE Xa Ya STa npa nqa) (cP (x, y)), whR kdb (shQ Xb Yb nqb) (shL kdb Xb Yb STb npb nqb) (shE Xb Yb STb npb nqb) (cP (x, y))) := by
  unfold plC
  rw [plA_e hka (fun hf => exR_a h ho hf) (fun hf => parR_a h ho hf), plA_e hkb (fun hf => exR_b h ho hf) (fun hf => parR_b h ho hf)]
set_option maxHeartbeats 1000000 in
theorem comp_marks (hka : 1 ≤ kda ∧ kda ≤ 3) (hkb : 1 ≤ kdb ∧ kdb ≤ 3) (hOa : olOK STa npa nqa) (hOb : olOK STb npb nqb) (h : sgList SX SY EX EY n = shapeSegs kda Xa Ya STa npa nqa ++ shapeSegs kdb Xb Yb STb npb nqb) (ho : of_ = (shapeSegs kda Xa Ya STa npa nqa).length)
    {EE : Nat → List Ev} (hEE : ∀ i, i < n → (EE i).Perm (allEv SX SY EX EY of_ n i) ∧ (EE i).Pairwise evLe ∧ evOK (EE i)) {L : List Mk}
    (hL : L = ((List.range n).flatMap (fun i => walkMk kda Xa Ya STa npa nqa kdb Xb Yb STb npb nqb SX SY EX EY of_ n i (EE i))) ++ (endMk (plC kda Xa Ya STa npa nqa kdb Xb Yb STb npb nqb SX SY EX EY of_ n) kda Xa Ya nqa ++ endMk (plC kda Xa Ya STa npa nqa kdb Xb Yb STb npb nqb SX SY EX EY of_ n) kdb Xb Yb nqb)) :
    (∀ m ∈ L, okM m ∧ leM (cKK kda Xa Ya STa npa nqa kdb Xb Yb STb npb nqb) m) ∧ ∀ m, cKK kda Xa Ya STa npa nqa kdb Xb Yb STb npb nqb m → ∃ m' ∈ L, doms m m' := by
  have h0 := sh_ok (X := Xa) (Y := Ya) hka hOa
  have h1 := sh_ok (X := Xb) (Y := Yb) hkb hOb
  have hPL := plC_e hka hkb h ho
  have hin : ∀ {s : Nat}, s < n → cS (sgAt SX SY EX EY s) ∈ shL kda Xa Ya STa npa nqa ++ shL kdb Xb Yb STb npb nqb := fun hs => sg_in h hs
  have hne : ∀ k, k < n → (sgAt SX SY EX EY k).1 ≠ (sgAt SX SY EX EY k).2 := fun k hk e => by
    rcases two_ndg h0 h1 _ (hin hk) with q | q
    · exact q (by show ((sgAt SX SY EX EY k).1.1 : Rat) = _; rw [e]; rfl)
    · exact q (by show ((sgAt SX SY EX EY k).1.2 : Rat) = _; rw [e]; rfl)
  have hev : ∀ {s : Nat}, s < n → evsOK (shL kda Xa Ya STa npa nqa) (shL kdb Xb Yb STb npb nqb) (cS (sgAt SX SY EX EY s)) (EE s) := fun {s} hs => evs_ok h ho hne hs (hEE s hs).1 (hEE s hs).2.2
  have hwhole : ∀ {s : Nat}, s < n → ∀ e ∈ EE s, 0 < e.2.1 := fun {s} hs e he => by
    have := ((hEE s hs).2.2 e he).1; omega
  have hgood : ∀ {s : Nat}, s < n → ∀ (x y : Int) (τ : Rat), 0 ≤ τ → τ < 1 → cP (x, y) = at_ (cS (sgAt SX SY EX EY s)) τ → goodS kda (shQ Xa Ya nqa) (shL kda Xa Ya STa npa nqa) kdb (shQ Xb Yb nqb) (shL kdb Xb Yb STb npb nqb) (cS (sgAt SX SY EX EY s)) (EE s) (decide (isFirst (dir (cS (sgAt SX SY EX EY s))) 1)) τ (lkC kda kdb SX SY EX EY of_ n s x y) := fun {s} hs x y τ a b e => by
    have e2 := lkC_e (kda := kda) (kdb := kdb) h ho s x y
    rw [e2, e]
    exact lk_good h0 h1 (hin hs) (hev hs) a
  have hW := fun {s : Nat} (hs : s < n) => walk_ok (own := decide (s < of_)) (PLc := plC kda Xa Ya STa npa nqa kdb Xb Yb STb npb nqb SX SY EX EY of_ n) (LKc := lkC kda kdb SX SY EX EY of_ n s) h0 h1 (hin hs) (hev hs) (hwhole hs) (fun e he => ((hEE s hs).2.2 e he).2.1) hPL (fun x y τ a b e _ => hgood hs x y τ a b e)
    (fun q => sg_a h ho (of_decide_eq_true q)) (fun q => sg_b h ho (by have := of_decide_eq_false q; omega) hs) (EE s).length (EE s) 0 (lkC kda kdb SX SY EX EY of_ n s (SX s) (SY s)) (Nat.le_refl _) (by decide) (by decide)
    ⟨fun e he => ⟨he, ((hev hs).1 e he).1.1⟩, fun e he _ => he, (hEE s hs).2.1.imp_of_mem (fun {a b} ha hb hab => evLe_R (hwhole hs a ha) (hwhole hs b hb) hab), fun _ _ _ => rfl⟩ (hgood hs (SX s) (SY s) 0 (by decide) (by decide) (at_0 (cS (sgAt SX SY EX EY s))).symm)
  have hst : ∀ {s : Nat}, s < n → ∀ m ∈ pcMk (lkC kda kdb SX SY EX EY of_ n s (SX s) (SY s)), okM m ∧ leM (cKK kda Xa Ya STa npa nqa kdb Xb Yb STb npb nqb) m := fun {s} hs => by
    obtain ⟨t, d1, d2, d3, d4⟩ := next_gen (Q0 := shQ Xa Ya nqa) (Q1 := shQ Xb Yb nqb) (hin hs) (two_ndg h0 h1 _ (hin hs)) (EE s) (show (0 : Rat) ≤ 0 by decide) (by decide)
    exact st_marks h0 h1 d3 (hgood hs (SX s) (SY s) 0 (by decide) (by decide) (at_0 (cS (sgAt SX SY EX EY s))).symm t d1 d2 d3 d4)
  have pl : ∀ x y : Int, okM ((plC kda Xa Ya STa npa nqa kdb Xb Yb STb npb nqb SX SY EX EY of_ n x y).1, (plC kda Xa Ya STa npa nqa kdb Xb Yb STb npb nqb SX SY EX EY of_ n x y).2, 0) ∧ leM (cKK kda Xa Ya STa npa nqa kdb Xb Yb STb npb nqb) ((plC kda Xa Ya STa npa nqa kdb Xb Yb STb npb nqb SX SY EX EY of_ n x y).1, (plC kda Xa Ya STa npa nqa kdb Xb Yb STb npb nqb SX SY EX EY of_ n x y).2, 0) := fun x y => by
    rw [hPL]
    exact ⟨plR_ok (kd0 := kda) (Q0 := shQ Xa Ya nqa) (L0 := shL kda Xa Ya STa npa nqa) (E0 := shE Xa Ya STa npa nqa) (kd1 := kdb) (Q1 := shQ Xb Yb nqb) (L1 := shL kdb Xb Yb STb npb nqb) (E1 := shE Xb Yb STb npb nqb) (cP (x, y)), pt_le h0 h1 (cP (x, y))⟩
  subst hL
  constructor
  · intro m hm
    rcases List.mem_append.mp hm with hm | hm
    · obtain ⟨s, hs, hm⟩ := List.mem_flatMap.mp hm
      rw [List.mem_range] at hs
      unfold walkMk at hm
      rcases List.mem_cons.mp hm with rfl | hm
      · exact pl _ _
      · rcases List.mem_cons.mp hm with rfl | hm
        · exact pl _ _
        · rcases List.mem_append.mp hm with hm | hm
          · exact hst hs m hm
          · exact (hW hs).1 m hm
    · rcases List.mem_append.mp hm with hm | hm
      · unfold endMk at hm
        split at hm
        · obtain ⟨k, -, rfl⟩ := List.mem_map.mp hm; exact pl _ _
        · cases hm
      · unfold endMk at hm
        split at hm
        · obtain ⟨k, -, rfl⟩ := List.mem_map.mp hm; exact pl _ _
        · cases hm
  · have wmem : ∀ {s : Nat}, s < n → ∀ m ∈ walkMk kda Xa Ya STa npa nqa kdb Xb Yb STb npb nqb SX SY EX EY of_ n s (EE s), m ∈ ((List.range n).flatMap (fun i => walkMk kda Xa Ya STa npa nqa kdb Xb Yb STb npb nqb SX SY EX EY of_ n i (EE i))) ++ (endMk (plC kda Xa Ya STa npa nqa kdb Xb Yb STb npb nqb SX SY EX EY of_ n) kda Xa Ya nqa ++ endMk (plC kda Xa Ya STa npa nqa kdb Xb Yb STb npb nqb SX SY EX EY of_ n) kdb Xb Yb nqb) := fun {s} hs m hm => List.mem_append_left _ (List.mem_flatMap.mpr ⟨s, List.mem_range.mpr hs, hm⟩)
    have plm : ∀ x y : Int, ((plC kda Xa Ya STa npa nqa kdb Xb Yb STb npb nqb SX SY EX EY of_ n x y).1, (plC kda Xa Ya STa npa nqa kdb Xb Yb STb npb nqb SX SY EX EY of_ n x y).2, 0) = plR kda (shQ Xa Ya nqa) (shL kda Xa Ya STa npa nqa) (shE Xa Ya STa npa nqa) kdb (shQ Xb Yb nqb) (shL kdb Xb Yb STb npb nqb) (shE Xb Yb STb npb nqb) (cP (x, y)) := fun x y => by rw [hPL]; rfl
    have mkdC : ∀ p, mkd kda (shQ Xa Ya nqa) (shL kda Xa Ya STa npa nqa) kdb (shQ Xb Yb nqb) (shL kdb Xb Yb STb npb nqb) p → ∃ m' ∈ ((List.range n).flatMap (fun i => walkMk kda Xa Ya STa npa nqa kdb Xb Yb STb npb nqb SX SY EX EY of_ n i (EE i))) ++ (endMk (plC kda Xa Ya STa npa nqa kdb Xb Yb STb npb nqb SX SY EX EY of_ n) kda Xa Ya nqa ++ endMk (plC kda Xa Ya STa npa nqa kdb Xb Yb STb npb nqb SX SY EX EY of_ n) kdb Xb Yb nqb), doms (plR kda (shQ Xa Ya nqa) (shL kda Xa Ya STa npa nqa) (shE Xa Ya STa npa nqa) kdb (shQ Xb Yb nqb) (shL kdb Xb Yb STb npb nqb) (shE Xb Yb STb npb nqb) p) m' := fun p hp => by
      rcases hp with ⟨q, hq, e⟩ | ⟨hk, hq⟩ | ⟨hk, hq⟩
      · obtain ⟨s, hs, rfl⟩ := sg_of h hq
        rcases e with rfl | rfl
        · refine ⟨_, wmem hs _ (by unfold walkMk; exact List.mem_cons_self), ?_⟩
          rw [plm]; exact doms.rfl' _
        · refine ⟨_, wmem hs _ (by unfold walkMk; exact List.mem_cons_of_mem _ List.mem_cons_self), ?_⟩
          rw [plm]; exact doms.rfl' _
      · obtain ⟨k, hk2, rfl⟩ := mem_shQ.mp hq
        refine ⟨ptMk (plC kda Xa Ya STa npa nqa kdb Xb Yb STb npb nqb SX SY EX EY of_ n) Xa Ya k, List.mem_append_right _ (List.mem_append_left _ ?_), ?_⟩
        · unfold endMk; rw [if_pos hk]; exact List.mem_map.mpr ⟨k, List.mem_range.mpr hk2, rfl⟩
        · unfold ptMk; rw [plm]; exact doms.rfl' _
      · obtain ⟨k, hk2, rfl⟩ := mem_shQ.mp hq
        refine ⟨ptMk (plC kda Xa Ya STa npa nqa kdb Xb Yb STb npb nqb SX SY EX EY of_ n) Xb Yb k, List.mem_append_right _ (List.mem_append_right _ ?_), ?_⟩
        · unfold endMk; rw [if_pos hk]; exact List.mem_map.mpr ⟨k, List.mem_range.mpr hk2, rfl⟩
        · unfold ptMk; rw [plm]; exact doms.rfl' _
    intro m hm
    rcases hm with ⟨p, hp, rfl⟩ | ⟨q, hq, t, ht, p, hp, rfl⟩ | ⟨q, p, hg, hm⟩
    · exact mkdC p hp
    · by_cases hmk : mkd kda (shQ Xa Ya nqa) (shL kda Xa Ya STa npa nqa) kdb (shQ Xb Yb nqb) (shL kdb Xb Yb STb npb nqb) p
      · exact mkdC p hmk
      · obtain ⟨s, hs, rfl⟩ := sg_of h hq
        obtain ⟨τ, -, -, rfl⟩ := (on_at (two_ndg h0 h1 _ hq)).mp hp.2.1
        obtain ⟨e, he, rfl⟩ := crs_ev (hev hs) ht ⟨hp.1, hp.2.2⟩
        have := (hW hs).2.2 e he ((hev hs).1 e he).1.1 (fun f hf e1 e2 => by
          obtain ⟨f1, f2⟩ := ((hev hs).1 f hf).2.1 e2
          rw [f1, e1] at f2
          exact hmk (Or.inl f2)) hmk
        refine ⟨_, wmem hs _ ?_, doms.rfl' _⟩
        unfold walkMk
        exact List.mem_cons_of_mem _ (List.mem_cons_of_mem _ (List.mem_append_right _ this))
    · obtain ⟨s, hs, rfl⟩ := sg_of h hg.1
      have hnd := two_ndg h0 h1 _ hg.1
      obtain ⟨t, t1, t2, rfl⟩ := on_inner hnd hg.2.1 (fun e => hg.2.2.1 (two_end h0 h1 ⟨_, hg.1, Or.inl e⟩)) (fun e => hg.2.2.1 (two_end h0 h1 ⟨_, hg.1, Or.inr e⟩))
      have hm' := (pc_st h0 h1 (fl := decide (isFirst (dir (cS (sgAt SX SY EX EY s))) 1)) hg.2.2.1).mpr hm
      refine ⟨m, wmem hs _ ?_, doms.rfl' _⟩
      unfold walkMk
      refine List.mem_cons_of_mem _ (List.mem_cons_of_mem _ ?_)
      by_cases hx : ∃ e ∈ EE s, 0 < evR e ∧ evR e < t
      · exact List.mem_append_right _ ((hW hs).2.1 t t1 t2 hg hx m hm')
      · refine List.mem_append_left _ ?_
        rw [← hgood hs (SX s) (SY s) 0 (by decide) (by decide) (at_0 (cS (sgAt SX SY EX EY s))).symm t t1 t2 hg (fun e he q => hx ⟨e, he, q⟩)]
        exact hm'
end PL13
