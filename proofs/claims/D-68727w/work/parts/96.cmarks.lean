/-! plain law 12: the component's events and marks -/
section PL12
section EV
variable {x y tx ty px py : Int}
theorem abs_c (z : Int) : (((z.natAbs : Int) : Int) : Rat) = if (z : Rat) < 0 then -(z : Rat) else (z : Rat) := by
  by_cases h : z < 0
  · rw [if_pos (neg_c.mp h), show (z.natAbs : Int) = -z by omega, Rat.intCast_neg]
  · rw [if_neg (fun q => h (neg_c.mpr q)), show (z.natAbs : Int) = z by omega]
theorem nd_c {g : Sg} (h : g.1 ≠ g.2) : ndg (cS g) := by
  by_cases q : g.1.1 = g.2.1
  · exact Or.inr fun e => h (Prod.ext q (cast_eq.mp e))
  · exact Or.inl fun e => q (cast_eq.mp e)
/-- a place on a segment, and how far along it lies -/
theorem mp_pos (hn : (x, y) ≠ (tx, ty)) {τ : Rat} (h0 : 0 ≤ τ) (e : cP (px, py) = at_ (cS ((x, y), (tx, ty))) τ) : 0 < mpWhole x y tx ty ∧ ((mpPart x y tx ty px py : Int) : Rat) = τ * ((mpWhole x y tx ty : Int) : Rat) := by
  have e1 : (px : Rat) = (x : Rat) + τ * ((tx : Rat) - (x : Rat)) := congrArg Prod.fst e
  have e2 : (py : Rat) = (y : Rat) + τ * ((ty : Rat) - (y : Rat)) := congrArg Prod.snd e
  have key : ∀ a p b : Int, (p : Rat) = (a : Rat) + τ * ((b : Rat) - (a : Rat)) → ((((p - a).natAbs : Int) : Int) : Rat) = τ * ((((b - a).natAbs : Int) : Int) : Rat) := fun a p b h => by
    rw [abs_c, abs_c, Rat.intCast_sub, Rat.intCast_sub]
    have hp : (p : Rat) - (a : Rat) = τ * ((b : Rat) - (a : Rat)) := by grind
    rw [hp]
    generalize (b : Rat) - (a : Rat) = w
    rcases rat_tri w with q | q | q
    · rw [if_pos q]
      have := rat_mul_zn h0 (Rat.le_of_lt q)
      by_cases hz : τ * w < 0
      · rw [if_pos hz]; grind
      · rw [if_neg hz]
        have : τ * w = 0 := by grind
        grind
    · subst q; simp
    · have h5 : 0 ≤ τ * w := by
        rcases rat_tri τ with z | z | z
        · exact absurd h0 (by grind)
        · rw [z]; simp
        · exact Rat.le_of_lt (Rat.mul_pos z q)
      rw [if_neg (show ¬ τ * w < 0 by intro z; exact absurd z (Rat.not_lt.mpr h5)), if_neg (show ¬ w < 0 by intro z; exact absurd z (Rat.not_lt.mpr (Rat.le_of_lt q)))]
  unfold mpWhole mpPart
  by_cases hc : ((ty - y).natAbs : Int) ≤ ((tx - x).natAbs : Int)
  · rw [if_pos hc, if_pos hc]
    refine ⟨?_, key x px tx e1⟩
    have : tx - x ≠ 0 := fun q => hn (Prod.ext (show x = tx by omega) (show y = ty by omega))
    omega
  · rw [if_neg hc, if_neg hc]
    exact ⟨by omega, key y py ty e2⟩
theorem mp_in (hn : (x, y) ≠ (tx, ty)) {e : Ev} (he : e ∈ mpEv x y tx ty px py) : e.2.2.1 = 2 ∧ evP e = at_ (cS ((x, y), (tx, ty))) (evR e) ∧ evP e = cP (px, py) := by
  unfold mpEv at he
  split at he
  · rename_i h
    rw [List.mem_singleton] at he
    subst he
    obtain ⟨ho, h1, h2⟩ := h
    rw [on_c] at ho
    obtain ⟨τ, a, b, e⟩ := (on_at (s := cS ((x, y), (tx, ty))) (nd_c hn)).mp (of_decide_eq_true ho)
    obtain ⟨w1, w2⟩ := mp_pos hn a e
    refine ⟨rfl, ?_, rfl⟩
    have hw : ((mpWhole x y tx ty : Int) : Rat) ≠ 0 := fun q => by have := zero_c.mpr q; omega
    have : evR (mpPart x y tx ty px py, mpWhole x y tx ty, 2, px, py) = τ := by
      unfold evR
      dsimp only
      rw [w2]; grind
    rw [this]; exact e
  · cases he
theorem mp_of (hn : (x, y) ≠ (tx, ty)) {τ : Rat} (h0 : 0 < τ) (h1 : τ < 1) (e : cP (px, py) = at_ (cS ((x, y), (tx, ty))) τ) : ∃ e ∈ mpEv x y tx ty px py, evR e = τ ∧ e.2.2.1 = 2 := by
  obtain ⟨w1, w2⟩ := mp_pos hn (Rat.le_of_lt h0) e
  have hw : (0 : Rat) < ((mpWhole x y tx ty : Int) : Rat) := pos_c.mp w1
  refine ⟨(mpPart x y tx ty px py, mpWhole x y tx ty, 2, px, py), ?_, ?_, rfl⟩
  · have hcond : sgOn x y tx ty px py = true ∧ 0 < mpPart x y tx ty px py ∧ mpPart x y tx ty px py < mpWhole x y tx ty := by
      refine ⟨?_, ?_, ?_⟩
      · rw [on_c]
        exact decide_eq_true ((on_at (s := cS ((x, y), (tx, ty))) (nd_c hn)).mpr ⟨τ, Rat.le_of_lt h0, Rat.le_of_lt h1, e⟩)
      · rw [pos_c, w2]; exact Rat.mul_pos h0 hw
      · rw [← cast_lt, w2]
        have := (mul_lt_r hw).mpr h1
        grind
    unfold mpEv
    rw [if_pos hcond]
    exact List.mem_singleton.mpr rfl
  · unfold evR
    dsimp only
    rw [w2]; grind
end EV
section CM
variable {SX SY EX EY : Nat → Int} {of_ n : Nat} {A B : List Sg}
/-- where two segments cross -/
theorem mt_cross {s t : Nat} (hX : pXp (cS (sgAt SX SY EX EY t)).1 (cS (sgAt SX SY EX EY t)).2 (cS (sgAt SX SY EX EY s)).1 (cS (sgAt SX SY EX EY s)).2) : ∃ e, mtEv SX SY EX EY of_ s t = [e] ∧ e.2.2.1 = (if t < of_ then 0 else 1) ∧ ori (cS (sgAt SX SY EX EY t)).1 (cS (sgAt SX SY EX EY t)).2 (at_ (cS (sgAt SX SY EX EY s)) (evR e)) = 0 := by
  have hc : sgCross (SX s) (SY s) (EX s) (EY s) (SX t) (SY t) (EX t) (EY t) = true := (cross_c (sgAt SX SY EX EY s) (sgAt SX SY EX EY t)).mpr hX
  unfold mtEv
  rw [if_pos hc]
  refine ⟨_, rfl, rfl, ?_⟩
  have hu := side_c (SX t) (SY t) (EX t) (EY t) (SX s) (SY s)
  have hv := side_c (SX t) (SY t) (EX t) (EY t) (EX s) (EY s)
  rw [ori_at]
  have q1 : ori (cS (sgAt SX SY EX EY t)).1 (cS (sgAt SX SY EX EY t)).2 (cS (sgAt SX SY EX EY s)).1 = ((sgSide (SX t) (SY t) (EX t) (EY t) (SX s) (SY s) : Int) : Rat) := hu.symm
  have q2 : ori (cS (sgAt SX SY EX EY t)).1 (cS (sgAt SX SY EX EY t)).2 (cS (sgAt SX SY EX EY s)).2 = ((sgSide (SX t) (SY t) (EX t) (EY t) (EX s) (EY s) : Int) : Rat) := hv.symm
  have hX1 := hX.1
  rw [q1, q2] at hX1
  rw [q1, q2]
  unfold evR
  dsimp only
  rw [Rat.intCast_add, abs_c, abs_c]
  generalize ((sgSide (SX t) (SY t) (EX t) (EY t) (SX s) (SY s) : Int) : Rat) = u at hX1 ⊢
  generalize ((sgSide (SX t) (SY t) (EX t) (EY t) (EX s) (EY s) : Int) : Rat) = v at hX1 ⊢
  rcases hX1 with ⟨a, b⟩ | ⟨a, b⟩
  · rw [if_pos a, if_neg (by grind)]
    have : -u + v ≠ 0 := by grind
    grind
  · rw [if_neg (by grind), if_pos b]
    have : u + -v ≠ 0 := by grind
    grind
theorem mt_place {s t : Nat} (hX : ¬ pXp (cS (sgAt SX SY EX EY t)).1 (cS (sgAt SX SY EX EY t)).2 (cS (sgAt SX SY EX EY s)).1 (cS (sgAt SX SY EX EY s)).2) : mtEv SX SY EX EY of_ s t = mpEv (SX s) (SY s) (EX s) (EY s) (SX t) (SY t) ++ mpEv (SX s) (SY s) (EX s) (EY s) (EX t) (EY t) := by
  unfold mtEv
  have hc : ¬ sgCross (SX s) (SY s) (EX s) (EY s) (SX t) (SY t) (EX t) (EY t) = true := fun q => hX ((cross_c (sgAt SX SY EX EY s) (sgAt SX SY EX EY t)).mp q)
  rw [if_neg hc]
theorem cnt_flat {α β : Type} {g : α → List β} {p : β → Bool} {q : α → Bool} : ∀ {l : List α}, (∀ x ∈ l, (g x).countP p = (q x).toNat) → (l.flatMap g).countP p = l.countP q
  | [], _ => rfl
  | x :: l, h => by
    rw [List.flatMap_cons, List.countP_append, h x List.mem_cons_self, cnt_flat (fun y hy => h y (List.mem_cons_of_mem _ hy)), List.countP_cons]
    cases q x <;> simp <;> omega
theorem self_no (s : Sq) : ¬ pXp s.1 s.2 s.1 s.2 := fun h => by
  have e : ori s.1 s.2 s.1 = 0 := by unfold ori; grind
  have := h.1
  rw [e] at this
  rcases this with q | q <;> grind
/-- the places of the segments in the two lists -/
theorem sg_in (h : sgList SX SY EX EY n = A ++ B) {s : Nat} (hs : s < n) : cS (sgAt SX SY EX EY s) ∈ A.map cS ++ B.map cS := by
  rw [← List.map_append, ← h]
  exact List.mem_map.mpr ⟨_, List.mem_map.mpr ⟨s, List.mem_range.mpr hs, rfl⟩, rfl⟩
theorem sg_of (h : sgList SX SY EX EY n = A ++ B) {q : Sq} (hq : q ∈ A.map cS ++ B.map cS) : ∃ s, s < n ∧ q = cS (sgAt SX SY EX EY s) := by
  rw [← List.map_append, ← h] at hq
  obtain ⟨g, hg, rfl⟩ := List.mem_map.mp hq
  obtain ⟨s, hs, rfl⟩ := List.mem_map.mp hg
  exact ⟨s, List.mem_range.mp hs, rfl⟩
theorem sg_a (h : sgList SX SY EX EY n = A ++ B) (ho : of_ = A.length) {s : Nat} (hs : s < of_) : cS (sgAt SX SY EX EY s) ∈ A.map cS := by
  rw [← (ls_split h ho).1]
  exact List.mem_map.mpr ⟨_, List.mem_map.mpr ⟨s, List.mem_range.mpr hs, rfl⟩, rfl⟩
theorem sg_b (h : sgList SX SY EX EY n = A ++ B) (ho : of_ = A.length) {s : Nat} (hs : of_ ≤ s) (hs2 : s < n) : cS (sgAt SX SY EX EY s) ∈ B.map cS := by
  rw [← (ls_split h ho).2.1]
  exact List.mem_map.mpr ⟨sgAt SX SY EX EY (of_ + (s - of_)), List.mem_map.mpr ⟨s - of_, List.mem_range.mpr (by omega), rfl⟩, by rw [show of_ + (s - of_) = s by omega]⟩
/-- how many events of a kind lie at a place -/
theorem ev_cnt (h : sgList SX SY EX EY n = A ++ B) (ho : of_ = A.length) (hne : ∀ k, k < n → (sgAt SX SY EX EY k).1 ≠ (sgAt SX SY EX EY k).2) {s : Nat} (hs : s < n) (τ : Rat) {w : Nat} (hw : w < 2) : (allEv SX SY EX EY of_ n s).countP (atW τ w) = (List.range n).countP (fun t => crsAt (cS (sgAt SX SY EX EY s)) τ (cS (sgAt SX SY EX EY t)) && decide ((t < of_) ↔ w = 0)) := by
  unfold allEv
  refine cnt_flat fun t ht => ?_
  by_cases hts : t = s
  · subst hts
    rw [if_pos rfl]
    have : crsAt (cS (sgAt SX SY EX EY t)) τ (cS (sgAt SX SY EX EY t)) = false := decide_eq_false fun q => self_no _ q.1
    rw [this]; rfl
  · rw [if_neg hts]
    by_cases hX : pXp (cS (sgAt SX SY EX EY t)).1 (cS (sgAt SX SY EX EY t)).2 (cS (sgAt SX SY EX EY s)).1 (cS (sgAt SX SY EX EY s)).2
    · obtain ⟨e, he, e1, e2⟩ := mt_cross (of_ := of_) hX
      rw [he, List.countP_cons, List.countP_nil, Nat.zero_add]
      have hk : atW τ w e = (crsAt (cS (sgAt SX SY EX EY s)) τ (cS (sgAt SX SY EX EY t)) && decide ((t < of_) ↔ w = 0)) := by
        unfold atW crsAt
        congr 1
        · apply decide_eq_decide.mpr
          constructor
          · intro q; rw [← q]; exact ⟨hX, e2⟩
          · rintro ⟨-, q⟩; exact cross_one hX e2 q
        · rw [e1]
          by_cases hl : t < of_
          · rw [if_pos hl]
            rcases (show w = 0 ∨ w = 1 by omega) with rfl | rfl <;> simp [hl]
          · rw [if_neg hl]
            rcases (show w = 0 ∨ w = 1 by omega) with rfl | rfl <;> simp [hl]
      rw [hk]
      cases (crsAt (cS (sgAt SX SY EX EY s)) τ (cS (sgAt SX SY EX EY t)) && decide ((t < of_) ↔ w = 0)) <;> rfl
    · have : crsAt (cS (sgAt SX SY EX EY s)) τ (cS (sgAt SX SY EX EY t)) = false := decide_eq_false fun q => hX q.1
      rw [this, mt_place hX, Bool.false_and]
      show _ = 0
      apply List.countP_eq_zero.mpr
      intro e he
      have : e.2.2.1 = 2 := by
        rcases List.mem_append.mp he with he | he
        · exact (mp_in (hne s hs) he).1
        · exact (mp_in (hne s hs) he).1
      unfold atW
      rw [this]
      rcases (show w = 0 ∨ w = 1 by omega) with rfl | rfl <;> simp
theorem rng_a (h : sgList SX SY EX EY n = A ++ B) (ho : of_ = A.length) (F : Sq → Bool) : (List.range n).countP (fun t => F (cS (sgAt SX SY EX EY t)) && decide ((t < of_) ↔ (0 : Nat) = 0)) = (A.map cS).countP F ∧ (List.range n).countP (fun t => F (cS (sgAt SX SY EX EY t)) && decide ((t < of_) ↔ (1 : Nat) = 0)) = (B.map cS).countP F := by
  obtain ⟨l1, l2, l3⟩ := ls_split h ho
  have hr : List.range n = List.range of_ ++ (List.range (n - of_)).map (fun j => of_ + j) := by
    rw [← List.range_add, show of_ + (n - of_) = n by omega]
  have eA : (List.range of_).countP (fun t => F (cS (sgAt SX SY EX EY t))) = (A.map cS).countP F := by
    rw [← l1]; unfold plist; rw [List.countP_map, List.countP_map]; rfl
  have eB : (List.range (n - of_)).countP (fun j => F (cS (sgAt SX SY EX EY (of_ + j)))) = (B.map cS).countP F := by
    rw [← l2]; unfold plist; rw [List.countP_map, List.countP_map]; rfl
  rw [hr, List.countP_append, List.countP_append]
  have c1 : ∀ (w : Nat) (v : Bool), (∀ t, t < of_ → decide ((t < of_) ↔ w = 0) = v) → (List.range of_).countP (fun t => F (cS (sgAt SX SY EX EY t)) && decide ((t < of_) ↔ w = 0)) = if v then (A.map cS).countP F else 0 := fun w v hv => by
    cases v
    · rw [if_neg (by decide)]
      apply List.countP_eq_zero.mpr
      intro t ht
      rw [hv t (List.mem_range.mp ht), Bool.and_false]; decide
    · rw [if_pos rfl, ← eA]
      apply List.countP_congr
      intro t ht
      rw [hv t (List.mem_range.mp ht), Bool.and_true]
  have c2 : ∀ (w : Nat) (v : Bool), (∀ t, of_ ≤ t → decide ((t < of_) ↔ w = 0) = v) → ((List.range (n - of_)).map (fun j => of_ + j)).countP (fun t => F (cS (sgAt SX SY EX EY t)) && decide ((t < of_) ↔ w = 0)) = if v then (B.map cS).countP F else 0 := fun w v hv => by
    rw [List.countP_map (l := List.range (n - of_))]
    cases v
    · rw [if_neg (by decide)]
      apply List.countP_eq_zero.mpr
      intro t ht
      show ¬ (_ && decide ((of_ + t < of_) ↔ w = 0)) = true
      rw [hv (of_ + t) (by omega), Bool.and_false]; decide
    · rw [if_pos rfl, ← eB]
      apply List.countP_congr
      intro t ht
      show (_ && decide ((of_ + t < of_) ↔ w = 0)) = true ↔ _
      rw [hv (of_ + t) (by omega), Bool.and_true]
  constructor
  · rw [c1 0 true (fun t ht => by simp [ht]), c2 0 false (fun t ht => by simp; omega)]; simp
  · rw [c1 1 false (fun t ht => by simp [ht]), c2 1 true (fun t ht => by simp; omega)]; simp
theorem evs_ok (h : sgList SX SY EX EY n = A ++ B) (ho : of_ = A.length) (hne : ∀ k, k < n → (sgAt SX SY EX EY k).1 ≠ (sgAt SX SY EX EY k).2) {s : Nat} (hs : s < n) {ES : List Ev} (hp : ES.Perm (allEv SX SY EX EY of_ n s)) (hok : evOK ES) : evsOK (A.map cS) (B.map cS) (cS (sgAt SX SY EX EY s)) ES := by
  have hpos : ∀ e ∈ ES, 0 < evR e ∧ evR e < 1 := fun e he => by
    have := (hok e he).1
    have hw : 0 < e.2.1 := by omega
    have hw' : (0 : Rat) < (e.2.1 : Rat) := pos_c.mp hw
    have hm := evR_mul hw
    constructor
    · refine rat_pos_of_mul (Rat.le_of_lt hw') ?_
      rw [hm]; exact pos_c.mp this.1
    · refine (mul_lt_r hw').mp ?_
      rw [hm]
      have := cast_lt.mpr this.2
      grind
  refine ⟨fun e he => ⟨hpos e he, fun hw => ?_, fun hw => ?_⟩, fun τ a b hend => ?_, fun τ => ?_, fun τ => ?_⟩
  · have hm := hp.mem_iff.mp he
    unfold allEv at hm
    obtain ⟨t, ht, hm⟩ := List.mem_flatMap.mp hm
    rw [List.mem_range] at ht
    split at hm
    · cases hm
    · by_cases hX : pXp (cS (sgAt SX SY EX EY t)).1 (cS (sgAt SX SY EX EY t)).2 (cS (sgAt SX SY EX EY s)).1 (cS (sgAt SX SY EX EY s)).2
      · obtain ⟨e', he', e1, -⟩ := mt_cross (of_ := of_) hX
        rw [he', List.mem_singleton] at hm
        subst hm
        rw [hw] at e1
        split at e1 <;> cases e1
      · rw [mt_place hX] at hm
        rcases List.mem_append.mp hm with hm | hm
        · have := mp_in (hne s hs) hm
          exact ⟨this.2.1, _, sg_in h ht, Or.inl this.2.2⟩
        · have := mp_in (hne s hs) hm
          exact ⟨this.2.1, _, sg_in h ht, Or.inr this.2.2⟩
  · have hm := hp.mem_iff.mp he
    unfold allEv at hm
    obtain ⟨t, ht, hm⟩ := List.mem_flatMap.mp hm
    rw [List.mem_range] at ht
    split at hm
    · cases hm
    · by_cases hX : pXp (cS (sgAt SX SY EX EY t)).1 (cS (sgAt SX SY EX EY t)).2 (cS (sgAt SX SY EX EY s)).1 (cS (sgAt SX SY EX EY s)).2
      · obtain ⟨e', he', -, e2⟩ := mt_cross (of_ := of_) hX
        rw [he', List.mem_singleton] at hm
        subst hm
        exact ⟨_, sg_in h ht, hX, e2⟩
      · rw [mt_place hX] at hm
        rcases List.mem_append.mp hm with hm | hm
        · exact absurd (mp_in (hne s hs) hm).1 hw
        · exact absurd (mp_in (hne s hs) hm).1 hw
  · obtain ⟨q, hq, hend⟩ := hend
    obtain ⟨t, ht, rfl⟩ := sg_of h hq
    have hnd := nd_c (hne s hs)
    have hts : t ≠ s := fun e => by
      subst e
      rcases hend with q | q
      · rw [← at_0 (cS (sgAt SX SY EX EY t))] at q; have := at_inj hnd q; grind
      · rw [← at_1 (cS (sgAt SX SY EX EY t))] at q; have := at_inj hnd q; grind
    have hX : ¬ pXp (cS (sgAt SX SY EX EY t)).1 (cS (sgAt SX SY EX EY t)).2 (cS (sgAt SX SY EX EY s)).1 (cS (sgAt SX SY EX EY s)).2 := fun hX => by
      have h2 := hX.2
      rcases hend with q | q
      · rw [← q, ori_self] at h2
        rcases h2 with z | z <;> grind
      · rw [← q, ori_self] at h2
        rcases h2 with z | z <;> grind
    have hmem : ∀ e ∈ mtEv SX SY EX EY of_ s t, e ∈ ES := fun e he => hp.mem_iff.mpr (by
      unfold allEv
      exact List.mem_flatMap.mpr ⟨t, List.mem_range.mpr ht, by rw [if_neg hts]; exact he⟩)
    rw [mt_place hX] at hmem
    rcases hend with q | q
    · obtain ⟨e, he, e1, e2⟩ := mp_of (px := SX t) (py := SY t) (hne s hs) a b q.symm
      exact ⟨e, hmem e (List.mem_append_left _ he), e1, e2⟩
    · obtain ⟨e, he, e1, e2⟩ := mp_of (px := EX t) (py := EY t) (hne s hs) a b q.symm
      exact ⟨e, hmem e (List.mem_append_right _ he), e1, e2⟩
  · rw [hp.countP_eq, ev_cnt h ho hne hs τ (by decide)]
    exact ((rng_a h ho (crsAt (cS (sgAt SX SY EX EY s)) τ)).1).symm
  · rw [hp.countP_eq, ev_cnt h ho hne hs τ (by decide)]
    exact ((rng_a h ho (crsAt (cS (sgAt SX SY EX EY s)) τ)).2).symm
end CM
end PL12
