/-! plain law 4: shapes of integers as shapes over Rat -/
section PL4
def cP (p : Int × Int) : Pt := ((p.1 : Rat), (p.2 : Rat))
def cS (g : Sg) : Sq := (cP g.1, cP g.2)
theorem cast_lt {a b : Int} : ((a : Rat) < (b : Rat)) ↔ a < b := Rat.intCast_lt_intCast
theorem cast_le {a b : Int} : ((a : Rat) ≤ (b : Rat)) ↔ a ≤ b := Rat.intCast_le_intCast
theorem cast_eq {a b : Int} : ((a : Rat) = (b : Rat)) ↔ a = b := Rat.intCast_inj
theorem cP_inj {p q : Int × Int} : cP p = cP q ↔ p = q := by
  unfold cP
  constructor
  · intro h
    have h1 := congrArg Prod.fst h
    have h2 := congrArg Prod.snd h
    exact Prod.ext (cast_eq.mp h1) (cast_eq.mp h2)
  · rintro rfl; rfl
/-! ### a shape's parts -/
def enG (f : Nat → Bool) (ST : Nat → Nat) (np nq : Nat) : Nat → Nat
  | 0 => 0
  | p + 1 => enG f ST np nq p + (if ST p < olEnd ST np nq p then (f (ST p)).toNat + (f (olEnd ST np nq p - 1)).toNat else 0)
theorem olEnds_enG {X Y : Nat → Int} {ST : Nat → Nat} {np nq : Nat} {px py : Int} : ∀ n, olEnds X Y ST np nq px py n = enG (fun k => ptAt X Y k px py) ST np nq n
  | 0 => rfl
  | n + 1 => by rw [olEnds, enG, olEnds_enG n]
theorem enG_congr {f g : Nat → Bool} {ST ST' : Nat → Nat} {np nq : Nat} (hf : ∀ k, k < nq → f k = g k) (hS : ∀ p, p < np → ST p = ST' p) (hq : ∀ p, p < np → olEnd ST np nq p ≤ nq) : ∀ n, n ≤ np → enG f ST np nq n = enG g ST' np nq n
  | 0, _ => rfl
  | n + 1, h => by
    have e : olEnd ST np nq n = olEnd ST' np nq n := by
      unfold olEnd
      split
      · exact hS _ (by assumption)
      · rfl
    rw [enG, enG, enG_congr hf hS hq n (by omega), hS n (by omega), ← e]
    by_cases hl : ST' n < olEnd ST np nq n
    · have := hq n (by omega)
      rw [if_pos hl, if_pos hl, hf (ST' n) (by omega), hf (olEnd ST np nq n - 1) (by omega)]
    · rw [if_neg hl, if_neg hl]
theorem enG_odd {f : Nat → Bool} {ST : Nat → Nat} {np nq : Nat} : ∀ n, enG f ST np nq n % 2 = 1 → ∃ p, p < n ∧ ST p < olEnd ST np nq p ∧ (f (ST p) ^^ f (olEnd ST np nq p - 1)) = true
  | 0, h => by simp [enG] at h
  | n + 1, h => by
    rw [enG] at h
    by_cases hl : ST n < olEnd ST np nq n
    · rw [if_pos hl] at h
      by_cases hx : (f (ST n) ^^ f (olEnd ST np nq n - 1)) = true
      · exact ⟨n, by omega, hl, hx⟩
      · have : enG f ST np nq n % 2 = 1 := by
          cases h1 : f (ST n) <;> cases h2 : f (olEnd ST np nq n - 1) <;> rw [h1, h2] at h hx <;> simp at h hx <;> omega
        obtain ⟨p, a, b⟩ := enG_odd n this
        exact ⟨p, by omega, b⟩
    · rw [if_neg hl] at h
      obtain ⟨p, a, b⟩ := enG_odd n h
      exact ⟨p, by omega, b⟩
section SHP
variable (kd : Nat) (X Y : Nat → Int) (ST : Nat → Nat) (np nq : Nat)
def shQ : List Pt := (List.range nq).map fun k => cP (X k, Y k)
def shL : List Sq := (shapeSegs kd X Y ST np nq).map cS
def shE (p : Pt) : Bool := decide (enG (fun k => decide (cP (X k, Y k) = p)) ST np nq np % 2 = 1)
end SHP
variable {kd : Nat} {X Y : Nat → Int} {ST : Nat → Nat} {np nq : Nat}
theorem mem_shQ {p : Pt} : p ∈ shQ X Y nq ↔ ∃ k, k < nq ∧ p = cP (X k, Y k) := by
  unfold shQ
  rw [List.mem_map]
  constructor
  · rintro ⟨k, h, rfl⟩; exact ⟨k, List.mem_range.mp h, rfl⟩
  · rintro ⟨k, h, rfl⟩; exact ⟨k, List.mem_range.mpr h, rfl⟩
/-- a segment between two points of indices below m -/
def isSg (X Y : Nat → Int) (m : Nat) (g : Sg) : Prop := ∃ a b, a < m ∧ b < m ∧ g = ((X a, Y a), (X b, Y b)) ∧ (X a, Y a) ≠ (X b, Y b)
theorem segOf_is {a b m : Nat} (ha : a < m) (hb : b < m) : ∀ g ∈ segOf X Y a b, isSg X Y m g := by
  intro g hg
  unfold segOf at hg
  split at hg
  · cases hg
  · rename_i h
    rw [List.mem_singleton] at hg
    refine ⟨a, b, ha, hb, hg, fun e => h ?_⟩
    have h1 := congrArg Prod.fst e
    have h2 := congrArg Prod.snd e
    dsimp only at h1 h2
    simp [ptAt, h1, h2]
theorem runSegs_is {a m : Nat} : ∀ n, a + n < m ∨ n = 0 → ∀ g ∈ runSegs X Y a n, isSg X Y m g
  | 0, _ => fun g hg => by cases hg
  | n + 1, h => fun g hg => by
    rw [runSegs] at hg
    rcases List.mem_append.mp hg with hg | hg
    · exact runSegs_is n (by omega) g hg
    · exact segOf_is (by omega) (by omega) g hg
theorem partSegs_is {st en m : Nat} (h : en ≤ m) : ∀ g ∈ partSegs kd X Y st en, isSg X Y m g := by
  intro g hg
  unfold partSegs at hg
  rcases List.mem_append.mp hg with hg | hg
  · by_cases hl : st < en
    · exact runSegs_is _ (by omega) g hg
    · rw [show en - st - 1 = 0 by omega] at hg; cases hg
  · split at hg
    · exact segOf_is (by omega) (by omega) g hg
    · cases hg
theorem olEnd_nq (h : olOK ST np nq) {p : Nat} (hp : p < np) : olEnd ST np nq p ≤ nq := by
  unfold olEnd
  split
  · exact (h (p + 1) (by assumption)).2
  · exact Nat.le_refl _
theorem allSegs_is (h : olOK ST np nq) : ∀ n, n ≤ np → ∀ g ∈ allSegs kd X Y ST np nq n, isSg X Y nq g
  | 0, _ => fun g hg => by cases hg
  | n + 1, hn => fun g hg => by
    rw [allSegs] at hg
    rcases List.mem_append.mp hg with hg | hg
    · exact allSegs_is h n (by omega) g hg
    · exact partSegs_is (olEnd_nq h (by omega)) g hg
theorem shapeSegs_is (h : olOK ST np nq) : ∀ g ∈ shapeSegs kd X Y ST np nq, isSg X Y nq g := by
  intro g hg
  unfold shapeSegs at hg
  split at hg
  · exact allSegs_is h np (Nat.le_refl _) g hg
  · cases hg
def xg (g : Pt → Bool) (s : Sq) : Bool := g s.1 ^^ g s.2
theorem segOf_par (g : Pt → Bool) (a b : Nat) : par (xg g) ((segOf X Y a b).map cS) = (g (cP (X a, Y a)) ^^ g (cP (X b, Y b))) := by
  unfold segOf
  split
  · rename_i h
    simp only [ptAt, Bool.and_eq_true, decide_eq_true_eq] at h
    rw [h.1, h.2, Bool.xor_self]; rfl
  · show ((g (cP (X a, Y a)) ^^ g (cP (X b, Y b))) ^^ false) = _
    rw [Bool.xor_false]
theorem runSegs_par (g : Pt → Bool) (a : Nat) : ∀ n, par (xg g) ((runSegs X Y a n).map cS) = (g (cP (X a, Y a)) ^^ g (cP (X (a + n), Y (a + n))))
  | 0 => by rw [runSegs, Nat.add_zero, Bool.xor_self]; rfl
  | n + 1 => by
    rw [runSegs, List.map_append, par_append, runSegs_par g a n, segOf_par]
    rw [show a + (n + 1) = a + n + 1 by omega]
    cases g (cP (X a, Y a)) <;> cases g (cP (X (a + n), Y (a + n))) <;> cases g (cP (X (a + n + 1), Y (a + n + 1))) <;> rfl
theorem partSegs_par3 (g : Pt → Bool) (st en : Nat) : par (xg g) ((partSegs 3 X Y st en).map cS) = false := by
  unfold partSegs
  by_cases hl : st < en
  · rw [if_pos ⟨rfl, hl⟩, List.map_append, par_append, runSegs_par, segOf_par, show st + (en - st - 1) = en - 1 by omega]
    cases g (cP (X st, Y st)) <;> cases g (cP (X (en - 1), Y (en - 1))) <;> rfl
  · rw [if_neg (fun q => hl q.2), show en - st - 1 = 0 by omega]; rfl
theorem allSegs_par3 (g : Pt → Bool) : ∀ n, par (xg g) ((allSegs 3 X Y ST np nq n).map cS) = false
  | 0 => rfl
  | n + 1 => by rw [allSegs, List.map_append, par_append, allSegs_par3 g n, partSegs_par3]; rfl
theorem partSegs_sub {p : Nat} : ∀ n, p < n → ∀ g ∈ partSegs kd X Y (ST p) (olEnd ST np nq p), g ∈ allSegs kd X Y ST np nq n
  | 0, h => by omega
  | n + 1, h => fun g hg => by
    rw [allSegs]
    by_cases q : p = n
    · subst q; exact List.mem_append_right _ hg
    · exact List.mem_append_left _ (partSegs_sub n (by omega) g hg)
theorem sh_ok (hk : 1 ≤ kd ∧ kd ≤ 3) (h : olOK ST np nq) : shOK kd (shQ X Y nq) (shL kd X Y ST np nq) (shE X Y ST np nq) := by
  refine ⟨hk, fun s hs => ?_, fun h1 => ?_, fun h3 => ?_, fun h2 p hp => ?_⟩
  · obtain ⟨g, hg, rfl⟩ := List.mem_map.mp hs
    obtain ⟨a, b, ha, hb, rfl, hne⟩ := shapeSegs_is h g hg
    refine ⟨?_, mem_shQ.mpr ⟨a, ha, rfl⟩, mem_shQ.mpr ⟨b, hb, rfl⟩⟩
    unfold ndg
    by_cases q : ((X a : Int) : Rat) = ((X b : Int) : Rat)
    · right
      intro q2
      exact hne (Prod.ext (cast_eq.mp q) (cast_eq.mp q2))
    · exact Or.inl q
  · subst h1; unfold shL shapeSegs; rw [if_neg (by decide)]; rfl
  · subst h3
    intro g
    unfold shL shapeSegs
    rw [if_pos (by decide)]
    exact allSegs_par3 g np
  · subst h2
    obtain ⟨q, hq, hl, hx⟩ := enG_odd np (of_decide_eq_true hp)
    have hr := runSegs_par (X := X) (Y := Y) (fun z => decide (z = p)) (ST q) (olEnd ST np nq q - ST q - 1)
    rw [show ST q + (olEnd ST np nq q - ST q - 1) = olEnd ST np nq q - 1 by omega] at hr
    rw [hx] at hr
    obtain ⟨s, hs, hxs⟩ := par_any hr
    obtain ⟨g, hg, rfl⟩ := List.mem_map.mp hs
    refine ⟨cS g, List.mem_map.mpr ⟨g, ?_, rfl⟩, ?_⟩
    · unfold shapeSegs
      rw [if_pos (by decide)]
      refine partSegs_sub np hq g ?_
      unfold partSegs
      exact List.mem_append_left _ hg
    · unfold xg at hxs
      dsimp only at hxs
      by_cases q1 : (cS g).1 = p
      · exact Or.inl q1.symm
      · by_cases q2 : (cS g).2 = p
        · exact Or.inr q2.symm
        · rw [decide_eq_false q1, decide_eq_false q2] at hxs; cases hxs
end PL4
