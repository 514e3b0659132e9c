/-! plain law 6: the Model's marks are the canonical ones -/
section PL6
def frR (x : Fr) : Rat := (x.1 : Rat) / (x.2 : Rat)
theorem frR_mul {x : Fr} (h : 0 < x.2) : frR x * (x.2 : Rat) = (x.1 : Rat) := by
  have : (0 : Rat) < (x.2 : Rat) := cast_lt.mpr h
  unfold frR; grind
theorem fr_0 : frR (0, 1) = 0 := by
  have h := frR_mul (x := (0, 1)) (by decide)
  have e1 : (((0, 1) : Fr).2 : Rat) = 1 := rfl
  have e0 : (((0, 1) : Fr).1 : Rat) = 0 := rfl
  rw [e1, e0] at h; grind
theorem fr_1 : frR (1, 1) = 1 := by
  have h := frR_mul (x := (1, 1)) (by decide)
  have e1 : (((1, 1) : Fr).2 : Rat) = 1 := rfl
  rw [e1] at h; grind
theorem mul_lt_r {a b c : Rat} (hc : 0 < c) : a * c < b * c ↔ a < b := by
  constructor
  · intro h
    have : 0 < (b - a) * c := by grind
    have := rat_pos_of_mul (Rat.le_of_lt hc) this
    grind
  · intro h
    have := Rat.mul_pos (show 0 < b - a by grind) hc
    grind
theorem frLt_R {x y : Fr} (hx : 0 < x.2) (hy : 0 < y.2) : frLt x y ↔ frR x < frR y := by
  have x0 : (0 : Rat) < (x.2 : Rat) := cast_lt.mpr hx
  have y0 : (0 : Rat) < (y.2 : Rat) := cast_lt.mpr hy
  unfold frLt
  rw [← cast_lt, Rat.intCast_mul, Rat.intCast_mul, ← frR_mul hx, ← frR_mul hy]
  rw [show frR x * (x.2 : Rat) * (y.2 : Rat) = frR x * ((x.2 : Rat) * (y.2 : Rat)) by grind, show frR y * (y.2 : Rat) * (x.2 : Rat) = frR y * ((x.2 : Rat) * (y.2 : Rat)) by grind]
  exact mul_lt_r (Rat.mul_pos x0 y0)
theorem frEq_R {x y : Fr} (hx : 0 < x.2) (hy : 0 < y.2) (h : frEq x y) : frR x = frR y := by
  have x0 : (0 : Rat) < (x.2 : Rat) := cast_lt.mpr hx
  have y0 : (0 : Rat) < (y.2 : Rat) := cast_lt.mpr hy
  unfold frEq at h
  rw [← cast_eq, Rat.intCast_mul, Rat.intCast_mul, ← frR_mul hx, ← frR_mul hy] at h
  have hp := Rat.mul_pos x0 y0
  exact rat_cancel (a := (x.2 : Rat) * (y.2 : Rat)) (by grind) (by grind)
theorem frR_01 {x : Fr} (h : frOK x) : 0 ≤ frR x ∧ frR x ≤ 1 := by
  have x0 : (0 : Rat) < (x.2 : Rat) := cast_lt.mpr h.2.1
  have h1 : (0 : Rat) ≤ (x.1 : Rat) := cast_le.mpr h.1.1
  have h2 : (x.1 : Rat) ≤ (x.2 : Rat) := cast_le.mpr h.1.2
  have e := frR_mul h.2.1
  constructor
  · rcases rat_tri (frR x) with q | q | q
    · have := rat_mul_np q x0; grind
    · grind
    · grind
  · rcases rat_tri (frR x - 1) with q | q | q
    · grind
    · grind
    · have := Rat.mul_pos q x0; grind
theorem mP_seg {a b : Int × Int} {V0 V1 : Int} : mP a.1 a.2 (b.1 - a.1) (b.2 - a.2) V0 V1 = at_ (cS (a, b)) ((V0 : Rat) / (V1 : Rat)) := by
  unfold mP at_ cS cP
  dsimp only
  rw [Rat.intCast_sub, Rat.intCast_sub]
theorem mP_pt (px py : Int) : mP px py 0 0 0 1 = cP (px, py) := by
  unfold mP cP
  dsimp only
  rw [show ((0 : Int) : Rat) = 0 from rfl]
  refine Prod.ext ?_ ?_
  · dsimp only; grind
  · dsimp only; grind
/-! ### where a point and a crossing cut -/
theorem cpF_at {fx fy tx ty px py : Int} (hn : (fx, fy) ≠ (tx, ty)) (ho : onS (cP (fx, fy)) (cP (tx, ty)) (cP (px, py))) : 0 < (cpF fx fy tx ty px py).2 ∧ at_ (cS ((fx, fy), (tx, ty))) (frR (cpF fx fy tx ty px py)) = cP (px, py) := by
  have hnd : ndg (cS ((fx, fy), (tx, ty))) := by
    by_cases q : fx = tx
    · exact Or.inr fun e => hn (Prod.ext q (cast_eq.mp e))
    · exact Or.inl fun e => q (cast_eq.mp e)
  obtain ⟨τ, -, -, e⟩ := (on_at (s := cS ((fx, fy), (tx, ty))) hnd).mp ho
  have e1 : (px : Rat) = (fx : Rat) + τ * ((tx : Rat) - (fx : Rat)) := congrArg Prod.fst e
  have e2 : (py : Rat) = (fy : Rat) + τ * ((ty : Rat) - (fy : Rat)) := congrArg Prod.snd e
  have key : 0 < (cpF fx fy tx ty px py).2 ∧ frR (cpF fx fy tx ty px py) = τ := by
    unfold cpF
    split
    · rename_i h
      have hd : ((tx - fx : Int) : Rat) ≠ 0 := fun q => h (cast_eq.mp q)
      rw [Rat.intCast_sub] at hd
      split
      · refine ⟨by dsimp only; omega, ?_⟩
        unfold frR
        dsimp only
        rw [Rat.intCast_neg, Rat.intCast_neg, Rat.intCast_sub, Rat.intCast_sub]
        grind
      · refine ⟨by dsimp only; omega, ?_⟩
        unfold frR
        dsimp only
        rw [Rat.intCast_sub, Rat.intCast_sub]
        grind
    · rename_i h
      have hx : tx = fx := by omega
      have hy : ty - fy ≠ 0 := fun q => hn (Prod.ext hx.symm (show fy = ty by omega))
      have hd : ((ty - fy : Int) : Rat) ≠ 0 := fun q => hy (cast_eq.mp q)
      rw [Rat.intCast_sub] at hd
      split
      · refine ⟨by dsimp only; omega, ?_⟩
        unfold frR
        dsimp only
        rw [Rat.intCast_neg, Rat.intCast_neg, Rat.intCast_sub, Rat.intCast_sub]
        grind
      · refine ⟨by dsimp only; omega, ?_⟩
        unfold frR
        dsimp only
        rw [Rat.intCast_sub, Rat.intCast_sub]
        grind
  exact ⟨key.1, by rw [key.2]; exact e.symm⟩
section CS
variable {a b c d : Int × Int}
theorem ori_c1 : ori (cS (c, d)).1 (cS (c, d)).2 (cS (a, b)).1 = (((c.1 - a.1) * (d.2 - c.2) - (c.2 - a.2) * (d.1 - c.1) : Int) : Rat) := by
  simp only [Rat.intCast_sub, Rat.intCast_mul]
  unfold ori cS cP
  dsimp only
  grind
theorem ori_c2 : ori (cS (c, d)).1 (cS (c, d)).2 (cS (a, b)).2 = (((c.1 - a.1) * (d.2 - c.2) - (c.2 - a.2) * (d.1 - c.1) - ((b.1 - a.1) * (d.2 - c.2) - (b.2 - a.2) * (d.1 - c.1)) : Int) : Rat) := by
  simp only [Rat.intCast_sub, Rat.intCast_mul]
  unfold ori cS cP
  dsimp only
  grind
theorem ori_c3 : ori (cS (a, b)).1 (cS (a, b)).2 (cS (c, d)).1 = ((-((c.1 - a.1) * (b.2 - a.2) - (c.2 - a.2) * (b.1 - a.1)) : Int) : Rat) := by
  simp only [Rat.intCast_sub, Rat.intCast_mul, Rat.intCast_neg]
  unfold ori cS cP
  dsimp only
  grind
theorem ori_c4 : ori (cS (a, b)).1 (cS (a, b)).2 (cS (c, d)).2 = ((((b.1 - a.1) * (d.2 - c.2) - (b.2 - a.2) * (d.1 - c.1)) - ((c.1 - a.1) * (b.2 - a.2) - (c.2 - a.2) * (b.1 - a.1)) : Int) : Rat) := by
  simp only [Rat.intCast_sub, Rat.intCast_mul]
  unfold ori cS cP
  dsimp only
  grind
theorem opq_c {u v : Int} : opq (u : Rat) (v : Rat) ↔ ((u < 0 ∧ 0 < v) ∨ (0 < u ∧ v < 0)) := by
  unfold opq
  have e : (0 : Rat) = ((0 : Int) : Rat) := rfl
  rw [e, cast_lt, cast_lt, cast_lt, cast_lt]
theorem csF_in {z : Fr} (hz : z ∈ csF (b.1 - a.1) (b.2 - a.2) (d.1 - c.1) (d.2 - c.2) (c.1 - a.1) (c.2 - a.2)) : 0 < z.2 ∧ pXp (cS (c, d)).1 (cS (c, d)).2 (cS (a, b)).1 (cS (a, b)).2 ∧ ori (cS (c, d)).1 (cS (c, d)).2 (at_ (cS (a, b)) (frR z)) = 0 := by
  rw [ori_at]
  unfold pXp
  rw [ori_c1, ori_c2, ori_c3, ori_c4, opq_c, opq_c]
  unfold csF at hz
  generalize (c.1 - a.1) * (d.2 - c.2) - (c.2 - a.2) * (d.1 - c.1) = N at hz ⊢
  generalize (c.1 - a.1) * (b.2 - a.2) - (c.2 - a.2) * (b.1 - a.1) = M at hz ⊢
  generalize (b.1 - a.1) * (d.2 - c.2) - (b.2 - a.2) * (d.1 - c.1) = D at hz ⊢
  split at hz
  · split at hz
    · rw [List.mem_singleton] at hz
      subst hz
      refine ⟨by dsimp only; omega, ⟨by omega, by omega⟩, ?_⟩
      have hD : ((D : Int) : Rat) ≠ 0 := fun q => by have := cast_eq.mp (q.trans (show (0 : Rat) = ((0 : Int) : Rat) from rfl)); omega
      unfold frR
      dsimp only
      rw [Rat.intCast_neg, Rat.intCast_neg, Rat.intCast_sub]
      grind
    · cases hz
  · split at hz
    · rw [List.mem_singleton] at hz
      subst hz
      refine ⟨by dsimp only; omega, ⟨by omega, by omega⟩, ?_⟩
      have hD : ((D : Int) : Rat) ≠ 0 := fun q => by have := cast_eq.mp (q.trans (show (0 : Rat) = ((0 : Int) : Rat) from rfl)); omega
      unfold frR
      dsimp only
      rw [Rat.intCast_sub]
      grind
    · cases hz
theorem csF_of (hX : pXp (cS (c, d)).1 (cS (c, d)).2 (cS (a, b)).1 (cS (a, b)).2) : ∃ z, z ∈ csF (b.1 - a.1) (b.2 - a.2) (d.1 - c.1) (d.2 - c.2) (c.1 - a.1) (c.2 - a.2) := by
  unfold pXp at hX
  rw [ori_c1, ori_c2, ori_c3, ori_c4, opq_c, opq_c] at hX
  unfold csF
  generalize (c.1 - a.1) * (d.2 - c.2) - (c.2 - a.2) * (d.1 - c.1) = N at hX ⊢
  generalize (c.1 - a.1) * (b.2 - a.2) - (c.2 - a.2) * (b.1 - a.1) = M at hX ⊢
  generalize (b.1 - a.1) * (d.2 - c.2) - (b.2 - a.2) * (d.1 - c.1) = D at hX ⊢
  by_cases hD : D < 0
  · rw [if_pos hD, if_pos ⟨by omega, by omega, by omega, by omega⟩]; exact ⟨_, List.mem_singleton.mpr rfl⟩
  · rw [if_neg hD, if_pos ⟨by omega, by omega, by omega, by omega⟩]; exact ⟨_, List.mem_singleton.mpr rfl⟩
end CS
theorem mem_cutMk {pm : Fr → Mk} {pc : Fr → Fr → List Mk} {m : Mk} : ∀ l : List Fr, m ∈ cutMk pm pc l ↔ (∃ x ∈ l, m = pm x) ∨ ∃ x y, adj x y l ∧ m ∈ pc x y
  | [] => by
    constructor
    · intro h; cases h
    · rintro (⟨x, h, -⟩ | ⟨x, y, h, -⟩)
      · cases h
      · have := (adj_mem h).1; cases this
  | [x] => by
    constructor
    · intro h
      rw [cutMk, List.mem_singleton] at h
      exact Or.inl ⟨x, List.mem_singleton.mpr rfl, h⟩
    · rintro (⟨y, h, e⟩ | ⟨y, z, ⟨l1, l2, h⟩, -⟩)
      · rw [List.mem_singleton] at h; subst h; rw [e]; exact List.mem_singleton.mpr rfl
      · exfalso
        have := congrArg List.length h
        simp at this
        omega
  | x :: y :: l => by
    rw [cutMk, List.mem_cons, List.mem_append, mem_cutMk (y :: l)]
    constructor
    · rintro (h | h | ⟨z, h, e⟩ | ⟨u, v, ⟨l1, l2, h⟩, e⟩)
      · exact Or.inl ⟨x, List.mem_cons_self, h⟩
      · exact Or.inr ⟨x, y, ⟨[], l, rfl⟩, h⟩
      · exact Or.inl ⟨z, List.mem_cons_of_mem _ h, e⟩
      · exact Or.inr ⟨u, v, ⟨x :: l1, l2, by rw [h]; rfl⟩, e⟩
    · rintro (⟨z, h, e⟩ | ⟨u, v, ⟨l1, l2, h⟩, e⟩)
      · rcases List.mem_cons.mp h with rfl | h
        · exact Or.inl e
        · exact Or.inr (Or.inr (Or.inl ⟨z, h, e⟩))
      · cases l1 with
        | nil =>
          simp only [List.nil_append, List.cons.injEq] at h
          obtain ⟨rfl, rfl, -⟩ := h
          exact Or.inr (Or.inl e)
        | cons w l1 =>
          simp only [List.cons_append, List.cons.injEq] at h
          exact Or.inr (Or.inr (Or.inr ⟨u, v, ⟨l1, l2, h.2⟩, e⟩))
section MM
variable {XS YS : Nat → Int} {FM TM WO KD PT PN BG : Nat → Nat} {n : Nat}
abbrev sgZ (XS YS : Nat → Int) (FM TM : Nat → Nat) (k : Nat) : Sg := ((XS (FM k), YS (FM k)), (XS (TM k), YS (TM k)))
abbrev mLL (XS YS : Nat → Int) (KD PT PN BG : Nat → Nat) : List Sq := mL XS YS KD PT PN BG 0 ++ mL XS YS KD PT PN BG 1
abbrev mQQ (XS YS : Nat → Int) (PT : Nat → Nat) : List Pt := mQ XS YS PT 0 ++ mQ XS YS PT 1
abbrev mKK (XS YS : Nat → Int) (KD PT PN BG : Nat → Nat) : Mk → Prop := KK (KD 0) (mQ XS YS PT 0) (mL XS YS KD PT PN BG 0) (mE XS YS PT PN BG 0) (KD 1) (mQ XS YS PT 1) (mL XS YS KD PT PN BG 1) (mE XS YS PT PN BG 1)
abbrev mPl (XS YS : Nat → Int) (KD PT PN BG : Nat → Nat) : Pt → Mk := plR (KD 0) (mQ XS YS PT 0) (mL XS YS KD PT PN BG 0) (mE XS YS PT PN BG 0) (KD 1) (mQ XS YS PT 1) (mL XS YS KD PT PN BG 1) (mE XS YS PT PN BG 1)
abbrev mPc (XS YS : Nat → Int) (KD PT PN BG : Nat → Nat) : Pt → List Mk := pcR (KD 0) (mQ XS YS PT 0) (mL XS YS KD PT PN BG 0) (mE XS YS PT PN BG 0) (KD 1) (mQ XS YS PT 1) (mL XS YS KD PT PN BG 1) (mE XS YS PT PN BG 1)
theorem mQQ_mem {p : Pt} : p ∈ mQQ XS YS PT ↔ ∃ s i, s < 2 ∧ i < PT s ∧ p = cP (XS (2048 * s + i), YS (2048 * s + i)) := by
  unfold mQQ mQ
  rw [List.mem_append, mem_shQ, mem_shQ]
  constructor
  · rintro (⟨k, h, e⟩ | ⟨k, h, e⟩)
    · exact ⟨0, k, by decide, h, e⟩
    · exact ⟨1, k, by decide, h, e⟩
  · rintro ⟨s, i, hs, h, e⟩
    rcases (show s = 0 ∨ s = 1 by omega) with rfl | rfl
    · exact Or.inl ⟨i, h, e⟩
    · exact Or.inr ⟨i, h, e⟩
theorem mLL_mem (hL : plist (sgM XS YS FM TM WO) n = (List.range 2).flatMap (mAll XS YS KD PT PN BG)) {s : Sq} : s ∈ mLL XS YS KD PT PN BG ↔ ∃ k, k < n ∧ s = cS (sgZ XS YS FM TM k) := by
  have e : (plist (sgM XS YS FM TM WO) n).map (fun x => cS x.1) = mLL XS YS KD PT PN BG := by
    rw [hL]
    show (mAll XS YS KD PT PN BG 0 ++ (mAll XS YS KD PT PN BG 1 ++ [])).map _ = _
    unfold mLL mL mAll
    rw [List.append_nil, List.map_append, List.map_map, List.map_map]
    rfl
  rw [← e, List.mem_map]
  constructor
  · rintro ⟨x, hx, rfl⟩
    unfold plist at hx
    obtain ⟨k, hk, rfl⟩ := List.mem_map.mp hx
    exact ⟨k, List.mem_range.mp hk, rfl⟩
  · rintro ⟨k, hk, rfl⟩
    exact ⟨sgM XS YS FM TM WO k, List.mem_map.mpr ⟨k, List.mem_range.mpr hk, rfl⟩, rfl⟩
theorem m_ok (hK : ∀ s, s < 2 → 1 ≤ KD s ∧ KD s ≤ 3) (hO : ∀ s, s < 2 → olOK (fun p => BG (1025 * s + p)) (PN s) (PT s)) {s : Nat} (hs : s < 2) : shOK (KD s) (mQ XS YS PT s) (mL XS YS KD PT PN BG s) (mE XS YS PT PN BG s) := sh_ok (hK s hs) (hO s hs)
theorem m_ne (hL : plist (sgM XS YS FM TM WO) n = (List.range 2).flatMap (mAll XS YS KD PT PN BG)) (hK : ∀ s, s < 2 → 1 ≤ KD s ∧ KD s ≤ 3) (hO : ∀ s, s < 2 → olOK (fun p => BG (1025 * s + p)) (PN s) (PT s)) {k : Nat} (hk : k < n) : (XS (FM k), YS (FM k)) ≠ (XS (TM k), YS (TM k)) := fun e => by
  have h := two_ndg (m_ok (XS := XS) (YS := YS) hK hO (s := 0) (by decide)) (m_ok (XS := XS) (YS := YS) hK hO (s := 1) (by decide)) _ ((mLL_mem hL).mpr ⟨k, hk, rfl⟩)
  have h1 := congrArg Prod.fst e
  have h2 := congrArg Prod.snd e
  dsimp only at h1 h2
  rcases h with h | h
  · exact h (cast_eq.mpr h1)
  · exact h (cast_eq.mpr h2)
theorem pmM_e (hL : plist (sgM XS YS FM TM WO) n = (List.range 2).flatMap (mAll XS YS KD PT PN BG)) (hK : ∀ s, s < 2 → 1 ≤ KD s ∧ KD s ≤ 3) (hO : ∀ s, s < 2 → olOK (fun p => BG (1025 * s + p)) (PN s) (PT s)) {x0 y0 dx dy V0 V1 : Int} (hV : 0 < V1) : pmM x0 y0 dx dy V0 V1 XS YS FM TM WO KD PT PN BG n = mPl XS YS KD PT PN BG (mP x0 y0 dx dy V0 V1) := by
  unfold pmM
  rw [whM_e hL hV (by decide), whM_e hL hV (by decide)]
  rfl
theorem pieceMk_e (hL : plist (sgM XS YS FM TM WO) n = (List.range 2).flatMap (mAll XS YS KD PT PN BG)) (hK : ∀ s, s < 2 → 1 ≤ KD s ∧ KD s ≤ 3) (hO : ∀ s, s < 2 → olOK (fun p => BG (1025 * s + p)) (PN s) (PT s)) {x0 y0 dx dy V0 V1 : Int} (hV : 0 < V1) : pieceMk x0 y0 dx dy V0 V1 XS YS FM TM WO KD PT PN BG n = mPc XS YS KD PT PN BG (mP x0 y0 dx dy V0 V1) := by
  have k0 := hK 0 (by decide)
  have k1 := hK 1 (by decide)
  unfold pieceMk
  rw [whM_e hL hV (by decide), whM_e hL hV (by decide), bsM_e hL hV (by decide) (by omega), bsM_e hL hV (by decide) (by omega), bsM_e hL hV (by decide) (by omega), bsM_e hL hV (by decide) (by omega)]
  rfl
/-- the sources of cuts: points and crossings -/
theorem src_in (hL : plist (sgM XS YS FM TM WO) n = (List.range 2).flatMap (mAll XS YS KD PT PN BG)) (hK : ∀ s, s < 2 → 1 ≤ KD s ∧ KD s ≤ 3) (hO : ∀ s, s < 2 → olOK (fun p => BG (1025 * s + p)) (PN s) (PT s)) {k : Nat} (hk : k < n) {y : Fr} (hy : y ∈ srcL XS YS FM TM PT n k) : 0 < y.2 ∧ (at_ (cS (sgZ XS YS FM TM k)) (frR y) ∈ mQQ XS YS PT ∨ ∃ t ∈ mLL XS YS KD PT PN BG, pXp t.1 t.2 (cS (sgZ XS YS FM TM k)).1 (cS (sgZ XS YS FM TM k)).2 ∧ ori t.1 t.2 (at_ (cS (sgZ XS YS FM TM k)) (frR y)) = 0) := by
  have hok0 := m_ok (XS := XS) (YS := YS) hK hO (s := 0) (by decide)
  have hok1 := m_ok (XS := XS) (YS := YS) hK hO (s := 1) (by decide)
  have hin := (mLL_mem hL).mpr ⟨k, hk, rfl⟩
  unfold srcL at hy
  rcases List.mem_append.mp hy with hy | hy
  · rcases List.mem_append.mp hy with hy | hy
    · simp only [List.mem_cons, List.not_mem_nil, or_false] at hy
      rcases hy with rfl | rfl
      · refine ⟨by decide, Or.inl ?_⟩
        rw [fr_0, at_0]
        exact two_end hok0 hok1 ⟨_, hin, Or.inl rfl⟩
      · refine ⟨by decide, Or.inl ?_⟩
        rw [fr_1, at_1]
        exact two_end hok0 hok1 ⟨_, hin, Or.inr rfl⟩
    · obtain ⟨s, hs, hy⟩ := List.mem_flatMap.mp hy
      unfold ptsL at hy
      obtain ⟨i, hi, hy⟩ := List.mem_flatMap.mp hy
      rw [List.mem_range] at hs hi
      unfold cpL at hy
      split at hy
      · rename_i hon
        rw [List.mem_singleton] at hy
        subst hy
        unfold onK at hon
        rw [onM_e (by decide), mP_pt] at hon
        have := cpF_at (m_ne hL hK hO hk) (of_decide_eq_true hon)
        exact ⟨this.1, Or.inl (by rw [this.2]; exact mQQ_mem.mpr ⟨s, i, hs, hi, rfl⟩)⟩
      · cases hy
  · obtain ⟨t, ht, hy⟩ := List.mem_flatMap.mp hy
    rw [List.mem_range] at ht
    unfold csL at hy
    have := csF_in (a := (XS (FM k), YS (FM k))) (b := (XS (TM k), YS (TM k))) (c := (XS (FM t), YS (FM t))) (d := (XS (TM t), YS (TM t))) hy
    exact ⟨this.1, Or.inr ⟨_, (mLL_mem hL).mpr ⟨t, ht, rfl⟩, this.2.1, this.2.2⟩⟩
theorem cl_cuts (hL : plist (sgM XS YS FM TM WO) n = (List.range 2).flatMap (mAll XS YS KD PT PN BG)) (hK : ∀ s, s < 2 → 1 ≤ KD s ∧ KD s ≤ 3) (hO : ∀ s, s < 2 → olOK (fun p => BG (1025 * s + p)) (PN s) (PT s)) {k : Nat} (hk : k < n) {CL : List Fr} (hc : clOK CL (srcL XS YS FM TM PT n k)) : cutsOK (mLL XS YS KD PT PN BG) (mQQ XS YS PT) (cS (sgZ XS YS FM TM k)) (CL.map frR) := by
  obtain ⟨c1, c2, c3, c4⟩ := hc
  have pos : ∀ y ∈ srcL XS YS FM TM PT n k, frR y ∈ CL.map frR := fun y hy => by
    obtain ⟨x, hx, he⟩ := c4 y hy
    exact List.mem_map.mpr ⟨x, hx, frEq_R (c1 x hx).2.1 (src_in hL hK hO hk hy).1 he⟩
  have nd := m_ne hL hK hO hk
  refine ⟨fun τ hτ => ?_, fun q hq ho => ?_, fun t ht τ hX hz => ?_, ?_, ?_, ?_⟩
  · obtain ⟨x, hx, rfl⟩ := List.mem_map.mp hτ
    exact frR_01 (c1 x hx)
  · obtain ⟨s, i, hs, hi, rfl⟩ := mQQ_mem.mp hq
    have hon : onK (XS (2048 * s + i)) (YS (2048 * s + i)) 0 0 0 1 XS YS FM TM k = true := by
      unfold onK
      rw [onM_e (by decide), mP_pt]; exact decide_eq_true ho
    refine ⟨_, pos (cpF (XS (FM k)) (YS (FM k)) (XS (TM k)) (YS (TM k)) (XS (2048 * s + i)) (YS (2048 * s + i))) ?_, (cpF_at nd ho).2⟩
    unfold srcL
    refine List.mem_append_left _ (List.mem_append_right _ (List.mem_flatMap.mpr ⟨s, List.mem_range.mpr hs, ?_⟩))
    unfold ptsL
    refine List.mem_flatMap.mpr ⟨i, List.mem_range.mpr hi, ?_⟩
    unfold cpL
    rw [if_pos hon]; exact List.mem_singleton.mpr rfl
  · obtain ⟨t, htn, rfl⟩ := (mLL_mem hL).mp ht
    obtain ⟨z, hz'⟩ := csF_of (a := (XS (FM k), YS (FM k))) (b := (XS (TM k), YS (TM k))) (c := (XS (FM t), YS (FM t))) (d := (XS (TM t), YS (TM t))) hX
    have := csF_in (a := (XS (FM k), YS (FM k))) (b := (XS (TM k), YS (TM k))) (c := (XS (FM t), YS (FM t))) (d := (XS (TM t), YS (TM t))) hz'
    rw [cross_one hX hz this.2.2]
    refine pos z ?_
    unfold srcL
    exact List.mem_append_right _ (List.mem_flatMap.mpr ⟨t, List.mem_range.mpr htn, hz'⟩)
  · rw [List.pairwise_map]
    exact c2.imp_of_mem fun {x y} hx hy h => (frLt_R (c1 x hx).2.1 (c1 y hy).2.1).mp h
  · have := pos (0, 1) (by unfold srcL; simp)
    rw [fr_0] at this; exact this
  · have := pos (1, 1) (by unfold srcL; simp)
    rw [fr_1] at this; exact this
end MM
end PL6
