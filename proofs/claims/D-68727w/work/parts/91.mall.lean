/-! plain law 7: all marks of the Model -/
section PL7
variable {XS YS : Nat → Int} {FM TM WO KD PT PN BG : Nat → Nat} {n : Nat}
theorem adj_map {α β : Type} {f : α → β} {u v : β} {l : List α} : adj u v (l.map f) ↔ ∃ x y, adj x y l ∧ f x = u ∧ f y = v := by
  constructor
  · rintro ⟨l1, l2, h⟩
    obtain ⟨a1, a2, rfl, -, h2⟩ := List.map_eq_append_iff.mp h
    obtain ⟨x, a3, rfl, hx, h3⟩ := List.map_eq_cons_iff.mp h2
    obtain ⟨y, a4, rfl, hy, -⟩ := List.map_eq_cons_iff.mp h3
    exact ⟨x, y, ⟨a1, a4, rfl⟩, hx, hy⟩
  · rintro ⟨x, y, ⟨l1, l2, rfl⟩, rfl, rfl⟩
    exact ⟨l1.map f, l2.map f, by simp⟩
theorem mid_R {x y : Fr} (hx : 0 < x.2) (hy : 0 < y.2) : ((x.1 * y.2 + y.1 * x.2 : Int) : Rat) / ((x.2 * y.2 + x.2 * y.2 : Int) : Rat) = (frR x + frR y) / 2 := by
  have x0 : (0 : Rat) < (x.2 : Rat) := cast_lt.mpr hx
  have y0 : (0 : Rat) < (y.2 : Rat) := cast_lt.mpr hy
  have hp := Rat.mul_pos x0 y0
  rw [Rat.intCast_add, Rat.intCast_mul, Rat.intCast_mul, Rat.intCast_add, Rat.intCast_mul, ← frR_mul hx, ← frR_mul hy]
  have e : frR x * (x.2 : Rat) * (y.2 : Rat) + frR y * (y.2 : Rat) * (x.2 : Rat) = (frR x + frR y) * ((x.2 : Rat) * (y.2 : Rat)) := by grind
  rw [e]
  generalize (x.2 : Rat) * (y.2 : Rat) = D at hp
  have hD : D ≠ 0 := by grind
  have h2 : (2 : Rat) * D ≠ 0 := fun q => by rcases Rat.mul_eq_zero.mp q with w | w <;> grind
  rw [show D + D = 2 * D by grind]
  refine rat_cancel (a := 2 * D) h2 ?_
  rw [Rat.div_mul_cancel h2]
  grind
theorem segMk_mem (hL : plist (sgM XS YS FM TM WO) n = (List.range 2).flatMap (mAll XS YS KD PT PN BG)) (hK : ∀ s, s < 2 → 1 ≤ KD s ∧ KD s ≤ 3) (hO : ∀ s, s < 2 → olOK (fun p => BG (1025 * s + p)) (PN s) (PT s)) {k : Nat} {CL : List Fr} (hc : ∀ x ∈ CL, frOK x) {m : Mk} : m ∈ segMk XS YS FM TM WO KD PT PN BG n k CL ↔ (∃ τ ∈ CL.map frR, m = mPl XS YS KD PT PN BG (at_ (cS (sgZ XS YS FM TM k)) τ)) ∨ ∃ u v, adj u v (CL.map frR) ∧ m ∈ mPc XS YS KD PT PN BG (at_ (cS (sgZ XS YS FM TM k)) ((u + v) / 2)) := by
  have e1 : ∀ x ∈ CL, pmM (XS (FM k)) (YS (FM k)) (XS (TM k) - XS (FM k)) (YS (TM k) - YS (FM k)) x.1 x.2 XS YS FM TM WO KD PT PN BG n = mPl XS YS KD PT PN BG (at_ (cS (sgZ XS YS FM TM k)) (frR x)) := fun x hx => by
    rw [pmM_e hL hK hO (hc x hx).2.1, mP_seg (a := (XS (FM k), YS (FM k))) (b := (XS (TM k), YS (TM k)))]; rfl
  have e2 : ∀ x ∈ CL, ∀ y ∈ CL, pieceMk (XS (FM k)) (YS (FM k)) (XS (TM k) - XS (FM k)) (YS (TM k) - YS (FM k)) (x.1 * y.2 + y.1 * x.2) (x.2 * y.2 + x.2 * y.2) XS YS FM TM WO KD PT PN BG n = mPc XS YS KD PT PN BG (at_ (cS (sgZ XS YS FM TM k)) ((frR x + frR y) / 2)) := fun x hx y hy => by
    have hp := Int.mul_pos (hc x hx).2.1 (hc y hy).2.1
    rw [pieceMk_e hL hK hO (by omega), mP_seg (a := (XS (FM k), YS (FM k))) (b := (XS (TM k), YS (TM k))), mid_R (hc x hx).2.1 (hc y hy).2.1]
  unfold segMk
  rw [mem_cutMk]
  constructor
  · rintro (⟨x, hx, e⟩ | ⟨x, y, h, e⟩)
    · exact Or.inl ⟨frR x, List.mem_map.mpr ⟨x, hx, rfl⟩, e.trans (e1 x hx)⟩
    · refine Or.inr ⟨frR x, frR y, adj_map.mpr ⟨x, y, h, rfl, rfl⟩, ?_⟩
      rw [e2 x (adj_mem h).1 y (adj_mem h).2] at e; exact e
  · rintro (⟨τ, hτ, e⟩ | ⟨u, v, h, e⟩)
    · obtain ⟨x, hx, rfl⟩ := List.mem_map.mp hτ
      exact Or.inl ⟨x, hx, e.trans (e1 x hx).symm⟩
    · obtain ⟨x, y, h9, rfl, rfl⟩ := adj_map.mp h
      refine Or.inr ⟨x, y, h9, ?_⟩
      rw [e2 x (adj_mem h9).1 y (adj_mem h9).2]; exact e
theorem pts_mem (hL : plist (sgM XS YS FM TM WO) n = (List.range 2).flatMap (mAll XS YS KD PT PN BG)) (hK : ∀ s, s < 2 → 1 ≤ KD s ∧ KD s ≤ 3) (hO : ∀ s, s < 2 → olOK (fun p => BG (1025 * s + p)) (PN s) (PT s)) {m : Mk} : m ∈ (List.range 2).flatMap (ptsL (ptsMk XS YS FM TM WO KD PT PN BG n) PT) ↔ ∃ p ∈ mQQ XS YS PT, m = mPl XS YS KD PT PN BG p := by
  constructor
  · intro h
    obtain ⟨s, hs, h⟩ := List.mem_flatMap.mp h
    unfold ptsL at h
    obtain ⟨i, hi, h⟩ := List.mem_flatMap.mp h
    unfold ptsMk at h
    rw [List.mem_singleton, pmM_e hL hK hO (by decide), mP_pt] at h
    exact ⟨_, mQQ_mem.mpr ⟨s, i, List.mem_range.mp hs, List.mem_range.mp hi, rfl⟩, h⟩
  · rintro ⟨p, hp, rfl⟩
    obtain ⟨s, i, hs, hi, rfl⟩ := mQQ_mem.mp hp
    refine List.mem_flatMap.mpr ⟨s, List.mem_range.mpr hs, ?_⟩
    unfold ptsL
    refine List.mem_flatMap.mpr ⟨i, List.mem_range.mpr hi, ?_⟩
    unfold ptsMk
    rw [List.mem_singleton, pmM_e hL hK hO (by decide), mP_pt]
theorem md_marks (hL : plist (sgM XS YS FM TM WO) n = (List.range 2).flatMap (mAll XS YS KD PT PN BG)) (hK : ∀ s, s < 2 → 1 ≤ KD s ∧ KD s ≤ 3) (hO : ∀ s, s < 2 → olOK (fun p => BG (1025 * s + p)) (PN s) (PT s)) {CL : Nat → List Fr} (hC : ∀ k, k < n → clOK (CL k) (srcL XS YS FM TM PT n k)) {L : List Mk} (hLm : L = (List.range 2).flatMap (ptsL (ptsMk XS YS FM TM WO KD PT PN BG n) PT) ++ (List.range n).flatMap (fun k => segMk XS YS FM TM WO KD PT PN BG n k (CL k))) :
    (∀ m ∈ L, okM m) ∧ (∀ m ∈ L, leM (mKK XS YS KD PT PN BG) m) ∧ ∀ m, mKK XS YS KD PT PN BG m → ∃ m' ∈ L, doms m m' := by
  have h0 := m_ok (XS := XS) (YS := YS) hK hO (s := 0) (by decide)
  have h1 := m_ok (XS := XS) (YS := YS) hK hO (s := 1) (by decide)
  have mem : ∀ m, m ∈ L ↔ (∃ p ∈ mQQ XS YS PT, m = mPl XS YS KD PT PN BG p) ∨ ∃ k, k < n ∧ ((∃ τ ∈ (CL k).map frR, m = mPl XS YS KD PT PN BG (at_ (cS (sgZ XS YS FM TM k)) τ)) ∨ ∃ u v, adj u v ((CL k).map frR) ∧ m ∈ mPc XS YS KD PT PN BG (at_ (cS (sgZ XS YS FM TM k)) ((u + v) / 2))) := fun m => by
    rw [hLm, List.mem_append, pts_mem hL hK hO, List.mem_flatMap]
    constructor
    · rintro (h | ⟨k, hk, h⟩)
      · exact Or.inl h
      · rw [List.mem_range] at hk
        exact Or.inr ⟨k, hk, (segMk_mem hL hK hO (hC k hk).1).mp h⟩
    · rintro (h | ⟨k, hk, h⟩)
      · exact Or.inl h
      · exact Or.inr ⟨k, List.mem_range.mpr hk, (segMk_mem hL hK hO (hC k hk).1).mpr h⟩
  refine ⟨fun m hm => ?_, fun m hm => ?_, fun m hm => ?_⟩
  · rcases (mem m).mp hm with ⟨p, -, rfl⟩ | ⟨k, -, ⟨τ, -, rfl⟩ | ⟨u, v, -, h⟩⟩
    · exact plR_ok p
    · exact plR_ok _
    · exact pcR_ok m h
  · rcases (mem m).mp hm with ⟨p, -, rfl⟩ | ⟨k, hk, ⟨τ, -, rfl⟩ | ⟨u, v, ha, h⟩⟩
    · exact pt_le h0 h1 p
    · exact pt_le h0 h1 _
    · have hs := (mLL_mem hL).mpr ⟨k, hk, rfl⟩
      exact leM.of (Or.inr (Or.inr ⟨_, _, mid_gen h0 h1 hs (cl_cuts hL hK hO hk (hC k hk)) ha, h⟩))
  · rcases hm with ⟨p, hp, rfl⟩ | ⟨s, hs, t, ht, p, hp, rfl⟩ | ⟨s, p, hg, h⟩
    · exact ⟨_, (mem _).mpr (Or.inl ⟨p, mkd_pt h0 h1 hp, rfl⟩), doms.rfl' _⟩
    · obtain ⟨k, hk, rfl⟩ := (mLL_mem hL).mp hs
      obtain ⟨τ, -, -, rfl⟩ := (on_at (two_ndg h0 h1 _ hs)).mp hp.2.1
      exact ⟨_, (mem _).mpr (Or.inr ⟨k, hk, Or.inl ⟨τ, (cl_cuts hL hK hO hk (hC k hk)).2.2.1 t ht τ hp.1 hp.2.2, rfl⟩⟩), doms.rfl' _⟩
    · obtain ⟨k, hk, rfl⟩ := (mLL_mem hL).mp hg.1
      obtain ⟨u, v, ha, e⟩ := gen_cut h0 h1 (cl_cuts hL hK hO hk (hC k hk)) (fun τ hτ => by
        obtain ⟨x, hx, rfl⟩ := List.mem_map.mp hτ
        exact (src_in hL hK hO hk ((hC k hk).2.2.1 x hx)).2) hg
      refine ⟨m, (mem _).mpr (Or.inr ⟨k, hk, Or.inr ⟨u, v, ha, ?_⟩⟩), doms.rfl' _⟩
      unfold mPc
      rw [← e]; exact h
end PL7
