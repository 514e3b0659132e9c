/-! plain law 5: what the Model computes at a place, over Rat -/
section PL5
theorem sgR {A B V0 V1 : Int} (hV : 0 < V1) : Int.sign (A * V1 + B * V0) = if (A : Rat) + (V0 : Rat) / (V1 : Rat) * (B : Rat) < 0 then -1 else if (A : Rat) + (V0 : Rat) / (V1 : Rat) * (B : Rat) = 0 then 0 else 1 := by
  have hv : (0 : Rat) < (V1 : Rat) := cast_lt.mpr hV
  have e1 : ((A : Rat) + (V0 : Rat) / (V1 : Rat) * (B : Rat)) * (V1 : Rat) = ((A * V1 + B * V0 : Int) : Rat) := by
    rw [Rat.intCast_add, Rat.intCast_mul, Rat.intCast_mul]
    grind
  generalize (A : Rat) + (V0 : Rat) / (V1 : Rat) * (B : Rat) = r at e1 ⊢
  rcases Int.lt_trichotomy (A * V1 + B * V0) 0 with h | h | h
  · rw [Int.sign_eq_neg_one_of_neg h]
    have : r * (V1 : Rat) < 0 := by rw [e1]; exact cast_lt.mpr h
    rw [if_pos (rat_neg_of_mul (Rat.le_of_lt hv) this)]
  · rw [h] at e1
    have : r = 0 := rat_cancel (a := (V1 : Rat)) (by grind) (by rw [e1]; grind)
    rw [h, this, if_neg (by grind), if_pos rfl]; rfl
  · rw [Int.sign_eq_one_of_pos h]
    have : 0 < r * (V1 : Rat) := by rw [e1]; exact cast_lt.mpr h
    have := rat_pos_of_mul (Rat.le_of_lt hv) this
    rw [if_neg (by grind), if_neg (by grind)]
def mP (x0 y0 dx dy V0 V1 : Int) : Pt := ((x0 : Rat) + (V0 : Rat) / (V1 : Rat) * (dx : Rat), (y0 : Rat) + (V0 : Rat) / (V1 : Rat) * (dy : Rat))
section MP
variable {x0 y0 dx dy V0 V1 : Int}
theorem mX_x (hV : 0 < V1) (v : Int) : mX x0 dx V0 V1 v = if (mP x0 y0 dx dy V0 V1).1 < (v : Rat) then -1 else if (mP x0 y0 dx dy V0 V1).1 = (v : Rat) then 0 else 1 := by
  unfold mX
  rw [sgR hV, Rat.intCast_sub]
  have a1 : ((x0 : Rat) - (v : Rat) + (V0 : Rat) / (V1 : Rat) * (dx : Rat) < 0) ↔ ((mP x0 y0 dx dy V0 V1).1 < (v : Rat)) := by unfold mP; dsimp only; constructor <;> intro h <;> grind
  have a2 : ((x0 : Rat) - (v : Rat) + (V0 : Rat) / (V1 : Rat) * (dx : Rat) = 0) ↔ ((mP x0 y0 dx dy V0 V1).1 = (v : Rat)) := by unfold mP; dsimp only; constructor <;> intro h <;> grind
  simp only [a1, a2]
theorem mX_y (hV : 0 < V1) (v : Int) : mX y0 dy V0 V1 v = if (mP x0 y0 dx dy V0 V1).2 < (v : Rat) then -1 else if (mP x0 y0 dx dy V0 V1).2 = (v : Rat) then 0 else 1 := by
  unfold mX
  rw [sgR hV, Rat.intCast_sub]
  have a1 : ((y0 : Rat) - (v : Rat) + (V0 : Rat) / (V1 : Rat) * (dy : Rat) < 0) ↔ ((mP x0 y0 dx dy V0 V1).2 < (v : Rat)) := by unfold mP; dsimp only; constructor <;> intro h <;> grind
  have a2 : ((y0 : Rat) - (v : Rat) + (V0 : Rat) / (V1 : Rat) * (dy : Rat) = 0) ↔ ((mP x0 y0 dx dy V0 V1).2 = (v : Rat)) := by unfold mP; dsimp only; constructor <;> intro h <;> grind
  simp only [a1, a2]
theorem mS_o (hV : 0 < V1) (px py qx qy : Int) : mS x0 y0 dx dy V0 V1 px py qx qy = if ori (cP (px, py)) (cP (qx, qy)) (mP x0 y0 dx dy V0 V1) < 0 then -1 else if ori (cP (px, py)) (cP (qx, qy)) (mP x0 y0 dx dy V0 V1) = 0 then 0 else 1 := by
  unfold mS
  rw [sgR hV]
  have e : ((((qx - px) * (y0 - py) - (qy - py) * (x0 - px) : Int)) : Rat) + (V0 : Rat) / (V1 : Rat) * ((((qx - px) * dy - (qy - py) * dx : Int)) : Rat) = ori (cP (px, py)) (cP (qx, qy)) (mP x0 y0 dx dy V0 V1) := by
    simp only [Rat.intCast_sub, Rat.intCast_mul]
    unfold ori cP mP
    dsimp only
    grind
  rw [e]
theorem ptM_e (hV : 0 < V1) (px py : Int) : ptM x0 y0 dx dy V0 V1 px py = decide (cP (px, py) = mP x0 y0 dx dy V0 V1) := by
  unfold ptM
  rw [mX_x (y0 := y0) (dy := dy) hV, mX_y (x0 := x0) (dx := dx) hV]
  generalize mP x0 y0 dx dy V0 V1 = P
  have h : (cP (px, py) = P) ↔ (P.1 = (px : Rat) ∧ P.2 = (py : Rat)) := by
    constructor
    · rintro rfl; exact ⟨rfl, rfl⟩
    · rintro ⟨a, b⟩; exact Prod.ext a.symm b.symm
  rw [decide_eq_decide.mpr h, Bool.decide_and]
  congr 1
  · split
    · rw [decide_eq_false (by decide), decide_eq_false (by grind)]
    · split
      · rw [decide_eq_true rfl, decide_eq_true (by assumption)]
      · rw [decide_eq_false (by decide), decide_eq_false (by assumption)]
  · split
    · rw [decide_eq_false (by decide), decide_eq_false (by grind)]
    · split
      · rw [decide_eq_true rfl, decide_eq_true (by assumption)]
      · rw [decide_eq_false (by decide), decide_eq_false (by assumption)]
theorem bt_sign {a v b : Rat} : ((if v < a then (-1 : Int) else if v = a then 0 else 1) * (if v < b then (-1 : Int) else if v = b then 0 else 1) ≤ 0) ↔ bt a v b := by
  unfold bt
  split
  · split
    · constructor
      · intro h; exact absurd h (by decide)
      · intro h; exfalso; rcases h with h | h <;> grind
    · split
      · exact ⟨fun _ => by grind, fun _ => by decide⟩
      · exact ⟨fun _ => by grind, fun _ => by decide⟩
  · split
    · exact ⟨fun _ => by grind, fun _ => by rw [Int.zero_mul]; decide⟩
    · split
      · exact ⟨fun _ => by grind, fun _ => by decide⟩
      · split
        · exact ⟨fun _ => by grind, fun _ => by decide⟩
        · constructor
          · intro h; exact absurd h (by decide)
          · intro h; exfalso; rcases h with h | h <;> grind
theorem sign0 {r : Rat} : ((if r < 0 then (-1 : Int) else if r = 0 then 0 else 1) = 0) ↔ r = 0 := by
  split
  · constructor
    · intro h; exact absurd h (by decide)
    · intro h; grind
  · split
    · exact ⟨fun _ => by assumption, fun _ => rfl⟩
    · constructor
      · intro h; exact absurd h (by decide)
      · intro h; grind
theorem signP {r : Rat} : (0 < (if r < 0 then (-1 : Int) else if r = 0 then 0 else 1)) ↔ 0 < r := by
  split
  · constructor
    · intro h; exact absurd h (by decide)
    · intro h; grind
  · split
    · constructor
      · intro h; exact absurd h (by decide)
      · intro h; grind
    · exact ⟨fun _ => by grind, fun _ => by decide⟩
theorem signN {v r : Rat} : ((if v < r then (-1 : Int) else if v = r then 0 else 1) < 0) ↔ v < r := by
  split
  · exact ⟨fun _ => by assumption, fun _ => by decide⟩
  · split
    · constructor
      · intro h; exact absurd h (by decide)
      · intro h; grind
    · constructor
      · intro h; exact absurd h (by decide)
      · intro h; grind
theorem onM_e (hV : 0 < V1) (px py qx qy : Int) : onM x0 y0 dx dy V0 V1 px py qx qy = onB (cP (px, py)) (cP (qx, qy)) (mP x0 y0 dx dy V0 V1) := by
  unfold onM onB
  rw [mX_x (y0 := y0) (dy := dy) hV, mX_x (y0 := y0) (dy := dy) hV, mX_y (x0 := x0) (dx := dx) hV, mX_y (x0 := x0) (dx := dx) hV, mS_o hV]
  simp only [bt_sign, sign0]
  rw [← Bool.decide_and, ← Bool.decide_and]
  refine decide_eq_decide.mpr ?_
  unfold onS cP
  exact and_assoc
theorem crM_e (hV : 0 < V1) (px py qx qy : Int) : crM x0 y0 dx dy V0 V1 px py qx qy = crX (cP (px, py)) (cP (qx, qy)) (mP x0 y0 dx dy V0 V1) := by
  unfold crM crX
  rw [mX_y (x0 := x0) (dx := dx) hV, mX_y (x0 := x0) (dx := dx) hV, mS_o hV, mS_o hV]
  simp only [signN, signP]
  have ho := ori_swap (cP (px, py)) (cP (qx, qy)) (mP x0 y0 dx dy V0 V1)
  have a1 : (cP (px, py)).2 = (py : Rat) := rfl
  have a2 : (cP (qx, qy)).2 = (qy : Rat) := rfl
  unfold crXp
  rw [a1, a2, ho]
  generalize ori (cP (px, py)) (cP (qx, qy)) (mP x0 y0 dx dy V0 V1) = o
  generalize (mP x0 y0 dx dy V0 V1).2 = y
  split
  · split
    · symm; apply decide_eq_false; grind
    · apply decide_eq_decide.mpr; grind
  · split
    · apply decide_eq_decide.mpr; grind
    · symm; apply decide_eq_false; grind
end MP
/-! ### counts -/
theorem par_count {α : Type} {f : α → Bool} : ∀ l : List α, par f l = decide (l.countP f % 2 = 1)
  | [] => rfl
  | x :: l => by
    rw [par, par_count l, List.countP_cons]
    cases h : f x
    · simp
    · by_cases q : l.countP f % 2 = 1
      · rw [decide_eq_true q]; simp; omega
      · rw [decide_eq_false q]; simp; omega
theorem any_count {α : Type} {f : α → Bool} (l : List α) : l.any f = decide (0 < l.countP f) := by
  cases h : l.any f
  · symm; apply decide_eq_false
    rw [List.any_eq_false] at h
    have : l.countP f = 0 := List.countP_eq_zero.mpr (fun x hx => by simpa using h x hx)
    omega
  · symm; apply decide_eq_true
    obtain ⟨x, h1, h2⟩ := List.any_eq_true.mp h
    exact List.countP_pos_iff.mpr ⟨x, h1, h2⟩
theorem cntR_count {α : Type} {f : Nat → Bool} {g : Nat → α} {F : α → Bool} (h : ∀ k, f k = F (g k)) : ∀ n, cntR f n = (plist g n).countP F
  | 0 => rfl
  | n + 1 => by
    rw [cntR, cntR_count h n, plist_succ, List.countP_append, h n]
    cases hF : F (g n) <;> simp [hF]
theorem count_who {F : Sg → Bool} {s w : Nat} (l : List Sg) : (l.map fun g => (g, w)).countP (fun x => decide (x.2 = s) && F x.1) = if w = s then l.countP F else 0 := by
  rw [List.countP_map]
  by_cases h : w = s
  · subst h
    rw [if_pos rfl]
    congr 1
    funext g
    simp
  · rw [if_neg h]
    apply List.countP_eq_zero.mpr
    intro g _
    simp [h]
section MW
variable {XS YS : Nat → Int} {FM TM WO KD PT PN BG : Nat → Nat} {n : Nat}
/-- a shape of the Model -/
abbrev mL (XS YS : Nat → Int) (KD PT PN BG : Nat → Nat) (s : Nat) : List Sq := (mSegs XS YS KD PT PN BG s).map cS
abbrev mQ (XS YS : Nat → Int) (PT : Nat → Nat) (s : Nat) : List Pt := shQ (fun k => XS (2048 * s + k)) (fun k => YS (2048 * s + k)) (PT s)
abbrev mE (XS YS : Nat → Int) (PT PN BG : Nat → Nat) (s : Nat) : Pt → Bool := shE (fun k => XS (2048 * s + k)) (fun k => YS (2048 * s + k)) (fun p => BG (1025 * s + p)) (PN s) (PT s)
theorem cnt_who (hL : plist (sgM XS YS FM TM WO) n = (List.range 2).flatMap (mAll XS YS KD PT PN BG)) {F : Sg → Bool} {f : Nat → Bool} {s : Nat} (hs : s < 2) (h : ∀ k, f k = (decide (WO k = s) && F ((XS (FM k), YS (FM k)), (XS (TM k), YS (TM k))))) : cntR f n = (mSegs XS YS KD PT PN BG s).countP F := by
  rw [cntR_count (g := sgM XS YS FM TM WO) (F := fun x => decide (x.2 = s) && F x.1) h n, hL]
  have e : (List.range 2).flatMap (mAll XS YS KD PT PN BG) = mAll XS YS KD PT PN BG 0 ++ mAll XS YS KD PT PN BG 1 := by
    show mAll XS YS KD PT PN BG 0 ++ (mAll XS YS KD PT PN BG 1 ++ []) = _
    rw [List.append_nil]
  rw [e, List.countP_append]
  unfold mAll
  rw [count_who, count_who]
  rcases (show s = 0 ∨ s = 1 by omega) with rfl | rfl
  · simp
  · simp
variable {x0 y0 dx dy V0 V1 : Int}
theorem hv_any (hL : plist (sgM XS YS FM TM WO) n = (List.range 2).flatMap (mAll XS YS KD PT PN BG)) (hV : 0 < V1) {s : Nat} (hs : s < 2) : decide (0 < cntR (hvF x0 y0 dx dy V0 V1 XS YS FM TM WO s) n) = anyOn (mL XS YS KD PT PN BG s) (mP x0 y0 dx dy V0 V1) := by
  rw [cnt_who hL (F := fun g => onB (cS g).1 (cS g).2 (mP x0 y0 dx dy V0 V1)) hs (fun k => by unfold hvF onK; rw [onM_e hV]; rfl)]
  unfold anyOn mL
  rw [List.any_map, any_count]
  rfl
theorem hv_par (hL : plist (sgM XS YS FM TM WO) n = (List.range 2).flatMap (mAll XS YS KD PT PN BG)) (hV : 0 < V1) {s : Nat} (hs : s < 2) : decide (cntR (hvF x0 y0 dx dy V0 V1 XS YS FM TM WO s) n % 2 = 1) = hav (mL XS YS KD PT PN BG s) (mP x0 y0 dx dy V0 V1) := by
  rw [cnt_who hL (F := fun g => onB (cS g).1 (cS g).2 (mP x0 y0 dx dy V0 V1)) hs (fun k => by unfold hvF onK; rw [onM_e hV]; rfl)]
  unfold hav mL
  rw [par_map, par_count]
theorem cd_par (hL : plist (sgM XS YS FM TM WO) n = (List.range 2).flatMap (mAll XS YS KD PT PN BG)) (hV : 0 < V1) {s : Nat} (hs : s < 2) : decide (cntR (cdF x0 y0 dx dy V0 V1 XS YS FM TM WO s) n % 2 = 1) = crd (mL XS YS KD PT PN BG s) (mP x0 y0 dx dy V0 V1) := by
  rw [cnt_who hL (F := fun g => crX (cS g).1 (cS g).2 (mP x0 y0 dx dy V0 V1)) hs (fun k => by
    unfold cdF onK crK; rw [onM_e hV, crM_e hV]
    congr 1
    cases q : onB (cP (XS (FM k), YS (FM k))) (cP (XS (TM k), YS (TM k))) (mP x0 y0 dx dy V0 V1) with
    | false => rfl
    | true =>
      have : crX (cP (XS (FM k), YS (FM k))) (cP (XS (TM k), YS (TM k))) (mP x0 y0 dx dy V0 V1) = false := crX_line (of_decide_eq_true q).2.2
      show (!true && _) = crX (cP (XS (FM k), YS (FM k))) (cP (XS (TM k), YS (TM k))) (mP x0 y0 dx dy V0 V1)
      rw [this]; rfl)]
  unfold crd mL
  rw [par_map, par_count]
theorem en_e (hV : 0 < V1) {s : Nat} (hs : s < 2) : ∀ p, enM (ptK x0 y0 dx dy V0 V1 XS YS) BG PN PT s p = enG (fun k => decide (cP (XS (2048 * s + k), YS (2048 * s + k)) = mP x0 y0 dx dy V0 V1)) (fun p => BG (1025 * s + p)) (PN s) (PT s) p
  | 0 => rfl
  | p + 1 => by
    rw [enM, enG, en_e hV hs p]
    have e1 : bgF BG s p = 2048 * s + BG (1025 * s + p) := rfl
    have e2 : enF BG PN PT s p = 2048 * s + olEnd (fun p => BG (1025 * s + p)) (PN s) (PT s) p := rfl
    rw [e1, e2]
    by_cases hl : BG (1025 * s + p) < olEnd (fun p => BG (1025 * s + p)) (PN s) (PT s) p
    · rw [if_pos (by omega), if_pos hl]
      unfold ptK
      rw [ptM_e hV, ptM_e hV, show 2048 * s + olEnd (fun p => BG (1025 * s + p)) (PN s) (PT s) p - 1 = 2048 * s + (olEnd (fun p => BG (1025 * s + p)) (PN s) (PT s) p - 1) by omega]
    · rw [if_neg (by omega), if_neg hl]
/-- where the Model finds a place -/
theorem whM_e (hL : plist (sgM XS YS FM TM WO) n = (List.range 2).flatMap (mAll XS YS KD PT PN BG)) (hV : 0 < V1) {s : Nat} (hs : s < 2) : whM x0 y0 dx dy V0 V1 XS YS FM TM WO KD PT PN BG n s = whR (KD s) (mQ XS YS PT s) (mL XS YS KD PT PN BG s) (mE XS YS PT PN BG s) (mP x0 y0 dx dy V0 V1) := by
  unfold whM whR
  have a1 := hv_any hL hV hs (x0 := x0) (y0 := y0) (dx := dx) (dy := dy) (V0 := V0)
  have a2 := cd_par hL hV hs (x0 := x0) (y0 := y0) (dx := dx) (dy := dy) (V0 := V0)
  have b1 : (0 < cntR (hvF x0 y0 dx dy V0 V1 XS YS FM TM WO s) n) ↔ anyOn (mL XS YS KD PT PN BG s) (mP x0 y0 dx dy V0 V1) = true := by rw [← a1, decide_eq_true_iff]
  have b2 : (cntR (cdF x0 y0 dx dy V0 V1 XS YS FM TM WO s) n % 2 = 1) ↔ crd (mL XS YS KD PT PN BG s) (mP x0 y0 dx dy V0 V1) = true := by rw [← a2, decide_eq_true_iff]
  have b3 : (exR (ptK x0 y0 dx dy V0 V1 XS YS) (2048 * s) (2048 * s + PT s) = true) ↔ mP x0 y0 dx dy V0 V1 ∈ mQ XS YS PT s := by
    unfold mQ
    rw [mem_shQ]
    unfold exR
    rw [List.any_eq_true]
    constructor
    · rintro ⟨k, hk, h⟩
      rw [List.mem_range] at hk
      simp only [Bool.and_eq_true, decide_eq_true_eq] at h
      refine ⟨k - 2048 * s, by omega, ?_⟩
      have := h.2
      unfold ptK at this
      rw [ptM_e hV, decide_eq_true_iff] at this
      rw [show 2048 * s + (k - 2048 * s) = k by omega]; exact this.symm
    · rintro ⟨k, hk, h⟩
      refine ⟨2048 * s + k, List.mem_range.mpr (by omega), ?_⟩
      simp only [Bool.and_eq_true, decide_eq_true_eq]
      refine ⟨by omega, ?_⟩
      unfold ptK
      rw [ptM_e hV, decide_eq_true_iff]; exact h.symm
  have b4 : (enM (ptK x0 y0 dx dy V0 V1 XS YS) BG PN PT s (PN s) % 2 = 1) ↔ mE XS YS PT PN BG s (mP x0 y0 dx dy V0 V1) = true := by
    unfold mE shE
    rw [en_e hV hs, decide_eq_true_iff]
  simp only [b1, b2, b3, b4]
theorem bsM_e (hL : plist (sgM XS YS FM TM WO) n = (List.range 2).flatMap (mAll XS YS KD PT PN BG)) (hV : 0 < V1) {s : Nat} (hs : s < 2) (hk : KD s < 4) (o : Bool) : bsM x0 y0 dx dy V0 V1 XS YS FM TM WO KD n s o = sdR (KD s) (mL XS YS KD PT PN BG s) o (mP x0 y0 dx dy V0 V1) := by
  unfold bsM sdR
  have a1 := hv_par hL hV hs (x0 := x0) (y0 := y0) (dx := dx) (dy := dy) (V0 := V0)
  have a2 := cd_par hL hV hs (x0 := x0) (y0 := y0) (dx := dx) (dy := dy) (V0 := V0)
  by_cases h3 : KD s < 3
  · rw [if_pos h3, if_neg (fun q => by omega)]
  · have h3' : KD s = 3 := by omega
    rw [if_neg h3, ← a1, ← a2]
    generalize cntR (cdF x0 y0 dx dy V0 V1 XS YS FM TM WO s) n = u
    generalize cntR (hvF x0 y0 dx dy V0 V1 XS YS FM TM WO s) n = v
    cases o
    · by_cases hu : u % 2 = 1
      · rw [decide_eq_true hu, if_pos (by simp; omega), if_pos ⟨h3', rfl⟩]
      · rw [decide_eq_false hu, if_neg (by simp; omega), if_neg (by simp)]
    · by_cases hu : u % 2 = 1
      · by_cases hv : v % 2 = 1
        · rw [decide_eq_true hu, decide_eq_true hv, if_neg (by simp; omega), if_neg (by simp)]
        · rw [decide_eq_true hu, decide_eq_false hv, if_pos (by simp; omega), if_pos ⟨h3', rfl⟩]
      · by_cases hv : v % 2 = 1
        · rw [decide_eq_false hu, decide_eq_true hv, if_pos (by simp; omega), if_pos ⟨h3', rfl⟩]
        · rw [decide_eq_false hu, decide_eq_false hv, if_neg (by simp; omega), if_neg (by simp)]
end MW
end PL5
