/-! Model: cuts of a segment (printed by wip gen/c64.py) -/
abbrev Fr : Type := Int × Int
def frOK (x : Fr) : Prop := (0 ≤ x.1 ∧ x.1 ≤ x.2) ∧ (0 < x.2 ∧ x.2 < 4611686018427387904)
def frLt (x y : Fr) : Prop := x.1 * y.2 < y.1 * x.2
def frEq (x y : Fr) : Prop := x.1 * y.2 = y.1 * x.2
/-- sorted cuts that stand for a list of fractions -/
def csInv (OV UN : Nat → Int) (n : Nat) (S : List Fr) : Prop := (∀ k, k < n → frOK (OV k, UN k)) ∧ (∀ i k, i < k → k < n → frLt (OV i, UN i) (OV k, UN k)) ∧ (∀ k, k < n → (OV k, UN k) ∈ S) ∧ (∀ y ∈ S, ∃ k, k < n ∧ frEq (OV k, UN k) y) ∧ n ≤ S.length
theorem csInv_0 {OV UN : Nat → Int} : csInv OV UN 0 [] := by
  refine ⟨?_, ?_, ?_, ?_, Nat.le_refl _⟩
  · intro k h; exact absurd h (Nat.not_lt_zero _)
  · intro i k _ h; exact absurd h (Nat.not_lt_zero _)
  · intro k h; exact absurd h (Nat.not_lt_zero _)
  · intro y h; cases h
theorem cut_same {OV UN : Nat → Int} {n k : Nat} {S : List Fr} {o u : Int} (h : csInv OV UN n S) (hk : k < n) (he : cmpF o u (OV k) (UN k) = 0) : csInv OV UN n (S ++ [(o, u)]) := by
  obtain ⟨h1, h2, h3, h4, h5⟩ := h
  refine ⟨h1, h2, fun i hi => List.mem_append_left _ (h3 i hi), fun y hy => ?_, by rw [List.length_append]; omega⟩
  rcases List.mem_append.mp hy with q | q
  · exact h4 y q
  · rw [List.mem_singleton] at q
    rw [q]
    refine ⟨k, hk, ?_⟩
    have := cmpF_eq.mp he
    show OV k * u = o * UN k
    omega
theorem frLt_trans {x y z : Fr} (hx : frOK x) (hy : frOK y) (hz : frOK z) (h1 : frLt x y) (h2 : frLt y z) : frLt x z :=
  frac_lt_trans hx.2.1 hy.2.1 hz.2.1 (Int.le_of_lt h1) h2
theorem cut_ins {OV UN OV1 UN1 : Nat → Int} {n k : Nat} {S : List Fr} {o u : Int} (h : csInv OV UN n S) (hx : frOK (o, u)) (hkn : k ≤ n) (h2 : ∀ i, k ≤ i → i < n → frLt (o, u) (OV i, UN i)) (h3 : k = 0 ∨ frLt (OV (k - 1), UN (k - 1)) (o, u)) (hlo : ∀ i, i < k → OV1 i = OV i ∧ UN1 i = UN i) (hhi : ∀ i, k < i → i ≤ n → OV1 i = OV (i - 1) ∧ UN1 i = UN (i - 1)) : csInv (updZ OV1 k o) (updZ UN1 k u) (n + 1) (S ++ [(o, u)]) := by
  obtain ⟨g1, g2, g3, g4, g5⟩ := h
  have el : ∀ i, i < k → updZ OV1 k o i = OV i ∧ updZ UN1 k u i = UN i := fun i hi => by rw [updZ_n (by omega), updZ_n (by omega)]; exact hlo i hi
  have eh : ∀ i, k < i → i ≤ n → updZ OV1 k o i = OV (i - 1) ∧ updZ UN1 k u i = UN (i - 1) := fun i h1 h4 => by rw [updZ_n (by omega), updZ_n (by omega)]; exact hhi i h1 h4
  refine ⟨fun i hi => ?_, fun i j hij hj => ?_, fun i hi => ?_, fun y hy => ?_, by rw [List.length_append]; exact Nat.succ_le_succ g5⟩
  · rcases Nat.lt_trichotomy i k with q | q | q
    · rw [(el i q).1, (el i q).2]; exact g1 i (by omega)
    · rw [q, updZ_s, updZ_s]; exact hx
    · rw [(eh i q (by omega)).1, (eh i q (by omega)).2]; exact g1 (i - 1) (by omega)
  · have below : ∀ i, i < k → frLt (OV i, UN i) (o, u) := by
      intro i hi
      rcases h3 with q | q
      · omega
      · rcases (show i = k - 1 ∨ i < k - 1 by omega) with w | w
        · rw [w]; exact q
        · exact frLt_trans (g1 i (by omega)) (g1 (k - 1) (by omega)) hx (g2 i (k - 1) w (by omega)) q
    rcases Nat.lt_trichotomy i k with q | q | q
    · rw [(el i q).1, (el i q).2]
      rcases Nat.lt_trichotomy j k with w | w | w
      · rw [(el j w).1, (el j w).2]; exact g2 i j hij (by omega)
      · rw [w, updZ_s, updZ_s]; exact below i q
      · rw [(eh j w (by omega)).1, (eh j w (by omega)).2]; exact g2 i (j - 1) (by omega) (by omega)
    · rw [q, updZ_s, updZ_s, (eh j (by omega) (by omega)).1, (eh j (by omega) (by omega)).2]; exact h2 (j - 1) (by omega) (by omega)
    · rw [(eh i q (by omega)).1, (eh i q (by omega)).2, (eh j (by omega) (by omega)).1, (eh j (by omega) (by omega)).2]; exact g2 (i - 1) (j - 1) (by omega) (by omega)
  · rcases Nat.lt_trichotomy i k with q | q | q
    · rw [(el i q).1, (el i q).2]; exact List.mem_append_left _ (g3 i (by omega))
    · rw [q, updZ_s, updZ_s]; exact List.mem_append_right _ (List.mem_singleton.mpr rfl)
    · rw [(eh i q (by omega)).1, (eh i q (by omega)).2]; exact List.mem_append_left _ (g3 (i - 1) (by omega))
  · rcases List.mem_append.mp hy with q | q
    · obtain ⟨i, w1, w2⟩ := g4 y q
      rcases Nat.lt_or_ge i k with z | z
      · exact ⟨i, by omega, by rw [(el i z).1, (el i z).2]; exact w2⟩
      · refine ⟨i + 1, by omega, ?_⟩
        have e := eh (i + 1) (by omega) (by omega)
        rw [e.1, e.2, show i + 1 - 1 = i from rfl]; exact w2
    · rw [List.mem_singleton] at q
      rw [q]
      refine ⟨k, by omega, ?_⟩
      rw [updZ_s, updZ_s]; rfl
set_option maxHeartbeats 4000000 in
set_option maxRecDepth 100000 in
theorem metX10_cut (lG : Launch) (D : va_G) (dA : Nat → ClassId) (m0 : Nat) (thr : Nat) (kn : Nat) (pt : Nat) (pa : Nat) (bg : Nat) (xs_ : Nat) (ys_ : Nat) (sgm : Nat) (fr_ : Nat) (tw : Nat) (wo_ : Nat) (mt : Nat) (ha_ : Nat) (x0 : Int) (y0 : Int) (dx : Int) (dy : Int) (zz : Nat) (ct : Nat) (ov : Nat) (un : Nat) (OV : Nat → Int) (UN : Nat → Int) (S : List Fr) (o_ : Int) (u_ : Int) (hcs : csInv OV UN ct S) (hct : S.length < 12000) (hfr : frOK (o_, u_)) : Wr lG yX10_cut (ws_ yX10_cut cX10_cut 8 none) 1 44 D dA [.ref m0, .long (lZ o_), .long (lZ u_)] [(m0, .inr (9, [.int (nI thr), .ref kn, .ref pt, .ref pa, .ref bg, .ref xs_, .ref ys_, .int (nI sgm), .ref fr_, .ref tw, .ref wo_, .ref mt, .ref ha_, .long (lZ x0), .long (lZ y0), .long (lZ dx), .long (lZ dy), .ref zz, .int (nI ct), .ref ov, .ref un])), (ov, .inl (dA 1, 12400, .inr (.inl fun j => lZ (OV j)))), (un, .inl (dA 1, 12400, .inr (.inl fun j => lZ (UN j))))] 0 0 (fun (u : Nat × (Nat → Int) × (Nat → Int)) => let ct2 := u.1; let OV2 := u.2.1; let UN2 := u.2.2; csInv OV2 UN2 ct2 (S ++ [(o_, u_)])) (fun (u : Nat × (Nat → Int) × (Nat → Int)) => let ct2 := u.1; let OV2 := u.2.1; let UN2 := u.2.2; none) (fun (u : Nat × (Nat → Int) × (Nat → Int)) => let ct2 := u.1; let OV2 := u.2.1; let UN2 := u.2.2; [(m0, .inr (9, [.int (nI thr), .ref kn, .ref pt, .ref pa, .ref bg, .ref xs_, .ref ys_, .int (nI sgm), .ref fr_, .ref tw, .ref wo_, .ref mt, .ref ha_, .long (lZ x0), .long (lZ y0), .long (lZ dx), .long (lZ dy), .ref zz, .int (nI ct2), .ref ov, .ref un])), (ov, .inl (dA 1, 12400, .inr (.inl fun j => lZ (OV2 j)))), (un, .inl (dA 1, 12400, .inr (.inl fun j => lZ (UN2 j))))]) := by
  refine Wr.of (by decide) (Nat.le_of_ble_eq_true rfl) ?_
  intro pG eG sG mG bG tG cG ls A hx hb hr hml hown hts hlocks hnm hP hK hD hS hA hl
  have hK1 := hK.1
  have hown : sG.vm.findClass RX10 = some mG.cls := hown
  have hl : lv_has ls 8 [(0, .ref m0), (1, .long (lZ o_)), (3, .long (lZ u_))] := hl
  have hc5 := hcs.2.2.2.2
  have hf1 : 0 ≤ o_ ∧ o_ ≤ u_ := hfr.1
  have hf2 : 0 < u_ ∧ u_ < 4611686018427387904 := hfr.2
  refine lv_aload_n hx hb dX10_cut_0 rfl (lv_at hl 0 rfl) ?_
  refine va_get (D := D) (ci := 9) (v := .int (nI ct)) (C := RX10) (T := TX10) (N := 21) hx hb hts in_X10 hown hK.1 hP 0 rfl rfl 18 (Nat.le_of_ble_eq_true rfl) (hts _ q987) (fun _ h9 => h9) rfl dX10_cut_1 ?_
  refine lv_istore (lv' := [(5, .int (nI ct)), (0, .ref m0), (1, .long (lZ o_)), (3, .long (lZ u_))]) hx hb dX10_cut_4 hl (by decide) rfl (fun ls hl => ?_)
  refine lv_iconst (v := bI true) hx hb dX10_cut_6 (by decide) ?_
  refine lv_istore (lv' := [(6, .int (bI true)), (5, .int (nI ct)), (0, .ref m0), (1, .long (lZ o_)), (3, .long (lZ u_))]) hx hb dX10_cut_7 hl (by decide) rfl (fun ls hl => ?_)
  have loop9 : ∀ (n9 : Nat) (k : Nat) (mo : Bool), (k ≤ ct) → (∀ i, k ≤ i → i < ct → frLt (o_, u_) (OV i, UN i)) → (mo = false → 1 ≤ k ∧ frLt (OV (k - 1), UN (k - 1)) (o_, u_)) → (if mo then k + 1 else 0) < n9 → ∀ (H : Heap) (locs : List Loc), va_P D zCl [(m0, .inr (9, [.int (nI thr), .ref kn, .ref pt, .ref pa, .ref bg, .ref xs_, .ref ys_, .int (nI sgm), .ref fr_, .ref tw, .ref wo_, .ref mt, .ref ha_, .long (lZ x0), .long (lZ y0), .long (lZ dx), .long (lZ dy), .ref zz, .int (nI ct), .ref ov, .ref un])), (ov, .inl (dA 1, 12400, .inr (.inl fun j => lZ (OV j)))), (un, .inl (dA 1, 12400, .inr (.inl fun j => lZ (UN j))))] H → va_D A [(m0, .inr (9, [.int (nI thr), .ref kn, .ref pt, .ref pa, .ref bg, .ref xs_, .ref ys_, .int (nI sgm), .ref fr_, .ref tw, .ref wo_, .ref mt, .ref ha_, .long (lZ x0), .long (lZ y0), .long (lZ dx), .long (lZ dy), .ref zz, .int (nI ct), .ref ov, .ref un])), (ov, .inl (dA 1, 12400, .inr (.inl fun j => lZ (OV j)))), (un, .inl (dA 1, 12400, .inr (.inl fun j => lZ (UN j))))] → va_S A sG.heap H locs → ∀ (ls : Array Slot), lv_has ls 8 [(6, .int (bI mo)), (5, .int (nI k)), (0, .ref m0), (1, .long (lZ o_)), (3, .long (lZ u_))] → W pG lG eG (zRoom 1 0 0 44) sG mG [.ref m0, .long (lZ o_), .long (lZ u_)].toArray bG tG cG H locs 0 0 (MQ bG (wrQ D (fun (u : Nat × (Nat → Int) × (Nat → Int)) => let ct2 := u.1; let OV2 := u.2.1; let UN2 := u.2.2; csInv OV2 UN2 ct2 (S ++ [(o_, u_)])) (fun (u : Nat × (Nat → Int) × (Nat → Int)) => let ct2 := u.1; let OV2 := u.2.1; let UN2 := u.2.2; none) (fun (u : Nat × (Nat → Int) × (Nat → Int)) => let ct2 := u.1; let OV2 := u.2.1; let UN2 := u.2.2; [(m0, .inr (9, [.int (nI thr), .ref kn, .ref pt, .ref pa, .ref bg, .ref xs_, .ref ys_, .int (nI sgm), .ref fr_, .ref tw, .ref wo_, .ref mt, .ref ha_, .long (lZ x0), .long (lZ y0), .long (lZ dx), .long (lZ dy), .ref zz, .int (nI ct2), .ref ov, .ref un])), (ov, .inl (dA 1, 12400, .inr (.inl fun j => lZ (OV2 j)))), (un, .inl (dA 1, 12400, .inr (.inl fun j => lZ (UN2 j))))]) A) [.ref m0, .long (lZ o_), .long (lZ u_)].toArray sG 0 0 A) (F0 mG 9 ls []) := by
    intro n9
    induction n9 with
    | zero => intro k mo h1 h2 h3 hm; exact absurd hm (Nat.not_lt_zero _)
    | succ n9 ih9 =>
      intro k mo h1 h2 h3 hm9 H locs hP hD hS ls hl
      have join73 : (k = 0 ∨ frLt (OV (k - 1), UN (k - 1)) (o_, u_)) → ∀ (ls : Array Slot), lv_has ls 8 [(5, .int (nI k)), (0, .ref m0), (1, .long (lZ o_)), (3, .long (lZ u_))] → W pG lG eG (zRoom 1 0 0 44) sG mG [.ref m0, .long (lZ o_), .long (lZ u_)].toArray bG tG cG H locs 0 0 (MQ bG (wrQ D (fun (u : Nat × (Nat → Int) × (Nat → Int)) => let ct2 := u.1; let OV2 := u.2.1; let UN2 := u.2.2; csInv OV2 UN2 ct2 (S ++ [(o_, u_)])) (fun (u : Nat × (Nat → Int) × (Nat → Int)) => let ct2 := u.1; let OV2 := u.2.1; let UN2 := u.2.2; none) (fun (u : Nat × (Nat → Int) × (Nat → Int)) => let ct2 := u.1; let OV2 := u.2.1; let UN2 := u.2.2; [(m0, .inr (9, [.int (nI thr), .ref kn, .ref pt, .ref pa, .ref bg, .ref xs_, .ref ys_, .int (nI sgm), .ref fr_, .ref tw, .ref wo_, .ref mt, .ref ha_, .long (lZ x0), .long (lZ y0), .long (lZ dx), .long (lZ dy), .ref zz, .int (nI ct2), .ref ov, .ref un])), (ov, .inl (dA 1, 12400, .inr (.inl fun j => lZ (OV2 j)))), (un, .inl (dA 1, 12400, .inr (.inl fun j => lZ (UN2 j))))]) A) [.ref m0, .long (lZ o_), .long (lZ u_)].toArray sG 0 0 A) (F0 mG 73 ls []) := by
        intro  hx9 ls hl
        refine lv_aload_n hx hb dX10_cut_73 rfl (lv_at hl 1 rfl) ?_
        refine va_get (D := D) (ci := 9) (v := .int (nI ct)) (C := RX10) (T := TX10) (N := 21) hx hb hts in_X10 hown hK.1 hP 0 rfl rfl 18 (Nat.le_of_ble_eq_true rfl) (hts _ q987) (fun _ h9 => h9) rfl dX10_cut_74 ?_
        refine lv_istore (lv' := [(7, .int (nI ct)), (5, .int (nI k)), (0, .ref m0), (1, .long (lZ o_)), (3, .long (lZ u_))]) hx hb dX10_cut_77 hl (by decide) rfl (fun ls hl => ?_)
        have loop79 : ∀ (n79 : Nat) (i : Nat) (OV1 : Nat → Int) (UN1 : Nat → Int), (k ≤ i) → (i ≤ ct) → (∀ q, q < i → OV1 q = OV q ∧ UN1 q = UN q) → (∀ q, i < q → q ≤ ct → OV1 q = OV (q - 1) ∧ UN1 q = UN (q - 1)) → i - k < n79 → ∀ (H : Heap) (locs : List Loc), va_P D zCl [(m0, .inr (9, [.int (nI thr), .ref kn, .ref pt, .ref pa, .ref bg, .ref xs_, .ref ys_, .int (nI sgm), .ref fr_, .ref tw, .ref wo_, .ref mt, .ref ha_, .long (lZ x0), .long (lZ y0), .long (lZ dx), .long (lZ dy), .ref zz, .int (nI ct), .ref ov, .ref un])), (ov, .inl (dA 1, 12400, .inr (.inl fun j => lZ (OV1 j)))), (un, .inl (dA 1, 12400, .inr (.inl fun j => lZ (UN1 j))))] H → va_D A [(m0, .inr (9, [.int (nI thr), .ref kn, .ref pt, .ref pa, .ref bg, .ref xs_, .ref ys_, .int (nI sgm), .ref fr_, .ref tw, .ref wo_, .ref mt, .ref ha_, .long (lZ x0), .long (lZ y0), .long (lZ dx), .long (lZ dy), .ref zz, .int (nI ct), .ref ov, .ref un])), (ov, .inl (dA 1, 12400, .inr (.inl fun j => lZ (OV1 j)))), (un, .inl (dA 1, 12400, .inr (.inl fun j => lZ (UN1 j))))] → va_S A sG.heap H locs → ∀ (ls : Array Slot), lv_has ls 8 [(7, .int (nI i)), (5, .int (nI k)), (0, .ref m0), (1, .long (lZ o_)), (3, .long (lZ u_))] → W pG lG eG (zRoom 1 0 0 44) sG mG [.ref m0, .long (lZ o_), .long (lZ u_)].toArray bG tG cG H locs 0 0 (MQ bG (wrQ D (fun (u : Nat × (Nat → Int) × (Nat → Int)) => let ct2 := u.1; let OV2 := u.2.1; let UN2 := u.2.2; csInv OV2 UN2 ct2 (S ++ [(o_, u_)])) (fun (u : Nat × (Nat → Int) × (Nat → Int)) => let ct2 := u.1; let OV2 := u.2.1; let UN2 := u.2.2; none) (fun (u : Nat × (Nat → Int) × (Nat → Int)) => let ct2 := u.1; let OV2 := u.2.1; let UN2 := u.2.2; [(m0, .inr (9, [.int (nI thr), .ref kn, .ref pt, .ref pa, .ref bg, .ref xs_, .ref ys_, .int (nI sgm), .ref fr_, .ref tw, .ref wo_, .ref mt, .ref ha_, .long (lZ x0), .long (lZ y0), .long (lZ dx), .long (lZ dy), .ref zz, .int (nI ct2), .ref ov, .ref un])), (ov, .inl (dA 1, 12400, .inr (.inl fun j => lZ (OV2 j)))), (un, .inl (dA 1, 12400, .inr (.inl fun j => lZ (UN2 j))))]) A) [.ref m0, .long (lZ o_), .long (lZ u_)].toArray sG 0 0 A) (F0 mG 79 ls []) := by
          intro n79
          induction n79 with
          | zero => intro i OV1 UN1 j1 j2 j3 j4 hm; exact absurd hm (Nat.not_lt_zero _)
          | succ n79 ih79 =>
            intro i OV1 UN1 j1 j2 j3 j4 hm79 H locs hP hD hS ls hl
            refine lv_iload hx hb dX10_cut_79 (lv_at hl 0 rfl) ?_
            refine lv_iload hx hb dX10_cut_81 (lv_at hl 1 rfl) ?_
            refine zn_icmp_le (tgt := 124) hx hb (by omega) (by omega) dX10_cut_83 (by decide) (fun c_1 => ?_) (fun c_1 => ?_)
            · skip
              refine lv_aload_n hx hb dX10_cut_124 rfl (lv_at hl 2 rfl) ?_
              refine va_get (D := D) (ci := 9) (v := .ref ov) (C := RX10) (T := TX10) (N := 21) hx hb hts in_X10 hown hK.1 hP 0 rfl rfl 19 (Nat.le_of_ble_eq_true rfl) (hts _ q988) (fun _ h9 => h9) rfl dX10_cut_125 ?_
              refine lv_iload hx hb dX10_cut_128 (lv_at hl 1 rfl) ?_
              refine lv_lload_n hx hb dX10_cut_130 rfl (lv_at hl 3 rfl) ?_
              refine zz_lastore (f := OV1) (i := k) (x := o_) hx hb hK.1 hP hD hS 1 1 rfl rfl (by omega) (by decide) dX10_cut_131 (fun H locs hP hD hS => ?_)
              have hP : va_P D zCl [(m0, .inr (9, [.int (nI thr), .ref kn, .ref pt, .ref pa, .ref bg, .ref xs_, .ref ys_, .int (nI sgm), .ref fr_, .ref tw, .ref wo_, .ref mt, .ref ha_, .long (lZ x0), .long (lZ y0), .long (lZ dx), .long (lZ dy), .ref zz, .int (nI ct), .ref ov, .ref un])), (ov, .inl (dA 1, 12400, .inr (.inl fun j => lZ ((updZ OV1 k o_) j)))), (un, .inl (dA 1, 12400, .inr (.inl fun j => lZ (UN1 j))))] H := hP
              have hD : va_D A [(m0, .inr (9, [.int (nI thr), .ref kn, .ref pt, .ref pa, .ref bg, .ref xs_, .ref ys_, .int (nI sgm), .ref fr_, .ref tw, .ref wo_, .ref mt, .ref ha_, .long (lZ x0), .long (lZ y0), .long (lZ dx), .long (lZ dy), .ref zz, .int (nI ct), .ref ov, .ref un])), (ov, .inl (dA 1, 12400, .inr (.inl fun j => lZ ((updZ OV1 k o_) j)))), (un, .inl (dA 1, 12400, .inr (.inl fun j => lZ (UN1 j))))] := hD
              refine lv_aload_n hx hb dX10_cut_132 rfl (lv_at hl 2 rfl) ?_
              refine va_get (D := D) (ci := 9) (v := .ref un) (C := RX10) (T := TX10) (N := 21) hx hb hts in_X10 hown hK.1 hP 0 rfl rfl 20 (Nat.le_of_ble_eq_true rfl) (hts _ q989) (fun _ h9 => h9) rfl dX10_cut_133 ?_
              refine lv_iload hx hb dX10_cut_136 (lv_at hl 1 rfl) ?_
              refine lv_lload_n hx hb dX10_cut_138 rfl (lv_at hl 4 rfl) ?_
              refine zz_lastore (f := UN1) (i := k) (x := u_) hx hb hK.1 hP hD hS 2 1 rfl rfl (by omega) (by decide) dX10_cut_139 (fun H locs hP hD hS => ?_)
              have hP : va_P D zCl [(m0, .inr (9, [.int (nI thr), .ref kn, .ref pt, .ref pa, .ref bg, .ref xs_, .ref ys_, .int (nI sgm), .ref fr_, .ref tw, .ref wo_, .ref mt, .ref ha_, .long (lZ x0), .long (lZ y0), .long (lZ dx), .long (lZ dy), .ref zz, .int (nI ct), .ref ov, .ref un])), (ov, .inl (dA 1, 12400, .inr (.inl fun j => lZ ((updZ OV1 k o_) j)))), (un, .inl (dA 1, 12400, .inr (.inl fun j => lZ ((updZ UN1 k u_) j))))] H := hP
              have hD : va_D A [(m0, .inr (9, [.int (nI thr), .ref kn, .ref pt, .ref pa, .ref bg, .ref xs_, .ref ys_, .int (nI sgm), .ref fr_, .ref tw, .ref wo_, .ref mt, .ref ha_, .long (lZ x0), .long (lZ y0), .long (lZ dx), .long (lZ dy), .ref zz, .int (nI ct), .ref ov, .ref un])), (ov, .inl (dA 1, 12400, .inr (.inl fun j => lZ ((updZ OV1 k o_) j)))), (un, .inl (dA 1, 12400, .inr (.inl fun j => lZ ((updZ UN1 k u_) j))))] := hD
              refine lv_aload_n hx hb dX10_cut_140 rfl (lv_at hl 2 rfl) ?_
              refine lv_dup hx hb dX10_cut_141 rfl ?_
              refine va_get (D := D) (ci := 9) (v := .int (nI ct)) (C := RX10) (T := TX10) (N := 21) hx hb hts in_X10 hown hK.1 hP 0 rfl rfl 18 (Nat.le_of_ble_eq_true rfl) (hts _ q987) (fun _ h9 => h9) rfl dX10_cut_142 ?_
              refine lv_iconst (v := nI 1) hx hb dX10_cut_145 (by decide) ?_
              refine zn_iadd hx hb dX10_cut_146 ?_
              refine va_put (D := D) (ci := 9) (v := .int (nI (ct + 1))) (ty := .int) (C := RX10) (T := TX10) (N := 21) hx hb hts in_X10 tyX10 tyX10_ok nmX10 hown hK.1 hP hD hS 0 rfl rfl 18 (Nat.le_of_ble_eq_true rfl) (hts _ q987) (fun _ h9 => h9) rfl (by decide +kernel) rfl rfl (Nat.le_of_ble_eq_true rfl) dX10_cut_147 (fun H locs hP hD hS => ?_)
              have hP : va_P D zCl [(m0, .inr (9, [.int (nI thr), .ref kn, .ref pt, .ref pa, .ref bg, .ref xs_, .ref ys_, .int (nI sgm), .ref fr_, .ref tw, .ref wo_, .ref mt, .ref ha_, .long (lZ x0), .long (lZ y0), .long (lZ dx), .long (lZ dy), .ref zz, .int (nI (ct + 1)), .ref ov, .ref un])), (ov, .inl (dA 1, 12400, .inr (.inl fun j => lZ ((updZ OV1 k o_) j)))), (un, .inl (dA 1, 12400, .inr (.inl fun j => lZ ((updZ UN1 k u_) j))))] H := hP
              have hD : va_D A [(m0, .inr (9, [.int (nI thr), .ref kn, .ref pt, .ref pa, .ref bg, .ref xs_, .ref ys_, .int (nI sgm), .ref fr_, .ref tw, .ref wo_, .ref mt, .ref ha_, .long (lZ x0), .long (lZ y0), .long (lZ dx), .long (lZ dy), .ref zz, .int (nI (ct + 1)), .ref ov, .ref un])), (ov, .inl (dA 1, 12400, .inr (.inl fun j => lZ ((updZ OV1 k o_) j)))), (un, .inl (dA 1, 12400, .inr (.inl fun j => lZ ((updZ UN1 k u_) j))))] := hD
              exact zr_wrV (u := (ct + 1, updZ OV1 k o_, updZ UN1 k u_)) rfl (show csInv (updZ OV1 k o_) (updZ UN1 k u_) (ct + 1) (S ++ [(o_, u_)]) from cut_ins hcs hfr h1 h2 hx9 (fun q h => j3 q (by omega)) (fun q a b => j4 q (by omega) b)) (hP.sub [0, 1, 2] rfl) (hD.sub [0, 1, 2] (by decide) rfl) hS hx hb hr hlocks dX10_cut_150
            · skip
              refine lv_aload_n hx hb dX10_cut_86 rfl (lv_at hl 2 rfl) ?_
              refine va_get (D := D) (ci := 9) (v := .ref ov) (C := RX10) (T := TX10) (N := 21) hx hb hts in_X10 hown hK.1 hP 0 rfl rfl 19 (Nat.le_of_ble_eq_true rfl) (hts _ q988) (fun _ h9 => h9) rfl dX10_cut_87 ?_
              refine lv_iload hx hb dX10_cut_90 (lv_at hl 0 rfl) ?_
              refine lv_aload_n hx hb dX10_cut_92 rfl (lv_at hl 2 rfl) ?_
              refine va_get (D := D) (ci := 9) (v := .ref ov) (C := RX10) (T := TX10) (N := 21) hx hb hts in_X10 hown hK.1 hP 0 rfl rfl 19 (Nat.le_of_ble_eq_true rfl) (hts _ q988) (fun _ h9 => h9) rfl dX10_cut_93 ?_
              refine lv_iload hx hb dX10_cut_96 (lv_at hl 0 rfl) ?_
              refine lv_iconst (v := nI 1) hx hb dX10_cut_98 (by decide) ?_
              refine zn_isub hx hb (by omega) dX10_cut_99 ?_
              refine zz_laload (f := OV1) (i := i - 1) hx hb hK.1 hP 1 1 rfl rfl (by omega) (by decide) dX10_cut_100 ?_
              refine zz_lastore (f := OV1) (i := i) (x := OV1 (i - 1)) hx hb hK.1 hP hD hS 1 1 rfl rfl (by omega) (by decide) dX10_cut_101 (fun H locs hP hD hS => ?_)
              have hP : va_P D zCl [(m0, .inr (9, [.int (nI thr), .ref kn, .ref pt, .ref pa, .ref bg, .ref xs_, .ref ys_, .int (nI sgm), .ref fr_, .ref tw, .ref wo_, .ref mt, .ref ha_, .long (lZ x0), .long (lZ y0), .long (lZ dx), .long (lZ dy), .ref zz, .int (nI ct), .ref ov, .ref un])), (ov, .inl (dA 1, 12400, .inr (.inl fun j => lZ ((updZ OV1 i (OV1 (i - 1))) j)))), (un, .inl (dA 1, 12400, .inr (.inl fun j => lZ (UN1 j))))] H := hP
              have hD : va_D A [(m0, .inr (9, [.int (nI thr), .ref kn, .ref pt, .ref pa, .ref bg, .ref xs_, .ref ys_, .int (nI sgm), .ref fr_, .ref tw, .ref wo_, .ref mt, .ref ha_, .long (lZ x0), .long (lZ y0), .long (lZ dx), .long (lZ dy), .ref zz, .int (nI ct), .ref ov, .ref un])), (ov, .inl (dA 1, 12400, .inr (.inl fun j => lZ ((updZ OV1 i (OV1 (i - 1))) j)))), (un, .inl (dA 1, 12400, .inr (.inl fun j => lZ (UN1 j))))] := hD
              refine lv_aload_n hx hb dX10_cut_102 rfl (lv_at hl 2 rfl) ?_
              refine va_get (D := D) (ci := 9) (v := .ref un) (C := RX10) (T := TX10) (N := 21) hx hb hts in_X10 hown hK.1 hP 0 rfl rfl 20 (Nat.le_of_ble_eq_true rfl) (hts _ q989) (fun _ h9 => h9) rfl dX10_cut_103 ?_
              refine lv_iload hx hb dX10_cut_106 (lv_at hl 0 rfl) ?_
              refine lv_aload_n hx hb dX10_cut_108 rfl (lv_at hl 2 rfl) ?_
              refine va_get (D := D) (ci := 9) (v := .ref un) (C := RX10) (T := TX10) (N := 21) hx hb hts in_X10 hown hK.1 hP 0 rfl rfl 20 (Nat.le_of_ble_eq_true rfl) (hts _ q989) (fun _ h9 => h9) rfl dX10_cut_109 ?_
              refine lv_iload hx hb dX10_cut_112 (lv_at hl 0 rfl) ?_
              refine lv_iconst (v := nI 1) hx hb dX10_cut_114 (by decide) ?_
              refine zn_isub hx hb (by omega) dX10_cut_115 ?_
              refine zz_laload (f := UN1) (i := i - 1) hx hb hK.1 hP 2 1 rfl rfl (by omega) (by decide) dX10_cut_116 ?_
              refine zz_lastore (f := UN1) (i := i) (x := UN1 (i - 1)) hx hb hK.1 hP hD hS 2 1 rfl rfl (by omega) (by decide) dX10_cut_117 (fun H locs hP hD hS => ?_)
              have hP : va_P D zCl [(m0, .inr (9, [.int (nI thr), .ref kn, .ref pt, .ref pa, .ref bg, .ref xs_, .ref ys_, .int (nI sgm), .ref fr_, .ref tw, .ref wo_, .ref mt, .ref ha_, .long (lZ x0), .long (lZ y0), .long (lZ dx), .long (lZ dy), .ref zz, .int (nI ct), .ref ov, .ref un])), (ov, .inl (dA 1, 12400, .inr (.inl fun j => lZ ((updZ OV1 i (OV1 (i - 1))) j)))), (un, .inl (dA 1, 12400, .inr (.inl fun j => lZ ((updZ UN1 i (UN1 (i - 1))) j))))] H := hP
              have hD : va_D A [(m0, .inr (9, [.int (nI thr), .ref kn, .ref pt, .ref pa, .ref bg, .ref xs_, .ref ys_, .int (nI sgm), .ref fr_, .ref tw, .ref wo_, .ref mt, .ref ha_, .long (lZ x0), .long (lZ y0), .long (lZ dx), .long (lZ dy), .ref zz, .int (nI ct), .ref ov, .ref un])), (ov, .inl (dA 1, 12400, .inr (.inl fun j => lZ ((updZ OV1 i (OV1 (i - 1))) j)))), (un, .inl (dA 1, 12400, .inr (.inl fun j => lZ ((updZ UN1 i (UN1 (i - 1))) j))))] := hD
              refine lv_iinc (v := nI (i - 1)) (lv' := [(7, .int (nI (i - 1))), (5, .int (nI k)), (0, .ref m0), (1, .long (lZ o_)), (3, .long (lZ u_))]) hx hb dX10_cut_118 hl (k := 0) rfl (ii_dec (show 1 ≤ i by omega)) (by decide) rfl (fun ls hl => ?_)
              refine lv_goto (tgt := 79) hx hb dX10_cut_121 (by decide) ?_
              exact ih79 (i - 1) (updZ OV1 i (OV1 (i - 1))) (updZ UN1 i (UN1 (i - 1))) (by first | assumption | omega) (by first | assumption | omega) (fun q h => by rw [updZ_n (by omega), updZ_n (by omega)]; exact j3 q (by omega)) (fun q h1 h2 => by rcases (show q = i ∨ i < q by omega) with w | w; rw [w, updZ_s, updZ_s]; exact j3 (i - 1) (by omega); rw [updZ_n (by omega), updZ_n (by omega)]; exact j4 q w h2) (by omega) _ _ (hP.sub [0, 1, 2] rfl) (hD.sub [0, 1, 2] (by decide) rfl) hS _ (lv_sub hl [0, 1, 2, 3, 4] rfl)
        exact loop79 (ct - k + 1) ct OV UN (by first | assumption | omega) (by first | assumption | omega) (fun _ _ => ⟨rfl, rfl⟩) (fun q h1 h2 => absurd h2 (Nat.not_le.mpr h1)) (Nat.lt_succ_self _) _ _ (hP.sub [0, 1, 2] rfl) (hD.sub [0, 1, 2] (by decide) rfl) hS _ (lv_sub hl [0, 1, 2, 3, 4] rfl)
      refine lv_iload hx hb dX10_cut_9 (lv_at hl 1 rfl) ?_
      refine zn_if_le (tgt := 73) hx hb (by omega) dX10_cut_11 (by decide) (fun c_2 => ?_) (fun c_2 => ?_)
      · skip
        exact join73  (by first | exact Or.inl (by omega) | exact Or.inr (h3 (by assumption)).2) _ (lv_sub hl [1, 2, 3, 4] rfl)
      · skip
        refine lv_iload hx hb dX10_cut_14 (lv_at hl 0 rfl) ?_
        refine zb_if_eq (tgt := 73) hx hb dX10_cut_16 (by decide) (fun hmo => ?_) (fun hmo => ?_)
        · skip
          exact join73  (by first | exact Or.inl (by omega) | exact Or.inr (h3 (by assumption)).2) _ (lv_sub hl [1, 2, 3, 4] rfl)
        · skip
          have hfk := hcs.1 (k - 1) (by omega)
          have hf3 : 0 ≤ OV (k - 1) ∧ OV (k - 1) ≤ UN (k - 1) := hfk.1
          have hf4 : 0 < UN (k - 1) ∧ UN (k - 1) < 4611686018427387904 := hfk.2
          refine lv_lload_n hx hb dX10_cut_19 rfl (lv_at hl 3 rfl) ?_
          refine lv_lload_n hx hb dX10_cut_20 rfl (lv_at hl 4 rfl) ?_
          refine lv_aload_n hx hb dX10_cut_21 rfl (lv_at hl 2 rfl) ?_
          refine va_get (D := D) (ci := 9) (v := .ref ov) (C := RX10) (T := TX10) (N := 21) hx hb hts in_X10 hown hK.1 hP 0 rfl rfl 19 (Nat.le_of_ble_eq_true rfl) (hts _ q988) (fun _ h9 => h9) rfl dX10_cut_22 ?_
          refine lv_iload hx hb dX10_cut_25 (lv_at hl 1 rfl) ?_
          refine lv_iconst (v := nI 1) hx hb dX10_cut_27 (by decide) ?_
          refine zn_isub hx hb (by omega) dX10_cut_28 ?_
          refine zz_laload (f := OV) (i := k - 1) hx hb hK.1 hP 1 1 rfl rfl (by omega) (by decide) dX10_cut_29 ?_
          refine lv_aload_n hx hb dX10_cut_30 rfl (lv_at hl 2 rfl) ?_
          refine va_get (D := D) (ci := 9) (v := .ref un) (C := RX10) (T := TX10) (N := 21) hx hb hts in_X10 hown hK.1 hP 0 rfl rfl 20 (Nat.le_of_ble_eq_true rfl) (hts _ q989) (fun _ h9 => h9) rfl dX10_cut_31 ?_
          refine lv_iload hx hb dX10_cut_34 (lv_at hl 1 rfl) ?_
          refine lv_iconst (v := nI 1) hx hb dX10_cut_36 (by decide) ?_
          refine zn_isub hx hb (by omega) dX10_cut_37 ?_
          refine zz_laload (f := UN) (i := k - 1) hx hb hK.1 hP 2 1 rfl rfl (by omega) (by decide) dX10_cut_38 ?_
          refine zc_roS (v := .int (iZ (cmpF o_ u_ (OV (k - 1)) (UN (k - 1))))) (rest := []) ⟨hx, hb, hml, hown, hts⟩ (metX10_compare lG D dA o_ u_ (OV (k - 1)) (UN (k - 1)) (⟨by omega, by omega⟩) hf2 (⟨by omega, by omega⟩) hf4) (va_cwS 4 hts (lw_S q1190 q1191 q80 q1192) rfl rfl rfl (by decide +kernel) ⟨Nat.le_of_ble_eq_true rfl, Nat.le_of_ble_eq_true rfl⟩) (hP.sub [] rfl) hK rfl hl.1 rfl (Nat.le_of_ble_eq_true rfl) dX10_cut_39 ⟨Nat.zero_le _, Nat.zero_le _⟩ ?_
          refine lv_istore (lv' := [(7, .int (iZ (cmpF o_ u_ (OV (k - 1)) (UN (k - 1))))), (6, .int (bI mo)), (5, .int (nI k)), (0, .ref m0), (1, .long (lZ o_)), (3, .long (lZ u_))]) hx hb dX10_cut_42 hl (by decide) rfl (fun ls hl => ?_)
          refine lv_iload hx hb dX10_cut_44 (lv_at hl 0 rfl) ?_
          refine zz_if_ne (tgt := 50) hx hb (cmpF_I _ _ _ _) dX10_cut_46 (by decide) (fun c_3 => ?_) (fun c_3 => ?_)
          · skip
            refine lv_iload hx hb dX10_cut_50 (lv_at hl 0 rfl) ?_
            refine zz_if_ge (tgt := 59) hx hb (cmpF_I _ _ _ _) dX10_cut_52 (by decide) (fun c_4 => ?_) (fun c_4 => ?_)
            · skip
              refine lv_iconst (v := bI false) hx hb dX10_cut_59 (by decide) ?_
              refine lv_istore (lv' := [(6, .int (bI false)), (7, .int (iZ (cmpF o_ u_ (OV (k - 1)) (UN (k - 1))))), (5, .int (nI k)), (0, .ref m0), (1, .long (lZ o_)), (3, .long (lZ u_))]) hx hb dX10_cut_60 hl (by decide) rfl (fun ls hl => ?_)
              refine lv_iload hx hb dX10_cut_62 (lv_at hl 0 rfl) ?_
              refine zb_if_eq (tgt := 70) hx hb dX10_cut_64 (by decide) (fun c_5 => ?_) (fun c_5 => ?_)
              · skip
                refine lv_goto (tgt := 9) hx hb dX10_cut_70 (by decide) ?_
                exact ih9 k false (by first | assumption | omega) (by first | exact h2 | exact fun i a b => by rcases (show i = k - 1 ∨ k ≤ i by omega) with w | w; rw [w]; exact cmpF_lt.mp (by assumption); exact h2 i w b) (by first | (intro h; cases h; done) | exact fun _ => ⟨by omega, by have := cmpF_gt.mp (show 0 < cmpF o_ u_ (OV (k - 1)) (UN (k - 1)) by omega); exact this⟩) (by rw [hmo, if_pos rfl] at hm9; first | (show (if true = true then (k - 1) + 1 else 0) < n9; rw [if_pos rfl]; omega) | (show (if false = true then k + 1 else 0) < n9; rw [if_neg (by decide)]; omega)) _ _ (hP.sub [0, 1, 2] rfl) (hD.sub [0, 1, 2] (by decide) rfl) hS _ (lv_sub hl [0, 2, 3, 4, 5] rfl)
              · skip
                exfalso; contradiction
            · skip
              refine lv_iconst (v := bI true) hx hb dX10_cut_55 (by decide) ?_
              refine lv_goto (tgt := 60) hx hb dX10_cut_56 (by decide) ?_
              refine lv_istore (lv' := [(6, .int (bI true)), (7, .int (iZ (cmpF o_ u_ (OV (k - 1)) (UN (k - 1))))), (5, .int (nI k)), (0, .ref m0), (1, .long (lZ o_)), (3, .long (lZ u_))]) hx hb dX10_cut_60 hl (by decide) rfl (fun ls hl => ?_)
              refine lv_iload hx hb dX10_cut_62 (lv_at hl 0 rfl) ?_
              refine zb_if_eq (tgt := 70) hx hb dX10_cut_64 (by decide) (fun c_6 => ?_) (fun c_6 => ?_)
              · skip
                exfalso; contradiction
              · skip
                refine lv_iinc (v := nI (k - 1)) (lv' := [(5, .int (nI (k - 1))), (6, .int (bI true)), (7, .int (iZ (cmpF o_ u_ (OV (k - 1)) (UN (k - 1))))), (0, .ref m0), (1, .long (lZ o_)), (3, .long (lZ u_))]) hx hb dX10_cut_67 hl (k := 2) rfl (ii_dec (show 1 ≤ k by omega)) (by decide) rfl (fun ls hl => ?_)
                refine lv_goto (tgt := 9) hx hb dX10_cut_70 (by decide) ?_
                exact ih9 (k - 1) true (by first | assumption | omega) (by first | exact h2 | exact fun i a b => by rcases (show i = k - 1 ∨ k ≤ i by omega) with w | w; rw [w]; exact cmpF_lt.mp (by assumption); exact h2 i w b) (by first | (intro h; cases h; done) | exact fun _ => ⟨by omega, by have := cmpF_gt.mp (show 0 < cmpF o_ u_ (OV (k - 1)) (UN (k - 1)) by omega); exact this⟩) (by rw [hmo, if_pos rfl] at hm9; first | (show (if true = true then (k - 1) + 1 else 0) < n9; rw [if_pos rfl]; omega) | (show (if false = true then k + 1 else 0) < n9; rw [if_neg (by decide)]; omega)) _ _ (hP.sub [0, 1, 2] rfl) (hD.sub [0, 1, 2] (by decide) rfl) hS _ (lv_sub hl [1, 0, 3, 4, 5] rfl)
          · skip
            exact zr_wrV (u := (ct, OV, UN)) rfl (show csInv OV UN ct (S ++ [(o_, u_)]) from cut_same hcs (k := k - 1) (by omega) (by assumption)) (hP.sub [0, 1, 2] rfl) (hD.sub [0, 1, 2] (by decide) rfl) hS hx hb hr hlocks dX10_cut_49
  exact loop9 ((if true then ct + 1 else 0) + 1) ct true (Nat.le_refl _) (fun i h1 h2 => absurd h2 (Nat.not_lt.mpr h1)) (fun h => by cases h) (Nat.lt_succ_self _) _ _ (hP.sub [0, 1, 2] rfl) (hD.sub [0, 1, 2] (by decide) rfl) hS _ (lv_sub hl [0, 1, 2, 3, 4] rfl)
set_option maxHeartbeats 4000000 in
set_option maxRecDepth 100000 in
theorem metX10_cutAt (lG : Launch) (D : va_G) (dA : Nat → ClassId) (m0 : Nat) (thr : Nat) (kn : Nat) (pt : Nat) (pa : Nat) (bg : Nat) (xs_ : Nat) (ys_ : Nat) (sgm : Nat) (fr_ : Nat) (tw : Nat) (wo_ : Nat) (mt : Nat) (ha_ : Nat) (x0 : Int) (y0 : Int) (dx : Int) (dy : Int) (zz : Nat) (ct : Nat) (ov : Nat) (un : Nat) (ZZ : Nat → Int) (XS : Nat → Int) (YS : Nat → Int) (p : Nat) (hXS : ∀ k, cB (XS k)) (hYS : ∀ k, cB (YS k)) (hp1 : p < 4096) : Wr lG yX10_cutAt (ws_ yX10_cutAt cX10_cutAt 2 none) 3 75 D dA [.ref m0, .int (nI p)] [(m0, .inr (9, [.int (nI thr), .ref kn, .ref pt, .ref pa, .ref bg, .ref xs_, .ref ys_, .int (nI sgm), .ref fr_, .ref tw, .ref wo_, .ref mt, .ref ha_, .long (lZ x0), .long (lZ y0), .long (lZ dx), .long (lZ dy), .ref zz, .int (nI ct), .ref ov, .ref un])), (zz, .inl (dA 1, 192, .inr (.inl fun j => lZ (ZZ j)))), (xs_, .inl (dA 0, 4096, .inl fun j => iZ (XS j))), (ys_, .inl (dA 0, 4096, .inl fun j => iZ (YS j)))] 0 0 (fun (u : (Nat → Int)) => let ZZ2 := u; ptOK ZZ2 0 1) (fun (u : (Nat → Int)) => let ZZ2 := u; none) (fun (u : (Nat → Int)) => let ZZ2 := u; [(m0, .inr (9, [.int (nI thr), .ref kn, .ref pt, .ref pa, .ref bg, .ref xs_, .ref ys_, .int (nI sgm), .ref fr_, .ref tw, .ref wo_, .ref mt, .ref ha_, .long (lZ (XS p)), .long (lZ (YS p)), .long (lZ 0), .long (lZ 0), .ref zz, .int (nI ct), .ref ov, .ref un])), (zz, .inl (dA 1, 192, .inr (.inl fun j => lZ (ZZ2 j)))), (xs_, .inl (dA 0, 4096, .inl fun j => iZ (XS j))), (ys_, .inl (dA 0, 4096, .inl fun j => iZ (YS j)))]) := by
  refine Wr.of (by decide) (Nat.le_of_ble_eq_true rfl) ?_
  intro pG eG sG mG bG tG cG ls A hx hb hr hml hown hts hlocks hnm hP hK hD hS hA hl
  have hK1 := hK.1
  have hown : sG.vm.findClass RX10 = some mG.cls := hown
  have hl : lv_has ls 2 [(0, .ref m0), (1, .int (nI p))] := hl
  refine lv_aload_n hx hb dX10_cutAt_0 rfl (lv_at hl 0 rfl) ?_
  refine lv_aload_n hx hb dX10_cutAt_1 rfl (lv_at hl 0 rfl) ?_
  refine va_get (D := D) (ci := 9) (v := .ref xs_) (C := RX10) (T := TX10) (N := 21) hx hb hts in_X10 hown hK.1 hP 0 rfl rfl 5 (Nat.le_of_ble_eq_true rfl) (hts _ q974) (fun _ h9 => h9) rfl dX10_cutAt_2 ?_
  refine lv_iload_n hx hb dX10_cutAt_5 rfl (lv_at hl 1 rfl) ?_
  refine zz_iaload (f := XS) (i := p) hx hb hK.1 hP 2 0 rfl rfl (by omega) (by decide) dX10_cutAt_6 ?_
  refine zz_i2l hx hb (hXS _).i dX10_cutAt_7 ?_
  refine lv_aload_n hx hb dX10_cutAt_8 rfl (lv_at hl 0 rfl) ?_
  refine va_get (D := D) (ci := 9) (v := .ref ys_) (C := RX10) (T := TX10) (N := 21) hx hb hts in_X10 hown hK.1 hP 0 rfl rfl 6 (Nat.le_of_ble_eq_true rfl) (hts _ q975) (fun _ h9 => h9) rfl dX10_cutAt_9 ?_
  refine lv_iload_n hx hb dX10_cutAt_12 rfl (lv_at hl 1 rfl) ?_
  refine zz_iaload (f := YS) (i := p) hx hb hK.1 hP 3 0 rfl rfl (by omega) (by decide) dX10_cutAt_13 ?_
  refine zz_i2l hx hb (hYS _).i dX10_cutAt_14 ?_
  refine zz_lconst hx hb 0 dX10_cutAt_15 rfl ?_
  refine zz_lconst hx hb 0 dX10_cutAt_16 rfl ?_
  refine zc_wrV (rest := []) (wr := [(zz, .inl (dA 1, 192, .inr (.inl fun j => lZ (ZZ j)))), (xs_, .inl (dA 0, 4096, .inl fun j => iZ (XS j))), (ys_, .inl (dA 0, 4096, .inl fun j => iZ (YS j)))]) ⟨hx, hb, hml, hown, hts⟩ (metX10_stand lG D dA m0 thr kn pt pa bg xs_ ys_ sgm fr_ tw wo_ mt ha_ x0 y0 dx dy zz ct ov un (XS p) (YS p) 0 0 ) (cwV 4 hts (lw_V q1088 q1090 qs35 q80 q1091) rfl rfl rfl (by decide +kernel) ⟨Nat.le_of_ble_eq_true rfl, Nat.le_of_ble_eq_true rfl⟩) (va_recv hK.1 hP (ci := 9) (q0 := 0) rfl rfl) hP hK hD hS hA [0] [1, 2, 3] rfl rfl (by decide) (by decide) (by decide) rfl hl.1 rfl (Nat.le_of_ble_eq_true rfl) dX10_cutAt_17 ⟨Nat.zero_le _, Nat.zero_le _⟩ (fun u H locs hp_1 hP hD hS => ?_)
  have hP : va_P D zCl [(zz, .inl (dA 1, 192, .inr (.inl fun j => lZ (ZZ j)))), (xs_, .inl (dA 0, 4096, .inl fun j => iZ (XS j))), (ys_, .inl (dA 0, 4096, .inl fun j => iZ (YS j))), (m0, .inr (9, [.int (nI thr), .ref kn, .ref pt, .ref pa, .ref bg, .ref xs_, .ref ys_, .int (nI sgm), .ref fr_, .ref tw, .ref wo_, .ref mt, .ref ha_, .long (lZ ((XS p))), .long (lZ ((YS p))), .long (lZ 0), .long (lZ 0), .ref zz, .int (nI ct), .ref ov, .ref un]))] H := hP
  have hD : va_D A [(zz, .inl (dA 1, 192, .inr (.inl fun j => lZ (ZZ j)))), (xs_, .inl (dA 0, 4096, .inl fun j => iZ (XS j))), (ys_, .inl (dA 0, 4096, .inl fun j => iZ (YS j))), (m0, .inr (9, [.int (nI thr), .ref kn, .ref pt, .ref pa, .ref bg, .ref xs_, .ref ys_, .int (nI sgm), .ref fr_, .ref tw, .ref wo_, .ref mt, .ref ha_, .long (lZ ((XS p))), .long (lZ ((YS p))), .long (lZ 0), .long (lZ 0), .ref zz, .int (nI ct), .ref ov, .ref un]))] := hD
  show W _ _ _ _ _ _ _ _ _ _ _ _ 0 0 _ (F0 mG 20 ls [])
  refine lv_aload_n hx hb dX10_cutAt_20 rfl (lv_at hl 0 rfl) ?_
  refine zz_lconst hx hb 0 dX10_cutAt_21 rfl ?_
  refine zz_lconst hx hb 1 dX10_cutAt_22 rfl ?_
  refine zc_wrV (rest := []) (wr := [(xs_, .inl (dA 0, 4096, .inl fun j => iZ (XS j))), (ys_, .inl (dA 0, 4096, .inl fun j => iZ (YS j)))]) ⟨hx, hb, hml, hown, hts⟩ (metX10_at lG D dA m0 thr kn pt pa bg xs_ ys_ sgm fr_ tw wo_ mt ha_ ((XS p)) ((YS p)) 0 0 zz ct ov un ZZ 0 1 (⟨by decide, by decide⟩) (⟨by decide, by decide⟩)) (cwV 2 hts (lw_V q1092 q1094 qs36 q80 q1095) rfl rfl rfl (by decide +kernel) ⟨Nat.le_of_ble_eq_true rfl, Nat.le_of_ble_eq_true rfl⟩) (va_recv hK.1 hP (ci := 9) (q0 := 3) rfl rfl) hP hK hD hS hA [3, 0] [1, 2] rfl rfl (by decide) (by decide) (by decide) rfl hl.1 rfl (Nat.le_of_ble_eq_true rfl) dX10_cutAt_23 ⟨Nat.zero_le _, Nat.zero_le _⟩ (fun u H locs hp_3 hP hD hS => ?_)
  obtain ⟨ZZ2_2, rfl⟩ : ∃ z, z = u := ⟨_, rfl⟩
  have hP : va_P D zCl [(xs_, .inl (dA 0, 4096, .inl fun j => iZ (XS j))), (ys_, .inl (dA 0, 4096, .inl fun j => iZ (YS j))), (m0, .inr (9, [.int (nI thr), .ref kn, .ref pt, .ref pa, .ref bg, .ref xs_, .ref ys_, .int (nI sgm), .ref fr_, .ref tw, .ref wo_, .ref mt, .ref ha_, .long (lZ (((XS p)))), .long (lZ (((YS p)))), .long (lZ 0), .long (lZ 0), .ref zz, .int (nI ct), .ref ov, .ref un])), (zz, .inl (dA 1, 192, .inr (.inl fun j => lZ (ZZ2_2 j))))] H := hP
  have hD : va_D A [(xs_, .inl (dA 0, 4096, .inl fun j => iZ (XS j))), (ys_, .inl (dA 0, 4096, .inl fun j => iZ (YS j))), (m0, .inr (9, [.int (nI thr), .ref kn, .ref pt, .ref pa, .ref bg, .ref xs_, .ref ys_, .int (nI sgm), .ref fr_, .ref tw, .ref wo_, .ref mt, .ref ha_, .long (lZ (((XS p)))), .long (lZ (((YS p)))), .long (lZ 0), .long (lZ 0), .ref zz, .int (nI ct), .ref ov, .ref un])), (zz, .inl (dA 1, 192, .inr (.inl fun j => lZ (ZZ2_2 j))))] := hD
  have hp_3 : ptOK ZZ2_2 0 1 := hp_3
  show W _ _ _ _ _ _ _ _ _ _ _ _ 0 0 _ (F0 mG 26 ls [])
  exact zr_wrV (u := (ZZ2_2)) rfl (show ptOK ZZ2_2 0 1 from (by first | assumption | omega)) (hP.sub [2, 3, 0, 1] rfl) (hD.sub [2, 3, 0, 1] (by decide) rfl) hS hx hb hr hlocks dX10_cutAt_26
/-- the fraction of a point on a segment -/
def cpF (fx fy tx ty px py : Int) : Fr := if tx - fx ≠ 0 then (if tx - fx < 0 then (-(px - fx), -(tx - fx)) else (px - fx, tx - fx)) else (if ty - fy < 0 then (-(py - fy), -(ty - fy)) else (py - fy, ty - fy))
section CPF
variable {fx fy tx ty px py : Int}
theorem cpF_1 (h : tx - fx ≠ 0) (g : tx - fx < 0) : cpF fx fy tx ty px py = (-(px - fx), -(tx - fx)) := by unfold cpF; rw [if_pos h, if_pos g]
theorem cpF_2 (h : tx - fx ≠ 0) (g : 0 ≤ tx - fx) : cpF fx fy tx ty px py = (px - fx, tx - fx) := by unfold cpF; rw [if_pos h, if_neg (by omega)]
theorem cpF_3 (h : tx - fx = 0) (g : ty - fy < 0) : cpF fx fy tx ty px py = (-(py - fy), -(ty - fy)) := by unfold cpF; rw [if_neg (by omega), if_pos g]
theorem cpF_4 (h : tx - fx = 0) (g : 0 ≤ ty - fy) : cpF fx fy tx ty px py = (py - fy, ty - fy) := by unfold cpF; rw [if_neg (by omega), if_neg (by omega)]
end CPF
set_option maxHeartbeats 4000000 in
set_option maxRecDepth 100000 in
theorem metX10_cutByPoint (lG : Launch) (D : va_G) (dA : Nat → ClassId) (m0 : Nat) (thr : Nat) (kn : Nat) (pt : Nat) (pa : Nat) (bg : Nat) (xs_ : Nat) (ys_ : Nat) (sgm : Nat) (fr_ : Nat) (tw : Nat) (wo_ : Nat) (mt : Nat) (ha_ : Nat) (x0 : Int) (y0 : Int) (dx : Int) (dy : Int) (zz : Nat) (ct : Nat) (ov : Nat) (un : Nat) (XS : Nat → Int) (YS : Nat → Int) (FM : Nat → Nat) (TM : Nat → Nat) (WO : Nat → Nat) (OV : Nat → Int) (UN : Nat → Int) (S : List Fr) (k : Nat) (p : Nat) (hXS : ∀ k, cB (XS k)) (hYS : ∀ k, cB (YS k)) (hFM : ∀ k, k < sgm → FM k < 4096) (hTM : ∀ k, k < sgm → TM k < 4096) (hsgm : sgm ≤ 4096) (hcs : csInv OV UN ct S) (hct : S.length < 12000) (hk : k < sgm) (hp1 : p < 4096) (hfr : frOK (cpF (XS (FM k)) (YS (FM k)) (XS (TM k)) (YS (TM k)) (XS p) (YS p))) : Wr lG yX10_cutByPoint (ws_ yX10_cutByPoint cX10_cutByPoint 11 none) 2 71 D dA [.ref m0, .int (nI k), .int (nI p)] [(m0, .inr (9, [.int (nI thr), .ref kn, .ref pt, .ref pa, .ref bg, .ref xs_, .ref ys_, .int (nI sgm), .ref fr_, .ref tw, .ref wo_, .ref mt, .ref ha_, .long (lZ x0), .long (lZ y0), .long (lZ dx), .long (lZ dy), .ref zz, .int (nI ct), .ref ov, .ref un])), (xs_, .inl (dA 0, 4096, .inl fun j => iZ (XS j))), (ys_, .inl (dA 0, 4096, .inl fun j => iZ (YS j))), (fr_, .inl (dA 0, 4096, .inl fun j => nI (FM j))), (tw, .inl (dA 0, 4096, .inl fun j => nI (TM j))), (wo_, .inl (dA 0, 4096, .inl fun j => nI (WO j))), (ov, .inl (dA 1, 12400, .inr (.inl fun j => lZ (OV j)))), (un, .inl (dA 1, 12400, .inr (.inl fun j => lZ (UN j))))] 0 0 (fun (u : Nat × (Nat → Int) × (Nat → Int)) => let ct2 := u.1; let OV2 := u.2.1; let UN2 := u.2.2; csInv OV2 UN2 ct2 (S ++ [cpF (XS (FM k)) (YS (FM k)) (XS (TM k)) (YS (TM k)) (XS p) (YS p)])) (fun (u : Nat × (Nat → Int) × (Nat → Int)) => let ct2 := u.1; let OV2 := u.2.1; let UN2 := u.2.2; none) (fun (u : Nat × (Nat → Int) × (Nat → Int)) => let ct2 := u.1; let OV2 := u.2.1; let UN2 := u.2.2; [(m0, .inr (9, [.int (nI thr), .ref kn, .ref pt, .ref pa, .ref bg, .ref xs_, .ref ys_, .int (nI sgm), .ref fr_, .ref tw, .ref wo_, .ref mt, .ref ha_, .long (lZ x0), .long (lZ y0), .long (lZ dx), .long (lZ dy), .ref zz, .int (nI ct2), .ref ov, .ref un])), (xs_, .inl (dA 0, 4096, .inl fun j => iZ (XS j))), (ys_, .inl (dA 0, 4096, .inl fun j => iZ (YS j))), (fr_, .inl (dA 0, 4096, .inl fun j => nI (FM j))), (tw, .inl (dA 0, 4096, .inl fun j => nI (TM j))), (wo_, .inl (dA 0, 4096, .inl fun j => nI (WO j))), (ov, .inl (dA 1, 12400, .inr (.inl fun j => lZ (OV2 j)))), (un, .inl (dA 1, 12400, .inr (.inl fun j => lZ (UN2 j))))]) := by
  refine Wr.of (by decide) (Nat.le_of_ble_eq_true rfl) ?_
  intro pG eG sG mG bG tG cG ls A hx hb hr hml hown hts hlocks hnm hP hK hD hS hA hl
  have hK1 := hK.1
  have hown : sG.vm.findClass RX10 = some mG.cls := hown
  have hl : lv_has ls 11 [(0, .ref m0), (1, .int (nI k)), (2, .int (nI p))] := hl
  have hf := hFM k hk
  have ht := hTM k hk
  obtain ⟨a1_, a2_⟩ := (hXS (TM k)).sub (hXS (FM k))
  obtain ⟨a3_, a4_⟩ := (hYS (TM k)).sub (hYS (FM k))
  refine lv_aload_n hx hb dX10_cutByPoint_0 rfl (lv_at hl 0 rfl) ?_
  refine va_get (D := D) (ci := 9) (v := .ref xs_) (C := RX10) (T := TX10) (N := 21) hx hb hts in_X10 hown hK.1 hP 0 rfl rfl 5 (Nat.le_of_ble_eq_true rfl) (hts _ q974) (fun _ h9 => h9) rfl dX10_cutByPoint_1 ?_
  refine lv_aload_n hx hb dX10_cutByPoint_4 rfl (lv_at hl 0 rfl) ?_
  refine va_get (D := D) (ci := 9) (v := .ref tw) (C := RX10) (T := TX10) (N := 21) hx hb hts in_X10 hown hK.1 hP 0 rfl rfl 9 (Nat.le_of_ble_eq_true rfl) (hts _ q978) (fun _ h9 => h9) rfl dX10_cutByPoint_5 ?_
  refine lv_iload_n hx hb dX10_cutByPoint_8 rfl (lv_at hl 1 rfl) ?_
  refine zn_iaload (f := TM) (i := k) hx hb hK.1 hP 4 0 rfl rfl (by omega) (by decide) dX10_cutByPoint_9 ?_
  refine zz_iaload (f := XS) (i := TM k) hx hb hK.1 hP 1 0 rfl rfl (by omega) (by decide) dX10_cutByPoint_10 ?_
  refine zz_i2l hx hb (hXS _).i dX10_cutByPoint_11 ?_
  refine lv_aload_n hx hb dX10_cutByPoint_12 rfl (lv_at hl 0 rfl) ?_
  refine va_get (D := D) (ci := 9) (v := .ref xs_) (C := RX10) (T := TX10) (N := 21) hx hb hts in_X10 hown hK.1 hP 0 rfl rfl 5 (Nat.le_of_ble_eq_true rfl) (hts _ q974) (fun _ h9 => h9) rfl dX10_cutByPoint_13 ?_
  refine lv_aload_n hx hb dX10_cutByPoint_16 rfl (lv_at hl 0 rfl) ?_
  refine va_get (D := D) (ci := 9) (v := .ref fr_) (C := RX10) (T := TX10) (N := 21) hx hb hts in_X10 hown hK.1 hP 0 rfl rfl 8 (Nat.le_of_ble_eq_true rfl) (hts _ q977) (fun _ h9 => h9) rfl dX10_cutByPoint_17 ?_
  refine lv_iload_n hx hb dX10_cutByPoint_20 rfl (lv_at hl 1 rfl) ?_
  refine zn_iaload (f := FM) (i := k) hx hb hK.1 hP 3 0 rfl rfl (by omega) (by decide) dX10_cutByPoint_21 ?_
  refine zz_iaload (f := XS) (i := FM k) hx hb hK.1 hP 1 0 rfl rfl (by omega) (by decide) dX10_cutByPoint_22 ?_
  refine zz_i2l hx hb (hXS _).i dX10_cutByPoint_23 ?_
  refine zz_lsub hx hb dX10_cutByPoint_24 ?_
  refine lv_lstore_n (lv' := [(3, .long (lZ ((XS (TM k)) - (XS (FM k))))), (0, .ref m0), (1, .int (nI k)), (2, .int (nI p))]) hx hb dX10_cutByPoint_25 rfl hl (by decide) rfl (fun ls hl => ?_)
  refine lv_aload_n hx hb dX10_cutByPoint_26 rfl (lv_at hl 1 rfl) ?_
  refine va_get (D := D) (ci := 9) (v := .ref ys_) (C := RX10) (T := TX10) (N := 21) hx hb hts in_X10 hown hK.1 hP 0 rfl rfl 6 (Nat.le_of_ble_eq_true rfl) (hts _ q975) (fun _ h9 => h9) rfl dX10_cutByPoint_27 ?_
  refine lv_aload_n hx hb dX10_cutByPoint_30 rfl (lv_at hl 1 rfl) ?_
  refine va_get (D := D) (ci := 9) (v := .ref tw) (C := RX10) (T := TX10) (N := 21) hx hb hts in_X10 hown hK.1 hP 0 rfl rfl 9 (Nat.le_of_ble_eq_true rfl) (hts _ q978) (fun _ h9 => h9) rfl dX10_cutByPoint_31 ?_
  refine lv_iload_n hx hb dX10_cutByPoint_34 rfl (lv_at hl 2 rfl) ?_
  refine zn_iaload (f := TM) (i := k) hx hb hK.1 hP 4 0 rfl rfl (by omega) (by decide) dX10_cutByPoint_35 ?_
  refine zz_iaload (f := YS) (i := TM k) hx hb hK.1 hP 2 0 rfl rfl (by omega) (by decide) dX10_cutByPoint_36 ?_
  refine zz_i2l hx hb (hYS _).i dX10_cutByPoint_37 ?_
  refine lv_aload_n hx hb dX10_cutByPoint_38 rfl (lv_at hl 1 rfl) ?_
  refine va_get (D := D) (ci := 9) (v := .ref ys_) (C := RX10) (T := TX10) (N := 21) hx hb hts in_X10 hown hK.1 hP 0 rfl rfl 6 (Nat.le_of_ble_eq_true rfl) (hts _ q975) (fun _ h9 => h9) rfl dX10_cutByPoint_39 ?_
  refine lv_aload_n hx hb dX10_cutByPoint_42 rfl (lv_at hl 1 rfl) ?_
  refine va_get (D := D) (ci := 9) (v := .ref fr_) (C := RX10) (T := TX10) (N := 21) hx hb hts in_X10 hown hK.1 hP 0 rfl rfl 8 (Nat.le_of_ble_eq_true rfl) (hts _ q977) (fun _ h9 => h9) rfl dX10_cutByPoint_43 ?_
  refine lv_iload_n hx hb dX10_cutByPoint_46 rfl (lv_at hl 2 rfl) ?_
  refine zn_iaload (f := FM) (i := k) hx hb hK.1 hP 3 0 rfl rfl (by omega) (by decide) dX10_cutByPoint_47 ?_
  refine zz_iaload (f := YS) (i := FM k) hx hb hK.1 hP 2 0 rfl rfl (by omega) (by decide) dX10_cutByPoint_48 ?_
  refine zz_i2l hx hb (hYS _).i dX10_cutByPoint_49 ?_
  refine zz_lsub hx hb dX10_cutByPoint_50 ?_
  refine lv_lstore (lv' := [(5, .long (lZ ((YS (TM k)) - (YS (FM k))))), (3, .long (lZ ((XS (TM k)) - (XS (FM k))))), (0, .ref m0), (1, .int (nI k)), (2, .int (nI p))]) hx hb dX10_cutByPoint_51 hl (by decide) rfl (fun ls hl => ?_)
  refine lv_lload_n hx hb dX10_cutByPoint_53 rfl (lv_at hl 1 rfl) ?_
  refine zz_lconst hx hb 0 dX10_cutByPoint_54 rfl ?_
  refine zz_lc_eq (tgt := 82) hx hb ⟨by omega, by omega⟩ ⟨by decide, by decide⟩ dX10_cutByPoint_55 dX10_cutByPoint_56 (by decide) (fun c_1 => ?_) (fun c_1 => ?_)
  · skip
    refine lv_aload_n hx hb dX10_cutByPoint_82 rfl (lv_at hl 2 rfl) ?_
    refine va_get (D := D) (ci := 9) (v := .ref ys_) (C := RX10) (T := TX10) (N := 21) hx hb hts in_X10 hown hK.1 hP 0 rfl rfl 6 (Nat.le_of_ble_eq_true rfl) (hts _ q975) (fun _ h9 => h9) rfl dX10_cutByPoint_83 ?_
    refine lv_iload_n hx hb dX10_cutByPoint_86 rfl (lv_at hl 4 rfl) ?_
    refine zz_iaload (f := YS) (i := p) hx hb hK.1 hP 2 0 rfl rfl (by omega) (by decide) dX10_cutByPoint_87 ?_
    refine zz_i2l hx hb (hYS _).i dX10_cutByPoint_88 ?_
    refine lv_aload_n hx hb dX10_cutByPoint_89 rfl (lv_at hl 2 rfl) ?_
    refine va_get (D := D) (ci := 9) (v := .ref ys_) (C := RX10) (T := TX10) (N := 21) hx hb hts in_X10 hown hK.1 hP 0 rfl rfl 6 (Nat.le_of_ble_eq_true rfl) (hts _ q975) (fun _ h9 => h9) rfl dX10_cutByPoint_90 ?_
    refine lv_aload_n hx hb dX10_cutByPoint_93 rfl (lv_at hl 2 rfl) ?_
    refine va_get (D := D) (ci := 9) (v := .ref fr_) (C := RX10) (T := TX10) (N := 21) hx hb hts in_X10 hown hK.1 hP 0 rfl rfl 8 (Nat.le_of_ble_eq_true rfl) (hts _ q977) (fun _ h9 => h9) rfl dX10_cutByPoint_94 ?_
    refine lv_iload_n hx hb dX10_cutByPoint_97 rfl (lv_at hl 3 rfl) ?_
    refine zn_iaload (f := FM) (i := k) hx hb hK.1 hP 3 0 rfl rfl (by omega) (by decide) dX10_cutByPoint_98 ?_
    refine zz_iaload (f := YS) (i := FM k) hx hb hK.1 hP 2 0 rfl rfl (by omega) (by decide) dX10_cutByPoint_99 ?_
    refine zz_i2l hx hb (hYS _).i dX10_cutByPoint_100 ?_
    refine zz_lsub hx hb dX10_cutByPoint_101 ?_
    refine lv_lstore (lv' := [(7, .long (lZ ((YS p) - (YS (FM k))))), (5, .long (lZ ((YS (TM k)) - (YS (FM k))))), (3, .long (lZ ((XS (TM k)) - (XS (FM k))))), (0, .ref m0), (1, .int (nI k)), (2, .int (nI p))]) hx hb dX10_cutByPoint_102 hl (by decide) rfl (fun ls hl => ?_)
    refine lv_lload_n hx hb dX10_cutByPoint_104 rfl (lv_at hl 2 rfl) ?_
    refine zz_lconst hx hb 0 dX10_cutByPoint_105 rfl ?_
    refine zz_lc_eq (tgt := 114) hx hb ⟨by omega, by omega⟩ ⟨by decide, by decide⟩ dX10_cutByPoint_106 dX10_cutByPoint_107 (by decide) (fun c_2 => ?_) (fun c_2 => ?_)
    · skip
      refine lv_lload hx hb dX10_cutByPoint_114 (lv_at hl 1 rfl) ?_
      refine lv_lstore (lv' := [(9, .long (lZ ((YS (TM k)) - (YS (FM k))))), (7, .long (lZ ((YS p) - (YS (FM k))))), (5, .long (lZ ((YS (TM k)) - (YS (FM k))))), (3, .long (lZ ((XS (TM k)) - (XS (FM k))))), (0, .ref m0), (1, .int (nI k)), (2, .int (nI p))]) hx hb dX10_cutByPoint_116 hl (by decide) rfl (fun ls hl => ?_)
      refine lv_aload_n hx hb dX10_cutByPoint_118 rfl (lv_at hl 4 rfl) ?_
      refine lv_lload hx hb dX10_cutByPoint_119 (lv_at hl 0 rfl) ?_
      refine zz_lconst hx hb 0 dX10_cutByPoint_121 rfl ?_
      refine zz_lc_ge (tgt := 132) hx hb ⟨by omega, by omega⟩ ⟨by decide, by decide⟩ dX10_cutByPoint_122 dX10_cutByPoint_123 (by decide) (fun c_3 => ?_) (fun c_3 => ?_)
      · skip
        refine lv_lload hx hb dX10_cutByPoint_132 (lv_at hl 1 rfl) ?_
        refine lv_lload hx hb dX10_cutByPoint_134 (lv_at hl 0 rfl) ?_
        refine zz_lconst hx hb 0 dX10_cutByPoint_136 rfl ?_
        refine zz_lc_ge (tgt := 147) hx hb ⟨by omega, by omega⟩ ⟨by decide, by decide⟩ dX10_cutByPoint_137 dX10_cutByPoint_138 (by decide) (fun c_4 => ?_) (fun c_4 => ?_)
        · skip
          refine lv_lload hx hb dX10_cutByPoint_147 (lv_at hl 0 rfl) ?_
          refine zc_wrV (rest := []) (wr := [(xs_, .inl (dA 0, 4096, .inl fun j => iZ (XS j))), (ys_, .inl (dA 0, 4096, .inl fun j => iZ (YS j))), (fr_, .inl (dA 0, 4096, .inl fun j => nI (FM j))), (tw, .inl (dA 0, 4096, .inl fun j => nI (TM j))), (wo_, .inl (dA 0, 4096, .inl fun j => nI (WO j)))]) ⟨hx, hb, hml, hown, hts⟩ (metX10_cut lG D dA m0 thr kn pt pa bg xs_ ys_ sgm fr_ tw wo_ mt ha_ x0 y0 dx dy zz ct ov un OV UN S ((YS p) - (YS (FM k))) ((YS (TM k)) - (YS (FM k))) (by first | assumption | omega) (by first | assumption | omega) ((by first | (rw [cpF_1 (by assumption) (by assumption)] at hfr; exact hfr) | (rw [cpF_2 (by assumption) (by assumption)] at hfr; exact hfr) | (rw [cpF_3 (by assumption) (by assumption)] at hfr; exact hfr) | (rw [cpF_4 (by assumption) (by assumption)] at hfr; exact hfr)))) (cwV 2 hts (lw_V q1186 q1188 qs58 q80 q1189) rfl rfl rfl (by decide +kernel) ⟨Nat.le_of_ble_eq_true rfl, Nat.le_of_ble_eq_true rfl⟩) (va_recv hK.1 hP (ci := 9) (q0 := 0) rfl rfl) hP hK hD hS hA [0, 6, 7] [1, 2, 3, 4, 5] rfl rfl (by decide) (by decide) (by decide) rfl hl.1 rfl (Nat.le_of_ble_eq_true rfl) dX10_cutByPoint_149 ⟨Nat.zero_le _, Nat.zero_le _⟩ (fun u H locs hk9 hP hD hS => ?_)
          obtain ⟨ct2_5, OV2_6, UN2_7⟩ := u
          have hP : va_P D zCl [(xs_, .inl (dA 0, 4096, .inl fun j => iZ (XS j))), (ys_, .inl (dA 0, 4096, .inl fun j => iZ (YS j))), (fr_, .inl (dA 0, 4096, .inl fun j => nI (FM j))), (tw, .inl (dA 0, 4096, .inl fun j => nI (TM j))), (wo_, .inl (dA 0, 4096, .inl fun j => nI (WO j))), (m0, .inr (9, [.int (nI thr), .ref kn, .ref pt, .ref pa, .ref bg, .ref xs_, .ref ys_, .int (nI sgm), .ref fr_, .ref tw, .ref wo_, .ref mt, .ref ha_, .long (lZ x0), .long (lZ y0), .long (lZ dx), .long (lZ dy), .ref zz, .int (nI ct2_5), .ref ov, .ref un])), (ov, .inl (dA 1, 12400, .inr (.inl fun j => lZ (OV2_6 j)))), (un, .inl (dA 1, 12400, .inr (.inl fun j => lZ (UN2_7 j))))] H := hP
          have hD : va_D A [(xs_, .inl (dA 0, 4096, .inl fun j => iZ (XS j))), (ys_, .inl (dA 0, 4096, .inl fun j => iZ (YS j))), (fr_, .inl (dA 0, 4096, .inl fun j => nI (FM j))), (tw, .inl (dA 0, 4096, .inl fun j => nI (TM j))), (wo_, .inl (dA 0, 4096, .inl fun j => nI (WO j))), (m0, .inr (9, [.int (nI thr), .ref kn, .ref pt, .ref pa, .ref bg, .ref xs_, .ref ys_, .int (nI sgm), .ref fr_, .ref tw, .ref wo_, .ref mt, .ref ha_, .long (lZ x0), .long (lZ y0), .long (lZ dx), .long (lZ dy), .ref zz, .int (nI ct2_5), .ref ov, .ref un])), (ov, .inl (dA 1, 12400, .inr (.inl fun j => lZ (OV2_6 j)))), (un, .inl (dA 1, 12400, .inr (.inl fun j => lZ (UN2_7 j))))] := hD
          have hk9 : csInv OV2_6 UN2_7 ct2_5 (S ++ [(((YS p) - (YS (FM k))), ((YS (TM k)) - (YS (FM k))))]) := hk9
          show W _ _ _ _ _ _ _ _ _ _ _ _ 0 0 _ (F0 mG 152 ls [])
          exact zr_wrV (u := (ct2_5, OV2_6, UN2_7)) rfl (show csInv OV2_6 UN2_7 ct2_5 (S ++ [cpF (XS (FM k)) (YS (FM k)) (XS (TM k)) (YS (TM k)) (XS p) (YS p)]) from (by first | (rw [cpF_1 (by assumption) (by assumption)]; exact hk9) | (rw [cpF_2 (by assumption) (by assumption)]; exact hk9) | (rw [cpF_3 (by assumption) (by assumption)]; exact hk9) | (rw [cpF_4 (by assumption) (by assumption)]; exact hk9))) (hP.sub [5, 0, 1, 2, 3, 4, 6, 7] rfl) (hD.sub [5, 0, 1, 2, 3, 4, 6, 7] (by decide) rfl) hS hx hb hr hlocks dX10_cutByPoint_152
        · skip
          exfalso; omega
      · skip
        refine lv_lload hx hb dX10_cutByPoint_126 (lv_at hl 1 rfl) ?_
        refine zz_lneg hx hb dX10_cutByPoint_128 ?_
        refine lv_goto (tgt := 134) hx hb dX10_cutByPoint_129 (by decide) ?_
        refine lv_lload hx hb dX10_cutByPoint_134 (lv_at hl 0 rfl) ?_
        refine zz_lconst hx hb 0 dX10_cutByPoint_136 rfl ?_
        refine zz_lc_ge (tgt := 147) hx hb ⟨by omega, by omega⟩ ⟨by decide, by decide⟩ dX10_cutByPoint_137 dX10_cutByPoint_138 (by decide) (fun c_8 => ?_) (fun c_8 => ?_)
        · skip
          exfalso; omega
        · skip
          refine lv_lload hx hb dX10_cutByPoint_141 (lv_at hl 0 rfl) ?_
          refine zz_lneg hx hb dX10_cutByPoint_143 ?_
          refine lv_goto (tgt := 149) hx hb dX10_cutByPoint_144 (by decide) ?_
          refine zc_wrV (rest := []) (wr := [(xs_, .inl (dA 0, 4096, .inl fun j => iZ (XS j))), (ys_, .inl (dA 0, 4096, .inl fun j => iZ (YS j))), (fr_, .inl (dA 0, 4096, .inl fun j => nI (FM j))), (tw, .inl (dA 0, 4096, .inl fun j => nI (TM j))), (wo_, .inl (dA 0, 4096, .inl fun j => nI (WO j)))]) ⟨hx, hb, hml, hown, hts⟩ (metX10_cut lG D dA m0 thr kn pt pa bg xs_ ys_ sgm fr_ tw wo_ mt ha_ x0 y0 dx dy zz ct ov un OV UN S (-((YS p) - (YS (FM k)))) (-((YS (TM k)) - (YS (FM k)))) (by first | assumption | omega) (by first | assumption | omega) ((by first | (rw [cpF_1 (by assumption) (by assumption)] at hfr; exact hfr) | (rw [cpF_2 (by assumption) (by assumption)] at hfr; exact hfr) | (rw [cpF_3 (by assumption) (by assumption)] at hfr; exact hfr) | (rw [cpF_4 (by assumption) (by assumption)] at hfr; exact hfr)))) (cwV 2 hts (lw_V q1186 q1188 qs58 q80 q1189) rfl rfl rfl (by decide +kernel) ⟨Nat.le_of_ble_eq_true rfl, Nat.le_of_ble_eq_true rfl⟩) (va_recv hK.1 hP (ci := 9) (q0 := 0) rfl rfl) hP hK hD hS hA [0, 6, 7] [1, 2, 3, 4, 5] rfl rfl (by decide) (by decide) (by decide) rfl hl.1 rfl (Nat.le_of_ble_eq_true rfl) dX10_cutByPoint_149 ⟨Nat.zero_le _, Nat.zero_le _⟩ (fun u H locs hk9 hP hD hS => ?_)
          obtain ⟨ct2_9, OV2_10, UN2_11⟩ := u
          have hP : va_P D zCl [(xs_, .inl (dA 0, 4096, .inl fun j => iZ (XS j))), (ys_, .inl (dA 0, 4096, .inl fun j => iZ (YS j))), (fr_, .inl (dA 0, 4096, .inl fun j => nI (FM j))), (tw, .inl (dA 0, 4096, .inl fun j => nI (TM j))), (wo_, .inl (dA 0, 4096, .inl fun j => nI (WO j))), (m0, .inr (9, [.int (nI thr), .ref kn, .ref pt, .ref pa, .ref bg, .ref xs_, .ref ys_, .int (nI sgm), .ref fr_, .ref tw, .ref wo_, .ref mt, .ref ha_, .long (lZ x0), .long (lZ y0), .long (lZ dx), .long (lZ dy), .ref zz, .int (nI ct2_9), .ref ov, .ref un])), (ov, .inl (dA 1, 12400, .inr (.inl fun j => lZ (OV2_10 j)))), (un, .inl (dA 1, 12400, .inr (.inl fun j => lZ (UN2_11 j))))] H := hP
          have hD : va_D A [(xs_, .inl (dA 0, 4096, .inl fun j => iZ (XS j))), (ys_, .inl (dA 0, 4096, .inl fun j => iZ (YS j))), (fr_, .inl (dA 0, 4096, .inl fun j => nI (FM j))), (tw, .inl (dA 0, 4096, .inl fun j => nI (TM j))), (wo_, .inl (dA 0, 4096, .inl fun j => nI (WO j))), (m0, .inr (9, [.int (nI thr), .ref kn, .ref pt, .ref pa, .ref bg, .ref xs_, .ref ys_, .int (nI sgm), .ref fr_, .ref tw, .ref wo_, .ref mt, .ref ha_, .long (lZ x0), .long (lZ y0), .long (lZ dx), .long (lZ dy), .ref zz, .int (nI ct2_9), .ref ov, .ref un])), (ov, .inl (dA 1, 12400, .inr (.inl fun j => lZ (OV2_10 j)))), (un, .inl (dA 1, 12400, .inr (.inl fun j => lZ (UN2_11 j))))] := hD
          have hk9 : csInv OV2_10 UN2_11 ct2_9 (S ++ [((-((YS p) - (YS (FM k)))), (-((YS (TM k)) - (YS (FM k)))))]) := hk9
          show W _ _ _ _ _ _ _ _ _ _ _ _ 0 0 _ (F0 mG 152 ls [])
          exact zr_wrV (u := (ct2_9, OV2_10, UN2_11)) rfl (show csInv OV2_10 UN2_11 ct2_9 (S ++ [cpF (XS (FM k)) (YS (FM k)) (XS (TM k)) (YS (TM k)) (XS p) (YS p)]) from (by first | (rw [cpF_1 (by assumption) (by assumption)]; exact hk9) | (rw [cpF_2 (by assumption) (by assumption)]; exact hk9) | (rw [cpF_3 (by assumption) (by assumption)]; exact hk9) | (rw [cpF_4 (by assumption) (by assumption)]; exact hk9))) (hP.sub [5, 0, 1, 2, 3, 4, 6, 7] rfl) (hD.sub [5, 0, 1, 2, 3, 4, 6, 7] (by decide) rfl) hS hx hb hr hlocks dX10_cutByPoint_152
    · skip
      exfalso; omega
  · skip
    refine lv_aload_n hx hb dX10_cutByPoint_59 rfl (lv_at hl 2 rfl) ?_
    refine va_get (D := D) (ci := 9) (v := .ref xs_) (C := RX10) (T := TX10) (N := 21) hx hb hts in_X10 hown hK.1 hP 0 rfl rfl 5 (Nat.le_of_ble_eq_true rfl) (hts _ q974) (fun _ h9 => h9) rfl dX10_cutByPoint_60 ?_
    refine lv_iload_n hx hb dX10_cutByPoint_63 rfl (lv_at hl 4 rfl) ?_
    refine zz_iaload (f := XS) (i := p) hx hb hK.1 hP 1 0 rfl rfl (by omega) (by decide) dX10_cutByPoint_64 ?_
    refine zz_i2l hx hb (hXS _).i dX10_cutByPoint_65 ?_
    refine lv_aload_n hx hb dX10_cutByPoint_66 rfl (lv_at hl 2 rfl) ?_
    refine va_get (D := D) (ci := 9) (v := .ref xs_) (C := RX10) (T := TX10) (N := 21) hx hb hts in_X10 hown hK.1 hP 0 rfl rfl 5 (Nat.le_of_ble_eq_true rfl) (hts _ q974) (fun _ h9 => h9) rfl dX10_cutByPoint_67 ?_
    refine lv_aload_n hx hb dX10_cutByPoint_70 rfl (lv_at hl 2 rfl) ?_
    refine va_get (D := D) (ci := 9) (v := .ref fr_) (C := RX10) (T := TX10) (N := 21) hx hb hts in_X10 hown hK.1 hP 0 rfl rfl 8 (Nat.le_of_ble_eq_true rfl) (hts _ q977) (fun _ h9 => h9) rfl dX10_cutByPoint_71 ?_
    refine lv_iload_n hx hb dX10_cutByPoint_74 rfl (lv_at hl 3 rfl) ?_
    refine zn_iaload (f := FM) (i := k) hx hb hK.1 hP 3 0 rfl rfl (by omega) (by decide) dX10_cutByPoint_75 ?_
    refine zz_iaload (f := XS) (i := FM k) hx hb hK.1 hP 1 0 rfl rfl (by omega) (by decide) dX10_cutByPoint_76 ?_
    refine zz_i2l hx hb (hXS _).i dX10_cutByPoint_77 ?_
    refine zz_lsub hx hb dX10_cutByPoint_78 ?_
    refine lv_goto (tgt := 102) hx hb dX10_cutByPoint_79 (by decide) ?_
    refine lv_lstore (lv' := [(7, .long (lZ ((XS p) - (XS (FM k))))), (5, .long (lZ ((YS (TM k)) - (YS (FM k))))), (3, .long (lZ ((XS (TM k)) - (XS (FM k))))), (0, .ref m0), (1, .int (nI k)), (2, .int (nI p))]) hx hb dX10_cutByPoint_102 hl (by decide) rfl (fun ls hl => ?_)
    refine lv_lload_n hx hb dX10_cutByPoint_104 rfl (lv_at hl 2 rfl) ?_
    refine zz_lconst hx hb 0 dX10_cutByPoint_105 rfl ?_
    refine zz_lc_eq (tgt := 114) hx hb ⟨by omega, by omega⟩ ⟨by decide, by decide⟩ dX10_cutByPoint_106 dX10_cutByPoint_107 (by decide) (fun c_12 => ?_) (fun c_12 => ?_)
    · skip
      exfalso; omega
    · skip
      refine lv_lload_n hx hb dX10_cutByPoint_110 rfl (lv_at hl 2 rfl) ?_
      refine lv_goto (tgt := 116) hx hb dX10_cutByPoint_111 (by decide) ?_
      refine lv_lstore (lv' := [(9, .long (lZ ((XS (TM k)) - (XS (FM k))))), (7, .long (lZ ((XS p) - (XS (FM k))))), (5, .long (lZ ((YS (TM k)) - (YS (FM k))))), (3, .long (lZ ((XS (TM k)) - (XS (FM k))))), (0, .ref m0), (1, .int (nI k)), (2, .int (nI p))]) hx hb dX10_cutByPoint_116 hl (by decide) rfl (fun ls hl => ?_)
      refine lv_aload_n hx hb dX10_cutByPoint_118 rfl (lv_at hl 4 rfl) ?_
      refine lv_lload hx hb dX10_cutByPoint_119 (lv_at hl 0 rfl) ?_
      refine zz_lconst hx hb 0 dX10_cutByPoint_121 rfl ?_
      refine zz_lc_ge (tgt := 132) hx hb ⟨by omega, by omega⟩ ⟨by decide, by decide⟩ dX10_cutByPoint_122 dX10_cutByPoint_123 (by decide) (fun c_13 => ?_) (fun c_13 => ?_)
      · skip
        refine lv_lload hx hb dX10_cutByPoint_132 (lv_at hl 1 rfl) ?_
        refine lv_lload hx hb dX10_cutByPoint_134 (lv_at hl 0 rfl) ?_
        refine zz_lconst hx hb 0 dX10_cutByPoint_136 rfl ?_
        refine zz_lc_ge (tgt := 147) hx hb ⟨by omega, by omega⟩ ⟨by decide, by decide⟩ dX10_cutByPoint_137 dX10_cutByPoint_138 (by decide) (fun c_14 => ?_) (fun c_14 => ?_)
        · skip
          refine lv_lload hx hb dX10_cutByPoint_147 (lv_at hl 0 rfl) ?_
          refine zc_wrV (rest := []) (wr := [(xs_, .inl (dA 0, 4096, .inl fun j => iZ (XS j))), (ys_, .inl (dA 0, 4096, .inl fun j => iZ (YS j))), (fr_, .inl (dA 0, 4096, .inl fun j => nI (FM j))), (tw, .inl (dA 0, 4096, .inl fun j => nI (TM j))), (wo_, .inl (dA 0, 4096, .inl fun j => nI (WO j)))]) ⟨hx, hb, hml, hown, hts⟩ (metX10_cut lG D dA m0 thr kn pt pa bg xs_ ys_ sgm fr_ tw wo_ mt ha_ x0 y0 dx dy zz ct ov un OV UN S ((XS p) - (XS (FM k))) ((XS (TM k)) - (XS (FM k))) (by first | assumption | omega) (by first | assumption | omega) ((by first | (rw [cpF_1 (by assumption) (by assumption)] at hfr; exact hfr) | (rw [cpF_2 (by assumption) (by assumption)] at hfr; exact hfr) | (rw [cpF_3 (by assumption) (by assumption)] at hfr; exact hfr) | (rw [cpF_4 (by assumption) (by assumption)] at hfr; exact hfr)))) (cwV 2 hts (lw_V q1186 q1188 qs58 q80 q1189) rfl rfl rfl (by decide +kernel) ⟨Nat.le_of_ble_eq_true rfl, Nat.le_of_ble_eq_true rfl⟩) (va_recv hK.1 hP (ci := 9) (q0 := 0) rfl rfl) hP hK hD hS hA [0, 6, 7] [1, 2, 3, 4, 5] rfl rfl (by decide) (by decide) (by decide) rfl hl.1 rfl (Nat.le_of_ble_eq_true rfl) dX10_cutByPoint_149 ⟨Nat.zero_le _, Nat.zero_le _⟩ (fun u H locs hk9 hP hD hS => ?_)
          obtain ⟨ct2_15, OV2_16, UN2_17⟩ := u
          have hP : va_P D zCl [(xs_, .inl (dA 0, 4096, .inl fun j => iZ (XS j))), (ys_, .inl (dA 0, 4096, .inl fun j => iZ (YS j))), (fr_, .inl (dA 0, 4096, .inl fun j => nI (FM j))), (tw, .inl (dA 0, 4096, .inl fun j => nI (TM j))), (wo_, .inl (dA 0, 4096, .inl fun j => nI (WO j))), (m0, .inr (9, [.int (nI thr), .ref kn, .ref pt, .ref pa, .ref bg, .ref xs_, .ref ys_, .int (nI sgm), .ref fr_, .ref tw, .ref wo_, .ref mt, .ref ha_, .long (lZ x0), .long (lZ y0), .long (lZ dx), .long (lZ dy), .ref zz, .int (nI ct2_15), .ref ov, .ref un])), (ov, .inl (dA 1, 12400, .inr (.inl fun j => lZ (OV2_16 j)))), (un, .inl (dA 1, 12400, .inr (.inl fun j => lZ (UN2_17 j))))] H := hP
          have hD : va_D A [(xs_, .inl (dA 0, 4096, .inl fun j => iZ (XS j))), (ys_, .inl (dA 0, 4096, .inl fun j => iZ (YS j))), (fr_, .inl (dA 0, 4096, .inl fun j => nI (FM j))), (tw, .inl (dA 0, 4096, .inl fun j => nI (TM j))), (wo_, .inl (dA 0, 4096, .inl fun j => nI (WO j))), (m0, .inr (9, [.int (nI thr), .ref kn, .ref pt, .ref pa, .ref bg, .ref xs_, .ref ys_, .int (nI sgm), .ref fr_, .ref tw, .ref wo_, .ref mt, .ref ha_, .long (lZ x0), .long (lZ y0), .long (lZ dx), .long (lZ dy), .ref zz, .int (nI ct2_15), .ref ov, .ref un])), (ov, .inl (dA 1, 12400, .inr (.inl fun j => lZ (OV2_16 j)))), (un, .inl (dA 1, 12400, .inr (.inl fun j => lZ (UN2_17 j))))] := hD
          have hk9 : csInv OV2_16 UN2_17 ct2_15 (S ++ [(((XS p) - (XS (FM k))), ((XS (TM k)) - (XS (FM k))))]) := hk9
          show W _ _ _ _ _ _ _ _ _ _ _ _ 0 0 _ (F0 mG 152 ls [])
          exact zr_wrV (u := (ct2_15, OV2_16, UN2_17)) rfl (show csInv OV2_16 UN2_17 ct2_15 (S ++ [cpF (XS (FM k)) (YS (FM k)) (XS (TM k)) (YS (TM k)) (XS p) (YS p)]) from (by first | (rw [cpF_1 (by assumption) (by assumption)]; exact hk9) | (rw [cpF_2 (by assumption) (by assumption)]; exact hk9) | (rw [cpF_3 (by assumption) (by assumption)]; exact hk9) | (rw [cpF_4 (by assumption) (by assumption)]; exact hk9))) (hP.sub [5, 0, 1, 2, 3, 4, 6, 7] rfl) (hD.sub [5, 0, 1, 2, 3, 4, 6, 7] (by decide) rfl) hS hx hb hr hlocks dX10_cutByPoint_152
        · skip
          exfalso; omega
      · skip
        refine lv_lload hx hb dX10_cutByPoint_126 (lv_at hl 1 rfl) ?_
        refine zz_lneg hx hb dX10_cutByPoint_128 ?_
        refine lv_goto (tgt := 134) hx hb dX10_cutByPoint_129 (by decide) ?_
        refine lv_lload hx hb dX10_cutByPoint_134 (lv_at hl 0 rfl) ?_
        refine zz_lconst hx hb 0 dX10_cutByPoint_136 rfl ?_
        refine zz_lc_ge (tgt := 147) hx hb ⟨by omega, by omega⟩ ⟨by decide, by decide⟩ dX10_cutByPoint_137 dX10_cutByPoint_138 (by decide) (fun c_18 => ?_) (fun c_18 => ?_)
        · skip
          exfalso; omega
        · skip
          refine lv_lload hx hb dX10_cutByPoint_141 (lv_at hl 0 rfl) ?_
          refine zz_lneg hx hb dX10_cutByPoint_143 ?_
          refine lv_goto (tgt := 149) hx hb dX10_cutByPoint_144 (by decide) ?_
          refine zc_wrV (rest := []) (wr := [(xs_, .inl (dA 0, 4096, .inl fun j => iZ (XS j))), (ys_, .inl (dA 0, 4096, .inl fun j => iZ (YS j))), (fr_, .inl (dA 0, 4096, .inl fun j => nI (FM j))), (tw, .inl (dA 0, 4096, .inl fun j => nI (TM j))), (wo_, .inl (dA 0, 4096, .inl fun j => nI (WO j)))]) ⟨hx, hb, hml, hown, hts⟩ (metX10_cut lG D dA m0 thr kn pt pa bg xs_ ys_ sgm fr_ tw wo_ mt ha_ x0 y0 dx dy zz ct ov un OV UN S (-((XS p) - (XS (FM k)))) (-((XS (TM k)) - (XS (FM k)))) (by first | assumption | omega) (by first | assumption | omega) ((by first | (rw [cpF_1 (by assumption) (by assumption)] at hfr; exact hfr) | (rw [cpF_2 (by assumption) (by assumption)] at hfr; exact hfr) | (rw [cpF_3 (by assumption) (by assumption)] at hfr; exact hfr) | (rw [cpF_4 (by assumption) (by assumption)] at hfr; exact hfr)))) (cwV 2 hts (lw_V q1186 q1188 qs58 q80 q1189) rfl rfl rfl (by decide +kernel) ⟨Nat.le_of_ble_eq_true rfl, Nat.le_of_ble_eq_true rfl⟩) (va_recv hK.1 hP (ci := 9) (q0 := 0) rfl rfl) hP hK hD hS hA [0, 6, 7] [1, 2, 3, 4, 5] rfl rfl (by decide) (by decide) (by decide) rfl hl.1 rfl (Nat.le_of_ble_eq_true rfl) dX10_cutByPoint_149 ⟨Nat.zero_le _, Nat.zero_le _⟩ (fun u H locs hk9 hP hD hS => ?_)
          obtain ⟨ct2_19, OV2_20, UN2_21⟩ := u
          have hP : va_P D zCl [(xs_, .inl (dA 0, 4096, .inl fun j => iZ (XS j))), (ys_, .inl (dA 0, 4096, .inl fun j => iZ (YS j))), (fr_, .inl (dA 0, 4096, .inl fun j => nI (FM j))), (tw, .inl (dA 0, 4096, .inl fun j => nI (TM j))), (wo_, .inl (dA 0, 4096, .inl fun j => nI (WO j))), (m0, .inr (9, [.int (nI thr), .ref kn, .ref pt, .ref pa, .ref bg, .ref xs_, .ref ys_, .int (nI sgm), .ref fr_, .ref tw, .ref wo_, .ref mt, .ref ha_, .long (lZ x0), .long (lZ y0), .long (lZ dx), .long (lZ dy), .ref zz, .int (nI ct2_19), .ref ov, .ref un])), (ov, .inl (dA 1, 12400, .inr (.inl fun j => lZ (OV2_20 j)))), (un, .inl (dA 1, 12400, .inr (.inl fun j => lZ (UN2_21 j))))] H := hP
          have hD : va_D A [(xs_, .inl (dA 0, 4096, .inl fun j => iZ (XS j))), (ys_, .inl (dA 0, 4096, .inl fun j => iZ (YS j))), (fr_, .inl (dA 0, 4096, .inl fun j => nI (FM j))), (tw, .inl (dA 0, 4096, .inl fun j => nI (TM j))), (wo_, .inl (dA 0, 4096, .inl fun j => nI (WO j))), (m0, .inr (9, [.int (nI thr), .ref kn, .ref pt, .ref pa, .ref bg, .ref xs_, .ref ys_, .int (nI sgm), .ref fr_, .ref tw, .ref wo_, .ref mt, .ref ha_, .long (lZ x0), .long (lZ y0), .long (lZ dx), .long (lZ dy), .ref zz, .int (nI ct2_19), .ref ov, .ref un])), (ov, .inl (dA 1, 12400, .inr (.inl fun j => lZ (OV2_20 j)))), (un, .inl (dA 1, 12400, .inr (.inl fun j => lZ (UN2_21 j))))] := hD
          have hk9 : csInv OV2_20 UN2_21 ct2_19 (S ++ [((-((XS p) - (XS (FM k)))), (-((XS (TM k)) - (XS (FM k)))))]) := hk9
          show W _ _ _ _ _ _ _ _ _ _ _ _ 0 0 _ (F0 mG 152 ls [])
          exact zr_wrV (u := (ct2_19, OV2_20, UN2_21)) rfl (show csInv OV2_20 UN2_21 ct2_19 (S ++ [cpF (XS (FM k)) (YS (FM k)) (XS (TM k)) (YS (TM k)) (XS p) (YS p)]) from (by first | (rw [cpF_1 (by assumption) (by assumption)]; exact hk9) | (rw [cpF_2 (by assumption) (by assumption)]; exact hk9) | (rw [cpF_3 (by assumption) (by assumption)]; exact hk9) | (rw [cpF_4 (by assumption) (by assumption)]; exact hk9))) (hP.sub [5, 0, 1, 2, 3, 4, 6, 7] rfl) (hD.sub [5, 0, 1, 2, 3, 4, 6, 7] (by decide) rfl) hS hx hb hr hlocks dX10_cutByPoint_152
/-- a proper crossing with another segment, as a fraction -/
def csF (ax ay bx by_ gx gy : Int) : List Fr :=
  if ax * by_ - ay * bx < 0 then (if 0 < -(gx * by_ - gy * bx) ∧ -(gx * by_ - gy * bx) < -(ax * by_ - ay * bx) ∧ 0 < -(gx * ay - gy * ax) ∧ -(gx * ay - gy * ax) < -(ax * by_ - ay * bx) then [(-(gx * by_ - gy * bx), -(ax * by_ - ay * bx))] else [])
  else (if 0 < gx * by_ - gy * bx ∧ gx * by_ - gy * bx < ax * by_ - ay * bx ∧ 0 < gx * ay - gy * ax ∧ gx * ay - gy * ax < ax * by_ - ay * bx then [(gx * by_ - gy * bx, ax * by_ - ay * bx)] else [])
theorem csF_len {ax ay bx by_ gx gy : Int} : (csF ax ay bx by_ gx gy).length ≤ 1 := by unfold csF; split <;> split <;> simp
set_option maxHeartbeats 4000000 in
set_option maxRecDepth 100000 in
theorem metX10_cutBySegment (lG : Launch) (D : va_G) (dA : Nat → ClassId) (m0 : Nat) (thr : Nat) (kn : Nat) (pt : Nat) (pa : Nat) (bg : Nat) (xs_ : Nat) (ys_ : Nat) (sgm : Nat) (fr_ : Nat) (tw : Nat) (wo_ : Nat) (mt : Nat) (ha_ : Nat) (x0 : Int) (y0 : Int) (dx : Int) (dy : Int) (zz : Nat) (ct : Nat) (ov : Nat) (un : Nat) (XS : Nat → Int) (YS : Nat → Int) (FM : Nat → Nat) (TM : Nat → Nat) (WO : Nat → Nat) (OV : Nat → Int) (UN : Nat → Int) (S : List Fr) (k : Nat) (t_ : Nat) (hXS : ∀ k, cB (XS k)) (hYS : ∀ k, cB (YS k)) (hFM : ∀ k, k < sgm → FM k < 4096) (hTM : ∀ k, k < sgm → TM k < 4096) (hsgm : sgm ≤ 4096) (hcs : csInv OV UN ct S) (hct : S.length < 12000) (hk : k < sgm) (ht0 : t_ < sgm) : Wr lG yX10_cutBySegment (ws_ yX10_cutBySegment cX10_cutBySegment 21 none) 2 71 D dA [.ref m0, .int (nI k), .int (nI t_)] [(m0, .inr (9, [.int (nI thr), .ref kn, .ref pt, .ref pa, .ref bg, .ref xs_, .ref ys_, .int (nI sgm), .ref fr_, .ref tw, .ref wo_, .ref mt, .ref ha_, .long (lZ x0), .long (lZ y0), .long (lZ dx), .long (lZ dy), .ref zz, .int (nI ct), .ref ov, .ref un])), (xs_, .inl (dA 0, 4096, .inl fun j => iZ (XS j))), (ys_, .inl (dA 0, 4096, .inl fun j => iZ (YS j))), (fr_, .inl (dA 0, 4096, .inl fun j => nI (FM j))), (tw, .inl (dA 0, 4096, .inl fun j => nI (TM j))), (wo_, .inl (dA 0, 4096, .inl fun j => nI (WO j))), (ov, .inl (dA 1, 12400, .inr (.inl fun j => lZ (OV j)))), (un, .inl (dA 1, 12400, .inr (.inl fun j => lZ (UN j))))] 0 0 (fun (u : Nat × (Nat → Int) × (Nat → Int)) => let ct2 := u.1; let OV2 := u.2.1; let UN2 := u.2.2; csInv OV2 UN2 ct2 (S ++ csF (XS (TM k) - XS (FM k)) (YS (TM k) - YS (FM k)) (XS (TM t_) - XS (FM t_)) (YS (TM t_) - YS (FM t_)) (XS (FM t_) - XS (FM k)) (YS (FM t_) - YS (FM k)))) (fun (u : Nat × (Nat → Int) × (Nat → Int)) => let ct2 := u.1; let OV2 := u.2.1; let UN2 := u.2.2; none) (fun (u : Nat × (Nat → Int) × (Nat → Int)) => let ct2 := u.1; let OV2 := u.2.1; let UN2 := u.2.2; [(m0, .inr (9, [.int (nI thr), .ref kn, .ref pt, .ref pa, .ref bg, .ref xs_, .ref ys_, .int (nI sgm), .ref fr_, .ref tw, .ref wo_, .ref mt, .ref ha_, .long (lZ x0), .long (lZ y0), .long (lZ dx), .long (lZ dy), .ref zz, .int (nI ct2), .ref ov, .ref un])), (xs_, .inl (dA 0, 4096, .inl fun j => iZ (XS j))), (ys_, .inl (dA 0, 4096, .inl fun j => iZ (YS j))), (fr_, .inl (dA 0, 4096, .inl fun j => nI (FM j))), (tw, .inl (dA 0, 4096, .inl fun j => nI (TM j))), (wo_, .inl (dA 0, 4096, .inl fun j => nI (WO j))), (ov, .inl (dA 1, 12400, .inr (.inl fun j => lZ (OV2 j)))), (un, .inl (dA 1, 12400, .inr (.inl fun j => lZ (UN2 j))))]) := by
  refine Wr.of (by decide) (Nat.le_of_ble_eq_true rfl) ?_
  intro pG eG sG mG bG tG cG ls A hx hb hr hml hown hts hlocks hnm hP hK hD hS hA hl
  have hK1 := hK.1
  have hown : sG.vm.findClass RX10 = some mG.cls := hown
  have hl : lv_has ls 21 [(0, .ref m0), (1, .int (nI k)), (2, .int (nI t_))] := hl
  have hf := hFM k hk
  have ht := hTM k hk
  have hf_ := hFM t_ ht0
  have ht_ := hTM t_ ht0
  obtain ⟨a1_, a2_⟩ := dB.cross ((hXS (TM k)).sub (hXS (FM k))) ((hYS (TM t_)).sub (hYS (FM t_))) ((hYS (TM k)).sub (hYS (FM k))) ((hXS (TM t_)).sub (hXS (FM t_)))
  obtain ⟨a3_, a4_⟩ := dB.cross ((hXS (FM t_)).sub (hXS (FM k))) ((hYS (TM t_)).sub (hYS (FM t_))) ((hYS (FM t_)).sub (hYS (FM k))) ((hXS (TM t_)).sub (hXS (FM t_)))
  obtain ⟨a5_, a6_⟩ := dB.cross ((hXS (FM t_)).sub (hXS (FM k))) ((hYS (TM k)).sub (hYS (FM k))) ((hYS (FM t_)).sub (hYS (FM k))) ((hXS (TM k)).sub (hXS (FM k)))
  refine lv_aload_n hx hb dX10_cutBySegment_0 rfl (lv_at hl 0 rfl) ?_
  refine va_get (D := D) (ci := 9) (v := .ref xs_) (C := RX10) (T := TX10) (N := 21) hx hb hts in_X10 hown hK.1 hP 0 rfl rfl 5 (Nat.le_of_ble_eq_true rfl) (hts _ q974) (fun _ h9 => h9) rfl dX10_cutBySegment_1 ?_
  refine lv_aload_n hx hb dX10_cutBySegment_4 rfl (lv_at hl 0 rfl) ?_
  refine va_get (D := D) (ci := 9) (v := .ref tw) (C := RX10) (T := TX10) (N := 21) hx hb hts in_X10 hown hK.1 hP 0 rfl rfl 9 (Nat.le_of_ble_eq_true rfl) (hts _ q978) (fun _ h9 => h9) rfl dX10_cutBySegment_5 ?_
  refine lv_iload_n hx hb dX10_cutBySegment_8 rfl (lv_at hl 1 rfl) ?_
  refine zn_iaload (f := TM) (i := k) hx hb hK.1 hP 4 0 rfl rfl (by omega) (by decide) dX10_cutBySegment_9 ?_
  refine zz_iaload (f := XS) (i := TM k) hx hb hK.1 hP 1 0 rfl rfl (by omega) (by decide) dX10_cutBySegment_10 ?_
  refine zz_i2l hx hb (hXS _).i dX10_cutBySegment_11 ?_
  refine lv_aload_n hx hb dX10_cutBySegment_12 rfl (lv_at hl 0 rfl) ?_
  refine va_get (D := D) (ci := 9) (v := .ref xs_) (C := RX10) (T := TX10) (N := 21) hx hb hts in_X10 hown hK.1 hP 0 rfl rfl 5 (Nat.le_of_ble_eq_true rfl) (hts _ q974) (fun _ h9 => h9) rfl dX10_cutBySegment_13 ?_
  refine lv_aload_n hx hb dX10_cutBySegment_16 rfl (lv_at hl 0 rfl) ?_
  refine va_get (D := D) (ci := 9) (v := .ref fr_) (C := RX10) (T := TX10) (N := 21) hx hb hts in_X10 hown hK.1 hP 0 rfl rfl 8 (Nat.le_of_ble_eq_true rfl) (hts _ q977) (fun _ h9 => h9) rfl dX10_cutBySegment_17 ?_
  refine lv_iload_n hx hb dX10_cutBySegment_20 rfl (lv_at hl 1 rfl) ?_
  refine zn_iaload (f := FM) (i := k) hx hb hK.1 hP 3 0 rfl rfl (by omega) (by decide) dX10_cutBySegment_21 ?_
  refine zz_iaload (f := XS) (i := FM k) hx hb hK.1 hP 1 0 rfl rfl (by omega) (by decide) dX10_cutBySegment_22 ?_
  refine zz_i2l hx hb (hXS _).i dX10_cutBySegment_23 ?_
  refine zz_lsub hx hb dX10_cutBySegment_24 ?_
  refine lv_lstore_n (lv' := [(3, .long (lZ ((XS (TM k)) - (XS (FM k))))), (0, .ref m0), (1, .int (nI k)), (2, .int (nI t_))]) hx hb dX10_cutBySegment_25 rfl hl (by decide) rfl (fun ls hl => ?_)
  refine lv_aload_n hx hb dX10_cutBySegment_26 rfl (lv_at hl 1 rfl) ?_
  refine va_get (D := D) (ci := 9) (v := .ref ys_) (C := RX10) (T := TX10) (N := 21) hx hb hts in_X10 hown hK.1 hP 0 rfl rfl 6 (Nat.le_of_ble_eq_true rfl) (hts _ q975) (fun _ h9 => h9) rfl dX10_cutBySegment_27 ?_
  refine lv_aload_n hx hb dX10_cutBySegment_30 rfl (lv_at hl 1 rfl) ?_
  refine va_get (D := D) (ci := 9) (v := .ref tw) (C := RX10) (T := TX10) (N := 21) hx hb hts in_X10 hown hK.1 hP 0 rfl rfl 9 (Nat.le_of_ble_eq_true rfl) (hts _ q978) (fun _ h9 => h9) rfl dX10_cutBySegment_31 ?_
  refine lv_iload_n hx hb dX10_cutBySegment_34 rfl (lv_at hl 2 rfl) ?_
  refine zn_iaload (f := TM) (i := k) hx hb hK.1 hP 4 0 rfl rfl (by omega) (by decide) dX10_cutBySegment_35 ?_
  refine zz_iaload (f := YS) (i := TM k) hx hb hK.1 hP 2 0 rfl rfl (by omega) (by decide) dX10_cutBySegment_36 ?_
  refine zz_i2l hx hb (hYS _).i dX10_cutBySegment_37 ?_
  refine lv_aload_n hx hb dX10_cutBySegment_38 rfl (lv_at hl 1 rfl) ?_
  refine va_get (D := D) (ci := 9) (v := .ref ys_) (C := RX10) (T := TX10) (N := 21) hx hb hts in_X10 hown hK.1 hP 0 rfl rfl 6 (Nat.le_of_ble_eq_true rfl) (hts _ q975) (fun _ h9 => h9) rfl dX10_cutBySegment_39 ?_
  refine lv_aload_n hx hb dX10_cutBySegment_42 rfl (lv_at hl 1 rfl) ?_
  refine va_get (D := D) (ci := 9) (v := .ref fr_) (C := RX10) (T := TX10) (N := 21) hx hb hts in_X10 hown hK.1 hP 0 rfl rfl 8 (Nat.le_of_ble_eq_true rfl) (hts _ q977) (fun _ h9 => h9) rfl dX10_cutBySegment_43 ?_
  refine lv_iload_n hx hb dX10_cutBySegment_46 rfl (lv_at hl 2 rfl) ?_
  refine zn_iaload (f := FM) (i := k) hx hb hK.1 hP 3 0 rfl rfl (by omega) (by decide) dX10_cutBySegment_47 ?_
  refine zz_iaload (f := YS) (i := FM k) hx hb hK.1 hP 2 0 rfl rfl (by omega) (by decide) dX10_cutBySegment_48 ?_
  refine zz_i2l hx hb (hYS _).i dX10_cutBySegment_49 ?_
  refine zz_lsub hx hb dX10_cutBySegment_50 ?_
  refine lv_lstore (lv' := [(5, .long (lZ ((YS (TM k)) - (YS (FM k))))), (3, .long (lZ ((XS (TM k)) - (XS (FM k))))), (0, .ref m0), (1, .int (nI k)), (2, .int (nI t_))]) hx hb dX10_cutBySegment_51 hl (by decide) rfl (fun ls hl => ?_)
  refine lv_aload_n hx hb dX10_cutBySegment_53 rfl (lv_at hl 2 rfl) ?_
  refine va_get (D := D) (ci := 9) (v := .ref xs_) (C := RX10) (T := TX10) (N := 21) hx hb hts in_X10 hown hK.1 hP 0 rfl rfl 5 (Nat.le_of_ble_eq_true rfl) (hts _ q974) (fun _ h9 => h9) rfl dX10_cutBySegment_54 ?_
  refine lv_aload_n hx hb dX10_cutBySegment_57 rfl (lv_at hl 2 rfl) ?_
  refine va_get (D := D) (ci := 9) (v := .ref tw) (C := RX10) (T := TX10) (N := 21) hx hb hts in_X10 hown hK.1 hP 0 rfl rfl 9 (Nat.le_of_ble_eq_true rfl) (hts _ q978) (fun _ h9 => h9) rfl dX10_cutBySegment_58 ?_
  refine lv_iload_n hx hb dX10_cutBySegment_61 rfl (lv_at hl 4 rfl) ?_
  refine zn_iaload (f := TM) (i := t_) hx hb hK.1 hP 4 0 rfl rfl (by omega) (by decide) dX10_cutBySegment_62 ?_
  refine zz_iaload (f := XS) (i := TM t_) hx hb hK.1 hP 1 0 rfl rfl (by omega) (by decide) dX10_cutBySegment_63 ?_
  refine zz_i2l hx hb (hXS _).i dX10_cutBySegment_64 ?_
  refine lv_aload_n hx hb dX10_cutBySegment_65 rfl (lv_at hl 2 rfl) ?_
  refine va_get (D := D) (ci := 9) (v := .ref xs_) (C := RX10) (T := TX10) (N := 21) hx hb hts in_X10 hown hK.1 hP 0 rfl rfl 5 (Nat.le_of_ble_eq_true rfl) (hts _ q974) (fun _ h9 => h9) rfl dX10_cutBySegment_66 ?_
  refine lv_aload_n hx hb dX10_cutBySegment_69 rfl (lv_at hl 2 rfl) ?_
  refine va_get (D := D) (ci := 9) (v := .ref fr_) (C := RX10) (T := TX10) (N := 21) hx hb hts in_X10 hown hK.1 hP 0 rfl rfl 8 (Nat.le_of_ble_eq_true rfl) (hts _ q977) (fun _ h9 => h9) rfl dX10_cutBySegment_70 ?_
  refine lv_iload_n hx hb dX10_cutBySegment_73 rfl (lv_at hl 4 rfl) ?_
  refine zn_iaload (f := FM) (i := t_) hx hb hK.1 hP 3 0 rfl rfl (by omega) (by decide) dX10_cutBySegment_74 ?_
  refine zz_iaload (f := XS) (i := FM t_) hx hb hK.1 hP 1 0 rfl rfl (by omega) (by decide) dX10_cutBySegment_75 ?_
  refine zz_i2l hx hb (hXS _).i dX10_cutBySegment_76 ?_
  refine zz_lsub hx hb dX10_cutBySegment_77 ?_
  refine lv_lstore (lv' := [(7, .long (lZ ((XS (TM t_)) - (XS (FM t_))))), (5, .long (lZ ((YS (TM k)) - (YS (FM k))))), (3, .long (lZ ((XS (TM k)) - (XS (FM k))))), (0, .ref m0), (1, .int (nI k)), (2, .int (nI t_))]) hx hb dX10_cutBySegment_78 hl (by decide) rfl (fun ls hl => ?_)
  refine lv_aload_n hx hb dX10_cutBySegment_80 rfl (lv_at hl 3 rfl) ?_
  refine va_get (D := D) (ci := 9) (v := .ref ys_) (C := RX10) (T := TX10) (N := 21) hx hb hts in_X10 hown hK.1 hP 0 rfl rfl 6 (Nat.le_of_ble_eq_true rfl) (hts _ q975) (fun _ h9 => h9) rfl dX10_cutBySegment_81 ?_
  refine lv_aload_n hx hb dX10_cutBySegment_84 rfl (lv_at hl 3 rfl) ?_
  refine va_get (D := D) (ci := 9) (v := .ref tw) (C := RX10) (T := TX10) (N := 21) hx hb hts in_X10 hown hK.1 hP 0 rfl rfl 9 (Nat.le_of_ble_eq_true rfl) (hts _ q978) (fun _ h9 => h9) rfl dX10_cutBySegment_85 ?_
  refine lv_iload_n hx hb dX10_cutBySegment_88 rfl (lv_at hl 5 rfl) ?_
  refine zn_iaload (f := TM) (i := t_) hx hb hK.1 hP 4 0 rfl rfl (by omega) (by decide) dX10_cutBySegment_89 ?_
  refine zz_iaload (f := YS) (i := TM t_) hx hb hK.1 hP 2 0 rfl rfl (by omega) (by decide) dX10_cutBySegment_90 ?_
  refine zz_i2l hx hb (hYS _).i dX10_cutBySegment_91 ?_
  refine lv_aload_n hx hb dX10_cutBySegment_92 rfl (lv_at hl 3 rfl) ?_
  refine va_get (D := D) (ci := 9) (v := .ref ys_) (C := RX10) (T := TX10) (N := 21) hx hb hts in_X10 hown hK.1 hP 0 rfl rfl 6 (Nat.le_of_ble_eq_true rfl) (hts _ q975) (fun _ h9 => h9) rfl dX10_cutBySegment_93 ?_
  refine lv_aload_n hx hb dX10_cutBySegment_96 rfl (lv_at hl 3 rfl) ?_
  refine va_get (D := D) (ci := 9) (v := .ref fr_) (C := RX10) (T := TX10) (N := 21) hx hb hts in_X10 hown hK.1 hP 0 rfl rfl 8 (Nat.le_of_ble_eq_true rfl) (hts _ q977) (fun _ h9 => h9) rfl dX10_cutBySegment_97 ?_
  refine lv_iload_n hx hb dX10_cutBySegment_100 rfl (lv_at hl 5 rfl) ?_
  refine zn_iaload (f := FM) (i := t_) hx hb hK.1 hP 3 0 rfl rfl (by omega) (by decide) dX10_cutBySegment_101 ?_
  refine zz_iaload (f := YS) (i := FM t_) hx hb hK.1 hP 2 0 rfl rfl (by omega) (by decide) dX10_cutBySegment_102 ?_
  refine zz_i2l hx hb (hYS _).i dX10_cutBySegment_103 ?_
  refine zz_lsub hx hb dX10_cutBySegment_104 ?_
  refine lv_lstore (lv' := [(9, .long (lZ ((YS (TM t_)) - (YS (FM t_))))), (7, .long (lZ ((XS (TM t_)) - (XS (FM t_))))), (5, .long (lZ ((YS (TM k)) - (YS (FM k))))), (3, .long (lZ ((XS (TM k)) - (XS (FM k))))), (0, .ref m0), (1, .int (nI k)), (2, .int (nI t_))]) hx hb dX10_cutBySegment_105 hl (by decide) rfl (fun ls hl => ?_)
  refine lv_aload_n hx hb dX10_cutBySegment_107 rfl (lv_at hl 4 rfl) ?_
  refine va_get (D := D) (ci := 9) (v := .ref xs_) (C := RX10) (T := TX10) (N := 21) hx hb hts in_X10 hown hK.1 hP 0 rfl rfl 5 (Nat.le_of_ble_eq_true rfl) (hts _ q974) (fun _ h9 => h9) rfl dX10_cutBySegment_108 ?_
  refine lv_aload_n hx hb dX10_cutBySegment_111 rfl (lv_at hl 4 rfl) ?_
  refine va_get (D := D) (ci := 9) (v := .ref fr_) (C := RX10) (T := TX10) (N := 21) hx hb hts in_X10 hown hK.1 hP 0 rfl rfl 8 (Nat.le_of_ble_eq_true rfl) (hts _ q977) (fun _ h9 => h9) rfl dX10_cutBySegment_112 ?_
  refine lv_iload_n hx hb dX10_cutBySegment_115 rfl (lv_at hl 6 rfl) ?_
  refine zn_iaload (f := FM) (i := t_) hx hb hK.1 hP 3 0 rfl rfl (by omega) (by decide) dX10_cutBySegment_116 ?_
  refine zz_iaload (f := XS) (i := FM t_) hx hb hK.1 hP 1 0 rfl rfl (by omega) (by decide) dX10_cutBySegment_117 ?_
  refine zz_i2l hx hb (hXS _).i dX10_cutBySegment_118 ?_
  refine lv_aload_n hx hb dX10_cutBySegment_119 rfl (lv_at hl 4 rfl) ?_
  refine va_get (D := D) (ci := 9) (v := .ref xs_) (C := RX10) (T := TX10) (N := 21) hx hb hts in_X10 hown hK.1 hP 0 rfl rfl 5 (Nat.le_of_ble_eq_true rfl) (hts _ q974) (fun _ h9 => h9) rfl dX10_cutBySegment_120 ?_
  refine lv_aload_n hx hb dX10_cutBySegment_123 rfl (lv_at hl 4 rfl) ?_
  refine va_get (D := D) (ci := 9) (v := .ref fr_) (C := RX10) (T := TX10) (N := 21) hx hb hts in_X10 hown hK.1 hP 0 rfl rfl 8 (Nat.le_of_ble_eq_true rfl) (hts _ q977) (fun _ h9 => h9) rfl dX10_cutBySegment_124 ?_
  refine lv_iload_n hx hb dX10_cutBySegment_127 rfl (lv_at hl 5 rfl) ?_
  refine zn_iaload (f := FM) (i := k) hx hb hK.1 hP 3 0 rfl rfl (by omega) (by decide) dX10_cutBySegment_128 ?_
  refine zz_iaload (f := XS) (i := FM k) hx hb hK.1 hP 1 0 rfl rfl (by omega) (by decide) dX10_cutBySegment_129 ?_
  refine zz_i2l hx hb (hXS _).i dX10_cutBySegment_130 ?_
  refine zz_lsub hx hb dX10_cutBySegment_131 ?_
  refine lv_lstore (lv' := [(11, .long (lZ ((XS (FM t_)) - (XS (FM k))))), (9, .long (lZ ((YS (TM t_)) - (YS (FM t_))))), (7, .long (lZ ((XS (TM t_)) - (XS (FM t_))))), (5, .long (lZ ((YS (TM k)) - (YS (FM k))))), (3, .long (lZ ((XS (TM k)) - (XS (FM k))))), (0, .ref m0), (1, .int (nI k)), (2, .int (nI t_))]) hx hb dX10_cutBySegment_132 hl (by decide) rfl (fun ls hl => ?_)
  refine lv_aload_n hx hb dX10_cutBySegment_134 rfl (lv_at hl 5 rfl) ?_
  refine va_get (D := D) (ci := 9) (v := .ref ys_) (C := RX10) (T := TX10) (N := 21) hx hb hts in_X10 hown hK.1 hP 0 rfl rfl 6 (Nat.le_of_ble_eq_true rfl) (hts _ q975) (fun _ h9 => h9) rfl dX10_cutBySegment_135 ?_
  refine lv_aload_n hx hb dX10_cutBySegment_138 rfl (lv_at hl 5 rfl) ?_
  refine va_get (D := D) (ci := 9) (v := .ref fr_) (C := RX10) (T := TX10) (N := 21) hx hb hts in_X10 hown hK.1 hP 0 rfl rfl 8 (Nat.le_of_ble_eq_true rfl) (hts _ q977) (fun _ h9 => h9) rfl dX10_cutBySegment_139 ?_
  refine lv_iload_n hx hb dX10_cutBySegment_142 rfl (lv_at hl 7 rfl) ?_
  refine zn_iaload (f := FM) (i := t_) hx hb hK.1 hP 3 0 rfl rfl (by omega) (by decide) dX10_cutBySegment_143 ?_
  refine zz_iaload (f := YS) (i := FM t_) hx hb hK.1 hP 2 0 rfl rfl (by omega) (by decide) dX10_cutBySegment_144 ?_
  refine zz_i2l hx hb (hYS _).i dX10_cutBySegment_145 ?_
  refine lv_aload_n hx hb dX10_cutBySegment_146 rfl (lv_at hl 5 rfl) ?_
  refine va_get (D := D) (ci := 9) (v := .ref ys_) (C := RX10) (T := TX10) (N := 21) hx hb hts in_X10 hown hK.1 hP 0 rfl rfl 6 (Nat.le_of_ble_eq_true rfl) (hts _ q975) (fun _ h9 => h9) rfl dX10_cutBySegment_147 ?_
  refine lv_aload_n hx hb dX10_cutBySegment_150 rfl (lv_at hl 5 rfl) ?_
  refine va_get (D := D) (ci := 9) (v := .ref fr_) (C := RX10) (T := TX10) (N := 21) hx hb hts in_X10 hown hK.1 hP 0 rfl rfl 8 (Nat.le_of_ble_eq_true rfl) (hts _ q977) (fun _ h9 => h9) rfl dX10_cutBySegment_151 ?_
  refine lv_iload_n hx hb dX10_cutBySegment_154 rfl (lv_at hl 6 rfl) ?_
  refine zn_iaload (f := FM) (i := k) hx hb hK.1 hP 3 0 rfl rfl (by omega) (by decide) dX10_cutBySegment_155 ?_
  refine zz_iaload (f := YS) (i := FM k) hx hb hK.1 hP 2 0 rfl rfl (by omega) (by decide) dX10_cutBySegment_156 ?_
  refine zz_i2l hx hb (hYS _).i dX10_cutBySegment_157 ?_
  refine zz_lsub hx hb dX10_cutBySegment_158 ?_
  refine lv_lstore (lv' := [(13, .long (lZ ((YS (FM t_)) - (YS (FM k))))), (11, .long (lZ ((XS (FM t_)) - (XS (FM k))))), (9, .long (lZ ((YS (TM t_)) - (YS (FM t_))))), (7, .long (lZ ((XS (TM t_)) - (XS (FM t_))))), (5, .long (lZ ((YS (TM k)) - (YS (FM k))))), (3, .long (lZ ((XS (TM k)) - (XS (FM k))))), (0, .ref m0), (1, .int (nI k)), (2, .int (nI t_))]) hx hb dX10_cutBySegment_159 hl (by decide) rfl (fun ls hl => ?_)
  refine lv_lload_n hx hb dX10_cutBySegment_161 rfl (lv_at hl 5 rfl) ?_
  refine lv_lload hx hb dX10_cutBySegment_162 (lv_at hl 2 rfl) ?_
  refine zz_lmul hx hb dX10_cutBySegment_164 ?_
  refine lv_lload hx hb dX10_cutBySegment_165 (lv_at hl 4 rfl) ?_
  refine lv_lload hx hb dX10_cutBySegment_167 (lv_at hl 3 rfl) ?_
  refine zz_lmul hx hb dX10_cutBySegment_169 ?_
  refine zz_lsub hx hb dX10_cutBySegment_170 ?_
  refine lv_lstore (lv' := [(15, .long (lZ ((((XS (TM k)) - (XS (FM k))) * ((YS (TM t_)) - (YS (FM t_)))) - (((YS (TM k)) - (YS (FM k))) * ((XS (TM t_)) - (XS (FM t_))))))), (13, .long (lZ ((YS (FM t_)) - (YS (FM k))))), (11, .long (lZ ((XS (FM t_)) - (XS (FM k))))), (9, .long (lZ ((YS (TM t_)) - (YS (FM t_))))), (7, .long (lZ ((XS (TM t_)) - (XS (FM t_))))), (5, .long (lZ ((YS (TM k)) - (YS (FM k))))), (3, .long (lZ ((XS (TM k)) - (XS (FM k))))), (0, .ref m0), (1, .int (nI k)), (2, .int (nI t_))]) hx hb dX10_cutBySegment_171 hl (by decide) rfl (fun ls hl => ?_)
  refine lv_lload hx hb dX10_cutBySegment_173 (lv_at hl 2 rfl) ?_
  refine lv_lload hx hb dX10_cutBySegment_175 (lv_at hl 3 rfl) ?_
  refine zz_lmul hx hb dX10_cutBySegment_177 ?_
  refine lv_lload hx hb dX10_cutBySegment_178 (lv_at hl 1 rfl) ?_
  refine lv_lload hx hb dX10_cutBySegment_180 (lv_at hl 4 rfl) ?_
  refine zz_lmul hx hb dX10_cutBySegment_182 ?_
  refine zz_lsub hx hb dX10_cutBySegment_183 ?_
  refine lv_lstore (lv' := [(17, .long (lZ ((((XS (FM t_)) - (XS (FM k))) * ((YS (TM t_)) - (YS (FM t_)))) - (((YS (FM t_)) - (YS (FM k))) * ((XS (TM t_)) - (XS (FM t_))))))), (15, .long (lZ ((((XS (TM k)) - (XS (FM k))) * ((YS (TM t_)) - (YS (FM t_)))) - (((YS (TM k)) - (YS (FM k))) * ((XS (TM t_)) - (XS (FM t_))))))), (13, .long (lZ ((YS (FM t_)) - (YS (FM k))))), (11, .long (lZ ((XS (FM t_)) - (XS (FM k))))), (9, .long (lZ ((YS (TM t_)) - (YS (FM t_))))), (7, .long (lZ ((XS (TM t_)) - (XS (FM t_))))), (5, .long (lZ ((YS (TM k)) - (YS (FM k))))), (3, .long (lZ ((XS (TM k)) - (XS (FM k))))), (0, .ref m0), (1, .int (nI k)), (2, .int (nI t_))]) hx hb dX10_cutBySegment_184 hl (by decide) rfl (fun ls hl => ?_)
  refine lv_lload hx hb dX10_cutBySegment_186 (lv_at hl 3 rfl) ?_
  refine lv_lload hx hb dX10_cutBySegment_188 (lv_at hl 6 rfl) ?_
  refine zz_lmul hx hb dX10_cutBySegment_190 ?_
  refine lv_lload hx hb dX10_cutBySegment_191 (lv_at hl 2 rfl) ?_
  refine lv_lload_n hx hb dX10_cutBySegment_193 rfl (lv_at hl 7 rfl) ?_
  refine zz_lmul hx hb dX10_cutBySegment_194 ?_
  refine zz_lsub hx hb dX10_cutBySegment_195 ?_
  refine lv_lstore (lv' := [(19, .long (lZ ((((XS (FM t_)) - (XS (FM k))) * ((YS (TM k)) - (YS (FM k)))) - (((YS (FM t_)) - (YS (FM k))) * ((XS (TM k)) - (XS (FM k))))))), (17, .long (lZ ((((XS (FM t_)) - (XS (FM k))) * ((YS (TM t_)) - (YS (FM t_)))) - (((YS (FM t_)) - (YS (FM k))) * ((XS (TM t_)) - (XS (FM t_))))))), (15, .long (lZ ((((XS (TM k)) - (XS (FM k))) * ((YS (TM t_)) - (YS (FM t_)))) - (((YS (TM k)) - (YS (FM k))) * ((XS (TM t_)) - (XS (FM t_))))))), (13, .long (lZ ((YS (FM t_)) - (YS (FM k))))), (11, .long (lZ ((XS (FM t_)) - (XS (FM k))))), (9, .long (lZ ((YS (TM t_)) - (YS (FM t_))))), (7, .long (lZ ((XS (TM t_)) - (XS (FM t_))))), (5, .long (lZ ((YS (TM k)) - (YS (FM k))))), (3, .long (lZ ((XS (TM k)) - (XS (FM k))))), (0, .ref m0), (1, .int (nI k)), (2, .int (nI t_))]) hx hb dX10_cutBySegment_196 hl (by decide) rfl (fun ls hl => ?_)
  refine lv_lload hx hb dX10_cutBySegment_198 (lv_at hl 2 rfl) ?_
  refine zz_lconst hx hb 0 dX10_cutBySegment_200 rfl ?_
  refine zz_lc_ge (tgt := 220) hx hb ⟨by omega, by omega⟩ ⟨by decide, by decide⟩ dX10_cutBySegment_201 dX10_cutBySegment_202 (by decide) (fun c_1 => ?_) (fun c_1 => ?_)
  · skip
    refine lv_lload hx hb dX10_cutBySegment_220 (lv_at hl 1 rfl) ?_
    refine zz_lconst hx hb 0 dX10_cutBySegment_222 rfl ?_
    refine zz_lc_le (tgt := 258) hx hb ⟨by omega, by omega⟩ ⟨by decide, by decide⟩ dX10_cutBySegment_223 dX10_cutBySegment_224 (by decide) (fun c_2 => ?_) (fun c_2 => ?_)
    · skip
      exact zr_wrV (u := (ct, OV, UN)) rfl (show csInv OV UN ct (S ++ csF (XS (TM k) - XS (FM k)) (YS (TM k) - YS (FM k)) (XS (TM t_) - XS (FM t_)) (YS (TM t_) - YS (FM t_)) (XS (FM t_) - XS (FM k)) (YS (FM t_) - YS (FM k))) from (by unfold csF; first | (rw [if_pos (by assumption), if_neg (by omega), List.append_nil]; exact hcs) | (rw [if_neg (by omega), if_neg (by omega), List.append_nil]; exact hcs))) (hP.sub [0, 1, 2, 3, 4, 5, 6, 7] rfl) (hD.sub [0, 1, 2, 3, 4, 5, 6, 7] (by decide) rfl) hS hx hb hr hlocks dX10_cutBySegment_258
    · skip
      refine lv_lload hx hb dX10_cutBySegment_227 (lv_at hl 1 rfl) ?_
      refine lv_lload hx hb dX10_cutBySegment_229 (lv_at hl 2 rfl) ?_
      refine zz_lc_ge (tgt := 258) hx hb ⟨by omega, by omega⟩ ⟨by omega, by omega⟩ dX10_cutBySegment_231 dX10_cutBySegment_232 (by decide) (fun c_3 => ?_) (fun c_3 => ?_)
      · skip
        exact zr_wrV (u := (ct, OV, UN)) rfl (show csInv OV UN ct (S ++ csF (XS (TM k) - XS (FM k)) (YS (TM k) - YS (FM k)) (XS (TM t_) - XS (FM t_)) (YS (TM t_) - YS (FM t_)) (XS (FM t_) - XS (FM k)) (YS (FM t_) - YS (FM k))) from (by unfold csF; first | (rw [if_pos (by assumption), if_neg (by omega), List.append_nil]; exact hcs) | (rw [if_neg (by omega), if_neg (by omega), List.append_nil]; exact hcs))) (hP.sub [0, 1, 2, 3, 4, 5, 6, 7] rfl) (hD.sub [0, 1, 2, 3, 4, 5, 6, 7] (by decide) rfl) hS hx hb hr hlocks dX10_cutBySegment_258
      · skip
        refine lv_lload hx hb dX10_cutBySegment_235 (lv_at hl 0 rfl) ?_
        refine zz_lconst hx hb 0 dX10_cutBySegment_237 rfl ?_
        refine zz_lc_le (tgt := 258) hx hb ⟨by omega, by omega⟩ ⟨by decide, by decide⟩ dX10_cutBySegment_238 dX10_cutBySegment_239 (by decide) (fun c_4 => ?_) (fun c_4 => ?_)
        · skip
          exact zr_wrV (u := (ct, OV, UN)) rfl (show csInv OV UN ct (S ++ csF (XS (TM k) - XS (FM k)) (YS (TM k) - YS (FM k)) (XS (TM t_) - XS (FM t_)) (YS (TM t_) - YS (FM t_)) (XS (FM t_) - XS (FM k)) (YS (FM t_) - YS (FM k))) from (by unfold csF; first | (rw [if_pos (by assumption), if_neg (by omega), List.append_nil]; exact hcs) | (rw [if_neg (by omega), if_neg (by omega), List.append_nil]; exact hcs))) (hP.sub [0, 1, 2, 3, 4, 5, 6, 7] rfl) (hD.sub [0, 1, 2, 3, 4, 5, 6, 7] (by decide) rfl) hS hx hb hr hlocks dX10_cutBySegment_258
        · skip
          refine lv_lload hx hb dX10_cutBySegment_242 (lv_at hl 0 rfl) ?_
          refine lv_lload hx hb dX10_cutBySegment_244 (lv_at hl 2 rfl) ?_
          refine zz_lc_ge (tgt := 258) hx hb ⟨by omega, by omega⟩ ⟨by omega, by omega⟩ dX10_cutBySegment_246 dX10_cutBySegment_247 (by decide) (fun c_5 => ?_) (fun c_5 => ?_)
          · skip
            exact zr_wrV (u := (ct, OV, UN)) rfl (show csInv OV UN ct (S ++ csF (XS (TM k) - XS (FM k)) (YS (TM k) - YS (FM k)) (XS (TM t_) - XS (FM t_)) (YS (TM t_) - YS (FM t_)) (XS (FM t_) - XS (FM k)) (YS (FM t_) - YS (FM k))) from (by unfold csF; first | (rw [if_pos (by assumption), if_neg (by omega), List.append_nil]; exact hcs) | (rw [if_neg (by omega), if_neg (by omega), List.append_nil]; exact hcs))) (hP.sub [0, 1, 2, 3, 4, 5, 6, 7] rfl) (hD.sub [0, 1, 2, 3, 4, 5, 6, 7] (by decide) rfl) hS hx hb hr hlocks dX10_cutBySegment_258
          · skip
            refine lv_aload_n hx hb dX10_cutBySegment_250 rfl (lv_at hl 9 rfl) ?_
            refine lv_lload hx hb dX10_cutBySegment_251 (lv_at hl 1 rfl) ?_
            refine lv_lload hx hb dX10_cutBySegment_253 (lv_at hl 2 rfl) ?_
            refine zc_wrV (rest := []) (wr := [(xs_, .inl (dA 0, 4096, .inl fun j => iZ (XS j))), (ys_, .inl (dA 0, 4096, .inl fun j => iZ (YS j))), (fr_, .inl (dA 0, 4096, .inl fun j => nI (FM j))), (tw, .inl (dA 0, 4096, .inl fun j => nI (TM j))), (wo_, .inl (dA 0, 4096, .inl fun j => nI (WO j)))]) ⟨hx, hb, hml, hown, hts⟩ (metX10_cut lG D dA m0 thr kn pt pa bg xs_ ys_ sgm fr_ tw wo_ mt ha_ x0 y0 dx dy zz ct ov un OV UN S ((((XS (FM t_)) - (XS (FM k))) * ((YS (TM t_)) - (YS (FM t_)))) - (((YS (FM t_)) - (YS (FM k))) * ((XS (TM t_)) - (XS (FM t_))))) ((((XS (TM k)) - (XS (FM k))) * ((YS (TM t_)) - (YS (FM t_)))) - (((YS (TM k)) - (YS (FM k))) * ((XS (TM t_)) - (XS (FM t_))))) (by first | assumption | omega) (by first | assumption | omega) (⟨⟨by show (0 : Int) ≤ _; omega, by show _ ≤ (_ : Int); omega⟩, ⟨by show (0 : Int) < _; omega, by show _ < (4611686018427387904 : Int); omega⟩⟩)) (cwV 2 hts (lw_V q1186 q1188 qs58 q80 q1189) rfl rfl rfl (by decide +kernel) ⟨Nat.le_of_ble_eq_true rfl, Nat.le_of_ble_eq_true rfl⟩) (va_recv hK.1 hP (ci := 9) (q0 := 0) rfl rfl) hP hK hD hS hA [0, 6, 7] [1, 2, 3, 4, 5] rfl rfl (by decide) (by decide) (by decide) rfl hl.1 rfl (Nat.le_of_ble_eq_true rfl) dX10_cutBySegment_255 ⟨Nat.zero_le _, Nat.zero_le _⟩ (fun u H locs hk9 hP hD hS => ?_)
            obtain ⟨ct2_6, OV2_7, UN2_8⟩ := u
            have hP : va_P D zCl [(xs_, .inl (dA 0, 4096, .inl fun j => iZ (XS j))), (ys_, .inl (dA 0, 4096, .inl fun j => iZ (YS j))), (fr_, .inl (dA 0, 4096, .inl fun j => nI (FM j))), (tw, .inl (dA 0, 4096, .inl fun j => nI (TM j))), (wo_, .inl (dA 0, 4096, .inl fun j => nI (WO j))), (m0, .inr (9, [.int (nI thr), .ref kn, .ref pt, .ref pa, .ref bg, .ref xs_, .ref ys_, .int (nI sgm), .ref fr_, .ref tw, .ref wo_, .ref mt, .ref ha_, .long (lZ x0), .long (lZ y0), .long (lZ dx), .long (lZ dy), .ref zz, .int (nI ct2_6), .ref ov, .ref un])), (ov, .inl (dA 1, 12400, .inr (.inl fun j => lZ (OV2_7 j)))), (un, .inl (dA 1, 12400, .inr (.inl fun j => lZ (UN2_8 j))))] H := hP
            have hD : va_D A [(xs_, .inl (dA 0, 4096, .inl fun j => iZ (XS j))), (ys_, .inl (dA 0, 4096, .inl fun j => iZ (YS j))), (fr_, .inl (dA 0, 4096, .inl fun j => nI (FM j))), (tw, .inl (dA 0, 4096, .inl fun j => nI (TM j))), (wo_, .inl (dA 0, 4096, .inl fun j => nI (WO j))), (m0, .inr (9, [.int (nI thr), .ref kn, .ref pt, .ref pa, .ref bg, .ref xs_, .ref ys_, .int (nI sgm), .ref fr_, .ref tw, .ref wo_, .ref mt, .ref ha_, .long (lZ x0), .long (lZ y0), .long (lZ dx), .long (lZ dy), .ref zz, .int (nI ct2_6), .ref ov, .ref un])), (ov, .inl (dA 1, 12400, .inr (.inl fun j => lZ (OV2_7 j)))), (un, .inl (dA 1, 12400, .inr (.inl fun j => lZ (UN2_8 j))))] := hD
            have hk9 : csInv OV2_7 UN2_8 ct2_6 (S ++ [(((((XS (FM t_)) - (XS (FM k))) * ((YS (TM t_)) - (YS (FM t_)))) - (((YS (FM t_)) - (YS (FM k))) * ((XS (TM t_)) - (XS (FM t_))))), ((((XS (TM k)) - (XS (FM k))) * ((YS (TM t_)) - (YS (FM t_)))) - (((YS (TM k)) - (YS (FM k))) * ((XS (TM t_)) - (XS (FM t_))))))]) := hk9
            show W _ _ _ _ _ _ _ _ _ _ _ _ 0 0 _ (F0 mG 258 ls [])
            exact zr_wrV (u := (ct2_6, OV2_7, UN2_8)) rfl (show csInv OV2_7 UN2_8 ct2_6 (S ++ csF (XS (TM k) - XS (FM k)) (YS (TM k) - YS (FM k)) (XS (TM t_) - XS (FM t_)) (YS (TM t_) - YS (FM t_)) (XS (FM t_) - XS (FM k)) (YS (FM t_) - YS (FM k))) from (by unfold csF; first | (rw [if_pos (by assumption), if_pos ⟨(by assumption), (by assumption), (by assumption), (by assumption)⟩]; exact hk9) | (rw [if_neg (by omega), if_pos ⟨(by assumption), (by assumption), (by assumption), (by assumption)⟩]; exact hk9))) (hP.sub [5, 0, 1, 2, 3, 4, 6, 7] rfl) (hD.sub [5, 0, 1, 2, 3, 4, 6, 7] (by decide) rfl) hS hx hb hr hlocks dX10_cutBySegment_258
  · skip
    refine lv_lload hx hb dX10_cutBySegment_205 (lv_at hl 2 rfl) ?_
    refine zz_lneg hx hb dX10_cutBySegment_207 ?_
    refine lv_lstore (lv' := [(15, .long (lZ (-((((XS (TM k)) - (XS (FM k))) * ((YS (TM t_)) - (YS (FM t_)))) - (((YS (TM k)) - (YS (FM k))) * ((XS (TM t_)) - (XS (FM t_)))))))), (19, .long (lZ ((((XS (FM t_)) - (XS (FM k))) * ((YS (TM k)) - (YS (FM k)))) - (((YS (FM t_)) - (YS (FM k))) * ((XS (TM k)) - (XS (FM k))))))), (17, .long (lZ ((((XS (FM t_)) - (XS (FM k))) * ((YS (TM t_)) - (YS (FM t_)))) - (((YS (FM t_)) - (YS (FM k))) * ((XS (TM t_)) - (XS (FM t_))))))), (13, .long (lZ ((YS (FM t_)) - (YS (FM k))))), (11, .long (lZ ((XS (FM t_)) - (XS (FM k))))), (9, .long (lZ ((YS (TM t_)) - (YS (FM t_))))), (7, .long (lZ ((XS (TM t_)) - (XS (FM t_))))), (5, .long (lZ ((YS (TM k)) - (YS (FM k))))), (3, .long (lZ ((XS (TM k)) - (XS (FM k))))), (0, .ref m0), (1, .int (nI k)), (2, .int (nI t_))]) hx hb dX10_cutBySegment_208 hl (by decide) rfl (fun ls hl => ?_)
    refine lv_lload hx hb dX10_cutBySegment_210 (lv_at hl 2 rfl) ?_
    refine zz_lneg hx hb dX10_cutBySegment_212 ?_
    refine lv_lstore (lv' := [(17, .long (lZ (-((((XS (FM t_)) - (XS (FM k))) * ((YS (TM t_)) - (YS (FM t_)))) - (((YS (FM t_)) - (YS (FM k))) * ((XS (TM t_)) - (XS (FM t_)))))))), (15, .long (lZ (-((((XS (TM k)) - (XS (FM k))) * ((YS (TM t_)) - (YS (FM t_)))) - (((YS (TM k)) - (YS (FM k))) * ((XS (TM t_)) - (XS (FM t_)))))))), (19, .long (lZ ((((XS (FM t_)) - (XS (FM k))) * ((YS (TM k)) - (YS (FM k)))) - (((YS (FM t_)) - (YS (FM k))) * ((XS (TM k)) - (XS (FM k))))))), (13, .long (lZ ((YS (FM t_)) - (YS (FM k))))), (11, .long (lZ ((XS (FM t_)) - (XS (FM k))))), (9, .long (lZ ((YS (TM t_)) - (YS (FM t_))))), (7, .long (lZ ((XS (TM t_)) - (XS (FM t_))))), (5, .long (lZ ((YS (TM k)) - (YS (FM k))))), (3, .long (lZ ((XS (TM k)) - (XS (FM k))))), (0, .ref m0), (1, .int (nI k)), (2, .int (nI t_))]) hx hb dX10_cutBySegment_213 hl (by decide) rfl (fun ls hl => ?_)
    refine lv_lload hx hb dX10_cutBySegment_215 (lv_at hl 2 rfl) ?_
    refine zz_lneg hx hb dX10_cutBySegment_217 ?_
    refine lv_lstore (lv' := [(19, .long (lZ (-((((XS (FM t_)) - (XS (FM k))) * ((YS (TM k)) - (YS (FM k)))) - (((YS (FM t_)) - (YS (FM k))) * ((XS (TM k)) - (XS (FM k)))))))), (17, .long (lZ (-((((XS (FM t_)) - (XS (FM k))) * ((YS (TM t_)) - (YS (FM t_)))) - (((YS (FM t_)) - (YS (FM k))) * ((XS (TM t_)) - (XS (FM t_)))))))), (15, .long (lZ (-((((XS (TM k)) - (XS (FM k))) * ((YS (TM t_)) - (YS (FM t_)))) - (((YS (TM k)) - (YS (FM k))) * ((XS (TM t_)) - (XS (FM t_)))))))), (13, .long (lZ ((YS (FM t_)) - (YS (FM k))))), (11, .long (lZ ((XS (FM t_)) - (XS (FM k))))), (9, .long (lZ ((YS (TM t_)) - (YS (FM t_))))), (7, .long (lZ ((XS (TM t_)) - (XS (FM t_))))), (5, .long (lZ ((YS (TM k)) - (YS (FM k))))), (3, .long (lZ ((XS (TM k)) - (XS (FM k))))), (0, .ref m0), (1, .int (nI k)), (2, .int (nI t_))]) hx hb dX10_cutBySegment_218 hl (by decide) rfl (fun ls hl => ?_)
    refine lv_lload hx hb dX10_cutBySegment_220 (lv_at hl 1 rfl) ?_
    refine zz_lconst hx hb 0 dX10_cutBySegment_222 rfl ?_
    refine zz_lc_le (tgt := 258) hx hb ⟨by omega, by omega⟩ ⟨by decide, by decide⟩ dX10_cutBySegment_223 dX10_cutBySegment_224 (by decide) (fun c_9 => ?_) (fun c_9 => ?_)
    · skip
      exact zr_wrV (u := (ct, OV, UN)) rfl (show csInv OV UN ct (S ++ csF (XS (TM k) - XS (FM k)) (YS (TM k) - YS (FM k)) (XS (TM t_) - XS (FM t_)) (YS (TM t_) - YS (FM t_)) (XS (FM t_) - XS (FM k)) (YS (FM t_) - YS (FM k))) from (by unfold csF; first | (rw [if_pos (by assumption), if_neg (by omega), List.append_nil]; exact hcs) | (rw [if_neg (by omega), if_neg (by omega), List.append_nil]; exact hcs))) (hP.sub [0, 1, 2, 3, 4, 5, 6, 7] rfl) (hD.sub [0, 1, 2, 3, 4, 5, 6, 7] (by decide) rfl) hS hx hb hr hlocks dX10_cutBySegment_258
    · skip
      refine lv_lload hx hb dX10_cutBySegment_227 (lv_at hl 1 rfl) ?_
      refine lv_lload hx hb dX10_cutBySegment_229 (lv_at hl 2 rfl) ?_
      refine zz_lc_ge (tgt := 258) hx hb ⟨by omega, by omega⟩ ⟨by omega, by omega⟩ dX10_cutBySegment_231 dX10_cutBySegment_232 (by decide) (fun c_10 => ?_) (fun c_10 => ?_)
      · skip
        exact zr_wrV (u := (ct, OV, UN)) rfl (show csInv OV UN ct (S ++ csF (XS (TM k) - XS (FM k)) (YS (TM k) - YS (FM k)) (XS (TM t_) - XS (FM t_)) (YS (TM t_) - YS (FM t_)) (XS (FM t_) - XS (FM k)) (YS (FM t_) - YS (FM k))) from (by unfold csF; first | (rw [if_pos (by assumption), if_neg (by omega), List.append_nil]; exact hcs) | (rw [if_neg (by omega), if_neg (by omega), List.append_nil]; exact hcs))) (hP.sub [0, 1, 2, 3, 4, 5, 6, 7] rfl) (hD.sub [0, 1, 2, 3, 4, 5, 6, 7] (by decide) rfl) hS hx hb hr hlocks dX10_cutBySegment_258
      · skip
        refine lv_lload hx hb dX10_cutBySegment_235 (lv_at hl 0 rfl) ?_
        refine zz_lconst hx hb 0 dX10_cutBySegment_237 rfl ?_
        refine zz_lc_le (tgt := 258) hx hb ⟨by omega, by omega⟩ ⟨by decide, by decide⟩ dX10_cutBySegment_238 dX10_cutBySegment_239 (by decide) (fun c_11 => ?_) (fun c_11 => ?_)
        · skip
          exact zr_wrV (u := (ct, OV, UN)) rfl (show csInv OV UN ct (S ++ csF (XS (TM k) - XS (FM k)) (YS (TM k) - YS (FM k)) (XS (TM t_) - XS (FM t_)) (YS (TM t_) - YS (FM t_)) (XS (FM t_) - XS (FM k)) (YS (FM t_) - YS (FM k))) from (by unfold csF; first | (rw [if_pos (by assumption), if_neg (by omega), List.append_nil]; exact hcs) | (rw [if_neg (by omega), if_neg (by omega), List.append_nil]; exact hcs))) (hP.sub [0, 1, 2, 3, 4, 5, 6, 7] rfl) (hD.sub [0, 1, 2, 3, 4, 5, 6, 7] (by decide) rfl) hS hx hb hr hlocks dX10_cutBySegment_258
        · skip
          refine lv_lload hx hb dX10_cutBySegment_242 (lv_at hl 0 rfl) ?_
          refine lv_lload hx hb dX10_cutBySegment_244 (lv_at hl 2 rfl) ?_
          refine zz_lc_ge (tgt := 258) hx hb ⟨by omega, by omega⟩ ⟨by omega, by omega⟩ dX10_cutBySegment_246 dX10_cutBySegment_247 (by decide) (fun c_12 => ?_) (fun c_12 => ?_)
          · skip
            exact zr_wrV (u := (ct, OV, UN)) rfl (show csInv OV UN ct (S ++ csF (XS (TM k) - XS (FM k)) (YS (TM k) - YS (FM k)) (XS (TM t_) - XS (FM t_)) (YS (TM t_) - YS (FM t_)) (XS (FM t_) - XS (FM k)) (YS (FM t_) - YS (FM k))) from (by unfold csF; first | (rw [if_pos (by assumption), if_neg (by omega), List.append_nil]; exact hcs) | (rw [if_neg (by omega), if_neg (by omega), List.append_nil]; exact hcs))) (hP.sub [0, 1, 2, 3, 4, 5, 6, 7] rfl) (hD.sub [0, 1, 2, 3, 4, 5, 6, 7] (by decide) rfl) hS hx hb hr hlocks dX10_cutBySegment_258
          · skip
            refine lv_aload_n hx hb dX10_cutBySegment_250 rfl (lv_at hl 9 rfl) ?_
            refine lv_lload hx hb dX10_cutBySegment_251 (lv_at hl 1 rfl) ?_
            refine lv_lload hx hb dX10_cutBySegment_253 (lv_at hl 2 rfl) ?_
            refine zc_wrV (rest := []) (wr := [(xs_, .inl (dA 0, 4096, .inl fun j => iZ (XS j))), (ys_, .inl (dA 0, 4096, .inl fun j => iZ (YS j))), (fr_, .inl (dA 0, 4096, .inl fun j => nI (FM j))), (tw, .inl (dA 0, 4096, .inl fun j => nI (TM j))), (wo_, .inl (dA 0, 4096, .inl fun j => nI (WO j)))]) ⟨hx, hb, hml, hown, hts⟩ (metX10_cut lG D dA m0 thr kn pt pa bg xs_ ys_ sgm fr_ tw wo_ mt ha_ x0 y0 dx dy zz ct ov un OV UN S (-((((XS (FM t_)) - (XS (FM k))) * ((YS (TM t_)) - (YS (FM t_)))) - (((YS (FM t_)) - (YS (FM k))) * ((XS (TM t_)) - (XS (FM t_)))))) (-((((XS (TM k)) - (XS (FM k))) * ((YS (TM t_)) - (YS (FM t_)))) - (((YS (TM k)) - (YS (FM k))) * ((XS (TM t_)) - (XS (FM t_)))))) (by first | assumption | omega) (by first | assumption | omega) (⟨⟨by show (0 : Int) ≤ _; omega, by show _ ≤ (_ : Int); omega⟩, ⟨by show (0 : Int) < _; omega, by show _ < (4611686018427387904 : Int); omega⟩⟩)) (cwV 2 hts (lw_V q1186 q1188 qs58 q80 q1189) rfl rfl rfl (by decide +kernel) ⟨Nat.le_of_ble_eq_true rfl, Nat.le_of_ble_eq_true rfl⟩) (va_recv hK.1 hP (ci := 9) (q0 := 0) rfl rfl) hP hK hD hS hA [0, 6, 7] [1, 2, 3, 4, 5] rfl rfl (by decide) (by decide) (by decide) rfl hl.1 rfl (Nat.le_of_ble_eq_true rfl) dX10_cutBySegment_255 ⟨Nat.zero_le _, Nat.zero_le _⟩ (fun u H locs hk9 hP hD hS => ?_)
            obtain ⟨ct2_13, OV2_14, UN2_15⟩ := u
            have hP : va_P D zCl [(xs_, .inl (dA 0, 4096, .inl fun j => iZ (XS j))), (ys_, .inl (dA 0, 4096, .inl fun j => iZ (YS j))), (fr_, .inl (dA 0, 4096, .inl fun j => nI (FM j))), (tw, .inl (dA 0, 4096, .inl fun j => nI (TM j))), (wo_, .inl (dA 0, 4096, .inl fun j => nI (WO j))), (m0, .inr (9, [.int (nI thr), .ref kn, .ref pt, .ref pa, .ref bg, .ref xs_, .ref ys_, .int (nI sgm), .ref fr_, .ref tw, .ref wo_, .ref mt, .ref ha_, .long (lZ x0), .long (lZ y0), .long (lZ dx), .long (lZ dy), .ref zz, .int (nI ct2_13), .ref ov, .ref un])), (ov, .inl (dA 1, 12400, .inr (.inl fun j => lZ (OV2_14 j)))), (un, .inl (dA 1, 12400, .inr (.inl fun j => lZ (UN2_15 j))))] H := hP
            have hD : va_D A [(xs_, .inl (dA 0, 4096, .inl fun j => iZ (XS j))), (ys_, .inl (dA 0, 4096, .inl fun j => iZ (YS j))), (fr_, .inl (dA 0, 4096, .inl fun j => nI (FM j))), (tw, .inl (dA 0, 4096, .inl fun j => nI (TM j))), (wo_, .inl (dA 0, 4096, .inl fun j => nI (WO j))), (m0, .inr (9, [.int (nI thr), .ref kn, .ref pt, .ref pa, .ref bg, .ref xs_, .ref ys_, .int (nI sgm), .ref fr_, .ref tw, .ref wo_, .ref mt, .ref ha_, .long (lZ x0), .long (lZ y0), .long (lZ dx), .long (lZ dy), .ref zz, .int (nI ct2_13), .ref ov, .ref un])), (ov, .inl (dA 1, 12400, .inr (.inl fun j => lZ (OV2_14 j)))), (un, .inl (dA 1, 12400, .inr (.inl fun j => lZ (UN2_15 j))))] := hD
            have hk9 : csInv OV2_14 UN2_15 ct2_13 (S ++ [((-((((XS (FM t_)) - (XS (FM k))) * ((YS (TM t_)) - (YS (FM t_)))) - (((YS (FM t_)) - (YS (FM k))) * ((XS (TM t_)) - (XS (FM t_)))))), (-((((XS (TM k)) - (XS (FM k))) * ((YS (TM t_)) - (YS (FM t_)))) - (((YS (TM k)) - (YS (FM k))) * ((XS (TM t_)) - (XS (FM t_)))))))]) := hk9
            show W _ _ _ _ _ _ _ _ _ _ _ _ 0 0 _ (F0 mG 258 ls [])
            exact zr_wrV (u := (ct2_13, OV2_14, UN2_15)) rfl (show csInv OV2_14 UN2_15 ct2_13 (S ++ csF (XS (TM k) - XS (FM k)) (YS (TM k) - YS (FM k)) (XS (TM t_) - XS (FM t_)) (YS (TM t_) - YS (FM t_)) (XS (FM t_) - XS (FM k)) (YS (FM t_) - YS (FM k))) from (by unfold csF; first | (rw [if_pos (by assumption), if_pos ⟨(by assumption), (by assumption), (by assumption), (by assumption)⟩]; exact hk9) | (rw [if_neg (by omega), if_pos ⟨(by assumption), (by assumption), (by assumption), (by assumption)⟩]; exact hk9))) (hP.sub [5, 0, 1, 2, 3, 4, 6, 7] rfl) (hD.sub [5, 0, 1, 2, 3, 4, 6, 7] (by decide) rfl) hS hx hb hr hlocks dX10_cutBySegment_258
