/-! Model: comparing fractions; gathering segments (printed by wip gen/c62.py) -/
theorem cmp_ne {A B C D : Int} (hA : 0 ≤ A) (hB : 0 < B) (hC : 0 ≤ C) (hD : 0 < D) (h : A / B < C / D) : cmpF A B C D = -1 := by
  have h1 : A < (A / B + 1) * B := Int.lt_ediv_add_one_mul_self A hB
  have h2 : C / D * D ≤ C := Int.ediv_mul_le C (by omega)
  have h3 : (A / B + 1) * B ≤ C / D * B := Int.mul_le_mul_of_nonneg_right (by omega) (by omega)
  have h4 : A * D < C / D * B * D := Int.mul_lt_mul_of_pos_right (by omega) hD
  have h5 : C / D * D * B ≤ C * B := Int.mul_le_mul_of_nonneg_right h2 (by omega)
  have h6 : C / D * B * D = C / D * D * B := by rw [Int.mul_assoc, Int.mul_comm B D, ← Int.mul_assoc]
  unfold cmpF; rw [if_pos (by omega)]
theorem cmpF_swap {A B C D : Int} : cmpF C D A B = -cmpF A B C D := by
  unfold cmpF
  rcases Int.lt_trichotomy (A * D) (C * B) with h | h | h
  · rw [if_neg (by omega), if_pos h, if_pos h]; rfl
  · rw [if_neg (by omega), if_neg (by omega), if_neg (by omega), if_neg (by omega)]; rfl
  · rw [if_pos h, if_neg (by omega), if_pos h]
theorem cmp_ne2 {A B C D : Int} (hA : 0 ≤ A) (hB : 0 < B) (hC : 0 ≤ C) (hD : 0 < D) (h : C / D < A / B) : cmpF A B C D = 1 := by
  rw [cmpF_swap, cmp_ne hC hD hA hB h]; rfl
theorem cmp_mod {A B C D : Int} (h : A / B = C / D) : cmpF (A % B) B (C % D) D = cmpF A B C D := by
  have h1 : A % B = A - B * (A / B) := Int.emod_def A B
  have h2 : C % D = C - D * (C / D) := Int.emod_def C D
  have h3 : A % B * D - C % D * B = A * D - C * B := by rw [h1, h2, h]; grind
  unfold cmpF
  rcases Int.lt_trichotomy (A * D) (C * B) with q | q | q
  · rw [if_pos (by omega), if_pos q]
  · rw [if_neg (by omega), if_neg (by omega), if_neg (by omega), if_neg (by omega)]
  · rw [if_neg (by omega), if_pos (by omega), if_neg (by omega), if_pos q]
theorem cmp_inv {A B C D : Int} : cmpF B A D C = -cmpF A B C D := by
  have e1 : B * C = C * B := Int.mul_comm _ _
  have e2 : D * A = A * D := Int.mul_comm _ _
  unfold cmpF
  rw [e1, e2]
  rcases Int.lt_trichotomy (A * D) (C * B) with h | h | h
  · rw [if_neg (by omega), if_pos h, if_pos h]; rfl
  · rw [if_neg (by omega), if_neg (by omega), if_neg (by omega), if_neg (by omega)]; rfl
  · rw [if_pos h, if_neg (by omega), if_pos h]
theorem cmp_z0 {B D : Int} : cmpF 0 B 0 D = 0 := by unfold cmpF; rw [Int.zero_mul, Int.zero_mul]; rfl
theorem cmp_z1 {B C D : Int} (hB : 0 < B) (hC : 0 < C) : cmpF 0 B C D = -1 := by
  have := Int.mul_pos hC hB
  unfold cmpF; rw [Int.zero_mul, if_pos this]
theorem cmp_z2 {A B D : Int} (hA : 0 < A) (hD : 0 < D) : cmpF A B 0 D = 1 := by
  have := Int.mul_pos hA hD
  unfold cmpF; rw [Int.zero_mul, if_neg (by omega), if_pos this]
/-- a step of the comparison -/
def cpInv (A B C D sn R : Int) : Prop := (0 ≤ A ∧ A < 4611686018427387904) ∧ (0 < B ∧ B < 4611686018427387904) ∧ (0 ≤ C ∧ C < 4611686018427387904) ∧ (0 < D ∧ D < 4611686018427387904) ∧ sn * cmpF A B C D = R
theorem cp_lt {A B C D sn R : Int} (h : cpInv A B C D sn R) (q : A / B < C / D) : -sn = R := by
  obtain ⟨h1, h2, h3, h4, h5⟩ := h
  rw [cmp_ne h1.1 h2.1 h3.1 h4.1 q] at h5; omega
theorem cp_gt {A B C D sn R : Int} (h : cpInv A B C D sn R) (q : C / D < A / B) : sn = R := by
  obtain ⟨h1, h2, h3, h4, h5⟩ := h
  rw [cmp_ne2 h1.1 h2.1 h3.1 h4.1 q] at h5; omega
theorem cp_next {A B C D sn R : Int} (h : cpInv A B C D sn R) (q : A / B = C / D) (ha : A % B ≠ 0) (hc : C % D ≠ 0) : cpInv B (A % B) D (C % D) (-sn) R := by
  obtain ⟨h1, h2, h3, h4, h5⟩ := h
  have a1 := Int.emod_nonneg A (show B ≠ 0 by omega); have a2 := Int.emod_lt_of_pos A h2.1
  have c1 := Int.emod_nonneg C (show D ≠ 0 by omega); have c2 := Int.emod_lt_of_pos C h4.1
  refine ⟨⟨by omega, by omega⟩, ⟨by omega, by omega⟩, ⟨by omega, by omega⟩, ⟨by omega, by omega⟩, ?_⟩
  rw [cmp_inv, cmp_mod q, Int.neg_mul_neg]; exact h5
theorem cp_end {A B C D sn R : Int} (h : cpInv A B C D sn R) (q : A / B = C / D) : (A % B = C % D → (A % B = 0 ∨ C % D = 0) → 0 = R) ∧ (A % B = 0 → C % D ≠ 0 → -sn = R) ∧ (A % B ≠ 0 → C % D = 0 → sn = R) := by
  obtain ⟨h1, h2, h3, h4, h5⟩ := h
  have a1 := Int.emod_nonneg A (show B ≠ 0 by omega)
  have c1 := Int.emod_nonneg C (show D ≠ 0 by omega)
  rw [← cmp_mod q] at h5
  refine ⟨fun e z => ?_, fun e z => ?_, fun e z => ?_⟩
  · have e1 : A % B = 0 := by omega
    have e2 : C % D = 0 := by omega
    rw [e1, e2, cmp_z0] at h5; omega
  · rw [e, cmp_z1 h2.1 (by omega)] at h5; omega
  · rw [z, cmp_z2 (by omega) h4.1] at h5; omega
set_option maxHeartbeats 4000000 in
set_option maxRecDepth 100000 in
theorem metX10_compare (lG : Launch) (D : va_G) (dA : Nat → ClassId) (p : Int) (q : Int) (r : Int) (s : Int) (hp : 0 ≤ p ∧ p < 4611686018427387904) (hq : 0 < q ∧ q < 4611686018427387904) (hr0 : 0 ≤ r ∧ r < 4611686018427387904) (hs : 0 < s ∧ s < 4611686018427387904) : Ro lG yX10_compare (ws_ yX10_compare cX10_compare 25 (some .int)) 0 0 D dA [.long (lZ p), .long (lZ q), .long (lZ r), .long (lZ s)] [] (some (.int (iZ (cmpF p q r s)))) := by
  refine Ro.of (by decide) (Nat.le_of_ble_eq_true rfl) ?_
  intro pG eG sG mG bG tG cG ls hx hb hr hml hown hts hlocks hP hK hl
  have hown : sG.vm.findClass RX10 = some mG.cls := hown
  have hl : lv_has ls 25 [(0, .long (lZ p)), (2, .long (lZ q)), (4, .long (lZ r)), (6, .long (lZ s))] := hl
  refine lv_lload_n hx hb dX10_compare_0 rfl (lv_at hl 0 rfl) ?_
  refine lv_lstore (lv' := [(8, .long (lZ p)), (0, .long (lZ p)), (2, .long (lZ q)), (4, .long (lZ r)), (6, .long (lZ s))]) hx hb dX10_compare_1 hl (by decide) rfl (fun ls hl => ?_)
  refine lv_lload_n hx hb dX10_compare_3 rfl (lv_at hl 2 rfl) ?_
  refine lv_lstore (lv' := [(10, .long (lZ q)), (8, .long (lZ p)), (0, .long (lZ p)), (2, .long (lZ q)), (4, .long (lZ r)), (6, .long (lZ s))]) hx hb dX10_compare_4 hl (by decide) rfl (fun ls hl => ?_)
  refine lv_lload hx hb dX10_compare_6 (lv_at hl 4 rfl) ?_
  refine lv_lstore (lv' := [(12, .long (lZ r)), (10, .long (lZ q)), (8, .long (lZ p)), (0, .long (lZ p)), (2, .long (lZ q)), (4, .long (lZ r)), (6, .long (lZ s))]) hx hb dX10_compare_8 hl (by decide) rfl (fun ls hl => ?_)
  refine lv_lload hx hb dX10_compare_10 (lv_at hl 6 rfl) ?_
  refine lv_lstore (lv' := [(14, .long (lZ s)), (12, .long (lZ r)), (10, .long (lZ q)), (8, .long (lZ p)), (0, .long (lZ p)), (2, .long (lZ q)), (4, .long (lZ r)), (6, .long (lZ s))]) hx hb dX10_compare_12 hl (by decide) rfl (fun ls hl => ?_)
  refine lv_iconst (v := iZ 1) hx hb dX10_compare_14 (by decide) ?_
  refine lv_istore (lv' := [(16, .int (iZ 1)), (14, .long (lZ s)), (12, .long (lZ r)), (10, .long (lZ q)), (8, .long (lZ p)), (0, .long (lZ p)), (2, .long (lZ q)), (4, .long (lZ r)), (6, .long (lZ s))]) hx hb dX10_compare_15 hl (by decide) rfl (fun ls hl => ?_)
  refine lv_iconst (v := bI true) hx hb dX10_compare_17 (by decide) ?_
  refine lv_istore (lv' := [(17, .int (bI true)), (16, .int (iZ 1)), (14, .long (lZ s)), (12, .long (lZ r)), (10, .long (lZ q)), (8, .long (lZ p)), (0, .long (lZ p)), (2, .long (lZ q)), (4, .long (lZ r)), (6, .long (lZ s))]) hx hb dX10_compare_18 hl (by decide) rfl (fun ls hl => ?_)
  refine lv_iconst (v := iZ 0) hx hb dX10_compare_20 (by decide) ?_
  refine lv_istore (lv' := [(18, .int (iZ 0)), (17, .int (bI true)), (16, .int (iZ 1)), (14, .long (lZ s)), (12, .long (lZ r)), (10, .long (lZ q)), (8, .long (lZ p)), (0, .long (lZ p)), (2, .long (lZ q)), (4, .long (lZ r)), (6, .long (lZ s))]) hx hb dX10_compare_21 hl (by decide) rfl (fun ls hl => ?_)
  have loop23 : ∀ (n23 : Nat) (A_ : Int) (B_ : Int) (C_ : Int) (D_ : Int) (sn : Int) (mo : Bool) (fo : Int), (mo = true → cpInv A_ B_ C_ D_ sn (cmpF p q r s)) → (mo = false → fo = cmpF p q r s) → (if mo then B_.toNat + 1 else 0) < n23 → ∀ (ls : Array Slot), lv_has ls 25 [(18, .int (iZ fo)), (17, .int (bI mo)), (16, .int (iZ sn)), (14, .long (lZ D_)), (12, .long (lZ C_)), (10, .long (lZ B_)), (8, .long (lZ A_)), (0, .long (lZ p)), (2, .long (lZ q)), (4, .long (lZ r)), (6, .long (lZ s))] → W pG lG eG (zRoom 0 0 0 0) sG mG [.long (lZ p), .long (lZ q), .long (lZ r), .long (lZ s)].toArray bG tG cG sG.heap [] 0 0 (MQ bG (roQ (some (.int (iZ (cmpF p q r s)))) sG.heap) [.long (lZ p), .long (lZ q), .long (lZ r), .long (lZ s)].toArray sG 0 0 (fun _ => False)) (F0 mG 23 ls []) := by
    intro n23
    induction n23 with
    | zero => intro A_ B_ C_ D_ sn mo fo i1 i2 hm; exact absurd hm (Nat.not_lt_zero _)
    | succ n23 ih23 =>
      intro A_ B_ C_ D_ sn mo fo i1 i2 hm23 ls hl
      refine lv_iload hx hb dX10_compare_23 (lv_at hl 1 rfl) ?_
      refine zb_if_eq (tgt := 168) hx hb dX10_compare_25 (by decide) (fun hmo => ?_) (fun hmo => ?_)
      · skip
        refine lv_iload hx hb dX10_compare_168 (lv_at hl 0 rfl) ?_
        exact zr_roI (congrArg iZ (i2 hmo)) hx hb hr hlocks dX10_compare_170
      · skip
        have hv9 := i1 hmo
        obtain ⟨hv1, hv2, hv3, hv4, hv5⟩ := hv9
        have hv9 := i1 hmo
        have qa1 := Int.ediv_nonneg hv1.1 (show 0 ≤ B_ by omega)
        have qa2 := Int.ediv_le_self B_ hv1.1
        have qc1 := Int.ediv_nonneg hv3.1 (show 0 ≤ D_ by omega)
        have qc2 := Int.ediv_le_self D_ hv3.1
        have ra1 := Int.emod_nonneg A_ (show B_ ≠ 0 by omega)
        have ra2 := Int.emod_lt_of_pos A_ hv2.1
        have rc1 := Int.emod_nonneg C_ (show D_ ≠ 0 by omega)
        have rc2 := Int.emod_lt_of_pos C_ hv4.1
        refine lv_lload hx hb dX10_compare_28 (lv_at hl 6 rfl) ?_
        refine lv_lload hx hb dX10_compare_30 (lv_at hl 5 rfl) ?_
        refine zz_ldiv hx hb ⟨by omega, by omega⟩ ⟨by omega, by omega⟩ dX10_compare_32 ?_
        refine lv_lstore (lv' := [(19, .long (lZ (A_ / B_))), (18, .int (iZ fo)), (17, .int (bI mo)), (16, .int (iZ sn)), (14, .long (lZ D_)), (12, .long (lZ C_)), (10, .long (lZ B_)), (8, .long (lZ A_)), (0, .long (lZ p)), (2, .long (lZ q)), (4, .long (lZ r)), (6, .long (lZ s))]) hx hb dX10_compare_33 hl (by decide) rfl (fun ls hl => ?_)
        refine lv_lload hx hb dX10_compare_35 (lv_at hl 5 rfl) ?_
        refine lv_lload hx hb dX10_compare_37 (lv_at hl 4 rfl) ?_
        refine zz_ldiv hx hb ⟨by omega, by omega⟩ ⟨by omega, by omega⟩ dX10_compare_39 ?_
        refine lv_lstore (lv' := [(21, .long (lZ (C_ / D_))), (19, .long (lZ (A_ / B_))), (18, .int (iZ fo)), (17, .int (bI mo)), (16, .int (iZ sn)), (14, .long (lZ D_)), (12, .long (lZ C_)), (10, .long (lZ B_)), (8, .long (lZ A_)), (0, .long (lZ p)), (2, .long (lZ q)), (4, .long (lZ r)), (6, .long (lZ s))]) hx hb dX10_compare_40 hl (by decide) rfl (fun ls hl => ?_)
        refine lv_lload hx hb dX10_compare_42 (lv_at hl 1 rfl) ?_
        refine lv_lload hx hb dX10_compare_44 (lv_at hl 0 rfl) ?_
        refine zz_lc_eq (tgt := 67) hx hb ⟨by omega, by omega⟩ ⟨by omega, by omega⟩ dX10_compare_46 dX10_compare_47 (by decide) (fun c_1 => ?_) (fun c_1 => ?_)
        · skip
          refine lv_lload hx hb dX10_compare_67 (lv_at hl 8 rfl) ?_
          refine lv_lload hx hb dX10_compare_69 (lv_at hl 7 rfl) ?_
          refine zz_lrem hx hb ⟨by omega, by omega⟩ ⟨by omega, by omega⟩ dX10_compare_71 ?_
          refine lv_lstore (lv' := [(8, .long (lZ (A_ % B_))), (21, .long (lZ (C_ / D_))), (19, .long (lZ (A_ / B_))), (18, .int (iZ fo)), (17, .int (bI mo)), (16, .int (iZ sn)), (14, .long (lZ D_)), (12, .long (lZ C_)), (10, .long (lZ B_)), (0, .long (lZ p)), (2, .long (lZ q)), (4, .long (lZ r)), (6, .long (lZ s))]) hx hb dX10_compare_72 hl (by decide) rfl (fun ls hl => ?_)
          refine lv_lload hx hb dX10_compare_74 (lv_at hl 7 rfl) ?_
          refine lv_lload hx hb dX10_compare_76 (lv_at hl 6 rfl) ?_
          refine zz_lrem hx hb ⟨by omega, by omega⟩ ⟨by omega, by omega⟩ dX10_compare_78 ?_
          refine lv_lstore (lv' := [(12, .long (lZ (C_ % D_))), (8, .long (lZ (A_ % B_))), (21, .long (lZ (C_ / D_))), (19, .long (lZ (A_ / B_))), (18, .int (iZ fo)), (17, .int (bI mo)), (16, .int (iZ sn)), (14, .long (lZ D_)), (10, .long (lZ B_)), (0, .long (lZ p)), (2, .long (lZ q)), (4, .long (lZ r)), (6, .long (lZ s))]) hx hb dX10_compare_79 hl (by decide) rfl (fun ls hl => ?_)
          refine lv_lload hx hb dX10_compare_81 (lv_at hl 1 rfl) ?_
          refine zz_lconst hx hb 0 dX10_compare_83 rfl ?_
          refine zz_lc_eq (tgt := 99) hx hb ⟨by omega, by omega⟩ ⟨by decide, by decide⟩ dX10_compare_84 dX10_compare_85 (by decide) (fun c_2 => ?_) (fun c_2 => ?_)
          · skip
            refine lv_iconst (v := bI false) hx hb dX10_compare_99 (by decide) ?_
            refine lv_istore (lv' := [(17, .int (bI false)), (12, .long (lZ (C_ % D_))), (8, .long (lZ (A_ % B_))), (21, .long (lZ (C_ / D_))), (19, .long (lZ (A_ / B_))), (18, .int (iZ fo)), (16, .int (iZ sn)), (14, .long (lZ D_)), (10, .long (lZ B_)), (0, .long (lZ p)), (2, .long (lZ q)), (4, .long (lZ r)), (6, .long (lZ s))]) hx hb dX10_compare_100 hl (by decide) rfl (fun ls hl => ?_)
            refine lv_iload hx hb dX10_compare_102 (lv_at hl 0 rfl) ?_
            refine zb_if_ne (tgt := 136) hx hb dX10_compare_104 (by decide) (fun c_3 => ?_) (fun c_3 => ?_)
            · skip
              exfalso; contradiction
            · skip
              refine lv_lload hx hb dX10_compare_107 (lv_at hl 2 rfl) ?_
              refine lv_lload hx hb dX10_compare_109 (lv_at hl 1 rfl) ?_
              refine zz_lc_ne (tgt := 119) hx hb ⟨by omega, by omega⟩ ⟨by omega, by omega⟩ dX10_compare_111 dX10_compare_112 (by decide) (fun c_4 => ?_) (fun c_4 => ?_)
              · skip
                refine lv_lload hx hb dX10_compare_119 (lv_at hl 2 rfl) ?_
                refine zz_lconst hx hb 0 dX10_compare_121 rfl ?_
                refine zz_lc_ne (tgt := 132) hx hb ⟨by omega, by omega⟩ ⟨by decide, by decide⟩ dX10_compare_122 dX10_compare_123 (by decide) (fun c_5 => ?_) (fun c_5 => ?_)
                · skip
                  refine lv_iload hx hb dX10_compare_132 (lv_at hl 6 rfl) ?_
                  refine lv_istore (lv' := [(18, .int (iZ sn)), (17, .int (bI false)), (12, .long (lZ (C_ % D_))), (8, .long (lZ (A_ % B_))), (21, .long (lZ (C_ / D_))), (19, .long (lZ (A_ / B_))), (16, .int (iZ sn)), (14, .long (lZ D_)), (10, .long (lZ B_)), (0, .long (lZ p)), (2, .long (lZ q)), (4, .long (lZ r)), (6, .long (lZ s))]) hx hb dX10_compare_134 hl (by decide) rfl (fun ls hl => ?_)
                  refine lv_lload hx hb dX10_compare_136 (lv_at hl 3 rfl) ?_
                  refine lv_lstore (lv' := [(23, .long (lZ (A_ % B_))), (18, .int (iZ sn)), (17, .int (bI false)), (12, .long (lZ (C_ % D_))), (8, .long (lZ (A_ % B_))), (21, .long (lZ (C_ / D_))), (19, .long (lZ (A_ / B_))), (16, .int (iZ sn)), (14, .long (lZ D_)), (10, .long (lZ B_)), (0, .long (lZ p)), (2, .long (lZ q)), (4, .long (lZ r)), (6, .long (lZ s))]) hx hb dX10_compare_138 hl (by decide) rfl (fun ls hl => ?_)
                  refine lv_lload hx hb dX10_compare_140 (lv_at hl 9 rfl) ?_
                  refine lv_lstore (lv' := [(8, .long (lZ B_)), (23, .long (lZ (A_ % B_))), (18, .int (iZ sn)), (17, .int (bI false)), (12, .long (lZ (C_ % D_))), (21, .long (lZ (C_ / D_))), (19, .long (lZ (A_ / B_))), (16, .int (iZ sn)), (14, .long (lZ D_)), (10, .long (lZ B_)), (0, .long (lZ p)), (2, .long (lZ q)), (4, .long (lZ r)), (6, .long (lZ s))]) hx hb dX10_compare_142 hl (by decide) rfl (fun ls hl => ?_)
                  refine lv_lload hx hb dX10_compare_144 (lv_at hl 1 rfl) ?_
                  refine lv_lstore (lv' := [(10, .long (lZ (A_ % B_))), (8, .long (lZ B_)), (23, .long (lZ (A_ % B_))), (18, .int (iZ sn)), (17, .int (bI false)), (12, .long (lZ (C_ % D_))), (21, .long (lZ (C_ / D_))), (19, .long (lZ (A_ / B_))), (16, .int (iZ sn)), (14, .long (lZ D_)), (0, .long (lZ p)), (2, .long (lZ q)), (4, .long (lZ r)), (6, .long (lZ s))]) hx hb dX10_compare_146 hl (by decide) rfl (fun ls hl => ?_)
                  refine lv_lload hx hb dX10_compare_148 (lv_at hl 5 rfl) ?_
                  refine lv_lstore (lv' := [(23, .long (lZ (C_ % D_))), (10, .long (lZ (A_ % B_))), (8, .long (lZ B_)), (18, .int (iZ sn)), (17, .int (bI false)), (12, .long (lZ (C_ % D_))), (21, .long (lZ (C_ / D_))), (19, .long (lZ (A_ / B_))), (16, .int (iZ sn)), (14, .long (lZ D_)), (0, .long (lZ p)), (2, .long (lZ q)), (4, .long (lZ r)), (6, .long (lZ s))]) hx hb dX10_compare_150 hl (by decide) rfl (fun ls hl => ?_)
                  refine lv_lload hx hb dX10_compare_152 (lv_at hl 9 rfl) ?_
                  refine lv_lstore (lv' := [(12, .long (lZ D_)), (23, .long (lZ (C_ % D_))), (10, .long (lZ (A_ % B_))), (8, .long (lZ B_)), (18, .int (iZ sn)), (17, .int (bI false)), (21, .long (lZ (C_ / D_))), (19, .long (lZ (A_ / B_))), (16, .int (iZ sn)), (14, .long (lZ D_)), (0, .long (lZ p)), (2, .long (lZ q)), (4, .long (lZ r)), (6, .long (lZ s))]) hx hb dX10_compare_154 hl (by decide) rfl (fun ls hl => ?_)
                  refine lv_lload hx hb dX10_compare_156 (lv_at hl 1 rfl) ?_
                  refine lv_lstore (lv' := [(14, .long (lZ (C_ % D_))), (12, .long (lZ D_)), (23, .long (lZ (C_ % D_))), (10, .long (lZ (A_ % B_))), (8, .long (lZ B_)), (18, .int (iZ sn)), (17, .int (bI false)), (21, .long (lZ (C_ / D_))), (19, .long (lZ (A_ / B_))), (16, .int (iZ sn)), (0, .long (lZ p)), (2, .long (lZ q)), (4, .long (lZ r)), (6, .long (lZ s))]) hx hb dX10_compare_158 hl (by decide) rfl (fun ls hl => ?_)
                  refine lv_iload hx hb dX10_compare_160 (lv_at hl 9 rfl) ?_
                  refine zz_ineg hx hb dX10_compare_162 ?_
                  refine lv_istore (lv' := [(16, .int (iZ (-sn))), (14, .long (lZ (C_ % D_))), (12, .long (lZ D_)), (23, .long (lZ (C_ % D_))), (10, .long (lZ (A_ % B_))), (8, .long (lZ B_)), (18, .int (iZ sn)), (17, .int (bI false)), (21, .long (lZ (C_ / D_))), (19, .long (lZ (A_ / B_))), (0, .long (lZ p)), (2, .long (lZ q)), (4, .long (lZ r)), (6, .long (lZ s))]) hx hb dX10_compare_163 hl (by decide) rfl (fun ls hl => ?_)
                  refine lv_goto (tgt := 23) hx hb dX10_compare_165 (by decide) ?_
                  exact ih23 B_ (A_ % B_) D_ (C_ % D_) (-sn) false sn (by first | exact fun _ => cp_next hv9 (by assumption) (by assumption) (by assumption) | (intro h; cases h)) (by first | (intro _; first | exact (cp_end hv9 (by assumption)).1 (by assumption) (by first | exact Or.inl (by assumption) | exact Or.inr (by assumption)) | exact (cp_end hv9 (by assumption)).2.1 (by assumption) (by omega) | exact (cp_end hv9 (by assumption)).2.2 (by assumption) (by omega)) | (intro h; cases h)) (by rw [hmo] at hm23; first | (show (if true = true then (A_ % B_).toNat + 1 else 0) < n23; rw [if_pos rfl] at hm23 ⊢; have := Int.emod_lt_of_pos A_ hv2.1; have := Int.emod_nonneg A_ (show B_ ≠ 0 by omega); omega) | (show (if false = true then (A_ % B_).toNat + 1 else 0) < n23; rw [if_pos rfl] at hm23; rw [if_neg (by decide)]; omega)) _ (lv_sub hl [6, 7, 0, 1, 2, 4, 5, 10, 11, 12, 13] rfl)
                · skip
                  refine lv_iload hx hb dX10_compare_126 (lv_at hl 6 rfl) ?_
                  refine zz_ineg hx hb dX10_compare_128 ?_
                  refine lv_goto (tgt := 134) hx hb dX10_compare_129 (by decide) ?_
                  refine lv_istore (lv' := [(18, .int (iZ (-sn))), (17, .int (bI false)), (12, .long (lZ (C_ % D_))), (8, .long (lZ (A_ % B_))), (21, .long (lZ (C_ / D_))), (19, .long (lZ (A_ / B_))), (16, .int (iZ sn)), (14, .long (lZ D_)), (10, .long (lZ B_)), (0, .long (lZ p)), (2, .long (lZ q)), (4, .long (lZ r)), (6, .long (lZ s))]) hx hb dX10_compare_134 hl (by decide) rfl (fun ls hl => ?_)
                  refine lv_lload hx hb dX10_compare_136 (lv_at hl 3 rfl) ?_
                  refine lv_lstore (lv' := [(23, .long (lZ (A_ % B_))), (18, .int (iZ (-sn))), (17, .int (bI false)), (12, .long (lZ (C_ % D_))), (8, .long (lZ (A_ % B_))), (21, .long (lZ (C_ / D_))), (19, .long (lZ (A_ / B_))), (16, .int (iZ sn)), (14, .long (lZ D_)), (10, .long (lZ B_)), (0, .long (lZ p)), (2, .long (lZ q)), (4, .long (lZ r)), (6, .long (lZ s))]) hx hb dX10_compare_138 hl (by decide) rfl (fun ls hl => ?_)
                  refine lv_lload hx hb dX10_compare_140 (lv_at hl 9 rfl) ?_
                  refine lv_lstore (lv' := [(8, .long (lZ B_)), (23, .long (lZ (A_ % B_))), (18, .int (iZ (-sn))), (17, .int (bI false)), (12, .long (lZ (C_ % D_))), (21, .long (lZ (C_ / D_))), (19, .long (lZ (A_ / B_))), (16, .int (iZ sn)), (14, .long (lZ D_)), (10, .long (lZ B_)), (0, .long (lZ p)), (2, .long (lZ q)), (4, .long (lZ r)), (6, .long (lZ s))]) hx hb dX10_compare_142 hl (by decide) rfl (fun ls hl => ?_)
                  refine lv_lload hx hb dX10_compare_144 (lv_at hl 1 rfl) ?_
                  refine lv_lstore (lv' := [(10, .long (lZ (A_ % B_))), (8, .long (lZ B_)), (23, .long (lZ (A_ % B_))), (18, .int (iZ (-sn))), (17, .int (bI false)), (12, .long (lZ (C_ % D_))), (21, .long (lZ (C_ / D_))), (19, .long (lZ (A_ / B_))), (16, .int (iZ sn)), (14, .long (lZ D_)), (0, .long (lZ p)), (2, .long (lZ q)), (4, .long (lZ r)), (6, .long (lZ s))]) hx hb dX10_compare_146 hl (by decide) rfl (fun ls hl => ?_)
                  refine lv_lload hx hb dX10_compare_148 (lv_at hl 5 rfl) ?_
                  refine lv_lstore (lv' := [(23, .long (lZ (C_ % D_))), (10, .long (lZ (A_ % B_))), (8, .long (lZ B_)), (18, .int (iZ (-sn))), (17, .int (bI false)), (12, .long (lZ (C_ % D_))), (21, .long (lZ (C_ / D_))), (19, .long (lZ (A_ / B_))), (16, .int (iZ sn)), (14, .long (lZ D_)), (0, .long (lZ p)), (2, .long (lZ q)), (4, .long (lZ r)), (6, .long (lZ s))]) hx hb dX10_compare_150 hl (by decide) rfl (fun ls hl => ?_)
                  refine lv_lload hx hb dX10_compare_152 (lv_at hl 9 rfl) ?_
                  refine lv_lstore (lv' := [(12, .long (lZ D_)), (23, .long (lZ (C_ % D_))), (10, .long (lZ (A_ % B_))), (8, .long (lZ B_)), (18, .int (iZ (-sn))), (17, .int (bI false)), (21, .long (lZ (C_ / D_))), (19, .long (lZ (A_ / B_))), (16, .int (iZ sn)), (14, .long (lZ D_)), (0, .long (lZ p)), (2, .long (lZ q)), (4, .long (lZ r)), (6, .long (lZ s))]) hx hb dX10_compare_154 hl (by decide) rfl (fun ls hl => ?_)
                  refine lv_lload hx hb dX10_compare_156 (lv_at hl 1 rfl) ?_
                  refine lv_lstore (lv' := [(14, .long (lZ (C_ % D_))), (12, .long (lZ D_)), (23, .long (lZ (C_ % D_))), (10, .long (lZ (A_ % B_))), (8, .long (lZ B_)), (18, .int (iZ (-sn))), (17, .int (bI false)), (21, .long (lZ (C_ / D_))), (19, .long (lZ (A_ / B_))), (16, .int (iZ sn)), (0, .long (lZ p)), (2, .long (lZ q)), (4, .long (lZ r)), (6, .long (lZ s))]) hx hb dX10_compare_158 hl (by decide) rfl (fun ls hl => ?_)
                  refine lv_iload hx hb dX10_compare_160 (lv_at hl 9 rfl) ?_
                  refine zz_ineg hx hb dX10_compare_162 ?_
                  refine lv_istore (lv' := [(16, .int (iZ (-sn))), (14, .long (lZ (C_ % D_))), (12, .long (lZ D_)), (23, .long (lZ (C_ % D_))), (10, .long (lZ (A_ % B_))), (8, .long (lZ B_)), (18, .int (iZ (-sn))), (17, .int (bI false)), (21, .long (lZ (C_ / D_))), (19, .long (lZ (A_ / B_))), (0, .long (lZ p)), (2, .long (lZ q)), (4, .long (lZ r)), (6, .long (lZ s))]) hx hb dX10_compare_163 hl (by decide) rfl (fun ls hl => ?_)
                  refine lv_goto (tgt := 23) hx hb dX10_compare_165 (by decide) ?_
                  exact ih23 B_ (A_ % B_) D_ (C_ % D_) (-sn) false (-sn) (by first | exact fun _ => cp_next hv9 (by assumption) (by assumption) (by assumption) | (intro h; cases h)) (by first | (intro _; first | exact (cp_end hv9 (by assumption)).1 (by assumption) (by first | exact Or.inl (by assumption) | exact Or.inr (by assumption)) | exact (cp_end hv9 (by assumption)).2.1 (by assumption) (by omega) | exact (cp_end hv9 (by assumption)).2.2 (by assumption) (by omega)) | (intro h; cases h)) (by rw [hmo] at hm23; first | (show (if true = true then (A_ % B_).toNat + 1 else 0) < n23; rw [if_pos rfl] at hm23 ⊢; have := Int.emod_lt_of_pos A_ hv2.1; have := Int.emod_nonneg A_ (show B_ ≠ 0 by omega); omega) | (show (if false = true then (A_ % B_).toNat + 1 else 0) < n23; rw [if_pos rfl] at hm23; rw [if_neg (by decide)]; omega)) _ (lv_sub hl [6, 7, 0, 1, 2, 4, 5, 10, 11, 12, 13] rfl)
              · skip
                refine lv_iconst (v := iZ 0) hx hb dX10_compare_115 (by decide) ?_
                refine lv_goto (tgt := 134) hx hb dX10_compare_116 (by decide) ?_
                refine lv_istore (lv' := [(18, .int (iZ 0)), (17, .int (bI false)), (12, .long (lZ (C_ % D_))), (8, .long (lZ (A_ % B_))), (21, .long (lZ (C_ / D_))), (19, .long (lZ (A_ / B_))), (16, .int (iZ sn)), (14, .long (lZ D_)), (10, .long (lZ B_)), (0, .long (lZ p)), (2, .long (lZ q)), (4, .long (lZ r)), (6, .long (lZ s))]) hx hb dX10_compare_134 hl (by decide) rfl (fun ls hl => ?_)
                refine lv_lload hx hb dX10_compare_136 (lv_at hl 3 rfl) ?_
                refine lv_lstore (lv' := [(23, .long (lZ (A_ % B_))), (18, .int (iZ 0)), (17, .int (bI false)), (12, .long (lZ (C_ % D_))), (8, .long (lZ (A_ % B_))), (21, .long (lZ (C_ / D_))), (19, .long (lZ (A_ / B_))), (16, .int (iZ sn)), (14, .long (lZ D_)), (10, .long (lZ B_)), (0, .long (lZ p)), (2, .long (lZ q)), (4, .long (lZ r)), (6, .long (lZ s))]) hx hb dX10_compare_138 hl (by decide) rfl (fun ls hl => ?_)
                refine lv_lload hx hb dX10_compare_140 (lv_at hl 9 rfl) ?_
                refine lv_lstore (lv' := [(8, .long (lZ B_)), (23, .long (lZ (A_ % B_))), (18, .int (iZ 0)), (17, .int (bI false)), (12, .long (lZ (C_ % D_))), (21, .long (lZ (C_ / D_))), (19, .long (lZ (A_ / B_))), (16, .int (iZ sn)), (14, .long (lZ D_)), (10, .long (lZ B_)), (0, .long (lZ p)), (2, .long (lZ q)), (4, .long (lZ r)), (6, .long (lZ s))]) hx hb dX10_compare_142 hl (by decide) rfl (fun ls hl => ?_)
                refine lv_lload hx hb dX10_compare_144 (lv_at hl 1 rfl) ?_
                refine lv_lstore (lv' := [(10, .long (lZ (A_ % B_))), (8, .long (lZ B_)), (23, .long (lZ (A_ % B_))), (18, .int (iZ 0)), (17, .int (bI false)), (12, .long (lZ (C_ % D_))), (21, .long (lZ (C_ / D_))), (19, .long (lZ (A_ / B_))), (16, .int (iZ sn)), (14, .long (lZ D_)), (0, .long (lZ p)), (2, .long (lZ q)), (4, .long (lZ r)), (6, .long (lZ s))]) hx hb dX10_compare_146 hl (by decide) rfl (fun ls hl => ?_)
                refine lv_lload hx hb dX10_compare_148 (lv_at hl 5 rfl) ?_
                refine lv_lstore (lv' := [(23, .long (lZ (C_ % D_))), (10, .long (lZ (A_ % B_))), (8, .long (lZ B_)), (18, .int (iZ 0)), (17, .int (bI false)), (12, .long (lZ (C_ % D_))), (21, .long (lZ (C_ / D_))), (19, .long (lZ (A_ / B_))), (16, .int (iZ sn)), (14, .long (lZ D_)), (0, .long (lZ p)), (2, .long (lZ q)), (4, .long (lZ r)), (6, .long (lZ s))]) hx hb dX10_compare_150 hl (by decide) rfl (fun ls hl => ?_)
                refine lv_lload hx hb dX10_compare_152 (lv_at hl 9 rfl) ?_
                refine lv_lstore (lv' := [(12, .long (lZ D_)), (23, .long (lZ (C_ % D_))), (10, .long (lZ (A_ % B_))), (8, .long (lZ B_)), (18, .int (iZ 0)), (17, .int (bI false)), (21, .long (lZ (C_ / D_))), (19, .long (lZ (A_ / B_))), (16, .int (iZ sn)), (14, .long (lZ D_)), (0, .long (lZ p)), (2, .long (lZ q)), (4, .long (lZ r)), (6, .long (lZ s))]) hx hb dX10_compare_154 hl (by decide) rfl (fun ls hl => ?_)
                refine lv_lload hx hb dX10_compare_156 (lv_at hl 1 rfl) ?_
                refine lv_lstore (lv' := [(14, .long (lZ (C_ % D_))), (12, .long (lZ D_)), (23, .long (lZ (C_ % D_))), (10, .long (lZ (A_ % B_))), (8, .long (lZ B_)), (18, .int (iZ 0)), (17, .int (bI false)), (21, .long (lZ (C_ / D_))), (19, .long (lZ (A_ / B_))), (16, .int (iZ sn)), (0, .long (lZ p)), (2, .long (lZ q)), (4, .long (lZ r)), (6, .long (lZ s))]) hx hb dX10_compare_158 hl (by decide) rfl (fun ls hl => ?_)
                refine lv_iload hx hb dX10_compare_160 (lv_at hl 9 rfl) ?_
                refine zz_ineg hx hb dX10_compare_162 ?_
                refine lv_istore (lv' := [(16, .int (iZ (-sn))), (14, .long (lZ (C_ % D_))), (12, .long (lZ D_)), (23, .long (lZ (C_ % D_))), (10, .long (lZ (A_ % B_))), (8, .long (lZ B_)), (18, .int (iZ 0)), (17, .int (bI false)), (21, .long (lZ (C_ / D_))), (19, .long (lZ (A_ / B_))), (0, .long (lZ p)), (2, .long (lZ q)), (4, .long (lZ r)), (6, .long (lZ s))]) hx hb dX10_compare_163 hl (by decide) rfl (fun ls hl => ?_)
                refine lv_goto (tgt := 23) hx hb dX10_compare_165 (by decide) ?_
                exact ih23 B_ (A_ % B_) D_ (C_ % D_) (-sn) false 0 (by first | exact fun _ => cp_next hv9 (by assumption) (by assumption) (by assumption) | (intro h; cases h)) (by first | (intro _; first | exact (cp_end hv9 (by assumption)).1 (by assumption) (by first | exact Or.inl (by assumption) | exact Or.inr (by assumption)) | exact (cp_end hv9 (by assumption)).2.1 (by assumption) (by omega) | exact (cp_end hv9 (by assumption)).2.2 (by assumption) (by omega)) | (intro h; cases h)) (by rw [hmo] at hm23; first | (show (if true = true then (A_ % B_).toNat + 1 else 0) < n23; rw [if_pos rfl] at hm23 ⊢; have := Int.emod_lt_of_pos A_ hv2.1; have := Int.emod_nonneg A_ (show B_ ≠ 0 by omega); omega) | (show (if false = true then (A_ % B_).toNat + 1 else 0) < n23; rw [if_pos rfl] at hm23; rw [if_neg (by decide)]; omega)) _ (lv_sub hl [6, 7, 0, 1, 2, 4, 5, 10, 11, 12, 13] rfl)
          · skip
            refine lv_lload hx hb dX10_compare_88 (lv_at hl 0 rfl) ?_
            refine zz_lconst hx hb 0 dX10_compare_90 rfl ?_
            refine zz_lc_eq (tgt := 99) hx hb ⟨by omega, by omega⟩ ⟨by decide, by decide⟩ dX10_compare_91 dX10_compare_92 (by decide) (fun c_6 => ?_) (fun c_6 => ?_)
            · skip
              refine lv_iconst (v := bI false) hx hb dX10_compare_99 (by decide) ?_
              refine lv_istore (lv' := [(17, .int (bI false)), (12, .long (lZ (C_ % D_))), (8, .long (lZ (A_ % B_))), (21, .long (lZ (C_ / D_))), (19, .long (lZ (A_ / B_))), (18, .int (iZ fo)), (16, .int (iZ sn)), (14, .long (lZ D_)), (10, .long (lZ B_)), (0, .long (lZ p)), (2, .long (lZ q)), (4, .long (lZ r)), (6, .long (lZ s))]) hx hb dX10_compare_100 hl (by decide) rfl (fun ls hl => ?_)
              refine lv_iload hx hb dX10_compare_102 (lv_at hl 0 rfl) ?_
              refine zb_if_ne (tgt := 136) hx hb dX10_compare_104 (by decide) (fun c_7 => ?_) (fun c_7 => ?_)
              · skip
                exfalso; contradiction
              · skip
                refine lv_lload hx hb dX10_compare_107 (lv_at hl 2 rfl) ?_
                refine lv_lload hx hb dX10_compare_109 (lv_at hl 1 rfl) ?_
                refine zz_lc_ne (tgt := 119) hx hb ⟨by omega, by omega⟩ ⟨by omega, by omega⟩ dX10_compare_111 dX10_compare_112 (by decide) (fun c_8 => ?_) (fun c_8 => ?_)
                · skip
                  refine lv_lload hx hb dX10_compare_119 (lv_at hl 2 rfl) ?_
                  refine zz_lconst hx hb 0 dX10_compare_121 rfl ?_
                  refine zz_lc_ne (tgt := 132) hx hb ⟨by omega, by omega⟩ ⟨by decide, by decide⟩ dX10_compare_122 dX10_compare_123 (by decide) (fun c_9 => ?_) (fun c_9 => ?_)
                  · skip
                    refine lv_iload hx hb dX10_compare_132 (lv_at hl 6 rfl) ?_
                    refine lv_istore (lv' := [(18, .int (iZ sn)), (17, .int (bI false)), (12, .long (lZ (C_ % D_))), (8, .long (lZ (A_ % B_))), (21, .long (lZ (C_ / D_))), (19, .long (lZ (A_ / B_))), (16, .int (iZ sn)), (14, .long (lZ D_)), (10, .long (lZ B_)), (0, .long (lZ p)), (2, .long (lZ q)), (4, .long (lZ r)), (6, .long (lZ s))]) hx hb dX10_compare_134 hl (by decide) rfl (fun ls hl => ?_)
                    refine lv_lload hx hb dX10_compare_136 (lv_at hl 3 rfl) ?_
                    refine lv_lstore (lv' := [(23, .long (lZ (A_ % B_))), (18, .int (iZ sn)), (17, .int (bI false)), (12, .long (lZ (C_ % D_))), (8, .long (lZ (A_ % B_))), (21, .long (lZ (C_ / D_))), (19, .long (lZ (A_ / B_))), (16, .int (iZ sn)), (14, .long (lZ D_)), (10, .long (lZ B_)), (0, .long (lZ p)), (2, .long (lZ q)), (4, .long (lZ r)), (6, .long (lZ s))]) hx hb dX10_compare_138 hl (by decide) rfl (fun ls hl => ?_)
                    refine lv_lload hx hb dX10_compare_140 (lv_at hl 9 rfl) ?_
                    refine lv_lstore (lv' := [(8, .long (lZ B_)), (23, .long (lZ (A_ % B_))), (18, .int (iZ sn)), (17, .int (bI false)), (12, .long (lZ (C_ % D_))), (21, .long (lZ (C_ / D_))), (19, .long (lZ (A_ / B_))), (16, .int (iZ sn)), (14, .long (lZ D_)), (10, .long (lZ B_)), (0, .long (lZ p)), (2, .long (lZ q)), (4, .long (lZ r)), (6, .long (lZ s))]) hx hb dX10_compare_142 hl (by decide) rfl (fun ls hl => ?_)
                    refine lv_lload hx hb dX10_compare_144 (lv_at hl 1 rfl) ?_
                    refine lv_lstore (lv' := [(10, .long (lZ (A_ % B_))), (8, .long (lZ B_)), (23, .long (lZ (A_ % B_))), (18, .int (iZ sn)), (17, .int (bI false)), (12, .long (lZ (C_ % D_))), (21, .long (lZ (C_ / D_))), (19, .long (lZ (A_ / B_))), (16, .int (iZ sn)), (14, .long (lZ D_)), (0, .long (lZ p)), (2, .long (lZ q)), (4, .long (lZ r)), (6, .long (lZ s))]) hx hb dX10_compare_146 hl (by decide) rfl (fun ls hl => ?_)
                    refine lv_lload hx hb dX10_compare_148 (lv_at hl 5 rfl) ?_
                    refine lv_lstore (lv' := [(23, .long (lZ (C_ % D_))), (10, .long (lZ (A_ % B_))), (8, .long (lZ B_)), (18, .int (iZ sn)), (17, .int (bI false)), (12, .long (lZ (C_ % D_))), (21, .long (lZ (C_ / D_))), (19, .long (lZ (A_ / B_))), (16, .int (iZ sn)), (14, .long (lZ D_)), (0, .long (lZ p)), (2, .long (lZ q)), (4, .long (lZ r)), (6, .long (lZ s))]) hx hb dX10_compare_150 hl (by decide) rfl (fun ls hl => ?_)
                    refine lv_lload hx hb dX10_compare_152 (lv_at hl 9 rfl) ?_
                    refine lv_lstore (lv' := [(12, .long (lZ D_)), (23, .long (lZ (C_ % D_))), (10, .long (lZ (A_ % B_))), (8, .long (lZ B_)), (18, .int (iZ sn)), (17, .int (bI false)), (21, .long (lZ (C_ / D_))), (19, .long (lZ (A_ / B_))), (16, .int (iZ sn)), (14, .long (lZ D_)), (0, .long (lZ p)), (2, .long (lZ q)), (4, .long (lZ r)), (6, .long (lZ s))]) hx hb dX10_compare_154 hl (by decide) rfl (fun ls hl => ?_)
                    refine lv_lload hx hb dX10_compare_156 (lv_at hl 1 rfl) ?_
                    refine lv_lstore (lv' := [(14, .long (lZ (C_ % D_))), (12, .long (lZ D_)), (23, .long (lZ (C_ % D_))), (10, .long (lZ (A_ % B_))), (8, .long (lZ B_)), (18, .int (iZ sn)), (17, .int (bI false)), (21, .long (lZ (C_ / D_))), (19, .long (lZ (A_ / B_))), (16, .int (iZ sn)), (0, .long (lZ p)), (2, .long (lZ q)), (4, .long (lZ r)), (6, .long (lZ s))]) hx hb dX10_compare_158 hl (by decide) rfl (fun ls hl => ?_)
                    refine lv_iload hx hb dX10_compare_160 (lv_at hl 9 rfl) ?_
                    refine zz_ineg hx hb dX10_compare_162 ?_
                    refine lv_istore (lv' := [(16, .int (iZ (-sn))), (14, .long (lZ (C_ % D_))), (12, .long (lZ D_)), (23, .long (lZ (C_ % D_))), (10, .long (lZ (A_ % B_))), (8, .long (lZ B_)), (18, .int (iZ sn)), (17, .int (bI false)), (21, .long (lZ (C_ / D_))), (19, .long (lZ (A_ / B_))), (0, .long (lZ p)), (2, .long (lZ q)), (4, .long (lZ r)), (6, .long (lZ s))]) hx hb dX10_compare_163 hl (by decide) rfl (fun ls hl => ?_)
                    refine lv_goto (tgt := 23) hx hb dX10_compare_165 (by decide) ?_
                    exact ih23 B_ (A_ % B_) D_ (C_ % D_) (-sn) false sn (by first | exact fun _ => cp_next hv9 (by assumption) (by assumption) (by assumption) | (intro h; cases h)) (by first | (intro _; first | exact (cp_end hv9 (by assumption)).1 (by assumption) (by first | exact Or.inl (by assumption) | exact Or.inr (by assumption)) | exact (cp_end hv9 (by assumption)).2.1 (by assumption) (by omega) | exact (cp_end hv9 (by assumption)).2.2 (by assumption) (by omega)) | (intro h; cases h)) (by rw [hmo] at hm23; first | (show (if true = true then (A_ % B_).toNat + 1 else 0) < n23; rw [if_pos rfl] at hm23 ⊢; have := Int.emod_lt_of_pos A_ hv2.1; have := Int.emod_nonneg A_ (show B_ ≠ 0 by omega); omega) | (show (if false = true then (A_ % B_).toNat + 1 else 0) < n23; rw [if_pos rfl] at hm23; rw [if_neg (by decide)]; omega)) _ (lv_sub hl [6, 7, 0, 1, 2, 4, 5, 10, 11, 12, 13] rfl)
                  · skip
                    refine lv_iload hx hb dX10_compare_126 (lv_at hl 6 rfl) ?_
                    refine zz_ineg hx hb dX10_compare_128 ?_
                    refine lv_goto (tgt := 134) hx hb dX10_compare_129 (by decide) ?_
                    refine lv_istore (lv' := [(18, .int (iZ (-sn))), (17, .int (bI false)), (12, .long (lZ (C_ % D_))), (8, .long (lZ (A_ % B_))), (21, .long (lZ (C_ / D_))), (19, .long (lZ (A_ / B_))), (16, .int (iZ sn)), (14, .long (lZ D_)), (10, .long (lZ B_)), (0, .long (lZ p)), (2, .long (lZ q)), (4, .long (lZ r)), (6, .long (lZ s))]) hx hb dX10_compare_134 hl (by decide) rfl (fun ls hl => ?_)
                    refine lv_lload hx hb dX10_compare_136 (lv_at hl 3 rfl) ?_
                    refine lv_lstore (lv' := [(23, .long (lZ (A_ % B_))), (18, .int (iZ (-sn))), (17, .int (bI false)), (12, .long (lZ (C_ % D_))), (8, .long (lZ (A_ % B_))), (21, .long (lZ (C_ / D_))), (19, .long (lZ (A_ / B_))), (16, .int (iZ sn)), (14, .long (lZ D_)), (10, .long (lZ B_)), (0, .long (lZ p)), (2, .long (lZ q)), (4, .long (lZ r)), (6, .long (lZ s))]) hx hb dX10_compare_138 hl (by decide) rfl (fun ls hl => ?_)
                    refine lv_lload hx hb dX10_compare_140 (lv_at hl 9 rfl) ?_
                    refine lv_lstore (lv' := [(8, .long (lZ B_)), (23, .long (lZ (A_ % B_))), (18, .int (iZ (-sn))), (17, .int (bI false)), (12, .long (lZ (C_ % D_))), (21, .long (lZ (C_ / D_))), (19, .long (lZ (A_ / B_))), (16, .int (iZ sn)), (14, .long (lZ D_)), (10, .long (lZ B_)), (0, .long (lZ p)), (2, .long (lZ q)), (4, .long (lZ r)), (6, .long (lZ s))]) hx hb dX10_compare_142 hl (by decide) rfl (fun ls hl => ?_)
                    refine lv_lload hx hb dX10_compare_144 (lv_at hl 1 rfl) ?_
                    refine lv_lstore (lv' := [(10, .long (lZ (A_ % B_))), (8, .long (lZ B_)), (23, .long (lZ (A_ % B_))), (18, .int (iZ (-sn))), (17, .int (bI false)), (12, .long (lZ (C_ % D_))), (21, .long (lZ (C_ / D_))), (19, .long (lZ (A_ / B_))), (16, .int (iZ sn)), (14, .long (lZ D_)), (0, .long (lZ p)), (2, .long (lZ q)), (4, .long (lZ r)), (6, .long (lZ s))]) hx hb dX10_compare_146 hl (by decide) rfl (fun ls hl => ?_)
                    refine lv_lload hx hb dX10_compare_148 (lv_at hl 5 rfl) ?_
                    refine lv_lstore (lv' := [(23, .long (lZ (C_ % D_))), (10, .long (lZ (A_ % B_))), (8, .long (lZ B_)), (18, .int (iZ (-sn))), (17, .int (bI false)), (12, .long (lZ (C_ % D_))), (21, .long (lZ (C_ / D_))), (19, .long (lZ (A_ / B_))), (16, .int (iZ sn)), (14, .long (lZ D_)), (0, .long (lZ p)), (2, .long (lZ q)), (4, .long (lZ r)), (6, .long (lZ s))]) hx hb dX10_compare_150 hl (by decide) rfl (fun ls hl => ?_)
                    refine lv_lload hx hb dX10_compare_152 (lv_at hl 9 rfl) ?_
                    refine lv_lstore (lv' := [(12, .long (lZ D_)), (23, .long (lZ (C_ % D_))), (10, .long (lZ (A_ % B_))), (8, .long (lZ B_)), (18, .int (iZ (-sn))), (17, .int (bI false)), (21, .long (lZ (C_ / D_))), (19, .long (lZ (A_ / B_))), (16, .int (iZ sn)), (14, .long (lZ D_)), (0, .long (lZ p)), (2, .long (lZ q)), (4, .long (lZ r)), (6, .long (lZ s))]) hx hb dX10_compare_154 hl (by decide) rfl (fun ls hl => ?_)
                    refine lv_lload hx hb dX10_compare_156 (lv_at hl 1 rfl) ?_
                    refine lv_lstore (lv' := [(14, .long (lZ (C_ % D_))), (12, .long (lZ D_)), (23, .long (lZ (C_ % D_))), (10, .long (lZ (A_ % B_))), (8, .long (lZ B_)), (18, .int (iZ (-sn))), (17, .int (bI false)), (21, .long (lZ (C_ / D_))), (19, .long (lZ (A_ / B_))), (16, .int (iZ sn)), (0, .long (lZ p)), (2, .long (lZ q)), (4, .long (lZ r)), (6, .long (lZ s))]) hx hb dX10_compare_158 hl (by decide) rfl (fun ls hl => ?_)
                    refine lv_iload hx hb dX10_compare_160 (lv_at hl 9 rfl) ?_
                    refine zz_ineg hx hb dX10_compare_162 ?_
                    refine lv_istore (lv' := [(16, .int (iZ (-sn))), (14, .long (lZ (C_ % D_))), (12, .long (lZ D_)), (23, .long (lZ (C_ % D_))), (10, .long (lZ (A_ % B_))), (8, .long (lZ B_)), (18, .int (iZ (-sn))), (17, .int (bI false)), (21, .long (lZ (C_ / D_))), (19, .long (lZ (A_ / B_))), (0, .long (lZ p)), (2, .long (lZ q)), (4, .long (lZ r)), (6, .long (lZ s))]) hx hb dX10_compare_163 hl (by decide) rfl (fun ls hl => ?_)
                    refine lv_goto (tgt := 23) hx hb dX10_compare_165 (by decide) ?_
                    exact ih23 B_ (A_ % B_) D_ (C_ % D_) (-sn) false (-sn) (by first | exact fun _ => cp_next hv9 (by assumption) (by assumption) (by assumption) | (intro h; cases h)) (by first | (intro _; first | exact (cp_end hv9 (by assumption)).1 (by assumption) (by first | exact Or.inl (by assumption) | exact Or.inr (by assumption)) | exact (cp_end hv9 (by assumption)).2.1 (by assumption) (by omega) | exact (cp_end hv9 (by assumption)).2.2 (by assumption) (by omega)) | (intro h; cases h)) (by rw [hmo] at hm23; first | (show (if true = true then (A_ % B_).toNat + 1 else 0) < n23; rw [if_pos rfl] at hm23 ⊢; have := Int.emod_lt_of_pos A_ hv2.1; have := Int.emod_nonneg A_ (show B_ ≠ 0 by omega); omega) | (show (if false = true then (A_ % B_).toNat + 1 else 0) < n23; rw [if_pos rfl] at hm23; rw [if_neg (by decide)]; omega)) _ (lv_sub hl [6, 7, 0, 1, 2, 4, 5, 10, 11, 12, 13] rfl)
                · skip
                  refine lv_iconst (v := iZ 0) hx hb dX10_compare_115 (by decide) ?_
                  refine lv_goto (tgt := 134) hx hb dX10_compare_116 (by decide) ?_
                  refine lv_istore (lv' := [(18, .int (iZ 0)), (17, .int (bI false)), (12, .long (lZ (C_ % D_))), (8, .long (lZ (A_ % B_))), (21, .long (lZ (C_ / D_))), (19, .long (lZ (A_ / B_))), (16, .int (iZ sn)), (14, .long (lZ D_)), (10, .long (lZ B_)), (0, .long (lZ p)), (2, .long (lZ q)), (4, .long (lZ r)), (6, .long (lZ s))]) hx hb dX10_compare_134 hl (by decide) rfl (fun ls hl => ?_)
                  refine lv_lload hx hb dX10_compare_136 (lv_at hl 3 rfl) ?_
                  refine lv_lstore (lv' := [(23, .long (lZ (A_ % B_))), (18, .int (iZ 0)), (17, .int (bI false)), (12, .long (lZ (C_ % D_))), (8, .long (lZ (A_ % B_))), (21, .long (lZ (C_ / D_))), (19, .long (lZ (A_ / B_))), (16, .int (iZ sn)), (14, .long (lZ D_)), (10, .long (lZ B_)), (0, .long (lZ p)), (2, .long (lZ q)), (4, .long (lZ r)), (6, .long (lZ s))]) hx hb dX10_compare_138 hl (by decide) rfl (fun ls hl => ?_)
                  refine lv_lload hx hb dX10_compare_140 (lv_at hl 9 rfl) ?_
                  refine lv_lstore (lv' := [(8, .long (lZ B_)), (23, .long (lZ (A_ % B_))), (18, .int (iZ 0)), (17, .int (bI false)), (12, .long (lZ (C_ % D_))), (21, .long (lZ (C_ / D_))), (19, .long (lZ (A_ / B_))), (16, .int (iZ sn)), (14, .long (lZ D_)), (10, .long (lZ B_)), (0, .long (lZ p)), (2, .long (lZ q)), (4, .long (lZ r)), (6, .long (lZ s))]) hx hb dX10_compare_142 hl (by decide) rfl (fun ls hl => ?_)
                  refine lv_lload hx hb dX10_compare_144 (lv_at hl 1 rfl) ?_
                  refine lv_lstore (lv' := [(10, .long (lZ (A_ % B_))), (8, .long (lZ B_)), (23, .long (lZ (A_ % B_))), (18, .int (iZ 0)), (17, .int (bI false)), (12, .long (lZ (C_ % D_))), (21, .long (lZ (C_ / D_))), (19, .long (lZ (A_ / B_))), (16, .int (iZ sn)), (14, .long (lZ D_)), (0, .long (lZ p)), (2, .long (lZ q)), (4, .long (lZ r)), (6, .long (lZ s))]) hx hb dX10_compare_146 hl (by decide) rfl (fun ls hl => ?_)
                  refine lv_lload hx hb dX10_compare_148 (lv_at hl 5 rfl) ?_
                  refine lv_lstore (lv' := [(23, .long (lZ (C_ % D_))), (10, .long (lZ (A_ % B_))), (8, .long (lZ B_)), (18, .int (iZ 0)), (17, .int (bI false)), (12, .long (lZ (C_ % D_))), (21, .long (lZ (C_ / D_))), (19, .long (lZ (A_ / B_))), (16, .int (iZ sn)), (14, .long (lZ D_)), (0, .long (lZ p)), (2, .long (lZ q)), (4, .long (lZ r)), (6, .long (lZ s))]) hx hb dX10_compare_150 hl (by decide) rfl (fun ls hl => ?_)
                  refine lv_lload hx hb dX10_compare_152 (lv_at hl 9 rfl) ?_
                  refine lv_lstore (lv' := [(12, .long (lZ D_)), (23, .long (lZ (C_ % D_))), (10, .long (lZ (A_ % B_))), (8, .long (lZ B_)), (18, .int (iZ 0)), (17, .int (bI false)), (21, .long (lZ (C_ / D_))), (19, .long (lZ (A_ / B_))), (16, .int (iZ sn)), (14, .long (lZ D_)), (0, .long (lZ p)), (2, .long (lZ q)), (4, .long (lZ r)), (6, .long (lZ s))]) hx hb dX10_compare_154 hl (by decide) rfl (fun ls hl => ?_)
                  refine lv_lload hx hb dX10_compare_156 (lv_at hl 1 rfl) ?_
                  refine lv_lstore (lv' := [(14, .long (lZ (C_ % D_))), (12, .long (lZ D_)), (23, .long (lZ (C_ % D_))), (10, .long (lZ (A_ % B_))), (8, .long (lZ B_)), (18, .int (iZ 0)), (17, .int (bI false)), (21, .long (lZ (C_ / D_))), (19, .long (lZ (A_ / B_))), (16, .int (iZ sn)), (0, .long (lZ p)), (2, .long (lZ q)), (4, .long (lZ r)), (6, .long (lZ s))]) hx hb dX10_compare_158 hl (by decide) rfl (fun ls hl => ?_)
                  refine lv_iload hx hb dX10_compare_160 (lv_at hl 9 rfl) ?_
                  refine zz_ineg hx hb dX10_compare_162 ?_
                  refine lv_istore (lv' := [(16, .int (iZ (-sn))), (14, .long (lZ (C_ % D_))), (12, .long (lZ D_)), (23, .long (lZ (C_ % D_))), (10, .long (lZ (A_ % B_))), (8, .long (lZ B_)), (18, .int (iZ 0)), (17, .int (bI false)), (21, .long (lZ (C_ / D_))), (19, .long (lZ (A_ / B_))), (0, .long (lZ p)), (2, .long (lZ q)), (4, .long (lZ r)), (6, .long (lZ s))]) hx hb dX10_compare_163 hl (by decide) rfl (fun ls hl => ?_)
                  refine lv_goto (tgt := 23) hx hb dX10_compare_165 (by decide) ?_
                  exact ih23 B_ (A_ % B_) D_ (C_ % D_) (-sn) false 0 (by first | exact fun _ => cp_next hv9 (by assumption) (by assumption) (by assumption) | (intro h; cases h)) (by first | (intro _; first | exact (cp_end hv9 (by assumption)).1 (by assumption) (by first | exact Or.inl (by assumption) | exact Or.inr (by assumption)) | exact (cp_end hv9 (by assumption)).2.1 (by assumption) (by omega) | exact (cp_end hv9 (by assumption)).2.2 (by assumption) (by omega)) | (intro h; cases h)) (by rw [hmo] at hm23; first | (show (if true = true then (A_ % B_).toNat + 1 else 0) < n23; rw [if_pos rfl] at hm23 ⊢; have := Int.emod_lt_of_pos A_ hv2.1; have := Int.emod_nonneg A_ (show B_ ≠ 0 by omega); omega) | (show (if false = true then (A_ % B_).toNat + 1 else 0) < n23; rw [if_pos rfl] at hm23; rw [if_neg (by decide)]; omega)) _ (lv_sub hl [6, 7, 0, 1, 2, 4, 5, 10, 11, 12, 13] rfl)
            · skip
              refine lv_iconst (v := bI true) hx hb dX10_compare_95 (by decide) ?_
              refine lv_goto (tgt := 100) hx hb dX10_compare_96 (by decide) ?_
              refine lv_istore (lv' := [(17, .int (bI true)), (12, .long (lZ (C_ % D_))), (8, .long (lZ (A_ % B_))), (21, .long (lZ (C_ / D_))), (19, .long (lZ (A_ / B_))), (18, .int (iZ fo)), (16, .int (iZ sn)), (14, .long (lZ D_)), (10, .long (lZ B_)), (0, .long (lZ p)), (2, .long (lZ q)), (4, .long (lZ r)), (6, .long (lZ s))]) hx hb dX10_compare_100 hl (by decide) rfl (fun ls hl => ?_)
              refine lv_iload hx hb dX10_compare_102 (lv_at hl 0 rfl) ?_
              refine zb_if_ne (tgt := 136) hx hb dX10_compare_104 (by decide) (fun c_10 => ?_) (fun c_10 => ?_)
              · skip
                refine lv_lload hx hb dX10_compare_136 (lv_at hl 2 rfl) ?_
                refine lv_lstore (lv' := [(23, .long (lZ (A_ % B_))), (17, .int (bI true)), (12, .long (lZ (C_ % D_))), (8, .long (lZ (A_ % B_))), (21, .long (lZ (C_ / D_))), (19, .long (lZ (A_ / B_))), (18, .int (iZ fo)), (16, .int (iZ sn)), (14, .long (lZ D_)), (10, .long (lZ B_)), (0, .long (lZ p)), (2, .long (lZ q)), (4, .long (lZ r)), (6, .long (lZ s))]) hx hb dX10_compare_138 hl (by decide) rfl (fun ls hl => ?_)
                refine lv_lload hx hb dX10_compare_140 (lv_at hl 9 rfl) ?_
                refine lv_lstore (lv' := [(8, .long (lZ B_)), (23, .long (lZ (A_ % B_))), (17, .int (bI true)), (12, .long (lZ (C_ % D_))), (21, .long (lZ (C_ / D_))), (19, .long (lZ (A_ / B_))), (18, .int (iZ fo)), (16, .int (iZ sn)), (14, .long (lZ D_)), (10, .long (lZ B_)), (0, .long (lZ p)), (2, .long (lZ q)), (4, .long (lZ r)), (6, .long (lZ s))]) hx hb dX10_compare_142 hl (by decide) rfl (fun ls hl => ?_)
                refine lv_lload hx hb dX10_compare_144 (lv_at hl 1 rfl) ?_
                refine lv_lstore (lv' := [(10, .long (lZ (A_ % B_))), (8, .long (lZ B_)), (23, .long (lZ (A_ % B_))), (17, .int (bI true)), (12, .long (lZ (C_ % D_))), (21, .long (lZ (C_ / D_))), (19, .long (lZ (A_ / B_))), (18, .int (iZ fo)), (16, .int (iZ sn)), (14, .long (lZ D_)), (0, .long (lZ p)), (2, .long (lZ q)), (4, .long (lZ r)), (6, .long (lZ s))]) hx hb dX10_compare_146 hl (by decide) rfl (fun ls hl => ?_)
                refine lv_lload hx hb dX10_compare_148 (lv_at hl 4 rfl) ?_
                refine lv_lstore (lv' := [(23, .long (lZ (C_ % D_))), (10, .long (lZ (A_ % B_))), (8, .long (lZ B_)), (17, .int (bI true)), (12, .long (lZ (C_ % D_))), (21, .long (lZ (C_ / D_))), (19, .long (lZ (A_ / B_))), (18, .int (iZ fo)), (16, .int (iZ sn)), (14, .long (lZ D_)), (0, .long (lZ p)), (2, .long (lZ q)), (4, .long (lZ r)), (6, .long (lZ s))]) hx hb dX10_compare_150 hl (by decide) rfl (fun ls hl => ?_)
                refine lv_lload hx hb dX10_compare_152 (lv_at hl 9 rfl) ?_
                refine lv_lstore (lv' := [(12, .long (lZ D_)), (23, .long (lZ (C_ % D_))), (10, .long (lZ (A_ % B_))), (8, .long (lZ B_)), (17, .int (bI true)), (21, .long (lZ (C_ / D_))), (19, .long (lZ (A_ / B_))), (18, .int (iZ fo)), (16, .int (iZ sn)), (14, .long (lZ D_)), (0, .long (lZ p)), (2, .long (lZ q)), (4, .long (lZ r)), (6, .long (lZ s))]) hx hb dX10_compare_154 hl (by decide) rfl (fun ls hl => ?_)
                refine lv_lload hx hb dX10_compare_156 (lv_at hl 1 rfl) ?_
                refine lv_lstore (lv' := [(14, .long (lZ (C_ % D_))), (12, .long (lZ D_)), (23, .long (lZ (C_ % D_))), (10, .long (lZ (A_ % B_))), (8, .long (lZ B_)), (17, .int (bI true)), (21, .long (lZ (C_ / D_))), (19, .long (lZ (A_ / B_))), (18, .int (iZ fo)), (16, .int (iZ sn)), (0, .long (lZ p)), (2, .long (lZ q)), (4, .long (lZ r)), (6, .long (lZ s))]) hx hb dX10_compare_158 hl (by decide) rfl (fun ls hl => ?_)
                refine lv_iload hx hb dX10_compare_160 (lv_at hl 9 rfl) ?_
                refine zz_ineg hx hb dX10_compare_162 ?_
                refine lv_istore (lv' := [(16, .int (iZ (-sn))), (14, .long (lZ (C_ % D_))), (12, .long (lZ D_)), (23, .long (lZ (C_ % D_))), (10, .long (lZ (A_ % B_))), (8, .long (lZ B_)), (17, .int (bI true)), (21, .long (lZ (C_ / D_))), (19, .long (lZ (A_ / B_))), (18, .int (iZ fo)), (0, .long (lZ p)), (2, .long (lZ q)), (4, .long (lZ r)), (6, .long (lZ s))]) hx hb dX10_compare_163 hl (by decide) rfl (fun ls hl => ?_)
                refine lv_goto (tgt := 23) hx hb dX10_compare_165 (by decide) ?_
                exact ih23 B_ (A_ % B_) D_ (C_ % D_) (-sn) true fo (by first | exact fun _ => cp_next hv9 (by assumption) (by assumption) (by assumption) | (intro h; cases h)) (by first | (intro _; first | exact (cp_end hv9 (by assumption)).1 (by assumption) (by first | exact Or.inl (by assumption) | exact Or.inr (by assumption)) | exact (cp_end hv9 (by assumption)).2.1 (by assumption) (by omega) | exact (cp_end hv9 (by assumption)).2.2 (by assumption) (by omega)) | (intro h; cases h)) (by rw [hmo] at hm23; first | (show (if true = true then (A_ % B_).toNat + 1 else 0) < n23; rw [if_pos rfl] at hm23 ⊢; have := Int.emod_lt_of_pos A_ hv2.1; have := Int.emod_nonneg A_ (show B_ ≠ 0 by omega); omega) | (show (if false = true then (A_ % B_).toNat + 1 else 0) < n23; rw [if_pos rfl] at hm23; rw [if_neg (by decide)]; omega)) _ (lv_sub hl [9, 6, 0, 1, 2, 4, 5, 10, 11, 12, 13] rfl)
              · skip
                exfalso; contradiction
        · skip
          refine lv_lload hx hb dX10_compare_50 (lv_at hl 1 rfl) ?_
          refine lv_lload hx hb dX10_compare_52 (lv_at hl 0 rfl) ?_
          refine zz_lc_ge (tgt := 64) hx hb ⟨by omega, by omega⟩ ⟨by omega, by omega⟩ dX10_compare_54 dX10_compare_55 (by decide) (fun c_11 => ?_) (fun c_11 => ?_)
          · skip
            refine lv_iload hx hb dX10_compare_64 (lv_at hl 4 rfl) ?_
            exact zr_roI (congrArg iZ (by first | exact cp_lt hv9 (by omega) | exact cp_gt hv9 (by omega))) hx hb hr hlocks dX10_compare_66
          · skip
            refine lv_iload hx hb dX10_compare_58 (lv_at hl 4 rfl) ?_
            refine zz_ineg hx hb dX10_compare_60 ?_
            refine lv_goto (tgt := 66) hx hb dX10_compare_61 (by decide) ?_
            exact zr_roI (congrArg iZ (by first | exact cp_lt hv9 (by omega) | exact cp_gt hv9 (by omega))) hx hb hr hlocks dX10_compare_66
  exact loop23 ((if true then q.toNat + 1 else 0) + 1) p q r s 1 true 0 (fun _ => ⟨hp, hq, hr0, hs, by omega⟩) (fun h => by cases h) (Nat.lt_succ_self _) _ (lv_sub hl [0, 1, 2, 3, 4, 5, 6, 7, 8, 9, 10] rfl)
/-- segments as the Model has them: by the numbers of points, with their shapes -/
def sgM (XS YS : Nat → Int) (FM TM WO : Nat → Nat) (k : Nat) : Sg × Nat := (((XS (FM k), YS (FM k)), (XS (TM k), YS (TM k))), WO k)
def mSegs (XS YS : Nat → Int) (KD PT PN BG : Nat → Nat) (s : Nat) : List Sg := shapeSegs (KD s) (fun k => XS (2048 * s + k)) (fun k => YS (2048 * s + k)) (fun p => BG (1025 * s + p)) (PN s) (PT s)
def mAll (XS YS : Nat → Int) (KD PT PN BG : Nat → Nat) (s : Nat) : List (Sg × Nat) := (mSegs XS YS KD PT PN BG s).map (fun g => (g, s))
def mPart (XS YS : Nat → Int) (KD PT PN BG : Nat → Nat) (s p : Nat) : List (Sg × Nat) := (if 1 < KD s then allSegs (KD s) (fun k => XS (2048 * s + k)) (fun k => YS (2048 * s + k)) (fun p => BG (1025 * s + p)) (PN s) (PT s) p else []).map (fun g => (g, s))
theorem mPart_end {XS YS : Nat → Int} {KD PT PN BG : Nat → Nat} {s : Nat} : mPart XS YS KD PT PN BG s (PN s) = mAll XS YS KD PT PN BG s := rfl
theorem sgM_push {XS YS : Nat → Int} {FM TM WO : Nat → Nat} {n a b s : Nat} : plist (sgM XS YS (updZ FM n a) (updZ TM n b) (updZ WO n s)) (n + 1) = plist (sgM XS YS FM TM WO) n ++ [(((XS a, YS a), (XS b, YS b)), s)] := by
  rw [plist_succ]
  congr 1
  · apply plist_cong
    intro k hk
    unfold sgM
    rw [updZ_n (by omega), updZ_n (by omega), updZ_n (by omega)]
  · unfold sgM; rw [updZ_s, updZ_s, updZ_s]
def alK (XS YS : Nat → Int) (p q : Nat) : Bool := decide (XS p = XS q) && decide (YS p = YS q)
/-- what joining two points adds -/
def joM (XS YS : Nat → Int) (s p q : Nat) : List (Sg × Nat) := if alK XS YS p q then [] else [(((XS p, YS p), (XS q, YS q)), s)]
theorem joM_seg {XS YS : Nat → Int} {s a b : Nat} : joM XS YS s (2048 * s + a) (2048 * s + b) = (segOf (fun k => XS (2048 * s + k)) (fun k => YS (2048 * s + k)) a b).map (fun g => (g, s)) := by
  unfold joM segOf alK ptAt
  split <;> rfl
theorem lt_upd {f : Nat → Nat} {n v B : Nat} (h : ∀ k, k < n → f k < B) (hv : v < B) : ∀ k, k < n + 1 → updZ f n v k < B := by
  intro k hk
  by_cases q : k = n
  · rw [q, updZ_s]; exact hv
  · rw [updZ_n q]; exact h k (by omega)
theorem joM_len {XS YS : Nat → Int} {s p q : Nat} : (joM XS YS s p q).length ≤ 1 := by unfold joM; split <;> simp
theorem mPart_succ {XS YS : Nat → Int} {KD PT PN BG : Nat → Nat} {s p : Nat} : mPart XS YS KD PT PN BG s (p + 1) = mPart XS YS KD PT PN BG s p ++ (if 1 < KD s then (partSegs (KD s) (fun k => XS (2048 * s + k)) (fun k => YS (2048 * s + k)) (BG (1025 * s + p)) (olEnd (fun p => BG (1025 * s + p)) (PN s) (PT s) p)).map (fun g => (g, s)) else []) := by
  unfold mPart
  by_cases h : 1 < KD s
  · rw [if_pos h, if_pos h, if_pos h, allSegs, List.map_append]
  · rw [if_neg h, if_neg h, if_neg h]; rfl
theorem mPart_len {XS YS : Nat → Int} {KD PT PN BG : Nat → Nat} {s : Nat} (h : olOK (fun p => BG (1025 * s + p)) (PN s) (PT s)) (p : Nat) (hp : p ≤ PN s) : (mPart XS YS KD PT PN BG s p).length ≤ (if p < PN s then BG (1025 * s + p) else PT s) := by
  unfold mPart
  rw [List.length_map]
  by_cases q : 1 < KD s
  · rw [if_pos q]; exact allSegs_len h p hp
  · rw [if_neg q]; exact Nat.zero_le _
theorem run_push {XS YS : Nat → Int} {s st k : Nat} (h : st ≤ k) : (runSegs (fun k => XS (2048 * s + k)) (fun k => YS (2048 * s + k)) st (k + 1 - st)).map (fun g => (g, s)) = (runSegs (fun k => XS (2048 * s + k)) (fun k => YS (2048 * s + k)) st (k - st)).map (fun g => (g, s)) ++ joM XS YS s (2048 * s + k) (2048 * s + k + 1) := by
  rw [show k + 1 - st = (k - st) + 1 by omega, runSegs, List.map_append, show st + (k - st) = k by omega, ← joM_seg]
  rfl
set_option maxHeartbeats 4000000 in
set_option maxRecDepth 100000 in
theorem metX10_alike (lG : Launch) (D : va_G) (dA : Nat → ClassId) (m0 : Nat) (thr : Nat) (kn : Nat) (pt : Nat) (pa : Nat) (bg : Nat) (xs_ : Nat) (ys_ : Nat) (sgm : Nat) (fr_ : Nat) (tw : Nat) (wo_ : Nat) (mt : Nat) (ha_ : Nat) (x0 : Int) (y0 : Int) (dx : Int) (dy : Int) (zz : Nat) (ct : Nat) (ov : Nat) (un : Nat) (XS : Nat → Int) (YS : Nat → Int) (p : Nat) (q : Nat) (hXS : ∀ k, cB (XS k)) (hYS : ∀ k, cB (YS k)) (hp1 : p < 4096) (hq1 : q < 4096) : Ro lG yX10_alike (ws_ yX10_alike cX10_alike 3 (some .boolean)) 0 0 D dA [.ref m0, .int (nI p), .int (nI q)] [(m0, .inr (9, [.int (nI thr), .ref kn, .ref pt, .ref pa, .ref bg, .ref xs_, .ref ys_, .int (nI sgm), .ref fr_, .ref tw, .ref wo_, .ref mt, .ref ha_, .long (lZ x0), .long (lZ y0), .long (lZ dx), .long (lZ dy), .ref zz, .int (nI ct), .ref ov, .ref un])), (xs_, .inl (dA 0, 4096, .inl fun j => iZ (XS j))), (ys_, .inl (dA 0, 4096, .inl fun j => iZ (YS j)))] (some (.int (bI (alK XS YS p q)))) := by
  refine Ro.of (by decide) (Nat.le_of_ble_eq_true rfl) ?_
  intro pG eG sG mG bG tG cG ls hx hb hr hml hown hts hlocks hP hK hl
  have hown : sG.vm.findClass RX10 = some mG.cls := hown
  have hl : lv_has ls 3 [(0, .ref m0), (1, .int (nI p)), (2, .int (nI q))] := hl
  refine lv_aload_n hx hb dX10_alike_0 rfl (lv_at hl 0 rfl) ?_
  refine va_get (D := D) (ci := 9) (v := .ref xs_) (C := RX10) (T := TX10) (N := 21) hx hb hts in_X10 hown hK.1 hP 0 rfl rfl 5 (Nat.le_of_ble_eq_true rfl) (hts _ q974) (fun _ h9 => h9) rfl dX10_alike_1 ?_
  refine lv_iload_n hx hb dX10_alike_4 rfl (lv_at hl 1 rfl) ?_
  refine zz_iaload (f := XS) (i := p) hx hb hK.1 hP 1 0 rfl rfl (by omega) (by decide) dX10_alike_5 ?_
  refine lv_aload_n hx hb dX10_alike_6 rfl (lv_at hl 0 rfl) ?_
  refine va_get (D := D) (ci := 9) (v := .ref xs_) (C := RX10) (T := TX10) (N := 21) hx hb hts in_X10 hown hK.1 hP 0 rfl rfl 5 (Nat.le_of_ble_eq_true rfl) (hts _ q974) (fun _ h9 => h9) rfl dX10_alike_7 ?_
  refine lv_iload_n hx hb dX10_alike_10 rfl (lv_at hl 2 rfl) ?_
  refine zz_iaload (f := XS) (i := q) hx hb hK.1 hP 1 0 rfl rfl (by omega) (by decide) dX10_alike_11 ?_
  refine zz_icmp_ne (tgt := 34) hx hb (hXS _).i (hXS _).i dX10_alike_12 (by decide) (fun c_1 => ?_) (fun c_1 => ?_)
  · skip
    refine lv_iconst (v := nI 0) hx hb dX10_alike_34 (by decide) ?_
    exact zr_roB (by unfold alK; first | (rw [decide_eq_true (by assumption), decide_eq_true (by assumption)]; rfl) | (rw [decide_eq_true (by assumption), decide_eq_false (by assumption)]; rfl) | (rw [decide_eq_false (by assumption)]; rfl)) hx hb hr hlocks dX10_alike_35
  · skip
    refine lv_aload_n hx hb dX10_alike_15 rfl (lv_at hl 0 rfl) ?_
    refine va_get (D := D) (ci := 9) (v := .ref ys_) (C := RX10) (T := TX10) (N := 21) hx hb hts in_X10 hown hK.1 hP 0 rfl rfl 6 (Nat.le_of_ble_eq_true rfl) (hts _ q975) (fun _ h9 => h9) rfl dX10_alike_16 ?_
    refine lv_iload_n hx hb dX10_alike_19 rfl (lv_at hl 1 rfl) ?_
    refine zz_iaload (f := YS) (i := p) hx hb hK.1 hP 2 0 rfl rfl (by omega) (by decide) dX10_alike_20 ?_
    refine lv_aload_n hx hb dX10_alike_21 rfl (lv_at hl 0 rfl) ?_
    refine va_get (D := D) (ci := 9) (v := .ref ys_) (C := RX10) (T := TX10) (N := 21) hx hb hts in_X10 hown hK.1 hP 0 rfl rfl 6 (Nat.le_of_ble_eq_true rfl) (hts _ q975) (fun _ h9 => h9) rfl dX10_alike_22 ?_
    refine lv_iload_n hx hb dX10_alike_25 rfl (lv_at hl 2 rfl) ?_
    refine zz_iaload (f := YS) (i := q) hx hb hK.1 hP 2 0 rfl rfl (by omega) (by decide) dX10_alike_26 ?_
    refine zz_icmp_ne (tgt := 34) hx hb (hYS _).i (hYS _).i dX10_alike_27 (by decide) (fun c_2 => ?_) (fun c_2 => ?_)
    · skip
      refine lv_iconst (v := nI 0) hx hb dX10_alike_34 (by decide) ?_
      exact zr_roB (by unfold alK; first | (rw [decide_eq_true (by assumption), decide_eq_true (by assumption)]; rfl) | (rw [decide_eq_true (by assumption), decide_eq_false (by assumption)]; rfl) | (rw [decide_eq_false (by assumption)]; rfl)) hx hb hr hlocks dX10_alike_35
    · skip
      refine lv_iconst (v := nI 1) hx hb dX10_alike_30 (by decide) ?_
      refine lv_goto (tgt := 35) hx hb dX10_alike_31 (by decide) ?_
      exact zr_roB (by unfold alK; first | (rw [decide_eq_true (by assumption), decide_eq_true (by assumption)]; rfl) | (rw [decide_eq_true (by assumption), decide_eq_false (by assumption)]; rfl) | (rw [decide_eq_false (by assumption)]; rfl)) hx hb hr hlocks dX10_alike_35
set_option maxHeartbeats 4000000 in
set_option maxRecDepth 100000 in
theorem metX10_join (lG : Launch) (D : va_G) (dA : Nat → ClassId) (m0 : Nat) (thr : Nat) (kn : Nat) (pt : Nat) (pa : Nat) (bg : Nat) (xs_ : Nat) (ys_ : Nat) (sgm : Nat) (fr_ : Nat) (tw : Nat) (wo_ : Nat) (mt : Nat) (ha_ : Nat) (x0 : Int) (y0 : Int) (dx : Int) (dy : Int) (zz : Nat) (ct : Nat) (ov : Nat) (un : Nat) (XS : Nat → Int) (YS : Nat → Int) (FM : Nat → Nat) (TM : Nat → Nat) (WO : Nat → Nat) (s_ : Nat) (p : Nat) (q : Nat) (hXS : ∀ k, cB (XS k)) (hYS : ∀ k, cB (YS k)) (hFM : ∀ k, k < sgm → FM k < 4096) (hTM : ∀ k, k < sgm → TM k < 4096) (hWO : ∀ k, k < sgm → WO k < 2) (hs : s_ < 2) (hp1 : p < 4096) (hq1 : q < 4096) (hsg : sgm < 4096) : Wr lG yX10_join (ws_ yX10_join cX10_join 4 none) 1 22 D dA [.ref m0, .int (nI s_), .int (nI p), .int (nI q)] [(m0, .inr (9, [.int (nI thr), .ref kn, .ref pt, .ref pa, .ref bg, .ref xs_, .ref ys_, .int (nI sgm), .ref fr_, .ref tw, .ref wo_, .ref mt, .ref ha_, .long (lZ x0), .long (lZ y0), .long (lZ dx), .long (lZ dy), .ref zz, .int (nI ct), .ref ov, .ref un])), (xs_, .inl (dA 0, 4096, .inl fun j => iZ (XS j))), (ys_, .inl (dA 0, 4096, .inl fun j => iZ (YS j))), (fr_, .inl (dA 0, 4096, .inl fun j => nI (FM j))), (tw, .inl (dA 0, 4096, .inl fun j => nI (TM j))), (wo_, .inl (dA 0, 4096, .inl fun j => nI (WO j)))] 0 0 (fun (u : Nat × (Nat → Nat) × (Nat → Nat) × (Nat → Nat)) => let sg2 := u.1; let FM2 := u.2.1; let TM2 := u.2.2.1; let WO2 := u.2.2.2; plist (sgM XS YS FM2 TM2 WO2) sg2 = plist (sgM XS YS FM TM WO) sgm ++ joM XS YS s_ p q ∧ (∀ k, k < sg2 → FM2 k < 4096) ∧ (∀ k, k < sg2 → TM2 k < 4096) ∧ (∀ k, k < sg2 → WO2 k < 2)) (fun (u : Nat × (Nat → Nat) × (Nat → Nat) × (Nat → Nat)) => let sg2 := u.1; let FM2 := u.2.1; let TM2 := u.2.2.1; let WO2 := u.2.2.2; none) (fun (u : Nat × (Nat → Nat) × (Nat → Nat) × (Nat → Nat)) => let sg2 := u.1; let FM2 := u.2.1; let TM2 := u.2.2.1; let WO2 := u.2.2.2; [(m0, .inr (9, [.int (nI thr), .ref kn, .ref pt, .ref pa, .ref bg, .ref xs_, .ref ys_, .int (nI sg2), .ref fr_, .ref tw, .ref wo_, .ref mt, .ref ha_, .long (lZ x0), .long (lZ y0), .long (lZ dx), .long (lZ dy), .ref zz, .int (nI ct), .ref ov, .ref un])), (xs_, .inl (dA 0, 4096, .inl fun j => iZ (XS j))), (ys_, .inl (dA 0, 4096, .inl fun j => iZ (YS j))), (fr_, .inl (dA 0, 4096, .inl fun j => nI (FM2 j))), (tw, .inl (dA 0, 4096, .inl fun j => nI (TM2 j))), (wo_, .inl (dA 0, 4096, .inl fun j => nI (WO2 j)))]) := by
  refine Wr.of (by decide) (Nat.le_of_ble_eq_true rfl) ?_
  intro pG eG sG mG bG tG cG ls A hx hb hr hml hown hts hlocks hnm hP hK hD hS hA hl
  have hK1 := hK.1
  have hown : sG.vm.findClass RX10 = some mG.cls := hown
  have hl : lv_has ls 4 [(0, .ref m0), (1, .int (nI s_)), (2, .int (nI p)), (3, .int (nI q))] := hl
  refine lv_aload_n hx hb dX10_join_0 rfl (lv_at hl 0 rfl) ?_
  refine lv_iload_n hx hb dX10_join_1 rfl (lv_at hl 2 rfl) ?_
  refine lv_iload_n hx hb dX10_join_2 rfl (lv_at hl 3 rfl) ?_
  refine zc_roV (v := .int (bI (alK XS YS p q))) (rest := []) ⟨hx, hb, hml, hown, hts⟩ (metX10_alike lG D dA m0 thr kn pt pa bg xs_ ys_ sgm fr_ tw wo_ mt ha_ x0 y0 dx dy zz ct ov un XS YS p q (by first | assumption | omega) (by first | assumption | omega) (by first | assumption | omega) (by first | assumption | omega)) (cwV 2 hts (lw_V q1084 q1086 qs34 q80 q1087) rfl rfl rfl (by decide +kernel) ⟨Nat.le_of_ble_eq_true rfl, Nat.le_of_ble_eq_true rfl⟩) (va_recv hK.1 hP (ci := 9) (q0 := 0) rfl rfl) (hP.sub [0, 1, 2] rfl) hK rfl hl.1 rfl (Nat.le_of_ble_eq_true rfl) dX10_join_3 ⟨Nat.zero_le _, Nat.zero_le _⟩ ?_
  refine zb_if_eq (tgt := 10) hx hb dX10_join_6 (by decide) (fun hal => ?_) (fun hal => ?_)
  · skip
    refine lv_aload_n hx hb dX10_join_10 rfl (lv_at hl 0 rfl) ?_
    refine va_get (D := D) (ci := 9) (v := .ref fr_) (C := RX10) (T := TX10) (N := 21) hx hb hts in_X10 hown hK.1 hP 0 rfl rfl 8 (Nat.le_of_ble_eq_true rfl) (hts _ q977) (fun _ h9 => h9) rfl dX10_join_11 ?_
    refine lv_aload_n hx hb dX10_join_14 rfl (lv_at hl 0 rfl) ?_
    refine va_get (D := D) (ci := 9) (v := .int (nI sgm)) (C := RX10) (T := TX10) (N := 21) hx hb hts in_X10 hown hK.1 hP 0 rfl rfl 7 (Nat.le_of_ble_eq_true rfl) (hts _ q976) (fun _ h9 => h9) rfl dX10_join_15 ?_
    refine lv_iload_n hx hb dX10_join_18 rfl (lv_at hl 2 rfl) ?_
    refine zn_iastore (f := FM) (i := sgm) (x := p) hx hb hK.1 hP hD hS 3 0 rfl rfl (by omega) (by decide) dX10_join_19 (fun H locs hP hD hS => ?_)
    have hP : va_P D zCl [(m0, .inr (9, [.int (nI thr), .ref kn, .ref pt, .ref pa, .ref bg, .ref xs_, .ref ys_, .int (nI sgm), .ref fr_, .ref tw, .ref wo_, .ref mt, .ref ha_, .long (lZ x0), .long (lZ y0), .long (lZ dx), .long (lZ dy), .ref zz, .int (nI ct), .ref ov, .ref un])), (xs_, .inl (dA 0, 4096, .inl fun j => iZ (XS j))), (ys_, .inl (dA 0, 4096, .inl fun j => iZ (YS j))), (fr_, .inl (dA 0, 4096, .inl fun j => nI ((updZ FM sgm p) j))), (tw, .inl (dA 0, 4096, .inl fun j => nI (TM j))), (wo_, .inl (dA 0, 4096, .inl fun j => nI (WO j)))] H := hP
    have hD : va_D A [(m0, .inr (9, [.int (nI thr), .ref kn, .ref pt, .ref pa, .ref bg, .ref xs_, .ref ys_, .int (nI sgm), .ref fr_, .ref tw, .ref wo_, .ref mt, .ref ha_, .long (lZ x0), .long (lZ y0), .long (lZ dx), .long (lZ dy), .ref zz, .int (nI ct), .ref ov, .ref un])), (xs_, .inl (dA 0, 4096, .inl fun j => iZ (XS j))), (ys_, .inl (dA 0, 4096, .inl fun j => iZ (YS j))), (fr_, .inl (dA 0, 4096, .inl fun j => nI ((updZ FM sgm p) j))), (tw, .inl (dA 0, 4096, .inl fun j => nI (TM j))), (wo_, .inl (dA 0, 4096, .inl fun j => nI (WO j)))] := hD
    refine lv_aload_n hx hb dX10_join_20 rfl (lv_at hl 0 rfl) ?_
    refine va_get (D := D) (ci := 9) (v := .ref tw) (C := RX10) (T := TX10) (N := 21) hx hb hts in_X10 hown hK.1 hP 0 rfl rfl 9 (Nat.le_of_ble_eq_true rfl) (hts _ q978) (fun _ h9 => h9) rfl dX10_join_21 ?_
    refine lv_aload_n hx hb dX10_join_24 rfl (lv_at hl 0 rfl) ?_
    refine va_get (D := D) (ci := 9) (v := .int (nI sgm)) (C := RX10) (T := TX10) (N := 21) hx hb hts in_X10 hown hK.1 hP 0 rfl rfl 7 (Nat.le_of_ble_eq_true rfl) (hts _ q976) (fun _ h9 => h9) rfl dX10_join_25 ?_
    refine lv_iload_n hx hb dX10_join_28 rfl (lv_at hl 3 rfl) ?_
    refine zn_iastore (f := TM) (i := sgm) (x := q) hx hb hK.1 hP hD hS 4 0 rfl rfl (by omega) (by decide) dX10_join_29 (fun H locs hP hD hS => ?_)
    have hP : va_P D zCl [(m0, .inr (9, [.int (nI thr), .ref kn, .ref pt, .ref pa, .ref bg, .ref xs_, .ref ys_, .int (nI sgm), .ref fr_, .ref tw, .ref wo_, .ref mt, .ref ha_, .long (lZ x0), .long (lZ y0), .long (lZ dx), .long (lZ dy), .ref zz, .int (nI ct), .ref ov, .ref un])), (xs_, .inl (dA 0, 4096, .inl fun j => iZ (XS j))), (ys_, .inl (dA 0, 4096, .inl fun j => iZ (YS j))), (fr_, .inl (dA 0, 4096, .inl fun j => nI ((updZ FM sgm p) j))), (tw, .inl (dA 0, 4096, .inl fun j => nI ((updZ TM sgm q) j))), (wo_, .inl (dA 0, 4096, .inl fun j => nI (WO j)))] H := hP
    have hD : va_D A [(m0, .inr (9, [.int (nI thr), .ref kn, .ref pt, .ref pa, .ref bg, .ref xs_, .ref ys_, .int (nI sgm), .ref fr_, .ref tw, .ref wo_, .ref mt, .ref ha_, .long (lZ x0), .long (lZ y0), .long (lZ dx), .long (lZ dy), .ref zz, .int (nI ct), .ref ov, .ref un])), (xs_, .inl (dA 0, 4096, .inl fun j => iZ (XS j))), (ys_, .inl (dA 0, 4096, .inl fun j => iZ (YS j))), (fr_, .inl (dA 0, 4096, .inl fun j => nI ((updZ FM sgm p) j))), (tw, .inl (dA 0, 4096, .inl fun j => nI ((updZ TM sgm q) j))), (wo_, .inl (dA 0, 4096, .inl fun j => nI (WO j)))] := hD
    refine lv_aload_n hx hb dX10_join_30 rfl (lv_at hl 0 rfl) ?_
    refine va_get (D := D) (ci := 9) (v := .ref wo_) (C := RX10) (T := TX10) (N := 21) hx hb hts in_X10 hown hK.1 hP 0 rfl rfl 10 (Nat.le_of_ble_eq_true rfl) (hts _ q979) (fun _ h9 => h9) rfl dX10_join_31 ?_
    refine lv_aload_n hx hb dX10_join_34 rfl (lv_at hl 0 rfl) ?_
    refine va_get (D := D) (ci := 9) (v := .int (nI sgm)) (C := RX10) (T := TX10) (N := 21) hx hb hts in_X10 hown hK.1 hP 0 rfl rfl 7 (Nat.le_of_ble_eq_true rfl) (hts _ q976) (fun _ h9 => h9) rfl dX10_join_35 ?_
    refine lv_iload_n hx hb dX10_join_38 rfl (lv_at hl 1 rfl) ?_
    refine zn_iastore (f := WO) (i := sgm) (x := s_) hx hb hK.1 hP hD hS 5 0 rfl rfl (by omega) (by decide) dX10_join_39 (fun H locs hP hD hS => ?_)
    have hP : va_P D zCl [(m0, .inr (9, [.int (nI thr), .ref kn, .ref pt, .ref pa, .ref bg, .ref xs_, .ref ys_, .int (nI sgm), .ref fr_, .ref tw, .ref wo_, .ref mt, .ref ha_, .long (lZ x0), .long (lZ y0), .long (lZ dx), .long (lZ dy), .ref zz, .int (nI ct), .ref ov, .ref un])), (xs_, .inl (dA 0, 4096, .inl fun j => iZ (XS j))), (ys_, .inl (dA 0, 4096, .inl fun j => iZ (YS j))), (fr_, .inl (dA 0, 4096, .inl fun j => nI ((updZ FM sgm p) j))), (tw, .inl (dA 0, 4096, .inl fun j => nI ((updZ TM sgm q) j))), (wo_, .inl (dA 0, 4096, .inl fun j => nI ((updZ WO sgm s_) j)))] H := hP
    have hD : va_D A [(m0, .inr (9, [.int (nI thr), .ref kn, .ref pt, .ref pa, .ref bg, .ref xs_, .ref ys_, .int (nI sgm), .ref fr_, .ref tw, .ref wo_, .ref mt, .ref ha_, .long (lZ x0), .long (lZ y0), .long (lZ dx), .long (lZ dy), .ref zz, .int (nI ct), .ref ov, .ref un])), (xs_, .inl (dA 0, 4096, .inl fun j => iZ (XS j))), (ys_, .inl (dA 0, 4096, .inl fun j => iZ (YS j))), (fr_, .inl (dA 0, 4096, .inl fun j => nI ((updZ FM sgm p) j))), (tw, .inl (dA 0, 4096, .inl fun j => nI ((updZ TM sgm q) j))), (wo_, .inl (dA 0, 4096, .inl fun j => nI ((updZ WO sgm s_) j)))] := hD
    refine lv_aload_n hx hb dX10_join_40 rfl (lv_at hl 0 rfl) ?_
    refine lv_dup hx hb dX10_join_41 rfl ?_
    refine va_get (D := D) (ci := 9) (v := .int (nI sgm)) (C := RX10) (T := TX10) (N := 21) hx hb hts in_X10 hown hK.1 hP 0 rfl rfl 7 (Nat.le_of_ble_eq_true rfl) (hts _ q976) (fun _ h9 => h9) rfl dX10_join_42 ?_
    refine lv_iconst (v := nI 1) hx hb dX10_join_45 (by decide) ?_
    refine zn_iadd hx hb dX10_join_46 ?_
    refine va_put (D := D) (ci := 9) (v := .int (nI (sgm + 1))) (ty := .int) (C := RX10) (T := TX10) (N := 21) hx hb hts in_X10 tyX10 tyX10_ok nmX10 hown hK.1 hP hD hS 0 rfl rfl 7 (Nat.le_of_ble_eq_true rfl) (hts _ q976) (fun _ h9 => h9) rfl (by decide +kernel) rfl rfl (Nat.le_of_ble_eq_true rfl) dX10_join_47 (fun H locs hP hD hS => ?_)
    have hP : va_P D zCl [(m0, .inr (9, [.int (nI thr), .ref kn, .ref pt, .ref pa, .ref bg, .ref xs_, .ref ys_, .int (nI (sgm + 1)), .ref fr_, .ref tw, .ref wo_, .ref mt, .ref ha_, .long (lZ x0), .long (lZ y0), .long (lZ dx), .long (lZ dy), .ref zz, .int (nI ct), .ref ov, .ref un])), (xs_, .inl (dA 0, 4096, .inl fun j => iZ (XS j))), (ys_, .inl (dA 0, 4096, .inl fun j => iZ (YS j))), (fr_, .inl (dA 0, 4096, .inl fun j => nI ((updZ FM sgm p) j))), (tw, .inl (dA 0, 4096, .inl fun j => nI ((updZ TM sgm q) j))), (wo_, .inl (dA 0, 4096, .inl fun j => nI ((updZ WO sgm s_) j)))] H := hP
    have hD : va_D A [(m0, .inr (9, [.int (nI thr), .ref kn, .ref pt, .ref pa, .ref bg, .ref xs_, .ref ys_, .int (nI (sgm + 1)), .ref fr_, .ref tw, .ref wo_, .ref mt, .ref ha_, .long (lZ x0), .long (lZ y0), .long (lZ dx), .long (lZ dy), .ref zz, .int (nI ct), .ref ov, .ref un])), (xs_, .inl (dA 0, 4096, .inl fun j => iZ (XS j))), (ys_, .inl (dA 0, 4096, .inl fun j => iZ (YS j))), (fr_, .inl (dA 0, 4096, .inl fun j => nI ((updZ FM sgm p) j))), (tw, .inl (dA 0, 4096, .inl fun j => nI ((updZ TM sgm q) j))), (wo_, .inl (dA 0, 4096, .inl fun j => nI ((updZ WO sgm s_) j)))] := hD
    exact zr_wrV (u := (sgm + 1, updZ FM sgm p, updZ TM sgm q, updZ WO sgm s_)) rfl (show plist (sgM XS YS (updZ FM sgm p) (updZ TM sgm q) (updZ WO sgm s_)) (sgm + 1) = plist (sgM XS YS FM TM WO) sgm ++ joM XS YS s_ p q ∧ (∀ k, k < (sgm + 1) → (updZ FM sgm p) k < 4096) ∧ (∀ k, k < (sgm + 1) → (updZ TM sgm q) k < 4096) ∧ (∀ k, k < (sgm + 1) → (updZ WO sgm s_) k < 2) from ⟨by rw [sgM_push]; unfold joM; rw [if_neg (by rw [hal]; decide)], lt_upd hFM hp1, lt_upd hTM hq1, lt_upd hWO hs⟩) (hP.sub [0, 1, 2, 3, 4, 5] rfl) (hD.sub [0, 1, 2, 3, 4, 5] (by decide) rfl) hS hx hb hr hlocks dX10_join_50
  · skip
    exact zr_wrV (u := (sgm, FM, TM, WO)) rfl (show plist (sgM XS YS FM TM WO) sgm = plist (sgM XS YS FM TM WO) sgm ++ joM XS YS s_ p q ∧ (∀ k, k < sgm → FM k < 4096) ∧ (∀ k, k < sgm → TM k < 4096) ∧ (∀ k, k < sgm → WO k < 2) from ⟨by unfold joM; rw [if_pos hal, List.append_nil], hFM, hTM, hWO⟩) (hP.sub [0, 1, 2, 3, 4, 5] rfl) (hD.sub [0, 1, 2, 3, 4, 5] (by decide) rfl) hS hx hb hr hlocks dX10_join_9
