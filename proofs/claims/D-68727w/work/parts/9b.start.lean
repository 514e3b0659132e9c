/-! the law's own rows: the script, the switch, what is known at the start (printed by wip gen/c9b.py) -/
section LAW
variable {p : Program} {l : Launch} {e : Env} {R : Room} {s : State} {m : MethodId} {args : Array Value} {below : List Frame} {meth : Method} {c : Code} {H : Heap} {locs : List Loc} {cells slots : Nat} {Q : State → Prop} {cc : ByteArray} {pc : Nat} {ls : Array Slot} {rest : List Value} {A : Nat → Prop} {H0 : Heap}
theorem zs_ald {b L k : Nat} {zS : Nat → Int} (hx : p.tables.exec = Jvm.exec) (hb : c.code = cc) (hX : va_X b L (fun j => iZ (zS j)) s H0) (hbl : b < H0.size) (hbA : ¬ A b) (hS : va_S A H0 H locs) (hk : k < L) (hL : L ≤ 256) (hdg : decode cc pc = .ok (.iaload, 1)) {v : Int32} (hv : iZ (zS k) = v)
    (kk : W p l e R s m args below meth c H locs cells slots Q (F0 m (pc + 1) ls (.int v :: rest))) : W p l e R s m args below meth c H locs cells slots Q (F0 m pc ls (.int (nI k) :: .ref b :: rest)) := by
  refine va_sld hx hb hX hbl hbA hS (vp_in_nI hk (by omega)) hdg ?_
  rw [nI_clamp (by omega)]
  show W p l e R s m args below meth c H locs cells slots Q (F0 m (pc + 1) ls (.int (iZ (zS k)) :: rest))
  rw [hv]; exact kk
theorem zs_len {b L : Nat} {xs : Nat → Int32} (hx : p.tables.exec = Jvm.exec) (hb : c.code = cc) (hX : va_X b L xs s H0) (hbl : b < H0.size) (hbA : ¬ A b) (hS : va_S A H0 H locs) (hdg : decode cc pc = .ok (.arraylength, 1))
    (kk : W p l e R s m args below meth c H locs cells slots Q (F0 m (pc + 1) ls (.int (nI L) :: rest))) : W p l e R s m args below meth c H locs cells slots Q (F0 m pc ls (.ref b :: rest)) := va_slen hx hb hX hbl hbA hS hdg kk
theorem sw9 (x : Int32) : x = 0 ∨ x = 1 ∨ x = 2 ∨ x = 3 ∨ x = 4 ∨ x = 5 ∨ x = 6 ∨ x = 7 ∨ x = 8 ∨ (x.toInt < 0 ∨ 8 < x.toInt) := by
  have key : ∀ z : Int32, x.toInt = z.toInt → x = z := fun z h => Int32.toInt_inj.mp h
  by_cases h : x.toInt < 0 ∨ 8 < x.toInt
  · simp only [h, or_true]
  · have h0 := key 0; have h1 := key 1; have h2 := key 2; have h3 := key 3; have h4 := key 4; have h5 := key 5; have h6 := key 6; have h7 := key 7; have h8 := key 8
    rw [show (0 : Int32).toInt = 0 from rfl] at h0
    rw [show (1 : Int32).toInt = 1 from rfl] at h1
    rw [show (2 : Int32).toInt = 2 from rfl] at h2
    rw [show (3 : Int32).toInt = 3 from rfl] at h3
    rw [show (4 : Int32).toInt = 4 from rfl] at h4
    rw [show (5 : Int32).toInt = 5 from rfl] at h5
    rw [show (6 : Int32).toInt = 6 from rfl] at h6
    rw [show (7 : Int32).toInt = 7 from rfl] at h7
    rw [show (8 : Int32).toInt = 8 from rfl] at h8
    rcases (show x.toInt = 0 ∨ x.toInt = 1 ∨ x.toInt = 2 ∨ x.toInt = 3 ∨ x.toInt = 4 ∨ x.toInt = 5 ∨ x.toInt = 6 ∨ x.toInt = 7 ∨ x.toInt = 8 by omega) with q | q | q | q | q | q | q | q | q
    · exact Or.inl (h0 q)
    · exact Or.inr (Or.inl (h1 q))
    · exact Or.inr (Or.inr (Or.inl (h2 q)))
    · exact Or.inr (Or.inr (Or.inr (Or.inl (h3 q))))
    · exact Or.inr (Or.inr (Or.inr (Or.inr (Or.inl (h4 q)))))
    · exact Or.inr (Or.inr (Or.inr (Or.inr (Or.inr (Or.inl (h5 q))))))
    · exact Or.inr (Or.inr (Or.inr (Or.inr (Or.inr (Or.inr (Or.inl (h6 q)))))))
    · exact Or.inr (Or.inr (Or.inr (Or.inr (Or.inr (Or.inr (Or.inr (Or.inl (h7 q))))))))
    · exact Or.inr (Or.inr (Or.inr (Or.inr (Or.inr (Or.inr (Or.inr (Or.inr (Or.inl (h8 q)))))))))
theorem iZ_of (x : Int32) : iZ x.toInt = x := Int32.ofInt_toInt x
theorem inI_of (x : Int32) : inI x.toInt := ⟨Int32.le_toInt x, by have := Int32.toInt_lt x; omega⟩
end LAW
theorem law_nest : ∀ w ∈ zNest, w ∈ lw_tbl := List.forall_mem_cons.mpr ⟨q109, List.forall_mem_cons.mpr ⟨q114, List.forall_mem_cons.mpr ⟨q115, List.forall_mem_cons.mpr ⟨q116, List.forall_mem_cons.mpr ⟨q118, List.forall_mem_cons.mpr ⟨q120, List.forall_mem_cons.mpr ⟨q121, List.forall_mem_cons.mpr ⟨q123, List.forall_mem_cons.mpr ⟨q124, List.forall_mem_cons.mpr ⟨q126, List.forall_mem_cons.mpr ⟨q127, List.forall_mem_cons.mpr ⟨q129, List.forall_mem_cons.mpr ⟨q130, List.forall_mem_cons.mpr ⟨q147, List.forall_mem_cons.mpr ⟨q152, List.forall_mem_cons.mpr ⟨q154, List.forall_mem_cons.mpr ⟨q156, List.forall_mem_cons.mpr ⟨q158, List.forall_mem_cons.mpr ⟨q160, List.forall_mem_cons.mpr ⟨q162, List.forall_mem_cons.mpr ⟨q178, List.forall_mem_cons.mpr ⟨q183, List.forall_mem_cons.mpr ⟨q185, List.forall_mem_cons.mpr ⟨q187, List.forall_mem_cons.mpr ⟨q189, List.forall_mem_cons.mpr ⟨q201, List.forall_mem_cons.mpr ⟨q204, List.forall_mem_cons.mpr ⟨q207, List.forall_mem_cons.mpr ⟨q224, List.forall_mem_cons.mpr ⟨q226, List.forall_mem_cons.mpr ⟨q228, List.forall_mem_cons.mpr ⟨q233, List.forall_mem_cons.mpr ⟨q255, List.forall_mem_cons.mpr ⟨q262, List.forall_mem_cons.mpr ⟨q264, List.forall_mem_cons.mpr ⟨q266, List.forall_mem_cons.mpr ⟨q268, List.forall_mem_cons.mpr ⟨q270, List.forall_mem_cons.mpr ⟨q288, List.forall_mem_cons.mpr ⟨q293, List.forall_mem_cons.mpr ⟨q295, List.forall_mem_cons.mpr ⟨q297, List.forall_mem_cons.mpr ⟨q299, List.forall_mem_cons.mpr ⟨q394, List.forall_mem_cons.mpr ⟨q443, List.forall_mem_cons.mpr ⟨q465, List.forall_mem_cons.mpr ⟨q470, List.forall_mem_cons.mpr ⟨q474, List.forall_mem_cons.mpr ⟨q502, List.forall_mem_cons.mpr ⟨q549, List.forall_mem_cons.mpr ⟨q579, List.forall_mem_cons.mpr ⟨q748, List.forall_mem_cons.mpr ⟨q749, List.forall_mem_cons.mpr ⟨q750, List.forall_mem_cons.mpr ⟨q751, List.forall_mem_cons.mpr ⟨q752, List.forall_mem_cons.mpr ⟨q753, List.forall_mem_cons.mpr ⟨q754, List.forall_mem_cons.mpr ⟨q755, List.forall_mem_cons.mpr ⟨q756, List.forall_mem_cons.mpr ⟨q787, List.forall_mem_cons.mpr ⟨q815, List.forall_mem_cons.mpr ⟨q849, List.forall_mem_cons.mpr ⟨q866, List.forall_mem_cons.mpr ⟨q1254, (fun w h => by cases h)⟩⟩⟩⟩⟩⟩⟩⟩⟩⟩⟩⟩⟩⟩⟩⟩⟩⟩⟩⟩⟩⟩⟩⟩⟩⟩⟩⟩⟩⟩⟩⟩⟩⟩⟩⟩⟩⟩⟩⟩⟩⟩⟩⟩⟩⟩⟩⟩⟩⟩⟩⟩⟩⟩⟩⟩⟩⟩⟩⟩⟩⟩⟩⟩⟩
theorem law_zK {s : State} {b : Addr} (ht0 : ∀ w ∈ lw_tbl, w.before #[Value.ref b] s = true) : ∃ (D : va_G) (dA : Nat → ClassId), zK D dA s := by
  obtain ⟨c0, iS0, hKn0⟩ := u_known (C := RX1) (T := TX1) (N := 1) (n := 1) ht0 (fun w h => lw_all_tbl (in_X1 w h)) (ht0 _ (lw_all_tbl q93))
  obtain ⟨c1, iS1, hKn1⟩ := u_known (C := RX2) (T := TX2) (N := 14) (n := 14) ht0 (fun w h => lw_all_tbl (in_X2 w h)) (ht0 _ (lw_all_tbl q101))
  obtain ⟨c2, iS2, hKn2⟩ := u_known (C := RX3) (T := TX3) (N := 6) (n := 6) ht0 (fun w h => lw_all_tbl (in_X3 w h)) (ht0 _ (lw_all_tbl q108))
  obtain ⟨c3, iS3, hKn3⟩ := u_known (C := RX4) (T := TX4) (N := 6) (n := 6) ht0 (fun w h => lw_all_tbl (in_X4 w h)) (ht0 _ (lw_all_tbl q146))
  obtain ⟨c4, iS4, hKn4⟩ := u_known (C := RX5) (T := TX5) (N := 4) (n := 4) ht0 (fun w h => lw_all_tbl (in_X5 w h)) (ht0 _ (lw_all_tbl q177))
  obtain ⟨c5, iS5, hKn5⟩ := u_known (C := RX6) (T := TX6) (N := 11) (n := 11) ht0 (fun w h => lw_all_tbl (in_X6 w h)) (ht0 _ (lw_all_tbl q200))
  obtain ⟨c6, iS6, hKn6⟩ := u_known (C := RX7) (T := TX7) (N := 3) (n := 3) ht0 (fun w h => lw_all_tbl (in_X7 w h)) (ht0 _ (lw_all_tbl q206))
  obtain ⟨c7, iS7, hKn7⟩ := u_known (C := RX8) (T := TX8) (N := 7) (n := 7) ht0 (fun w h => lw_all_tbl (in_X8 w h)) (ht0 _ (lw_all_tbl q254))
  obtain ⟨c8, iS8, hKn8⟩ := u_known (C := RX9) (T := TX9) (N := 6) (n := 6) ht0 (fun w h => lw_all_tbl (in_X9 w h)) (ht0 _ (lw_all_tbl q287))
  obtain ⟨c9, iS9, hKn9⟩ := u_known (C := RX10) (T := TX10) (N := 21) (n := 21) ht0 (fun w h => lw_all_tbl (in_X10 w h)) (ht0 _ (lw_all_tbl q964))
  obtain ⟨c10, iS10, hKn10⟩ := u_known (C := RJ3) (T := TJ3) (N := 6) (n := 6) ht0 (fun w h => lw_all_tbl (in_J3 w h)) (ht0 _ (lw_all_tbl q786))
  obtain ⟨c11, iS11, hKn11⟩ := u_known (C := RJ6) (T := TJ6) (N := 6) (n := 6) ht0 (fun w h => lw_all_tbl (in_J6 w h)) (ht0 _ (lw_all_tbl q814))
  obtain ⟨c12, iS12, hKn12⟩ := u_known (C := RJ7) (T := TJ7) (N := 6) (n := 6) ht0 (fun w h => lw_all_tbl (in_J7 w h)) (ht0 _ (lw_all_tbl q848))
  obtain ⟨a0, ka0, ca0, p0, q0, r0⟩ := Cond.arrayClass_spec (ht0 (Cond.arrayClass .int) (lw_all_tbl q144))
  obtain ⟨a1, ka1, ca1, p1, q1, r1⟩ := Cond.arrayClass_spec (ht0 (Cond.arrayClass .long) (lw_all_tbl q222))
  obtain ⟨a2, ka2, ca2, p2, q2, r2⟩ := Cond.arrayClass_spec (ht0 (Cond.arrayClass .boolean) (lw_all_tbl q221))
  have hao := ht0 (Cond.arrayOver (.object "ShapeRelator$Outline")) q107
  obtain ⟨ca3, a3, ka3, o1, -, q3, r3, p3⟩ := Cond.arrayOver_spec hao
  refine ⟨(fun k => if k = 0 then c0 else if k = 1 then c1 else if k = 2 then c2 else if k = 3 then c3 else if k = 4 then c4 else if k = 5 then c5 else if k = 6 then c6 else if k = 7 then c7 else if k = 8 then c8 else if k = 9 then c9 else if k = 10 then c10 else if k = 11 then c11 else c12, fun k => if k = 0 then iS0 else if k = 1 then iS1 else if k = 2 then iS2 else if k = 3 then iS3 else if k = 4 then iS4 else if k = 5 then iS5 else if k = 6 then iS6 else if k = 7 then iS7 else if k = 8 then iS8 else if k = 9 then iS9 else if k = 10 then iS10 else if k = 11 then iS11 else iS12), (fun k => if k = 0 then a0 else if k = 1 then a1 else if k = 2 then a2 else a3), ⟨fun k q hq => ?_, fun k q hq => ?_⟩, fun w hw => va_Nw.of (zIsN_on (zNest_is w hw)) (ht0 w (law_nest w hw)), va_AO.of hao⟩
  · match k, hq with
    | 0, hq => cases hq; exact hKn0
    | 1, hq => cases hq; exact hKn1
    | 2, hq => cases hq; exact hKn2
    | 3, hq => cases hq; exact hKn3
    | 4, hq => cases hq; exact hKn4
    | 5, hq => cases hq; exact hKn5
    | 6, hq => cases hq; exact hKn6
    | 7, hq => cases hq; exact hKn7
    | 8, hq => cases hq; exact hKn8
    | 9, hq => cases hq; exact hKn9
    | 10, hq => cases hq; exact hKn10
    | 11, hq => cases hq; exact hKn11
    | 12, hq => cases hq; exact hKn12
    | k + 13, hq => simp [zCl] at hq
  · match k, hq with
    | 0, hq => cases hq; exact ⟨fun n z => ⟨(fun k h => by cases h), ka0, q0, ca0, r0⟩, p0⟩
    | 1, hq => cases hq; exact ⟨fun n z => ⟨(fun k h => by cases h), ka1, q1, ca1, r1⟩, p1⟩
    | 2, hq => cases hq; exact ⟨fun n z => ⟨(fun k h => by cases h), ka2, q2, ca2, r2⟩, p2⟩
    | 3, hq => cases hq; exact ⟨fun n z => ⟨(fun k h => by cases h), ka3, q3, ca3, r3⟩, ka3, ca3, q3, r3, o1, p3⟩
    | k + 4, hq => simp [zTys] at hq
theorem law_ex {s : State} {b : Addr} (ht0 : ∀ w ∈ lw_tbl, w.before #[Value.ref b] s = true) (hgv : (Jvm.Cond.and given_1 narrow_1).before #[Value.ref b] s = true) : exOK s ∧ ncOK s := by
  have hs := flat_of_before _ hgv
  refine ⟨fun w hw A => ?_, ncF.of (hs (Cond.not (Cond.castable "java/lang/IllegalArgumentException" "java/lang/IndexOutOfBoundsException")) (by decide +kernel)), ncF.of (hs (Cond.not (Cond.castable "java/lang/IllegalStateException" "java/lang/IndexOutOfBoundsException")) (by decide +kernel)), ncF.of (hs (Cond.not (Cond.castable "java/lang/IllegalStateException" "java/lang/IllegalArgumentException")) (by decide +kernel))⟩
  simp only [exW, List.mem_cons, List.not_mem_nil, or_false] at hw
  rcases hw with rfl | rfl | rfl | rfl | rfl | rfl | rfl | rfl | rfl | rfl
  · exact st_lays rfl (fun q cell h => h) (ht0 _ q714)
  · exact st_lays rfl (fun q cell h => h) (ht0 _ q716)
  · exact va_tabs rfl rfl (ht0 _ q751)
  · exact va_tabs rfl rfl (ht0 _ q753)
  · exact va_tabs rfl rfl (ht0 _ q755)
  · exact va_tabs rfl rfl (ht0 _ q787)
  · exact va_tabs rfl rfl (ht0 _ q815)
  · exact va_tabs rfl rfl (ht0 _ q849)
  · have h0 : (Cond.isRef (.static Bundle.tN "UNASSIGNED_STACK" Bundle.steD)).before #[Value.ref b] s = true := hs _ (by decide +kernel)
    simp only [Cond.before, Cond.holds, Cond.value] at h0 ⊢
    cases he : (Term.static Bundle.tN "UNASSIGNED_STACK" Bundle.steD).eval #[Value.ref b] s none [] s with
    | none => rw [he] at h0; simp at h0
    | some v => rw [he] at h0; rw [st_eval (U := s) rfl (fun q cell h => h) he]; exact h0
  · have h0 : (Cond.isRef (.static Bundle.tN "SUPPRESSED_SENTINEL" Bundle.listD)).before #[Value.ref b] s = true := hs _ (by decide +kernel)
    simp only [Cond.before, Cond.holds, Cond.value] at h0 ⊢
    cases he : (Term.static Bundle.tN "SUPPRESSED_SENTINEL" Bundle.listD).eval #[Value.ref b] s none [] s with
    | none => rw [he] at h0; simp at h0
    | some v => rw [he] at h0; rw [st_eval (U := s) rfl (fun q cell h => h) he]; exact h0
