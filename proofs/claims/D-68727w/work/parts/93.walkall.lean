/-! plain law 9: all marks of a walk -/
section PL9
variable {kd0 : Nat} {Q0 : List Pt} {L0 : List Sq} {E0 : Pt → Bool} {kd1 : Nat} {Q1 : List Pt} {L1 : List Sq} {E1 : Pt → Bool}
variable {s : Sq} {ES : List Ev} {fl own : Bool} {PLc : Int → Int → Nat × Nat} {LKc : Int → Int → St}
theorem lkW_lt9 (kd : Nat) (a b : Bool) : lkW kd a b < 3 := by
  unfold lkW
  split
  · split <;> omega
  · split
    · split
      · omega
      · split <;> omega
    · omega
theorem crW_lt9 {kd x : Nat} {b : Bool} (h : x < 3) : crW kd b x < 3 := by
  unfold crW
  split
  · exact h
  · split <;> omega
/-- the marks of a state that holds at a generic place -/
theorem st_marks (h0 : shOK kd0 Q0 L0 E0) (h1 : shOK kd1 Q1 L1 E1) {st : St} {p : Pt} (hg : gen (L0 ++ L1) (Q0 ++ Q1) s p) (he : stR kd0 L0 kd1 L1 fl p = st) : ∀ m ∈ pcMk st, okM m ∧ leM (KK kd0 Q0 L0 E0 kd1 Q1 L1 E1) m := by
  intro m hm
  rw [← he] at hm
  have := (pc_st h0 h1 (E0 := E0) (E1 := E1) hg.2.2.1).mp hm
  exact ⟨pcR_ok m this, leM.of (Or.inr (Or.inr ⟨s, p, hg, this⟩))⟩
set_option maxHeartbeats 1000000 in
theorem walk_ok (h0 : shOK kd0 Q0 L0 E0) (h1 : shOK kd1 Q1 L1 E1) (hs : s ∈ L0 ++ L1) (hE : evsOK L0 L1 s ES) (hd : ∀ e ∈ ES, 0 < e.2.1) (hw3 : ∀ e ∈ ES, e.2.2.1 < 3)
    (hPL : ∀ x y, PLc x y = (whR kd0 Q0 L0 E0 (cP (x, y)), whR kd1 Q1 L1 E1 (cP (x, y))))
    (hLK : ∀ x y τ, 0 ≤ τ → τ < 1 → cP (x, y) = at_ s τ → isEnd (L0 ++ L1) (cP (x, y)) → goodS kd0 Q0 L0 kd1 Q1 L1 s ES fl τ (LKc x y))
    (ho1 : own = true → s ∈ L0) (ho2 : own = false → s ∈ L1) : ∀ (n : Nat) (es : List Ev) (τ : Rat) (st : St), es.length ≤ n → 0 ≤ τ → τ < 1 → sufOK ES es τ → goodS kd0 Q0 L0 kd1 Q1 L1 s ES fl τ st →
      (∀ m ∈ walkL PLc LKc kd0 kd1 own n es st, okM m ∧ leM (KK kd0 Q0 L0 E0 kd1 Q1 L1 E1) m) ∧
      (∀ t, τ < t → t < 1 → gen (L0 ++ L1) (Q0 ++ Q1) s (at_ s t) → (∃ e ∈ ES, τ < evR e ∧ evR e < t) → ∀ m ∈ pcMk (stR kd0 L0 kd1 L1 fl (at_ s t)), m ∈ walkL PLc LKc kd0 kd1 own n es st) ∧
      (∀ e ∈ ES, τ < evR e → (∀ f ∈ ES, evR f = evR e → f.2.2.1 ≠ 2) → ¬ mkd kd0 Q0 L0 kd1 Q1 L1 (at_ s (evR e)) → plR kd0 Q0 L0 E0 kd1 Q1 L1 E1 (at_ s (evR e)) ∈ walkL PLc LKc kd0 kd1 own n es st) := by
  have hn := two_ndg h0 h1 s hs
  intro n
  induction n with
  | zero =>
    intro es τ st hl _ _ hS _
    have hes : es = [] := List.eq_nil_of_length_eq_zero (by omega)
    subst hes
    refine ⟨fun m hm => (by cases hm), fun t _ _ _ he => ?_, fun e he ht => ?_⟩
    · obtain ⟨e, he, ht, -⟩ := he
      have := hS.2.1 e he ht; cases this
    · have := hS.2.1 e he ht; cases this
  | succ n ih =>
    intro es τ st hl hτ0 hτ1 hS hG
    cases es with
    | nil =>
      refine ⟨fun m hm => (by cases hm), fun t _ _ _ he => ?_, fun e he ht => ?_⟩
      · obtain ⟨e, he, ht, -⟩ := he
        have := hS.2.1 e he ht; cases this
      · have := hS.2.1 e he ht; cases this
    | cons e rest =>
      obtain ⟨s1, s2, s3, s4⟩ := hS
      have heE := (s1 e List.mem_cons_self).1
      have heτ := (s1 e List.mem_cons_self).2
      have hev := hE.1 e heE
      have hge : ∀ f ∈ e :: rest, evR e ≤ evR f := fun f hf => by
        rcases List.mem_cons.mp hf with rfl | hf
        · grind
        · rcases (List.pairwise_cons.mp s3).1 f hf with q | q
          · grind
          · grind
      have hcong : ∀ f ∈ e :: rest, sameF e f = (fun f => decide (evR f = evR e)) f := fun f hf => sameF_R (hd e heE) (hd f (s1 f hf).1)
      have htw := tw_congr hcong
      -- the rest behind this event
      have hS' : sufOK ES ((e :: rest).dropWhile (sameF e)) (evR e) := by
        rw [htw.2]
        refine ⟨fun f hf => ⟨(s1 f ((List.dropWhile_sublist _).subset hf)).1, drop_gt s3 hge f hf⟩, fun f hf hlt => ?_, s3.sublist (List.dropWhile_sublist _), fun τ' w hlt => ?_⟩
        · have hm := s2 f hf (by grind)
          rw [← List.takeWhile_append_dropWhile (p := fun f => decide (evR f = evR e)) (l := e :: rest)] at hm
          rcases List.mem_append.mp hm with q | q
          · have := take_eq f q; grind
          · exact q
        · rw [cnt_drop hlt]; exact s4 τ' w (by grind)
      have hlen : ((e :: rest).dropWhile (sameF e)).length ≤ n := by
        have hse : sameF e e = true := by rw [sameF_R (hd e heE) (hd e heE)]; exact decide_eq_true rfl
        rw [List.dropWhile_cons, if_pos hse]
        have := (List.dropWhile_sublist (p := sameF e) (l := rest)).length_le
        simp at hl
        omega
      have hnone : ∀ f ∈ ES, τ < evR f → evR e ≤ evR f := fun f hf hlt => hge f (s2 f hf hlt)
      by_cases hw : e.2.2.1 = 2
      · -- a place
        obtain ⟨hat, hend⟩ := hev.2.1 hw
        have hG' := hLK e.2.2.2.1 e.2.2.2.2 (evR e) (by grind) hev.1.2 hat hend
        obtain ⟨i1, i2, i3⟩ := ih _ (evR e) _ hlen (by grind) hev.1.2 hS' hG'
        obtain ⟨t', d1, d2, d3, d4⟩ := next_gen (Q0 := Q0) (Q1 := Q1) hs hn ES (show 0 ≤ evR e by grind) hev.1.2
        have hst' := hG' t' d1 d2 d3 d4
        rw [walkL, if_pos hw]
        refine ⟨fun m hm => ?_, fun t t1 t2 hg he m hm => ?_, fun f hf hlt hnp hnm => ?_⟩
        · rcases List.mem_cons.mp hm with rfl | hm
          · rw [hPL]
            have : leM (KK kd0 Q0 L0 E0 kd1 Q1 L1 E1) (plR kd0 Q0 L0 E0 kd1 Q1 L1 E1 (cP (e.2.2.2.1, e.2.2.2.2))) := pt_le h0 h1 _
            exact ⟨plR_ok (kd0 := kd0) (Q0 := Q0) (L0 := L0) (E0 := E0) (kd1 := kd1) (Q1 := Q1) (L1 := L1) (E1 := E1) (cP (e.2.2.2.1, e.2.2.2.2)), this⟩
          · rcases List.mem_append.mp hm with hm | hm
            · exact st_marks h0 h1 d3 hst' m hm
            · exact i1 m hm
        · apply List.mem_cons_of_mem
          by_cases hx : ∃ f ∈ ES, evR e < evR f ∧ evR f < t
          · exact List.mem_append_right _ (i2 t (by obtain ⟨f, -, q⟩ := hx; grind) t2 hg hx m hm)
          · have hlt : evR e < t := by obtain ⟨f, hf, q⟩ := he; have := hnone f hf q.1; grind
            rw [hG' t hlt t2 hg (fun f hf q => hx ⟨f, hf, q⟩)] at hm
            exact List.mem_append_left _ hm
        · apply List.mem_cons_of_mem
          apply List.mem_append_right
          have h3 := hnone f hf hlt
          have : evR f ≠ evR e := fun q => hnp e heE q.symm hw
          exact i3 f hf (by grind) hnp hnm
      · -- crossings alone
        have hnp : ∀ f ∈ ES, evR f = evR e → f.2.2.1 ≠ 2 := fun f hf q => by
          have hm := s2 f hf (by grind)
          have he3 := hw3 e heE
          rcases List.mem_cons.mp hm with rfl | hm
          · exact hw
          · rcases (List.pairwise_cons.mp s3).1 f hm with q' | q'
            · grind
            · have := q'.2; omega
        obtain ⟨t1, b1, b2, -, hg1⟩ := gen_ex (QQ := Q0 ++ Q1) hs hn [] hτ0 heτ (Rat.le_of_lt hev.1.2)
        have hst1 := hG t1 b1 (by grind) hg1 (fun f hf q => by have := hnone f hf q.1; grind)
        have c0 : cntW 0 ((e :: rest).takeWhile (sameF e)) = ES.countP (atW (evR e) 0) := by rw [htw.1, cnt_take s3 hge, s4 _ _ heτ]
        have c1 : cntW 1 ((e :: rest).takeWhile (sameF e)) = ES.countP (atW (evR e) 1) := by rw [htw.1, cnt_take s3 hge, s4 _ _ heτ]
        have hG' : goodS kd0 Q0 L0 kd1 Q1 L1 s ES fl (evR e) (turnSt kd0 kd1 (decide (cntW 0 ((e :: rest).takeWhile (sameF e)) % 2 = 1)) (decide (cntW 1 ((e :: rest).takeWhile (sameF e)) % 2 = 1)) st) := fun t2 x1 x2 hg2 hno => by
          rw [c0, c1, ← hst1]
          exact cross_turn h0 h1 hs hE (by grind) b2 x1 x2 hg1 hg2 (fun f hf y1 y2 => by
            have := hnone f hf (by grind)
            by_cases q : evR e < evR f
            · exact absurd ⟨q, y2⟩ (hno f hf)
            · grind) hnp
        obtain ⟨i1, i2, i3⟩ := ih _ (evR e) _ hlen (by grind) hev.1.2 hS' hG'
        obtain ⟨t', d1, d2, d3, d4⟩ := next_gen (Q0 := Q0) (Q1 := Q1) hs hn ES (show 0 ≤ evR e by grind) hev.1.2
        have hst' := hG' t' d1 d2 d3 d4
        -- the crossing's own mark
        have hE' : ∀ x, t1 ≤ x → x ≤ evR e → ¬ isEnd (L0 ++ L1) (at_ s x) := fun x x1 x2 he => by
          have hx1 : x ≠ t1 := fun q => hg1.2.2.1 (by rw [← q]; exact two_end h0 h1 he)
          obtain ⟨f, hf, e1, e2⟩ := hE.2.1 x (by grind) (by grind) he
          have := hnone f hf (by grind)
          exact hnp f hf (by grind) e2
        have hX' : noX (L0 ++ L1) s t1 (evR e) := fun s' h' x x1 x2 x3 x4 => by
          obtain ⟨f, hf, e1⟩ := crs_ev hE h' ⟨x3, x4⟩
          have := hnone f hf (by grind)
          grind
        have endL : ∀ {q : Pt}, isEnd L0 q → isEnd (L0 ++ L1) q := fun ⟨z, hz, w⟩ => ⟨z, List.mem_append_left _ hz, w⟩
        have endR : ∀ {q : Pt}, isEnd L1 q → isEnd (L0 ++ L1) q := fun ⟨z, hz, w⟩ => ⟨z, List.mem_append_right _ hz, w⟩
        have hst1a : st.1 = lkW kd0 (anyOn L0 (at_ s t1)) (crd L0 (at_ s t1)) := by rw [← hst1]; rfl
        have hst1b : st.2.1 = lkW kd1 (anyOn L1 (at_ s t1)) (crd L1 (at_ s t1)) := by rw [← hst1]; rfl
        generalize hb0 : (own || decide (0 < cntW 0 ((e :: rest).takeWhile (sameF e)))) = bb0
        generalize hb1 : (!own || decide (0 < cntW 1 ((e :: rest).takeWhile (sameF e)))) = bb1
        rw [c0] at hb0
        rw [c1] at hb1
        have A0 := crW_one h0 hn (by grind) b2 hev.1.2 (fun s' h' => hg1.2.2.2 s' (List.mem_append_left _ h')) (fun x x1 x2 he => hE' x x1 x2 (endL he)) (fun s' h' => hX' s' (List.mem_append_left _ h')) bb0 (fun q => by
          rw [q, Bool.or_eq_true, decide_eq_true_iff] at hb0
          rcases hb0 with q | q
          · exact Or.inl (ho1 q)
          · rw [← hE.2.2.1] at q
            obtain ⟨t, ht, hc⟩ := List.countP_pos_iff.mp q
            exact Or.inr ⟨t, ht, hc⟩) (fun q t ht => by
          rw [q, Bool.or_eq_false_iff] at hb0
          have h5 := of_decide_eq_false hb0.2
          rw [← hE.2.2.1] at h5
          cases hc : crsAt s (evR e) t with
          | false => rfl
          | true => exact absurd (List.countP_pos_iff.mpr ⟨t, ht, hc⟩) h5)
        have A1 := crW_one h1 hn (by grind) b2 hev.1.2 (fun s' h' => hg1.2.2.2 s' (List.mem_append_right _ h')) (fun x x1 x2 he => hE' x x1 x2 (endR he)) (fun s' h' => hX' s' (List.mem_append_right _ h')) bb1 (fun q => by
          rw [q, Bool.or_eq_true, decide_eq_true_iff] at hb1
          rcases hb1 with q | q
          · exact Or.inl (ho2 (by cases own <;> first | rfl | cases q))
          · rw [← hE.2.2.2] at q
            obtain ⟨t, ht, hc⟩ := List.countP_pos_iff.mp q
            exact Or.inr ⟨t, ht, hc⟩) (fun q t ht => by
          rw [q, Bool.or_eq_false_iff] at hb1
          have h5 := of_decide_eq_false hb1.2
          rw [← hE.2.2.2] at h5
          cases hc : crsAt s (evR e) t with
          | false => rfl
          | true => exact absurd (List.countP_pos_iff.mpr ⟨t, ht, hc⟩) h5)
        have hon1 : onS s.1 s.2 (at_ s t1) := hg1.2.1
        rw [← hst1a] at A0
        rw [← hst1b] at A1
        have hmk : okM (crW kd0 bb0 st.1, crW kd1 bb1 st.2.1, 0) ∧ leM (KK kd0 Q0 L0 E0 kd1 Q1 L1 E1) (crW kd0 bb0 st.1, crW kd1 bb1 st.2.1, 0) := by
          refine ⟨⟨crW_lt9 (by rw [hst1a]; exact lkW_lt9 ..), crW_lt9 (by rw [hst1b]; exact lkW_lt9 ..), Nat.zero_le _⟩, ?_⟩
          have hdom : crW kd0 bb0 st.1 = st.1 → crW kd1 bb1 st.2.1 = st.2.1 → leM (KK kd0 Q0 L0 E0 kd1 Q1 L1 E1) (crW kd0 bb0 st.1, crW kd1 bb1 st.2.1, 0) := fun q1 q2 => by
            refine Or.inr ⟨(whR kd0 Q0 L0 E0 (at_ s t1), whR kd1 Q1 L1 E1 (at_ s t1), 1), Or.inr (Or.inr ⟨s, at_ s t1, hg1, List.mem_cons_self⟩), ?_, ?_, Nat.zero_le _⟩
            · show whR kd0 Q0 L0 E0 (at_ s t1) = crW kd0 bb0 st.1
              rw [q1, hst1a, whR_off h0 (fun _ z => hg1.2.2.1 (List.mem_append_left _ z))]
            · show whR kd1 Q1 L1 E1 (at_ s t1) = crW kd1 bb1 st.2.1
              rw [q2, hst1b, whR_off h1 (fun _ z => hg1.2.2.1 (List.mem_append_right _ z))]
          cases hq0 : bb0 with
          | true =>
            cases hq1 : bb1 with
            | true =>
              rw [hq0] at A0; rw [hq1] at A1
              rw [A0.1 rfl, A1.1 rfl]
              exact pt_le h0 h1 (at_ s (evR e))
            | false =>
              rw [hq0, hq1] at hdom
              have hown : own = true := by rw [hq1, Bool.or_eq_false_iff] at hb1; cases own <;> first | rfl | exact hb1.1.symm
              have ha : anyOn L0 (at_ s t1) = true := anyOn_iff.mpr ⟨s, ho1 hown, hon1⟩
              refine hdom ?_ (by rw [hq1] at A1; exact (A1.2 rfl).1)
              have := own_lk h0 ha
              rw [hst1a, this.1]
              unfold crW
              rw [if_neg (by decide)]
          | false =>
            have hown : own = false := by rw [hq0, Bool.or_eq_false_iff] at hb0; exact hb0.1
            have hq1 : bb1 = true := by rw [← hb1, hown]; rfl
            rw [hq0, hq1] at hdom
            rw [hq1]
            have ha : anyOn L1 (at_ s t1) = true := anyOn_iff.mpr ⟨s, ho2 hown, hon1⟩
            refine hdom (by rw [hq0] at A0; exact (A0.2 rfl).1) ?_
            have := own_lk h1 ha
            rw [hst1b, this.1]
            unfold crW
            rw [if_neg (by decide)]
        rw [walkL, if_neg hw, show (own || decide (0 < cntW 0 ((e :: rest).takeWhile (sameF e)))) = bb0 by rw [c0]; exact hb0, show (!own || decide (0 < cntW 1 ((e :: rest).takeWhile (sameF e)))) = bb1 by rw [c1]; exact hb1]
        refine ⟨fun m hm => ?_, fun t t1' t2 hg he m hm => ?_, fun f hf hlt hnp' hnm => ?_⟩
        · rcases List.mem_cons.mp hm with rfl | hm
          · exact hmk
          · rcases List.mem_append.mp hm with hm | hm
            · exact st_marks h0 h1 d3 hst' m hm
            · exact i1 m hm
        · apply List.mem_cons_of_mem
          by_cases hx : ∃ f ∈ ES, evR e < evR f ∧ evR f < t
          · exact List.mem_append_right _ (i2 t (by obtain ⟨f, -, q⟩ := hx; grind) t2 hg hx m hm)
          · have hlt : evR e < t := by obtain ⟨f, hf, q⟩ := he; have := hnone f hf q.1; grind
            rw [hG' t hlt t2 hg (fun f hf q => hx ⟨f, hf, q⟩)] at hm
            exact List.mem_append_left _ hm
        · have h3 := hnone f hf hlt
          by_cases q : evR f = evR e
          · rw [q] at hnm ⊢
            have n0 : kd0 < 3 → at_ s (evR e) ∉ Q0 := fun a b => hnm (Or.inr (Or.inl ⟨a, b⟩))
            have n1 : kd1 < 3 → at_ s (evR e) ∉ Q1 := fun a b => hnm (Or.inr (Or.inr ⟨a, b⟩))
            have w0 : crW kd0 bb0 st.1 = whR kd0 Q0 L0 E0 (at_ s (evR e)) := by
              cases hq0 : bb0 with
              | true => rw [hq0] at A0; exact A0.1 rfl
              | false => rw [hq0] at A0; rw [(A0.2 rfl).1]; exact (A0.2 rfl).2 n0
            have w1 : crW kd1 bb1 st.2.1 = whR kd1 Q1 L1 E1 (at_ s (evR e)) := by
              cases hq1 : bb1 with
              | true => rw [hq1] at A1; exact A1.1 rfl
              | false => rw [hq1] at A1; rw [(A1.2 rfl).1]; exact (A1.2 rfl).2 n1
            rw [w0, w1]
            exact List.mem_cons_self
          · apply List.mem_cons_of_mem
            apply List.mem_append_right
            exact i3 f hf (by grind) hnp' hnm
end PL9
