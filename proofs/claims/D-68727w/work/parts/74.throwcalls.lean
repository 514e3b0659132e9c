/-! throws: what holds of the state, kept along a run; calls that throw (printed by wip gen/c74.py) -/
theorem st_eval {U V : State} {A A' : Array Value} {f f' : State} {o o' : Option Outcome} {i i' : List Nat} {c n d : String} {v : Value} (hv : V.vm = U.vm) (hh : ∀ (q : Nat) (cell : Cell), U.heap[q]? = some cell → V.heap[q]? = some cell) (h : (Term.static c n d).eval A f o i U = some v) : (Term.static c n d).eval A' f' o' i' V = some v := by
  have hn : V.fieldNamed? c n d true = U.fieldNamed? c n d true := by unfold State.fieldNamed? State.fieldFound?; rw [hv]
  unfold Term.eval at h ⊢
  rw [hn]
  cases hx : U.fieldNamed? c n d true with
  | none => rw [hx] at h; simp at h
  | some y =>
    obtain ⟨y1, k, sl⟩ := y
    rw [hx] at h
    cases hs : k.statics with
    | none => simp [hs] at h
    | some a =>
      cases hc : U.heap[a]? with
      | none => simp [hs, hc] at h
      | some cell => 
        have hc2 := hh a cell hc
        simp [hs, hc] at h
        simp [hs, hc2]
        exact h
theorem st_lays {U V : State} {A A' : Array Value} {c_ n d : String} (hv : V.vm = U.vm) (hh : ∀ (q : Nat) (cell : Cell), U.heap[q]? = some cell → V.heap[q]? = some cell) (h : (Cond.laysStatic c_ n d).before A U = true) : (Cond.laysStatic c_ n d).before A' V = true := by
  obtain ⟨c, k, i, fd, a, cell, hc, hf, hst, hsta, hcell, hiss, hcls, hlt, hty⟩ := Cond.laysStatic_spec h
  have hn : V.fieldFound? c_ n d = U.fieldFound? c_ n d := by unfold State.fieldFound?; rw [hv]
  have h2 := hh _ _ hcell
  rw [← hn] at hf
  rw [← hv] at hc
  simp [Cond.before, Cond.holds, Cond.value, hc, hf, hst, hsta, h2, hiss, hcls, hlt, hty]
theorem ex_heap {U V : State} (hv : V.vm = U.vm) (hh : ∀ (q : Nat) (cell : Cell), U.heap[q]? = some cell → V.heap[q]? = some cell) (h : exOK U) : exOK V := by
  intro w hw A
  have h0 := h w hw A
  simp only [exW, List.mem_cons, List.not_mem_nil, or_false] at hw
  rcases hw with rfl | rfl | rfl | rfl | rfl | rfl | rfl | rfl | rfl | rfl
  · exact st_lays hv hh h0
  · exact st_lays hv hh h0
  · exact va_tabs rfl hv.symm h0
  · exact va_tabs rfl hv.symm h0
  · exact va_tabs rfl hv.symm h0
  · exact va_tabs rfl hv.symm h0
  · exact va_tabs rfl hv.symm h0
  · exact va_tabs rfl hv.symm h0
  · simp only [Cond.before, Cond.holds, Cond.value] at h0 ⊢
    cases he : (Term.static Bundle.tN "UNASSIGNED_STACK" Bundle.steD).eval A U none [] U with
    | none => rw [he] at h0; simp at h0
    | some v => rw [he] at h0; rw [st_eval hv hh he]; exact h0
  · simp only [Cond.before, Cond.holds, Cond.value] at h0 ⊢
    cases he : (Term.static Bundle.tN "SUPPRESSED_SENTINEL" Bundle.listD).eval A U none [] U with
    | none => rw [he] at h0; simp at h0
    | some v => rw [he] at h0; rw [st_eval hv hh he]; exact h0
theorem ex_warm {s U : State} (hW : s.WarmedH U.vm) (hh : ∀ (q : Nat) (cell : Cell), s.heap[q]? = some cell → U.heap[q]? = some cell) (h : exOK s) : exOK U := by
  refine ex_heap (U := s.setVm U.vm) rfl hh ?_
  intro w hw A
  have h0 := h w hw A
  refine Cond.before_shiftedFace (State.Shifted.of_warmed hW) _ ?_ h0
  simp only [exW, List.mem_cons, List.not_mem_nil, or_false] at hw
  rcases hw with rfl | rfl | rfl | rfl | rfl | rfl | rfl | rfl | rfl | rfl <;> rfl
theorem ex_calling {U : State} {g : JFrame} {mk : MethodId} {a : Array Value} (h : exOK U) : exOK (U.calling g mk a) := ex_heap (U := U) rfl (fun q cell hq => hq) h
section ZY
variable {p : Program} {l : Launch} {e : Env} {R : Room} {s : State} {m : MethodId} {args : Array Value} {below : List Frame} {meth : Method} {c : Code} {cc : ByteArray} {pc nL fr lo n index maxL : Nat} {ls : Array Slot} {rest st0 As : List Value} {D : va_G} {dA : Nat → ClassId} {w : va_W} {X own : String} {y : MethodName} {bytes : ByteArray} {ret : Option FieldType} {yw Ts : List Cond}
theorem zx_pre {T : State} {vm₁ : Vm} {g : JFrame} {mk : MethodId} (hT : T.heap = s.heap) (hW : s.WarmedH vm₁) (hP : va_P D zCl w s.heap) (hK : zK D dA s) (hE : exOK s) : thP D dA As w s.heap As.toArray ((T.setVm vm₁).calling g mk As.toArray) :=
  ⟨⟨rfl, hT, hP, (hK.warm (U := T.setVm vm₁) hW).calling⟩, ex_calling (ex_warm (U := T.setVm vm₁) hW (fun q cell h => by show T.heap[q]? = some cell; rw [hT]; exact h) hE)⟩
theorem zx_passS (S : CallFix p m c cc nL s args Ts own) (hM : Th l y yw fr lo D dA As w X) (cw : CallB R s args own index y bytes maxL ret yw (zRoom fr 1 6 lo) 1 6 n ∧ (Cond.static y).before args s = true) (hP : va_P D zCl w s.heap) (hK : zK D dA s) (hE : exOK s) (hn : As.length = n) (hsize : ls.size = nL) (hst : st0 = As.reverse ++ rest) (hW : (rest.map fun v => v.category).sum ≤ 8) (hdg : decode cc pc = .ok (.invokestatic index, 3)) (hc : 1 ≤ R.cells ∧ 6 ≤ R.slots)
    (hout : ∀ pc : Nat, ∀ x ∈ c.exceptionTable.toList, covers x pc = false) (hlocks : meth.locks = false) : W p l e R s m args below meth c s.heap [] 0 0 (MQT below (thQ X s.heap) args s 1 6) (F0 m pc ls st0) := by
  obtain ⟨cb, hstt⟩ := cw
  obtain ⟨-, -, -, -, -, -, hcode, hini, hy, hlen, hl⟩ := id cb
  obtain ⟨hx, hb, hml, ho, -⟩ := S
  intro T hT X0
  obtain ⟨mk, hnamed⟩ := Cond.code_named hcode
  obtain ⟨methM, cM, hmethM, -, -, -, -, -, -, hsigM⟩ := Cond.code_spec hnamed hcode
  have hstatic : methM.isStatic = true := Cond.static_spec hnamed hmethM hstt
  obtain ⟨kP, hkP, -⟩ := className_of_methodNamed hnamed
  have hinitP : kP.init = .initialized := Cond.initialized_spec (findClass_of_methodNamed hnamed) hkP hini
  obtain ⟨vm₁, X₁, hstep₁⟩ := X0.invokestatic hx ho hl hnamed hmethM hstatic hkP hinitP hy (g := F0 m pc ls st0) rfl (argsL := As) (rest := rest) (hn.trans (hlen _ hsigM)) hst (by rw [hb]; exact hdg)
  obtain ⟨v, V, t, h1, h2, h3, h4⟩ := zx_run (a := As.toArray) cb (hM s.heap) X₁ (g := F0 m pc ls rest) rfl (hsize.trans hml.symm) (by rw [hb]; exact hdg) (lv_room hW) (X₁.named hnamed) ⟨by omega, by omega⟩ (zx_pre hT X₁.warmed hP hK hE)
  exact zx_out (T := T) (H0 := s.heap) (a0 := As.toArray) (st := (T.setVm vm₁).calling (F0 m pc ls rest) mk As.toArray) h3 rfl rfl rfl hout hlocks X₁.warmed.alike h1 h2 ((hstep₁ _ fun acts => by rw [doInvoke_state]; exact Steps.refl _).trans h4)
theorem zx_passV {C : String} {b : Addr} (S : CallFix p m c cc nL s args Ts own) (hM : Th l y yw fr lo D dA (.ref b :: As) w X) (cw : CallW R s args own C index y bytes maxL ret yw (zRoom fr 1 6 lo) 1 6 n) (hrec : ∃ cell : Cell, s.heap[b]? = some cell ∧ cell.vm.isStatics = false ∧ s.vm.findClass C = some cell.cls) (hP : va_P D zCl w s.heap) (hK : zK D dA s) (hE : exOK s) (hn : As.length = n) (hsize : ls.size = nL) (hst : st0 = As.reverse ++ .ref b :: rest) (hW : (rest.map fun v => v.category).sum ≤ 8) (hdg : decode cc pc = .ok (.invokevirtual index, 3)) (hc : 1 ≤ R.cells ∧ 6 ≤ R.slots)
    (hout : ∀ pc : Nat, ∀ x ∈ c.exceptionTable.toList, covers x pc = false) (hlocks : meth.locks = false) : W p l e R s m args below meth c s.heap [] 0 0 (MQT below (thQ X s.heap) args s 1 6) (F0 m pc ls st0) := by
  obtain ⟨cb, hin, hse⟩ := cw
  obtain ⟨-, -, -, -, -, -, hcode, -, hy, hlen, hl⟩ := id cb
  obtain ⟨hx, hb, hml, ho, -⟩ := S
  obtain ⟨cellB, hcB, hoB, hclB⟩ := hrec
  intro T hT X0
  obtain ⟨mk, methM, hnamed, hmethM, hstM, habM⟩ := Cond.instanceMethod_spec hin
  obtain ⟨methM', cM, hmethM', -, -, -, -, -, -, hsigM⟩ := Cond.code_spec hnamed hcode
  cases hmethM.symm.trans hmethM'
  obtain ⟨c2, r2, m2, q1, q2, q3, q4, kP, hkP, hkPi⟩ := Cond.selects_spec hse
  cases hclB.symm.trans q1
  cases (State.methodFound?_of_named hnamed hy).symm.trans q2
  cases hnamed.symm.trans q3
  have hselP : selectMethod e.platform s.vm cellB.cls mk = .method mk := by rw [Launch.admits_selectMethod X0.admits]; exact q4
  obtain ⟨vm₁, X₁, hstep₁⟩ := X0.invokevirtual hx ho hl hnamed hmethM hstM hkP hkPi hy (a := b) (cell := cellB) (by rw [hT]; exact hcB)
    (fun z h => by rw [h] at hoB; cases hoB) hselP hmethM habM hkP hkPi (g := F0 m pc ls st0) rfl (argsL := As) (rest := rest) (hn.trans (hlen _ hsigM)) hst (by rw [hb]; exact hdg)
  obtain ⟨v, V, t, h1, h2, h3, h4⟩ := zx_run (a := (Value.ref b :: As).toArray) cb (hM s.heap) X₁ (g := F0 m pc ls rest) rfl (hsize.trans hml.symm) (by rw [hb]; exact hdg) (lv_room hW) (X₁.named hnamed) ⟨by omega, by omega⟩ (zx_pre hT X₁.warmed hP hK hE)
  exact zx_out (T := T) (H0 := s.heap) (a0 := (Value.ref b :: As).toArray) (st := (T.setVm vm₁).calling (F0 m pc ls rest) mk (Value.ref b :: As).toArray) h3 rfl rfl rfl hout hlocks X₁.warmed.alike h1 h2 ((hstep₁ _ fun acts => by rw [doInvoke_state]; exact Steps.refl _).trans h4)
end ZY
