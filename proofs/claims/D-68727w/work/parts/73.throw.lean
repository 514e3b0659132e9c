/-! throws: a leaf that throws, a method that the throw passes through (printed by wip gen/c73.py) -/
def exUp : List String := ["java/lang/RuntimeException", "java/lang/Exception"]
/-- what a throw asks of the state beside lw_all -/
def exW : List Cond := [.laysStatic Bundle.tN "UNASSIGNED_STACK" Bundle.steD, .laysStatic Bundle.tN "SUPPRESSED_SENTINEL" Bundle.listD, .declares (Bundle.init0 "java/lang/RuntimeException"), .declares (Bundle.init0 "java/lang/Exception"), .declares (Bundle.init0 Bundle.tN),
  .castable "java/lang/IndexOutOfBoundsException" "java/lang/IndexOutOfBoundsException", .castable "java/lang/IllegalArgumentException" "java/lang/IllegalArgumentException", .castable "java/lang/IllegalStateException" "java/lang/IllegalStateException",
  .isRef (.static Bundle.tN "UNASSIGNED_STACK" Bundle.steD), .isRef (.static Bundle.tN "SUPPRESSED_SENTINEL" Bundle.listD)]
def exOK (U : State) : Prop := ∀ w ∈ exW, ∀ A : Array Value, w.before A U = true
theorem ex_mem {ws : List Cond} (ps : List Nat) (h : ws.all (fun a => decide (a ∈ exW) || (decide (a ∈ ps.filterMap (fun i => lw_tbl[i]?)) && goodWord a)) = true) : ∀ a ∈ ws, a ∈ exW ∨ a ∈ lw_all := by
  intro a ha
  have h1 := List.all_eq_true.mp h a ha
  simp only [Bool.or_eq_true, Bool.and_eq_true, decide_eq_true_eq] at h1
  rcases h1 with h1 | ⟨h1, h2⟩
  · exact Or.inl h1
  · obtain ⟨i, -, hi⟩ := List.mem_filterMap.mp h1
    exact Or.inr (lw_w i hi h2)
theorem ex_atI : ∀ a ∈ Bundle.ownAtoms0 "ShapeRelator" 18 "java/lang/IndexOutOfBoundsException" exUp, a ∈ exW ∨ a ∈ lw_all := ex_mem [81, 98, 99, 712, 713, 714, 715, 716, 717, 718, 723, 724, 725, 727, 729, 730, 732, 733, 734, 751, 753, 755, 758, 759, 760, 761, 762, 764, 765, 766, 786, 787, 788, 789, 790, 791, 792, 793, 794, 795, 796, 797, 798, 799, 800, 801, 802, 803] (by decide +kernel)
theorem ex_atA : ∀ a ∈ Bundle.ownAtoms0 "ShapeRelator" 21 "java/lang/IllegalArgumentException" exUp, a ∈ exW ∨ a ∈ lw_all := ex_mem [81, 98, 99, 712, 713, 714, 715, 716, 717, 718, 721, 724, 725, 727, 729, 730, 732, 733, 734, 751, 753, 755, 758, 759, 760, 761, 762, 764, 765, 766, 798, 799, 800, 801, 802, 803, 814, 815, 816, 817, 818, 819, 820, 821, 822, 823, 824, 825] (by decide +kernel)
theorem ex_atS : ∀ a ∈ Bundle.ownAtoms0 "ShapeRelator" 24 "java/lang/IllegalStateException" exUp, a ∈ exW ∨ a ∈ lw_all := ex_mem [81, 98, 99, 712, 713, 714, 715, 716, 717, 718, 722, 724, 725, 727, 729, 730, 732, 733, 734, 751, 753, 755, 758, 759, 760, 761, 762, 764, 765, 766, 798, 799, 800, 801, 802, 803, 848, 849, 850, 851, 852, 853, 854, 855, 856, 857, 858, 859] (by decide +kernel)
def zFrT (first : State) (o : Outcome) (t : State) (L : List Loc) (k n : Nat) : Prop := (∃ x, o = .threw x) ∧ first.WarmedH t.vm ∧ first.sameButNew ({ t with vm := first.vm } : State) L k n
def MetT (l : Launch) (y : MethodName) (ws : List Cond) (rm : Room) (Pc : Array Value → State → Prop) (Qc : Array Value → State → Outcome → State → Prop) (mc ms : Nat) (free : Addr → Prop) : Prop :=
  MetFree l y (headSpec ws rm) Pc (fun _ _ _ _ _ => True) (fun a st o t => Qc a st o t ∧ ∃ L, zFrT st o t L mc ms ∧ ∀ q ∈ L, free q.base)
def thP (D : va_G) (dA : Nat → ClassId) (av : List Value) (w : va_W) (H0 : Heap) : Array Value → State → Prop := fun a U => roP D dA av w H0 a U ∧ exOK U
def thQ (X : String) (H0 : Heap) : Array Value → State → Outcome → State → Prop := fun _ st oc t => ∃ (a : Addr) (cell : Cell), oc = .threw a ∧ H0.size ≤ a ∧ t.heap[a]? = some cell ∧ cell.vm.isStatics = false ∧ st.vm.findClass X = some cell.cls ∧ ∀ q, q < H0.size → t.heap[q]? = H0[q]?
abbrev Th (l : Launch) (y : MethodName) (ws : List Cond) (fr lo : Nat) (D : va_G) (dA : Nat → ClassId) (av : List Value) (w : va_W) (X : String) : Prop := ∀ H0 : Heap, MetT l y ws (zRoom fr 1 6 lo) (thP D dA av w H0) (thQ X H0) 1 6 (fun _ => False)
def MQT (below : List Frame) (Qc : Array Value → State → Outcome → State → Prop) (a : Array Value) (s : State) (mc ms : Nat) : State → Prop := fun t =>
  ∃ o, t.status = .running ∧ Ended t below o ∧ Qc a s o t ∧ zFrT s o t [] mc ms
theorem Th.of {l : Launch} {y : MethodName} {cc : ByteArray} {maxL : Nat} {ret : Option FieldType} {fr lo : Nat} {D : va_G} {dA : Nat → ClassId} {av : List Value} {w : va_W} {X : String} (hy : plainFor y = true) (hn : (lg_sl av).length ≤ maxL)
    (body : ∀ (p : Program) (e : Env) (s : State) (m : MethodId) (below : List Frame) (meth : Method) (c : Code) (ls : Array Slot), p.tables.exec = Jvm.exec → c.code = cc → c.maxLocals = maxL → s.vm.findClass y.cls = some m.cls → (∀ w ∈ lw_all, w.before av.toArray s = true) → meth.locks = false → (∀ pc : Nat, ∀ x ∈ c.exceptionTable.toList, covers x pc = false) → va_P D zCl w s.heap → zK D dA s → exOK s → lv_has ls maxL (lv_args 0 av) →
      W p l e (zRoom fr 1 6 lo) s m av.toArray below meth c s.heap [] 0 0 (MQT below (thQ X s.heap) av.toArray s 1 6) (F0 m 0 ls [])) : Th l y (ws_ y cc maxL ret) fr lo D dA av w X := by
  intro H0
  refine MetFree.of_bodySF (code := cc) (maxLocals := maxL) (ret := ret) hy ?_ ?_
  · intro args s m h hn
    obtain ⟨meth, c, h1, h2, h3, h4, h5, h6, -, -⟩ := Cond.code_spec hn (atoms_spec (ws := ws_ y cc maxL ret) h _ List.mem_cons_self)
    exact ⟨meth, c, h1, h2, h3, h4, h5, h6⟩
  · intro p e s m args below meth c s₁ B hml hv _
    obtain ⟨⟨rfl, rfl, hP, hK⟩, hE⟩ := hv
    have hts := atoms_spec (ws := ws_ y cc maxL ret) B.pre
    have hcode := hts _ List.mem_cons_self
    have hts : ∀ w ∈ lw_all, w.before _ s = true := fun w h => hts w (List.mem_cons_of_mem _ h)
    have hh0 : s₁.heap = s.heap := by rw [B.state]; rfl
    have hb := body p e s m below meth c _ B.exec B.bytes hml (findClass_of_methodNamed B.named) hts B.notSynchronized (fun pc => covers_of_empty (B.noHandlers hcode) pc) hP hK hE (lv_entry av hn)
    rw [← lg_entry_eq] at hb
    obtain ⟨t, a1, o, b1, b2, b3, b4⟩ := hb s₁ hh0 (Stand.of_body B)
    exact ⟨t, o, a1, b1, b2, b3, [], b4, fun q h => by cases h⟩
/-- a callee that throws, run from the caller's point: the caller stands as before, the throw lies over its frame -/
theorem zx_run {l : Launch} {R : Room} {p : Program} {e : Env} {below : List Frame} {s U : State} {args a : Array Value} {m mk : MethodId} {meth : Method} {c : Code} {locs : List Loc} {cells slots : Nat} {own : String} {index n : Nat} {y : MethodName} {ws : List Cond} {rm : Room} {Pc : Array Value → State → Prop} {Qc : Array Value → State → Outcome → State → Prop} {mc ms : Nat} {bytes : ByteArray} {maxL : Nat} {ret : Option FieldType} {g : JFrame} {ig : Instr}
    (cb : CallB R s args own index y bytes maxL ret ws rm mc ms n) (hM : MetT l y ws rm Pc Qc mc ms (fun _ => False)) (X : Stand p l e R s m args below meth c U locs cells slots) (hg : g.method = m) (hsize : g.locals.size = c.maxLocals) (hdg : decode c.code g.pc = .ok (ig, 3)) (hW : 2 * g.monitorRoom + (g.stack.map fun v => v.category).sum ≤ 8) (hn : U.methodNamed? y = some mk) (hf : cells + mc ≤ R.cells ∧ slots + ms ≤ R.slots) (hPc : Pc a (U.calling g mk a)) :
    ∃ (v : Addr) (V t : State), V.heap = t.heap ∧ Qc a (U.calling g mk a) (.threw v) t ∧ Stand p l e R s m args below meth c V locs (cells + mc) (slots + ms) ∧ Steps p.tables e below (doInvoke e (U.setTop g) [] mk a).1 ((V.setTop g).pushFrame (.throwing v)) := by
  obtain ⟨hrc, hrs, hframes, hlocals, hws, hcode, -, hini, -⟩ := cb
  subst hg
  have hat := X.here
  obtain ⟨mY, cY, q1, q2, -, q3, -⟩ := Cond.code_spec hn (hws _ hcode a _ X.warmed)
  obtain ⟨kY, q4, -⟩ := className_of_methodNamed hn
  have q5 : kY.init = .initialized := Cond.initialized_spec (findClass_of_methodNamed hn) q4 (word_at (a' := a) X.warmed (Or.inl (by first | rfl | simp [Cond.onTables, Cond.keeps, Cond.steady])) hini)
  have happ : (headSpec ws rm).appliesLoose y e.platform (U.calling g mk a) = true :=
    Spec.appliesLoose_calling (g := g) hat hdg hn q4 q5 (X.room_calling (g := g) (R' := rm) hsize q1 q2 hframes (by rw [q3]; omega) (by rw [hrc]; exact hf.1) (by rw [hrs]; exact hf.2)) (atoms_intro fun w hw => hws w hw _ _ X.warmed)
  obtain ⟨mid, hmid⟩ := hat.above
  have hfr : (U.setTop g).frames = (.java g :: mid) ++ below := by rw [State.frames_setTop' g hat.top, hmid]; rfl
  obtain ⟨o, t, hs, -, hend, hq⟩ := Steps.callFree hM p X.admits X.cas X.clock (acts := []) hfr happ hPc trivial
  obtain ⟨hQ, L, ⟨⟨v, rfl⟩, hWm, r1, r2, r3, r4, r5, r6⟩, hL⟩ := hq
  have hL0 : L = [] := by
    cases L with
    | nil => rfl
    | cons x z => exact (hL x List.mem_cons_self).elim
  subst hL0
  rw [State.frames_setTop' g hat.top] at hend
  obtain ⟨g₀, hg0⟩ := Option.isSome_iff_exists.mp hat.top
  obtain ⟨r, hr⟩ := State.topJava?_eq_some.mp hg0
  have hWm' : U.WarmedH t.vm := hWm
  generalize hV : ({ U with heap := t.heap, slotsUsed := t.slotsUsed } : State).setVm t.vm = V
  have hrV : V.frames = .java g₀ :: r := by rw [← hV]; exact hr
  have ht : t = (V.setTop g).pushFrame (.throwing v) := by
    have e1 : t = ({ t with vm := (U.calling g mk a).vm } : State).setVm t.vm := rfl
    have e2 : t.frames = .throwing v :: .java g :: U.frames.tail := hend
    have r1 : ({ t with vm := (U.calling g mk a).vm } : State) = { (U.calling g mk a).setFrames t.frames with heap := t.heap, slotsUsed := t.slotsUsed } := r1
    rw [r1] at e1
    refine e1.trans ?_
    rw [← hV, e2, State.calling_eq hat.top, State.setFrames_setFrames, State.pushFrame, State.frames_setTop _ (hV ▸ hrV), State.setTop_of_frames _ (hV ▸ hrV), State.setFrames_setFrames, hr]
    rfl
  have hsame : U.sameButNew ({ U with heap := t.heap, slotsUsed := t.slotsUsed } : State) [] mc ms := by
    refine ⟨?_, r2, r3, r4, r5, r6⟩
    obtain ⟨th, hth, -⟩ := State.frames_cons hr
    show ({ U with heap := t.heap, slotsUsed := t.slotsUsed } : State) = { U.setFrames U.frames with heap := t.heap, slotsUsed := t.slotsUsed }
    rw [State.setFrames_self hth]
  have hst : Stand p l e R s g.method args below meth c V (locs ++ []) (cells + mc) (slots + ms) := by
    rw [← hV]
    exact ⟨X.admits, X.cas, X.clock, X.frames, X.room, X.hears, X.method, X.code, (X.here.setHeapUsed t.heap t.slotsUsed).setVm hWm'.alike, X.tail, State.WarmedH.trans X.warmed hWm', X.limits, X.bytes, X.same.trans (hsame.setVm s.vm)⟩
  rw [List.append_nil] at hst
  refine ⟨v, V, t, by rw [← hV]; rfl, hQ, hst, ?_⟩
  rw [← ht]
  exact hs
section ZX
variable {p : Program} {l : Launch} {e : Env} {R : Room} {s : State} {m : MethodId} {args : Array Value} {below : List Frame} {meth : Method} {c : Code} {cc : ByteArray} {pc : Nat} {ls : Array Slot}
theorem zx_leaf {X own : String} {ik ic : Nat} (hx : p.tables.exec = Jvm.exec) (hb : c.code = cc) (hfl : l.flags = pinnedFlags ++ [noTraceFlag]) (hown : s.vm.findClass own = some m.cls) (hcl : (Cond.classLink own ik X).before args s = true) (hini : (Cond.initialized X).before args s = true)
    (hat : ∀ a ∈ Bundle.ownAtoms0 own ic X exUp, a.before args s = true) (hfit : Bundle.fit X = true) (hout : ∀ pc : Nat, ∀ x ∈ c.exceptionTable.toList, covers x pc = false) (hlocks : meth.locks = false) (hsize : ls.size = c.maxLocals)
    (hd0 : decode cc pc = .ok (.new ik, 3)) (hd3 : decode cc (pc + 3) = .ok (.dup, 1)) (hd4 : decode cc (pc + 3 + 1) = .ok (.invokespecial ic, 3)) (hd7 : decode cc (pc + 3 + 1 + 3) = .ok (.athrow, 1))
    (hR : 1 ≤ R.cells ∧ 6 ≤ R.slots ∧ 6 ≤ R.frames ∧ 90 ≤ R.locals) : W p l e R s m args below meth c s.heap [] 0 0 (MQT below (thQ X s.heap) args s 1 6) (F0 m pc ls []) := by
  intro T hT X0
  have htr : e.platform.stackTraces = false := Launch.traces_off hfl X0.admits
  have hins : (Cond.instantiable X 6).before args s = true := hat _ (by simp [Bundle.ownAtoms0])
  obtain ⟨vm₁, cX, kX, hfX, hkX, -, -, X₁, st1⟩ := X0.newCold hx (own := own) (C := X) (index := ik) (n := 6) hown hcl hins hini (g := F0 m pc ls []) rfl (by rw [hb]; exact hd0) (by omega) (by omega)
  generalize hT1 : (T.setVm vm₁).pushCell { cls := cX, slots := kX.instanceTypes.map defaultValue, vm := .none } = T1 at X₁ st1
  have hcellA : T1.heap[T.heap.size]? = some (freshCell cX kX) := by rw [← hT1]; exact State.heap_pushCell_size _ _
  obtain ⟨U, hsteps, hrun, hend, hW, hsame, ce, hce, K⟩ := X₁.ctorThrow0 hx htr (own := own) (cls := X) (names := exUp) (ic := ic) hown hfit (by decide +kernel) hat (fun y hy => by cases hy) hfX hkX hcellA (by rw [hT]; exact Nat.le_refl _)
    (g := F0 m (pc + 3 + 1) ls [.ref T.heap.size, .ref T.heap.size]) rfl hsize rfl rfl (rest := []) rfl (by rw [hb]; exact hd4) (by rw [hb]; exact hd7) (hout _) (show 2 + 3 < R.frames by omega) (show 2 * 0 + (1 + 0) + (13 * (2 + 1) + 41) ≤ R.locals by omega) (hlocks := hlocks)
  refine ⟨U, ?_, .threw T.heap.size, hrun, hend, ⟨_, ce, rfl, by rw [hT]; exact Nat.le_refl _, hce, by rw [K.vm]; rfl, K.cls, fun q hq => ?_⟩, ⟨_, rfl⟩, hW, hsame⟩
  · refine st1 _ ?_
    show Steps p.tables e below (T1.setTop (F0 m (pc + 3) ls [.ref T.heap.size])) _
    jvm_step X₁.here [X₁.here.top, hx, hb, hd3, Value.category]
    exact hsteps
  · have h1 : s.heap[q]? = some s.heap[q] := Array.getElem?_eq_getElem hq
    rw [h1]
    exact hsame.old_cell h1
/-- the end of a method that a throw passes through -/
theorem zx_out {X : String} {T T' : State} {g : JFrame} {v : Addr} {t : State} {H0 : Heap} (X' : Stand p l e R s m args below meth c T' [] 1 6) (hg : g.method = m) (hl : g.locked = none) (he : g.entered = []) (hout : ∀ pc : Nat, ∀ x ∈ c.exceptionTable.toList, covers x pc = false) (hlocks : meth.locks = false)
    {st : State} (hst : s.vm.Alike st.vm) {a0 : Array Value} (hh : T'.heap = t.heap) (hq : thQ X s.heap a0 st (.threw v) t) {s0 : State} (hs : Steps p.tables e below s0 ((T'.setTop g).pushFrame (.throwing v))) : ∃ t', Steps p.tables e below s0 t' ∧ MQT below (thQ X s.heap) args s 1 6 t' := by
  obtain ⟨hwalk, hrun, hended, hWU, hsame⟩ := X'.leaveThrown v (g := g) hg hl he (hout _) (hlocks := hlocks)
  obtain ⟨a, cell, ha, h1, h2, h3, h4, h5⟩ := hq
  cases ha
  refine ⟨_, hs.trans hwalk, .threw v, hrun, hended, ⟨v, cell, rfl, h1, ?_, h3, ?_, fun q hq => ?_⟩, ⟨_, rfl⟩, hWU, hsame⟩
  · show T'.heap[v]? = some cell
    rw [hh]; exact h2
  · rw [← hst.findClass]; exact h4
  · show T'.heap[q]? = s.heap[q]?
    rw [hh]; exact h5 q hq
theorem thP_blind {D : va_G} {dA : Nat → ClassId} {av : List Value} {w : va_W} {H0 : Heap} (hE : ∀ (U : State) (g : JFrame) (mk : MethodId) (a : Array Value), exOK U → exOK (U.calling g mk a)) : FrameBlind (thP D dA av w H0) := fun a U g mk q => by
  obtain ⟨⟨q0, q1, qP, qK⟩, qE⟩ := q
  exact ⟨⟨q0, q1, qP, qK.calling⟩, hE _ _ _ _ qE⟩
end ZX
