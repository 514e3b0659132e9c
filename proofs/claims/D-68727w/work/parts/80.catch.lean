/-! catching: the search through a table whose classes may be unresolved; methods with a table -/
/-- one entry that covers the pc: its class is resolved, and the object is of it or not -/
theorem zf_go {Q : Handler → Pre} {E : CtlPost} {e : Env} {d : Bool} {acts : List Action} {s : State} {f : JFrame} {a : Addr} {x : ExceptionTableEntry} {t : List ExceptionTableEntry} {c : ClassId} {cell : Cell} (hx : covers x f.pc = true) (h0 : x.catchType ≠ 0)
    (hl : s.vm.ClassLinks e.platform f.method.cls x.catchType c) (hcell : s.heap[a]? = some cell) (hobj : ∀ k, cell.vm ≠ .statics k) (hk : ∃ k, s.vm.classes[cell.cls]? = some k) (hc : ∃ k, s.vm.classes[c]? = some k) :
    wp (findHandler.go f a (x :: t)) Q E e d acts s ↔ if s.vm.assignable cell.cls c = true then Q (.found x.handlerPc) d acts (s.setVm (s.vm.noted f.method.cls x.catchType (.cls c))) else wp (findHandler.go f a t) Q E e d acts (s.setVm (s.vm.noted f.method.cls x.catchType (.cls c))) := by
  simp only [covers] at hx
  obtain ⟨ha, ht⟩ := (resolveClass_links e.toSetting hl).op (op := VmOp.resolveClass f.method.cls x.catchType) rfl
  have hal : s.vm.Alike (s.vm.noted f.method.cls x.catchType (.cls c)) := (Vm.Alike.refl s.vm).noted _ _ _
  obtain ⟨k1, hk1⟩ := hk
  obtain ⟨k2, hk2⟩ := hc
  obtain ⟨k1', hk1', -⟩ := hal.2.2 _ _ hk1
  obtain ⟨k2', hk2', -⟩ := hal.2.2 _ _ hk2
  by_cases hf : s.vm.assignable cell.cls c = true
  · rw [if_pos hf]
    simp [findHandler.go, hx, h0, ha, ht, hcell, hobj, hk1', hk2', hal.assignable, hf, VmOp.dirties, VmOp.acts]
  · rw [if_neg hf]
    simp [findHandler.go, hx, h0, ha, ht, hcell, hobj, hk1', hk2', hal.assignable, hf, VmOp.dirties, VmOp.acts]
/-- X is no C -/
def ncF (X C : String) (U : State) : Prop := ∃ a b, U.vm.findClass X = some a ∧ U.vm.findClass C = some b ∧ U.vm.assignable a b = false
theorem ncF.moved {X C : String} {U V : State} (h : U.vm.Alike V.vm) (hn : ncF X C U) : ncF X C V := by
  obtain ⟨a, b, h1, h2, h3⟩ := hn
  exact ⟨a, b, by rw [h.findClass]; exact h1, by rw [h.findClass]; exact h2, by rw [h.assignable]; exact h3⟩
theorem ncF.of {X C : String} {A : Array Value} {U : State} (h : (Cond.not (Cond.castable X C)).before A U = true) : ncF X C U := by
  simp only [Cond.before, Cond.holds, Cond.value] at h
  cases h1 : U.vm.findClass X with
  | none => simp [h1] at h
  | some a =>
    cases h2 : U.vm.findClass C with
    | none => simp [h1, h2] at h
    | some b =>
      simp [h1, h2] at h
      exact ⟨a, b, h1, h2, h⟩
def ncOK (U : State) : Prop := ncF "java/lang/IllegalArgumentException" "java/lang/IndexOutOfBoundsException" U ∧ ncF "java/lang/IllegalStateException" "java/lang/IndexOutOfBoundsException" U ∧ ncF "java/lang/IllegalStateException" "java/lang/IllegalArgumentException" U
theorem ncOK.moved {U V : State} (h : U.vm.Alike V.vm) (hn : ncOK U) : ncOK V := ⟨hn.1.moved h, hn.2.1.moved h, hn.2.2.moved h⟩
/-- the search finds the handler at hpc for an X at a, and leaves warmer tables alone -/
def Fnd (e : Env) (s : State) (X : String) (f : JFrame) (a : Addr) (t : List ExceptionTableEntry) (hpc : Nat) : Prop :=
  e.platform.magicAccessors = ({} : Platform).magicAccessors → ∀ U : State, s.WarmedH U.vm → (∃ cell : Cell, U.heap[a]? = some cell ∧ cell.vm.isStatics = false ∧ s.vm.findClass X = some cell.cls) →
    ∃ vm', s.WarmedH vm' ∧ ∀ (Q : Handler → Pre) (E : CtlPost) (d : Bool) (acts : List Action), wp (findHandler.go f a t) Q E e d acts U ↔ Q (.found hpc) d acts (U.setVm vm')
theorem Fnd.hit {e : Env} {s : State} {X C own : String} {f : JFrame} {a : Addr} {x : ExceptionTableEntry} {t : List ExceptionTableEntry} {A A' : Array Value} (hown : s.vm.findClass own = some f.method.cls) (hl : (Cond.classLink own x.catchType C).before A s = true) (hc : (Cond.castable X C).before A' s = true) (hx : covers x f.pc = true) (h0 : x.catchType ≠ 0) : Fnd e s X f a (x :: t) x.handlerPc := by
  intro hpl U hW hcell
  obtain ⟨cell, h1, h2, h3⟩ := hcell
  obtain ⟨cC, hfC, hcl⟩ := Cond.classLink_spec hown hl e.platform hpl
  obtain ⟨c1, c2, w1, w2, w3⟩ := Cond.castable_spec hc
  obtain rfl : c1 = cell.cls := Option.some.inj (w1.symm.trans h3)
  obtain rfl : c2 = cC := Option.some.inj (w2.symm.trans hfC)
  obtain ⟨-, hwarm, -⟩ := State.classEntry (e := e) hW hcl
  obtain ⟨k1, hk1⟩ := Vm.classAt_of_findClass h3
  obtain ⟨k2, hk2⟩ := Vm.classAt_of_findClass hfC
  obtain ⟨k1', hk1', -⟩ := hW.alike.2.2 _ _ hk1
  obtain ⟨k2', hk2', -⟩ := hW.alike.2.2 _ _ hk2
  refine ⟨_, hwarm, fun Q E d acts => ?_⟩
  refine (zf_go hx h0 (hW.classLinks hcl) h1 (VmData.ne_statics_of h2) ⟨_, hk1'⟩ ⟨_, hk2'⟩).trans ?_
  rw [if_pos (by rw [hW.alike.assignable]; exact w3)]
theorem Fnd.miss {e : Env} {s : State} {X C own : String} {f : JFrame} {a : Addr} {x : ExceptionTableEntry} {t : List ExceptionTableEntry} {A : Array Value} {hpc : Nat} (hown : s.vm.findClass own = some f.method.cls) (hl : (Cond.classLink own x.catchType C).before A s = true) (hc : ncF X C s) (hx : covers x f.pc = true) (h0 : x.catchType ≠ 0) (hF : Fnd e s X f a t hpc) : Fnd e s X f a (x :: t) hpc := by
  intro hpl U hW hcell
  obtain ⟨cell, h1, h2, h3⟩ := id hcell
  obtain ⟨cC, hfC, hcl⟩ := Cond.classLink_spec hown hl e.platform hpl
  obtain ⟨c1, c2, w1, w2, w3⟩ := hc
  obtain rfl : c1 = cell.cls := Option.some.inj (w1.symm.trans h3)
  obtain rfl : c2 = cC := Option.some.inj (w2.symm.trans hfC)
  obtain ⟨-, hwarm, -⟩ := State.classEntry (e := e) hW hcl
  obtain ⟨k1, hk1⟩ := Vm.classAt_of_findClass h3
  obtain ⟨k2, hk2⟩ := Vm.classAt_of_findClass hfC
  obtain ⟨k1', hk1', -⟩ := hW.alike.2.2 _ _ hk1
  obtain ⟨k2', hk2', -⟩ := hW.alike.2.2 _ _ hk2
  obtain ⟨vm', hv, hq⟩ := hF hpl (U.setVm (U.vm.noted f.method.cls x.catchType (.cls c2))) hwarm ⟨cell, h1, h2, h3⟩
  refine ⟨vm', hv, fun Q E d acts => ?_⟩
  refine (zf_go hx h0 (hW.classLinks hcl) h1 (VmData.ne_statics_of h2) ⟨_, hk1'⟩ ⟨_, hk2'⟩).trans ?_
  rw [if_neg (by rw [hW.alike.assignable, w3]; decide)]
  exact hq Q E d acts
theorem zf_step {e : Env} {s : State} {a : Addr} {f : JFrame} {r : List Frame} {pc : Nat} {vm' : Vm} (hfind : ∀ (Q : Handler → Pre) (E : CtlPost) (d : Bool) (acts : List Action), wp (findHandler f a) Q E e d acts s ↔ Q (.found pc) d acts (s.setVm vm')) :
    (stepThrowing e s a (.java f :: r)).Is ((s.setVm vm').setFrames (.java { f with pc := pc, stack := [.ref a] } :: r)) [] := by
  simp only [stepThrowing, searchFrame, vmDo]
  generalize hr : Sem.go _ e false [] s = res
  obtain ⟨as, rfl, ha⟩ := Sem.eq_ok_of hr (a := Handler.found pc) (s' := s.setVm vm') (acts' := []) (by simp [hfind _ _ _ _])
  exact ⟨rfl, ha⟩
theorem zf_caught {tb : Tables} {e : Env} {T target : State} {g : JFrame} {c : Code} {below : List Frame} {a : Addr} {pc : Nat} {vm' : Vm} (h : At T g.method c below)
    (hfind : ∀ (Q : Handler → Pre) (E : CtlPost) (d : Bool) (acts : List Action), wp (findHandler g a) Q E e d acts ((T.setTop g).pushFrame (.throwing a)) ↔ Q (.found pc) d acts (((T.setTop g).pushFrame (.throwing a)).setVm vm'))
    (hrest : Steps tb e below ((T.setVm vm').setTop { g with pc := pc, stack := [.ref a] }) target) : Steps tb e below ((T.setTop g).pushFrame (.throwing a)) target := by
  obtain ⟨hgo, hw⟩ := h.throwing a
  refine Steps.head hgo hw ?_
  rw [stepThread_throwing (frames_entered h.top _), (zf_step hfind).1]
  obtain ⟨g₀, hg⟩ := Option.isSome_iff_exists.mp h.top
  obtain ⟨r, hr⟩ := State.topJava?_eq_some.mp hg
  have hr' : (T.setVm vm').frames = .java g₀ :: r := hr
  rw [State.setTop_of_frames _ hr'] at hrest
  rw [State.pushFrame, State.setTop_of_frames _ hr, hr, State.setFrames_setFrames]
  have he : ∀ (fs fs2 : List Frame), (((T.setFrames fs).setVm vm').setFrames fs2) = (T.setVm vm').setFrames fs2 := fun fs fs2 => State.setFrames_setFrames (T.setVm vm') fs fs2
  rw [he]
  exact hrest
theorem va_P.more {D : va_G} {cl : List vw_C} {ws : va_W} {H H1 : Heap} (hq : ∀ q, q < H.size → H1[q]? = H[q]?) (h : va_P D cl ws H) : va_P D cl ws H1 := h.kept fun k q hk => hq _ (h k q hk).lt
theorem va_S.more {A : Nat → Prop} {H0 H H1 : Heap} {locs : List Loc} (hz : H.size ≤ H1.size) (hq : ∀ q, q < H.size → H1[q]? = H[q]?) (h : va_S A H0 H locs) : va_S A H0 H1 locs := ⟨Nat.le_trans h.1 hz, fun q h1 h2 => by rw [hq q (Nat.lt_of_lt_of_le h1 h.1)]; exact h.2.1 q h1 h2, h.2.2⟩
section ZC
variable {p : Program} {l : Launch} {e : Env} {R : Room} {s : State} {m : MethodId} {args : Array Value} {below : List Frame} {meth : Method} {c : Code} {cc : ByteArray} {pc nL fr lo n index maxL : Nat} {ls : Array Slot} {rest st0 As : List Value} {D : va_G} {dA : Nat → ClassId} {w : va_W} {X own : String} {y : MethodName} {bytes : ByteArray} {ret : Option FieldType} {yw Ts : List Cond} {Q : State → Prop}
/-- a call that throws an X, and the handler that takes it -/
theorem zx_catchV {C : String} {b : Addr} {tb : List ExceptionTableEntry} {hpc : Nat} (S : CallFix p m c cc nL s args Ts own) (hM : Th l y yw fr lo D dA (.ref b :: As) w X) (cw : CallW R s args own C index y bytes maxL ret yw (zRoom fr 1 6 lo) 1 6 n) (hrec : ∃ cell : Cell, s.heap[b]? = some cell ∧ cell.vm.isStatics = false ∧ s.vm.findClass C = some cell.cls) (hP : va_P D zCl w s.heap) (hK : zK D dA s) (hE : exOK s) (hn : As.length = n) (hsize : ls.size = nL) (hst : st0 = As.reverse ++ .ref b :: rest) (hW : (rest.map fun v => v.category).sum ≤ 8) (hdg : decode cc pc = .ok (.invokevirtual index, 3)) (hc : 1 ≤ R.cells ∧ 6 ≤ R.slots)
    (htab : c.exceptionTable.toList = tb) (hF : ∀ a, Fnd e s X (F0 m pc ls rest) a tb hpc)
    (kk : ∀ (H1 : Heap) (a : Addr), s.heap.size ≤ H1.size → (∀ q, q < s.heap.size → H1[q]? = s.heap[q]?) → W p l e R s m args below meth c H1 [] 1 6 Q (F0 m hpc ls [.ref a])) : W p l e R s m args below meth c s.heap [] 0 0 Q (F0 m pc ls st0) := by
  obtain ⟨cb, hin, hse⟩ := cw
  obtain ⟨-, -, -, -, -, -, hcode, -, hy, hlen, hl⟩ := id cb
  obtain ⟨hx, hb, hml, ho, -⟩ := S
  obtain ⟨cellB, hcB, hoB, hclB⟩ := hrec
  intro T hT X0
  obtain ⟨mk, methM, hnamed, hmethM, hstM, habM⟩ := Cond.instanceMethod_spec hin
  obtain ⟨methM', cM, hmethM', -, -, -, -, -, -, hsigM⟩ := Cond.code_spec hnamed hcode
  cases hmethM.symm.trans hmethM'
  obtain ⟨c2, r2, m2, q1, q2, q3, q4, kP, hkP, hkPi⟩ := Cond.selects_spec hse
  cases hclB.symm.trans q1
  cases (State.methodFound?_of_named hnamed hy).symm.trans q2
  cases hnamed.symm.trans q3
  have hselP : selectMethod e.platform s.vm cellB.cls mk = .method mk := by rw [Launch.admits_selectMethod X0.admits]; exact q4
  obtain ⟨vm₁, X₁, hstep₁⟩ := X0.invokevirtual hx ho hl hnamed hmethM hstM hkP hkPi hy (a := b) (cell := cellB) (by rw [hT]; exact hcB)
    (fun z h => by rw [h] at hoB; cases hoB) hselP hmethM habM hkP hkPi (g := F0 m pc ls st0) rfl (argsL := As) (rest := rest) (hn.trans (hlen _ hsigM)) hst (by rw [hb]; exact hdg)
  obtain ⟨v, V, t, h1, h2, h3, h4⟩ := zx_run (a := (Value.ref b :: As).toArray) cb (hM s.heap) X₁ (g := F0 m pc ls rest) rfl (hsize.trans hml.symm) (by rw [hb]; exact hdg) (lv_room hW) (X₁.named hnamed) ⟨by omega, by omega⟩ (zx_pre hT X₁.warmed hP hK hE)
  obtain ⟨v', cell, hv, b1, b2, b3, b4, b5⟩ := h2
  cases hv
  have hvm : ((V.setTop (F0 m pc ls rest)).pushFrame (.throwing v)).vm = V.vm := Stand.throwing_vm _ _ _
  have hhp : ((V.setTop (F0 m pc ls rest)).pushFrame (.throwing v)).heap = V.heap := Stand.throwing_heap _ _ _
  have hfc : s.vm.findClass X = some cell.cls := by rw [← X₁.warmed.alike.findClass]; exact b4
  obtain ⟨vm', hw', hq'⟩ := hF v (by rw [X0.admits.platform]) ((V.setTop (F0 m pc ls rest)).pushFrame (.throwing v)) (by rw [hvm]; exact h3.warmed) ⟨cell, by rw [hhp, h1]; exact b2, b3, hfc⟩
  have X3 : Stand p l e R s m args below meth c (V.setVm vm') [] 1 6 := h3.noted hw'
  have hsz : s.heap.size ≤ (V.setVm vm').heap.size := by
    show s.heap.size ≤ V.heap.size
    rw [h1]
    have := (Array.getElem?_eq_some_iff.mp b2).1
    omega
  obtain ⟨t2, a1, b⟩ := kk (V.setVm vm').heap v hsz (fun q hq => by show V.heap[q]? = _; rw [h1]; exact b5 q hq) (V.setVm vm') rfl X3
  refine ⟨t2, ((hstep₁ _ fun acts => by rw [doInvoke_state]; exact Steps.refl _).trans h4).trans ?_, b⟩
  refine zf_caught (g := F0 m pc ls rest) (pc := hpc) (vm' := vm') h3.here ?_ a1
  intro Q E d acts
  rw [W.findHandler_eq (meth := meth) (code := c) (by rw [hvm]; exact h3.method') h3.code, htab]
  exact hq' Q E d acts
end ZC
/-! a writing method with a table of handlers -/
def wxP (D : va_G) (dA : Nat → ClassId) (av : List Value) (w : va_W) (sz : Nat) : Array Value → State → Prop := fun a U => wrP D dA av w sz a U ∧ exOK U ∧ ncOK U
abbrev Wx {S : Type} (l : Launch) (y : MethodName) (ws : List Cond) (fr lo : Nat) (D : va_G) (dA : Nat → ClassId) (av : List Value) (w : va_W) (mc ms : Nat) (post : S → Prop) (v : S → Option Value) (w' : S → va_W) : Prop := ∀ sz : Nat, Met l y ws (zRoom fr mc ms lo) (wxP D dA av w sz) (wrQ D post v w' (va_A w sz)) mc ms (va_A w sz)
theorem Wx.of {S : Type} {l : Launch} {y : MethodName} {cc : ByteArray} {maxL : Nat} {ret : Option FieldType} {hh : List (Nat × Nat × Nat × Nat)} {fr lo mc ms : Nat} {D : va_G} {dA : Nat → ClassId} {av : List Value} {w : va_W} {post : S → Prop} {v : S → Option Value} {w' : S → va_W} (hy : plainName y.cls = true) (hn : (lg_sl av).length ≤ maxL)
    (body : ∀ (p : Program) (e : Env) (s : State) (m : MethodId) (below : List Frame) (meth : Method) (c : Code) (ls : Array Slot) (A : Nat → Prop), p.tables.exec = Jvm.exec → c.code = cc → meth.sig.returnType = ret → c.maxLocals = maxL → s.vm.findClass y.cls = some m.cls → (∀ w ∈ lw_all, w.before av.toArray s = true) → meth.locks = false → c.exceptionTable.toList = tableOf hh → exOK s → ncOK s → va_P D zCl w s.heap → zK D dA s → va_D A w → va_S A s.heap s.heap [] → (∀ q : Nat, s.heap.size ≤ q → A q) → lv_has ls maxL (lv_args 0 av) →
      W p l e (zRoom fr mc ms lo) s m av.toArray below meth c s.heap [] 0 0 (MQ below (wrQ D post v w' A) av.toArray s mc ms A) (F0 m 0 ls [])) : Wx l y (wsW_ y cc maxL ret hh) fr lo D dA av w mc ms post v w' := by
  intro sz
  refine va_MetW (cc := cc) (maxL := maxL) (ret := ret) (hh := hh) hy rfl ?_
  intro p e s m args below meth c s₁ B hml hv
  obtain ⟨⟨rfl, rfl, hP, hK, hD0⟩, hE, hN⟩ := hv
  have hts := atoms_spec (ws := wsW_ y cc maxL ret hh) B.pre
  have hcode := hts _ List.mem_cons_self
  have hts : ∀ w ∈ lw_all, w.before _ s = true := fun w h => hts w (List.mem_cons_of_mem _ h)
  have hD := hD0.self (sz := s.heap.size)
  have htab : c.exceptionTable.toList = tableOf hh := by
    have X : Stand p l e (zRoom fr mc ms lo) s m av.toArray below meth c s₁ [] 0 0 := Stand.of_body B
    obtain ⟨m', meth', c', hname', hmeth, hcode', -, -, htable, -⟩ := Cond.codeWith_spec hcode
    cases B.named.symm.trans hname'
    cases X.method.symm.trans hmeth
    cases X.code.symm.trans hcode'
    rw [← htable, table_eq]
  rw [lg_entry_eq]
  exact body p e s m below meth c _ _ B.exec B.bytes B.returns hml (findClass_of_methodNamed B.named) hts B.notSynchronized htab hE hN hP hK hD va_S.rf (fun q h => Or.inr h) (lv_entry av hn)
section ZX2
variable {p : Program} {l : Launch} {e : Env} {R : Room} {s : State} {m : MethodId} {args : Array Value} {below : List Frame} {meth : Method} {c : Code} {H : Heap} {locs : List Loc} {cells slots : Nat} {Q : State → Prop}
variable {y : MethodName} {bytes cc : ByteArray} {maxL nL mc ms n index : Nat} {ret : Option FieldType} {hh : List (Nat × Nat × Nat × Nat)} {yw : List Cond} {rm : Room} {Pc : Array Value → State → Prop} {Qc : Array Value → State → Outcome → State → Prop} {free : Addr → Prop} {Ts : List Cond} {own : String} {As rest : List Value} {g : JFrame}
/-- a static call of a method with a table -/
theorem zw_runS (S : CallFix p m c cc nL s args Ts own) (hM : Met l y yw rm Pc Qc mc ms free) (hrc : rm.cells = mc) (hrs : rm.slots = ms) (hR : rm.frames + 1 ≤ R.frames ∧ 8 + (maxL + 11) + rm.locals ≤ R.locals) (hws : ∀ w ∈ yw, ∀ (a' : Array Value) (U : State), s.WarmedH U.vm → w.before a' U = true) (hcw : Cond.codeWith y bytes maxL ret hh ∈ yw)
    (hl : (Cond.methodLink own index y).before args s = true) (hstt : (Cond.static y).before args s = true) (hini : (Cond.initialized y.cls).before args s = true) (hd : y.cls ≠ "java/lang/invoke/MethodHandle" ∧ y.cls ≠ "java/lang/invoke/VarHandle" ∧ (parseMethodDescriptor y.desc).map (fun d => d.parameters.length) = some n) (hp : PreS s H Pc As)
    (hg : g.method = m) (hn : As.length = n) (hsize : g.locals.size = nL) (hstack : g.stack = As.reverse ++ rest) (hW : 2 * g.monitorRoom + (rest.map fun v => v.category).sum ≤ 8) (hdg : decode cc g.pc = .ok (.invokestatic index, 3)) (hf : cells + mc ≤ R.cells ∧ slots + ms ≤ R.slots) :
    va_Run p l e R s m args below meth c H locs cells slots mc ms g rest (Qc As.toArray) free := by
  have hK : Back l R p e below s args y 3 8 (PreOf R mc ms Pc) (PostOf Qc mc ms free) := va_backW (hh := hh) (bytes := bytes) (maxL := maxL) (ret := ret) hM hp.1 hrc hrs hR.1 hR.2 hws hcw (fun a' U hW => word_at hW (Or.inl (by first | rfl | simp [Cond.onTables, Cond.keeps, Cond.steady])) hini)
  obtain ⟨hx, hb, hml, ho, -⟩ := S
  intro T hT X
  have hcode := hws _ hcw args s (State.WarmedH.refl s)
  obtain ⟨mk, methM, cM, hnamed, hmethM, -, -, -, -, -, -, hsigM⟩ := Cond.codeWith_spec hcode
  have hstatic : methM.isStatic = true := Cond.static_spec hnamed hmethM hstt
  obtain ⟨kP, hkP, -⟩ := className_of_methodNamed hnamed
  have hinitP : kP.init = .initialized := Cond.initialized_spec (findClass_of_methodNamed hnamed) hkP hini
  have hlen : As.length = methM.sig.parameters.length := by
    have h3 := hd.2.2
    rw [hsigM] at h3
    rw [hn]; exact (Option.some.inj h3).symm
  obtain ⟨vm₁, X₁, hstep₁⟩ := X.invokestatic hx ho hl hnamed hmethM hstatic hkP hinitP ⟨hd.1, hd.2.1⟩ (g := g) hg (argsL := As) (rest := rest) hlen hstack (by rw [hb]; exact hdg)
  obtain ⟨v, ⟨U', l2, c2, s2⟩, X', ⟨g', mk', t, L, e1, e2, hq, h1, hL, h2, h3⟩, st⟩ := hK m meth c ⟨T.setVm vm₁, locs, cells, slots⟩ { g with stack := rest } (.invokestatic index) mk As.toArray X₁ hg (hsize.trans hml.symm) (by rw [hb]; exact hdg) hW (X₁.named hnamed) ⟨hf.1, hf.2, hp.2 (T.setVm vm₁) hT X₁.warmed⟩
  dsimp only [Pt.U, Pt.locs, Pt.cells, Pt.slots] at X' e1 e2 h1 h2 h3 st
  subst h1; subst h2; subst h3
  exact ⟨v, (T.setVm vm₁).calling g' mk' As.toArray, t, U', L, hT, X', hL, e1, e2, hq, fun target h => hstep₁ _ fun acts => by rw [doInvoke_state]; exact st.trans h⟩
variable {D : va_G} {dA : Nat → ClassId} {A : Nat → Prop} {ws w wr : va_W} {fr lo pc : Nat} {ls : Array Slot} {st0 : List Value} {S' : Type} {post : S' → Prop} {v : S' → Option Value} {w' : S' → va_W}
theorem zc_wxS (S : CallFix p m c cc nL s args lw_all own) (hM : Wx l y (wsW_ y bytes maxL ret hh) fr lo D dA As w mc ms post v w') (hts : ∀ w ∈ lw_all, w.before args s = true) (hcw : Cond.codeWith y bytes maxL ret hh ∈ lw_all) (hl : Cond.methodLink own index y ∈ lw_all) (hstt : Cond.static y ∈ lw_all) (hini : Cond.initialized y.cls ∈ lw_all) (hd : y.cls ≠ "java/lang/invoke/MethodHandle" ∧ y.cls ≠ "java/lang/invoke/VarHandle" ∧ (parseMethodDescriptor y.desc).map (fun d => d.parameters.length) = some n) (hR : fr + 1 ≤ R.frames ∧ 8 + (maxL + 11) + lo ≤ R.locals)
    (hP : va_P D zCl ws H) (hK : zK D dA s) (hE : exOK s) (hN : ncOK s) (hD : va_D A ws) (hS : va_S A s.heap H locs) (hA : ∀ q : Nat, s.heap.size ≤ q → A q) (hA0 : ∀ q : Nat, q < s.heap.size → ¬ A q) (isC isR : List Nat) (hC : isC.map (fun i => ws[i]?) = w.map some) (hRR : isR.map (fun i => ws[i]?) = wr.map some) (hnC : va_nd isC = true) (hnd : va_nd isR = true) (hdis : ∀ i ∈ isR, i ∉ isC) (hn : As.length = n) (hsize : ls.size = nL) (hst : st0 = As.reverse ++ rest) (hW : (rest.map fun v => v.category).sum ≤ 8) (hdg : decode cc pc = .ok (.invokestatic index, 3)) (hc : cells + mc ≤ R.cells ∧ slots + ms ≤ R.slots)
    (kk : ∀ (u : S') (H1 : Heap) (locs1 : List Loc), post u → va_P D zCl (wr ++ w' u) H1 → va_D A (wr ++ w' u) → va_S A s.heap H1 locs1 → W p l e R s m args below meth c H1 locs1 (cells + mc) (slots + ms) Q (F0 m (pc + 3) ls ((v u).toList ++ rest))) : W p l e R s m args below meth c H locs cells slots Q (F0 m pc ls st0) := by
  have hz := zp_wr (s := s) (av := As) (hP.sub isC (zmap hC)) hK (hD.sub isC hnC hC)
  have hpre : PreS s H (wxP D dA As w H.size) As := by
    refine ⟨fun a U g mk q => ⟨hz.1 a U g mk q.1, ex_calling q.2.1, q.2.2.moved (V := U.calling g mk a) (Vm.Alike.refl U.vm)⟩, fun U hU hWm => ⟨hz.2 U hU hWm, ex_warm hWm (fun q cell hq => ?_) hE, hN.moved hWm.alike⟩⟩
    have hlt : q < s.heap.size := (Array.getElem?_eq_some_iff.mp hq).1
    rw [hU, hS.2.1 q hlt (hA0 q hlt)]; exact hq
  exact zc_wr (zw_runS (hh := hh) (bytes := bytes) (maxL := maxL) (ret := ret) S (hM H.size) rfl rfl hR (fun w hw a' U hW => word_at hW (lw_methW hcw w hw).2 (hts w (lw_methW hcw w hw).1)) List.mem_cons_self (hts _ hl) (hts _ hstt) (hts _ hini) hd hpre rfl hn hsize hst (lv_room hW) hdg hc) hP hD hS hA isC isR hC hRR hnd hdis kk
end ZX2
