/-! copies of arrays, answers that are cells, small steps (printed by wip gen/mkextra.py) -/
def zcpy {α : Type} (f g : Nat → α) (n : Nat) : Nat → α := fun k => if k < n then f k else g k
theorem zcpy_lt {α : Type} {f g : Nat → α} {n k : Nat} (h : k < n) : zcpy f g n k = f k := by simp [zcpy, h]
theorem zcpy_ge {α : Type} {f g : Nat → α} {n k : Nat} (h : n ≤ k) : zcpy f g n k = g k := by simp [zcpy, Nat.not_lt.mpr h]
theorem ii_dec {n : Nat} (h : 1 ≤ n) : nI n + Int32.ofInt (-1) = nI (n - 1) := by
  obtain ⟨k, rfl⟩ : ∃ k, n = k + 1 := ⟨n - 1, by omega⟩
  exact pk_m1 k
theorem zcpy_enc {α β : Type} (en : α → β) (f g : Nat → α) (n : Nat) : va_cpy (fun j => en (f j)) (fun j => en (g j)) 0 0 n = fun j => en (zcpy f g n j) := by
  funext j
  by_cases h : j < n
  · rw [zcpy_lt h, pk_cpy_in (Nat.zero_le _) (by omega)]; simp
  · rw [zcpy_ge (by omega), pk_cpy_out (Or.inr (by omega))]
section ZX
variable {p : Program} {l : Launch} {e : Env} {R : Room} {s : State} {m : MethodId} {args : Array Value} {below : List Frame} {meth : Method} {c : Code} {H : Heap} {locs : List Loc} {cells slots : Nat} {Q : State → Prop}
variable {cc : ByteArray} {pc : Nat} {ls : Array Slot} {rest st0 : List Value} {D : va_G} {dA : Nat → ClassId} {A : Nat → Prop} {H0 : Heap} {ws : va_W} {a : Nat}
theorem zr_wrA {S : Type} {post : S → Prop} {v : S → Option Value} {w' : S → va_W} {x : Nat} {rt : FieldType} (u : S) (hv : some (.ref x) = v u) (hp : post u) (hP : va_P D zCl (w' u) H) (hD : va_D A (w' u)) (hS : va_S A s.heap H locs) (hrt : (∃ n, rt = .object n) ∨ ∃ t, rt = .array t) (hx : p.tables.exec = Jvm.exec) (hb : c.code = cc) (hr : meth.sig.returnType = some rt) (hlocks : meth.locks = false) (hdg : decode cc pc = .ok (.areturn, 1)) : W p l e R s m args below meth c H locs cells slots (MQ below (wrQ D post v w' A) args s cells slots A) (F0 m pc ls [.ref x]) :=
  W.aret hx hb hr hrt (Or.inr ⟨_, rfl⟩) (fun t ht hW => ⟨⟨u, by rw [hv], hp, by rw [ht]; exact hP, hD⟩, hS.F ht⟩) hS.2.2 hdg hlocks
theorem zr_roA {x : Nat} {rt : FieldType} (hrt : (∃ n, rt = .object n) ∨ ∃ t, rt = .array t) (hx : p.tables.exec = Jvm.exec) (hb : c.code = cc) (hr : meth.sig.returnType = some rt) (hlocks : meth.locks = false) (hdg : decode cc pc = .ok (.areturn, 1)) : W p l e R s m args below meth c s.heap [] 0 0 (MQ below (roQ (some (.ref x)) s.heap) args s 0 0 (fun _ => False)) (F0 m pc ls [.ref x]) :=
  W.aret hx hb hr hrt (Or.inr ⟨_, rfl⟩) (fun t ht hW => ⟨rfl, ht⟩) (fun q h => by cases h) hdg hlocks
theorem zz_copyi (hx : p.tables.exec = Jvm.exec) (hb : c.code = cc) (hml : c.maxLocals = ls.size) {own : String} {index : Nat} (hown : s.vm.findClass own = some m.cls) (hlink : (Cond.methodLink own index arraycopyName).before args s = true) (hnat : (Cond.native arraycopyName).before args s = true) (hstat : (Cond.static arraycopyName).before args s = true) (hini : (Cond.initialized "java/lang/System").before args s = true)
    (hK : zK D dA s) (hP : va_P D zCl ws H) (hD : va_D A ws) (hS : va_S A H0 H locs) (q0 q1 : Nat) {a0 : Nat} {n0 n1 k : Nat} {f g : Nat → Int} (ha0 : ws[q0]? = some (a0, .inl (dA 0, n0, .inl fun j => iZ (f j)))) (ha1 : ws[q1]? = some (a, .inl (dA 0, n1, .inl fun j => iZ (g j)))) (h4 : k ≤ n0) (h5 : k ≤ n1) (h6 : k < 2 ^ 31)
    (hframes : 1 ≤ R.frames) (hlocals : (rest.map fun v => v.category).sum + (nativeFrameWords "java/lang/System" "arraycopy" 5 + 11) ≤ R.locals) (hdg : decode cc pc = .ok (.invokestatic index, 3))
    (kk : ∀ (H1 : Heap) (locs1 : List Loc), va_P D zCl (ws.set q1 (a, .inl (dA 0, n1, .inl fun j => iZ (zcpy f g k j)))) H1 → va_D A (ws.set q1 (a, .inl (dA 0, n1, .inl fun j => iZ (zcpy f g k j)))) → va_S A H0 H1 locs1 → W p l e R s m args below meth c H1 locs1 cells slots Q (F0 m (pc + 3) ls rest)) : W p l e R s m args below meth c H locs cells slots Q (F0 m pc ls (.int (nI k) :: .int (nI 0) :: .ref a :: .int (nI 0) :: .ref a0 :: rest)) := by
  have e0 : (nI 0).toNatClampNeg = 0 := rfl
  have ek : (nI k).toNatClampNeg = k := nI_clamp h6
  refine va_copyi hx hb hml hown hlink hnat hstat hini hK.1 hP hD hS q0 q1 0 0 ha0 ha1 rfl rfl rfl (by decide) (by decide) (nI_pos h6) (by rw [e0, ek]; omega) (by rw [e0, ek]; omega) (fun _ _ => rfl) hframes hlocals hdg ?_
  rw [e0, ek, zcpy_enc]
  exact kk
theorem zn_copyi (hx : p.tables.exec = Jvm.exec) (hb : c.code = cc) (hml : c.maxLocals = ls.size) {own : String} {index : Nat} (hown : s.vm.findClass own = some m.cls) (hlink : (Cond.methodLink own index arraycopyName).before args s = true) (hnat : (Cond.native arraycopyName).before args s = true) (hstat : (Cond.static arraycopyName).before args s = true) (hini : (Cond.initialized "java/lang/System").before args s = true)
    (hK : zK D dA s) (hP : va_P D zCl ws H) (hD : va_D A ws) (hS : va_S A H0 H locs) (q0 q1 : Nat) {a0 : Nat} {n0 n1 k : Nat} {f g : Nat → Nat} (ha0 : ws[q0]? = some (a0, .inl (dA 0, n0, .inl fun j => nI (f j)))) (ha1 : ws[q1]? = some (a, .inl (dA 0, n1, .inl fun j => nI (g j)))) (h4 : k ≤ n0) (h5 : k ≤ n1) (h6 : k < 2 ^ 31)
    (hframes : 1 ≤ R.frames) (hlocals : (rest.map fun v => v.category).sum + (nativeFrameWords "java/lang/System" "arraycopy" 5 + 11) ≤ R.locals) (hdg : decode cc pc = .ok (.invokestatic index, 3))
    (kk : ∀ (H1 : Heap) (locs1 : List Loc), va_P D zCl (ws.set q1 (a, .inl (dA 0, n1, .inl fun j => nI (zcpy f g k j)))) H1 → va_D A (ws.set q1 (a, .inl (dA 0, n1, .inl fun j => nI (zcpy f g k j)))) → va_S A H0 H1 locs1 → W p l e R s m args below meth c H1 locs1 cells slots Q (F0 m (pc + 3) ls rest)) : W p l e R s m args below meth c H locs cells slots Q (F0 m pc ls (.int (nI k) :: .int (nI 0) :: .ref a :: .int (nI 0) :: .ref a0 :: rest)) := by
  have e0 : (nI 0).toNatClampNeg = 0 := rfl
  have ek : (nI k).toNatClampNeg = k := nI_clamp h6
  refine va_copyi hx hb hml hown hlink hnat hstat hini hK.1 hP hD hS q0 q1 0 0 ha0 ha1 rfl rfl rfl (by decide) (by decide) (nI_pos h6) (by rw [e0, ek]; omega) (by rw [e0, ek]; omega) (fun _ _ => rfl) hframes hlocals hdg ?_
  rw [e0, ek, zcpy_enc]
  exact kk
theorem zz_copyl (hx : p.tables.exec = Jvm.exec) (hb : c.code = cc) (hml : c.maxLocals = ls.size) {own : String} {index : Nat} (hown : s.vm.findClass own = some m.cls) (hlink : (Cond.methodLink own index arraycopyName).before args s = true) (hnat : (Cond.native arraycopyName).before args s = true) (hstat : (Cond.static arraycopyName).before args s = true) (hini : (Cond.initialized "java/lang/System").before args s = true)
    (hK : zK D dA s) (hP : va_P D zCl ws H) (hD : va_D A ws) (hS : va_S A H0 H locs) (q0 q1 : Nat) {a0 : Nat} {n0 n1 k : Nat} {f g : Nat → Int} (ha0 : ws[q0]? = some (a0, .inl (dA 1, n0, .inr (.inl fun j => lZ (f j))))) (ha1 : ws[q1]? = some (a, .inl (dA 1, n1, .inr (.inl fun j => lZ (g j))))) (h4 : k ≤ n0) (h5 : k ≤ n1) (h6 : k < 2 ^ 31)
    (hframes : 1 ≤ R.frames) (hlocals : (rest.map fun v => v.category).sum + (nativeFrameWords "java/lang/System" "arraycopy" 5 + 11) ≤ R.locals) (hdg : decode cc pc = .ok (.invokestatic index, 3))
    (kk : ∀ (H1 : Heap) (locs1 : List Loc), va_P D zCl (ws.set q1 (a, .inl (dA 1, n1, .inr (.inl fun j => lZ (zcpy f g k j))))) H1 → va_D A (ws.set q1 (a, .inl (dA 1, n1, .inr (.inl fun j => lZ (zcpy f g k j))))) → va_S A H0 H1 locs1 → W p l e R s m args below meth c H1 locs1 cells slots Q (F0 m (pc + 3) ls rest)) : W p l e R s m args below meth c H locs cells slots Q (F0 m pc ls (.int (nI k) :: .int (nI 0) :: .ref a :: .int (nI 0) :: .ref a0 :: rest)) := by
  have e0 : (nI 0).toNatClampNeg = 0 := rfl
  have ek : (nI k).toNatClampNeg = k := nI_clamp h6
  refine va_copyl hx hb hml hown hlink hnat hstat hini hK.1 hP hD hS q0 q1 1 1 ha0 ha1 rfl rfl rfl (by decide) (by decide) (nI_pos h6) (by rw [e0, ek]; omega) (by rw [e0, ek]; omega) (fun _ _ => rfl) hframes hlocals hdg ?_
  rw [e0, ek, zcpy_enc]
  exact kk
end ZX
