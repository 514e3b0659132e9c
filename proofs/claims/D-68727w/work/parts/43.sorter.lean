/-! inherited calls; Bounds' methods of a Tree; Sorter (printed by wip gen/c43.py) -/
theorem lw_U {own : String} {idx : Nat} {C owner : String} {x y : MethodName} {b : ByteArray} {L : Nat} {r : Option FieldType} (h1 : Cond.methodLink own idx x ∈ lw_all) (h2 : Cond.sameMethod x.cls owner x.name x.desc ∈ lw_all) (h3 : Cond.selects C x y ∈ lw_all) (h4 : Cond.instanceMethod y ∈ lw_all) (h5 : Cond.initialized y.cls ∈ lw_all) (h6 : Cond.code y b L r ∈ lw_all) : GoodIn lw_all (va_wsU own idx C owner x y (ws_ y b L r)) := by
  refine lw_app ?_ (lw_meth h6)
  intro w hw
  simp only [List.mem_cons, List.not_mem_nil, or_false] at hw
  rcases hw with e | e | e | e | e
  · rw [e]; exact h1
  · rw [e]; exact h2
  · rw [e]; exact h3
  · rw [e]; exact h4
  · rw [e]; exact h5
section ZU
variable {p : Program} {l : Launch} {e : Env} {R : Room} {s : State} {m : MethodId} {args : Array Value} {below : List Frame} {meth : Method} {c : Code} {H : Heap} {locs : List Loc} {cells slots : Nat} {Q : State → Prop}
variable {cc : ByteArray} {pc : Nat} {ls : Array Slot} {rest st0 : List Value} {D : va_G} {dA : Nat → ClassId} {A : Nat → Prop} {H0 : Heap} {ws : va_W}
variable {x y : MethodName} {bytes : ByteArray} {maxL nL n index fr lo mc ms : Nat} {ret : Option FieldType} {yw : List Cond} {Ts : List Cond} {own C owner : String} {b : Addr} {As : List Value} {w wr : va_W}
theorem zc_roU {v : Value} (S : CallFix p m c cc nL s args Ts own) (hM : Ro l y yw fr lo D dA (.ref b :: As) w (some v)) (cw : va_CU R s args own C owner index x y bytes maxL ret yw (zRoom fr 0 0 lo) 0 0 n) (hrec : ∃ cell : Cell, H[b]? = some cell ∧ cell.vm.isStatics = false ∧ s.vm.findClass C = some cell.cls) (hP : va_P D zCl w H) (hK : zK D dA s) (hn : As.length = n) (hsize : ls.size = nL) (hst : st0 = As.reverse ++ .ref b :: rest) (hW : (rest.map fun v => v.category).sum ≤ 8) (hdg : decode cc pc = .ok (.invokevirtual index, 3)) (hc : cells ≤ R.cells ∧ slots ≤ R.slots) (k : W p l e R s m args below meth c H locs cells slots Q (F0 m (pc + 3) ls (v :: rest))) : W p l e R s m args below meth c H locs cells slots Q (F0 m pc ls st0) :=
  zc_ro (va_runU S (hM H) cw ⟨(zp_ro hP hK).1, hrec, (zp_ro hP hK).2⟩ rfl hn hsize hst (lv_room hW) hdg hc) k
theorem zc_wrU {S0 : Type} {post : S0 → Prop} {v : S0 → Option Value} {w' : S0 → va_W} (S : CallFix p m c cc nL s args Ts own) (hM : Wr l y yw fr lo D dA (.ref b :: As) w mc ms post v w') (cw : va_CU R s args own C owner index x y bytes maxL ret yw (zRoom fr mc ms lo) mc ms n) (hrec : ∃ cell : Cell, H[b]? = some cell ∧ cell.vm.isStatics = false ∧ s.vm.findClass C = some cell.cls) (hP : va_P D zCl ws H) (hK : zK D dA s) (hD : va_D A ws) (hS : va_S A H0 H locs) (hA : ∀ q : Nat, H0.size ≤ q → A q) (isC isR : List Nat) (hC : isC.map (fun i => ws[i]?) = w.map some) (hR : isR.map (fun i => ws[i]?) = wr.map some) (hnC : va_nd isC = true) (hnd : va_nd isR = true) (hdis : ∀ i ∈ isR, i ∉ isC) (hn : As.length = n) (hsize : ls.size = nL) (hst : st0 = As.reverse ++ .ref b :: rest) (hW : (rest.map fun v => v.category).sum ≤ 8) (hdg : decode cc pc = .ok (.invokevirtual index, 3)) (hc : cells + mc ≤ R.cells ∧ slots + ms ≤ R.slots)
    (kk : ∀ (u : S0) (H1 : Heap) (locs1 : List Loc), post u → va_P D zCl (wr ++ w' u) H1 → va_D A (wr ++ w' u) → va_S A H0 H1 locs1 → W p l e R s m args below meth c H1 locs1 (cells + mc) (slots + ms) Q (F0 m (pc + 3) ls ((v u).toList ++ rest))) : W p l e R s m args below meth c H locs cells slots Q (F0 m pc ls st0) :=
  zc_wr (va_runU S (hM H.size) cw ⟨(zp_wr (hP.sub isC (zmap hC)) hK (hD.sub isC hnC hC)).1, hrec, (zp_wr (hP.sub isC (zmap hC)) hK (hD.sub isC hnC hC)).2⟩ rfl hn hsize hst (lv_room hW) hdg hc) hP hD hS hA isC isR hC hR hnd hdis kk
end ZU
theorem dB.i {z : Int} (h : dB z) : inI z := ⟨by have := h.1; omega, by have := h.2; omega⟩
def bxB (A B C D : Nat → Int) : Prop := ∀ k, dB (A k) ∧ dB (B k) ∧ dB (C k) ∧ dB (D k)
theorem dB_min {a b : Int} (h : dB a) (g : dB b) : dB (min a b) := ⟨by have := h.1; have := g.1; omega, by have := h.2; have := g.2; omega⟩
theorem dB_max {a b : Int} (h : dB a) (g : dB b) : dB (max a b) := ⟨by have := h.1; have := g.1; omega, by have := h.2; have := g.2; omega⟩
theorem bxB_upd {A B C D : Nat → Int} {n : Nat} {a b c d : Int} (h : bxB A B C D) (ha : dB a) (hb : dB b) (hc : dB c) (hd : dB d) : bxB (updZ A n a) (updZ B n b) (updZ C n c) (updZ D n d) := fun k =>
  ⟨updZ_all (fun j => (h j).1) ha k, updZ_all (fun j => (h j).2.1) hb k, updZ_all (fun j => (h j).2.2.1) hc k, updZ_all (fun j => (h j).2.2.2) hd k⟩
theorem bxMeets_iff {a b c d x y tx ty : Int} : bxMeets a b c d x y tx ty = true ↔ a ≤ tx ∧ x ≤ c ∧ b ≤ ty ∧ y ≤ d := by simp [bxMeets, and_assoc]
set_option maxHeartbeats 4000000 in
set_option maxRecDepth 100000 in
theorem metX5_ready_X6 (lG : Launch) (D : va_G) (dA : Nat → ClassId) (h0 : Nat) (a1 : Nat) (a2 : Nat) (a3 : Nat) (a4 : Nat) (t1 : Nat) (t2 : Nat) (t3 : Nat) (t4 : Nat) (nd : Nat) (lf : Nat) (so : Nat) (nc : Nat) (LX : Nat → Int) (LY : Nat → Int) (HX : Nat → Int) (HY : Nat → Int) (n : Nat) (hnc : nc ≤ 65536) (hn : n ≤ nc) : Wr lG yX5_ready (ws_ yX5_ready cX5_ready 3 none) 0 0 D dA [.ref h0, .int (nI n)] [(h0, .inr (5, [.ref a1, .ref a2, .ref a3, .ref a4, .ref t1, .ref t2, .ref t3, .int (nI nd), .int (nI lf), .ref so, .ref t4])), (a1, .inl (dA 0, nc, .inl fun j => iZ (LX j))), (a2, .inl (dA 0, nc, .inl fun j => iZ (LY j))), (a3, .inl (dA 0, nc, .inl fun j => iZ (HX j))), (a4, .inl (dA 0, nc, .inl fun j => iZ (HY j)))] 0 0 (fun (_u : Unit) => True) (fun (_u : Unit) => none) (fun (_u : Unit) => [(h0, .inr (5, [.ref a1, .ref a2, .ref a3, .ref a4, .ref t1, .ref t2, .ref t3, .int (nI nd), .int (nI lf), .ref so, .ref t4])), (a1, .inl (dA 0, nc, .inl fun j => iZ (LX j))), (a2, .inl (dA 0, nc, .inl fun j => iZ (LY j))), (a3, .inl (dA 0, nc, .inl fun j => iZ (HX j))), (a4, .inl (dA 0, nc, .inl fun j => iZ (HY j)))]) := by
  refine Wr.of (by decide) (Nat.le_of_ble_eq_true rfl) ?_
  intro pG eG sG mG bG tG cG ls A hx hb hr hml hown hts hlocks hnm hP hK hD hS hA hl
  have hK1 := hK.1
  have hown : sG.vm.findClass RX5 = some mG.cls := hown
  have hl : lv_has ls 3 [(0, .ref h0), (1, .int (nI n))] := hl
  refine lv_aload_n hx hb dX5_ready_0 rfl (lv_at hl 0 rfl) ?_
  refine va_get (D := D) (ci := 5) (v := .ref a1) (C := RX6) (T := TX6) (N := 11) hx hb hts in_X6 hown hK.1 hP 0 rfl rfl 0 (Nat.le_of_ble_eq_true rfl) (hts _ q182) (fun _ h9 => h9) rfl dX5_ready_1 ?_
  refine va_alen (v := nI nc) hx hb hK.1 hP 1 0 rfl rfl rfl dX5_ready_4 ?_
  refine lv_istore_n (lv' := [(2, .int (nI nc)), (0, .ref h0), (1, .int (nI n))]) hx hb dX5_ready_5 rfl hl (by decide) rfl (fun ls hl => ?_)
  refine lv_iload_n hx hb dX5_ready_6 rfl (lv_at hl 0 rfl) ?_
  refine lv_iload_n hx hb dX5_ready_7 rfl (lv_at hl 2 rfl) ?_
  refine zn_icmp_ge (tgt := 18) hx hb (by omega) (by omega) dX5_ready_8 (by decide) (fun c_1 => ?_) (fun c_1 => ?_)
  · skip
    refine lv_iload_n hx hb dX5_ready_18 rfl (lv_at hl 0 rfl) ?_
    refine lv_aload_n hx hb dX5_ready_19 rfl (lv_at hl 1 rfl) ?_
    refine va_get (D := D) (ci := 5) (v := .ref a1) (C := RX6) (T := TX6) (N := 11) hx hb hts in_X6 hown hK.1 hP 0 rfl rfl 0 (Nat.le_of_ble_eq_true rfl) (hts _ q182) (fun _ h9 => h9) rfl dX5_ready_20 ?_
    refine va_alen (v := nI nc) hx hb hK.1 hP 1 0 rfl rfl rfl dX5_ready_23 ?_
    refine zn_icmp_le (tgt := 75) hx hb (by omega) (by omega) dX5_ready_24 (by decide) (fun c_2 => ?_) (fun c_2 => ?_)
    · skip
      exact zr_wrV (u := ()) rfl trivial (hP.sub [0, 1, 2, 3, 4] rfl) (hD.sub [0, 1, 2, 3, 4] (by decide) rfl) hS hx hb hr hlocks dX5_ready_75
    · skip
      exfalso; omega
  · skip
    exfalso; omega
set_option maxHeartbeats 4000000 in
set_option maxRecDepth 100000 in
theorem metX5_set_X6 (lG : Launch) (D : va_G) (dA : Nat → ClassId) (h0 : Nat) (a1 : Nat) (a2 : Nat) (a3 : Nat) (a4 : Nat) (t1 : Nat) (t2 : Nat) (t3 : Nat) (t4 : Nat) (nd : Nat) (lf : Nat) (so : Nat) (nc : Nat) (LX : Nat → Int) (LY : Nat → Int) (HX : Nat → Int) (HY : Nat → Int) (at_ : Nat) (x : Int) (y : Int) (tx : Int) (ty : Int) (hnc : nc ≤ 65536) (hat : at_ < nc) : Wr lG yX5_set (ws_ yX5_set cX5_set 6 none) 1 22 D dA [.ref h0, .int (nI at_), .int (iZ x), .int (iZ y), .int (iZ tx), .int (iZ ty)] [(h0, .inr (5, [.ref a1, .ref a2, .ref a3, .ref a4, .ref t1, .ref t2, .ref t3, .int (nI nd), .int (nI lf), .ref so, .ref t4])), (a1, .inl (dA 0, nc, .inl fun j => iZ (LX j))), (a2, .inl (dA 0, nc, .inl fun j => iZ (LY j))), (a3, .inl (dA 0, nc, .inl fun j => iZ (HX j))), (a4, .inl (dA 0, nc, .inl fun j => iZ (HY j)))] 0 0 (fun (_u : Unit) => True) (fun (_u : Unit) => none) (fun (_u : Unit) => [(h0, .inr (5, [.ref a1, .ref a2, .ref a3, .ref a4, .ref t1, .ref t2, .ref t3, .int (nI nd), .int (nI lf), .ref so, .ref t4])), (a1, .inl (dA 0, nc, .inl fun j => iZ ((updZ LX at_ x) j))), (a2, .inl (dA 0, nc, .inl fun j => iZ ((updZ LY at_ y) j))), (a3, .inl (dA 0, nc, .inl fun j => iZ ((updZ HX at_ tx) j))), (a4, .inl (dA 0, nc, .inl fun j => iZ ((updZ HY at_ ty) j)))]) := by
  refine Wr.of (by decide) (Nat.le_of_ble_eq_true rfl) ?_
  intro pG eG sG mG bG tG cG ls A hx hb hr hml hown hts hlocks hnm hP hK hD hS hA hl
  have hK1 := hK.1
  have hown : sG.vm.findClass RX5 = some mG.cls := hown
  have hl : lv_has ls 6 [(0, .ref h0), (1, .int (nI at_)), (2, .int (iZ x)), (3, .int (iZ y)), (4, .int (iZ tx)), (5, .int (iZ ty))] := hl
  refine lv_aload_n hx hb dX5_set_0 rfl (lv_at hl 0 rfl) ?_
  refine lv_iload_n hx hb dX5_set_1 rfl (lv_at hl 1 rfl) ?_
  refine lv_iconst (v := nI 1) hx hb dX5_set_2 (by decide) ?_
  refine zn_iadd hx hb dX5_set_3 ?_
  refine zc_wrU (rest := []) (wr := []) ⟨hx, hb, hml, hown, hts⟩ (metX5_ready_X6 lG D dA h0 a1 a2 a3 a4 t1 t2 t3 t4 nd lf so nc LX LY HX HY (at_ + 1) (by first | assumption | omega) (by first | assumption | omega)) (va_cwU 1 hts (lw_U q412 q415 q416 q413 q75 q417) rfl rfl rfl rfl (by decide +kernel) ⟨Nat.le_of_ble_eq_true rfl, Nat.le_of_ble_eq_true rfl⟩) (va_recv hK.1 hP (ci := 5) (q0 := 0) rfl rfl) hP hK hD hS hA [0, 1, 2, 3, 4] [] rfl rfl (by decide) (by decide) (by decide) rfl hl.1 rfl (Nat.le_of_ble_eq_true rfl) dX5_set_4 ⟨Nat.zero_le _, Nat.zero_le _⟩ (fun u H locs hp_1 hP hD hS => ?_)
  have hP : va_P D zCl [(h0, .inr (5, [.ref a1, .ref a2, .ref a3, .ref a4, .ref t1, .ref t2, .ref t3, .int (nI nd), .int (nI lf), .ref so, .ref t4])), (a1, .inl (dA 0, nc, .inl fun j => iZ (LX j))), (a2, .inl (dA 0, nc, .inl fun j => iZ (LY j))), (a3, .inl (dA 0, nc, .inl fun j => iZ (HX j))), (a4, .inl (dA 0, nc, .inl fun j => iZ (HY j)))] H := hP
  have hD : va_D A [(h0, .inr (5, [.ref a1, .ref a2, .ref a3, .ref a4, .ref t1, .ref t2, .ref t3, .int (nI nd), .int (nI lf), .ref so, .ref t4])), (a1, .inl (dA 0, nc, .inl fun j => iZ (LX j))), (a2, .inl (dA 0, nc, .inl fun j => iZ (LY j))), (a3, .inl (dA 0, nc, .inl fun j => iZ (HX j))), (a4, .inl (dA 0, nc, .inl fun j => iZ (HY j)))] := hD
  show W _ _ _ _ _ _ _ _ _ _ _ _ 0 0 _ (F0 mG 7 ls [])
  refine lv_aload_n hx hb dX5_set_7 rfl (lv_at hl 0 rfl) ?_
  refine va_get (D := D) (ci := 5) (v := .ref a1) (C := RX6) (T := TX6) (N := 11) hx hb hts in_X6 hown hK.1 hP 0 rfl rfl 0 (Nat.le_of_ble_eq_true rfl) (hts _ q182) (fun _ h9 => h9) rfl dX5_set_8 ?_
  refine lv_iload_n hx hb dX5_set_11 rfl (lv_at hl 1 rfl) ?_
  refine lv_iload_n hx hb dX5_set_12 rfl (lv_at hl 2 rfl) ?_
  refine zz_iastore (f := LX) (i := at_) (x := x) hx hb hK.1 hP hD hS 1 0 rfl rfl (by omega) (by omega) dX5_set_13 (fun H locs hP hD hS => ?_)
  have hP : va_P D zCl [(h0, .inr (5, [.ref a1, .ref a2, .ref a3, .ref a4, .ref t1, .ref t2, .ref t3, .int (nI nd), .int (nI lf), .ref so, .ref t4])), (a1, .inl (dA 0, nc, .inl fun j => iZ ((updZ LX at_ x) j))), (a2, .inl (dA 0, nc, .inl fun j => iZ (LY j))), (a3, .inl (dA 0, nc, .inl fun j => iZ (HX j))), (a4, .inl (dA 0, nc, .inl fun j => iZ (HY j)))] H := hP
  have hD : va_D A [(h0, .inr (5, [.ref a1, .ref a2, .ref a3, .ref a4, .ref t1, .ref t2, .ref t3, .int (nI nd), .int (nI lf), .ref so, .ref t4])), (a1, .inl (dA 0, nc, .inl fun j => iZ ((updZ LX at_ x) j))), (a2, .inl (dA 0, nc, .inl fun j => iZ (LY j))), (a3, .inl (dA 0, nc, .inl fun j => iZ (HX j))), (a4, .inl (dA 0, nc, .inl fun j => iZ (HY j)))] := hD
  refine lv_aload_n hx hb dX5_set_14 rfl (lv_at hl 0 rfl) ?_
  refine va_get (D := D) (ci := 5) (v := .ref a2) (C := RX6) (T := TX6) (N := 11) hx hb hts in_X6 hown hK.1 hP 0 rfl rfl 1 (Nat.le_of_ble_eq_true rfl) (hts _ q184) (fun _ h9 => h9) rfl dX5_set_15 ?_
  refine lv_iload_n hx hb dX5_set_18 rfl (lv_at hl 1 rfl) ?_
  refine lv_iload_n hx hb dX5_set_19 rfl (lv_at hl 3 rfl) ?_
  refine zz_iastore (f := LY) (i := at_) (x := y) hx hb hK.1 hP hD hS 2 0 rfl rfl (by omega) (by omega) dX5_set_20 (fun H locs hP hD hS => ?_)
  have hP : va_P D zCl [(h0, .inr (5, [.ref a1, .ref a2, .ref a3, .ref a4, .ref t1, .ref t2, .ref t3, .int (nI nd), .int (nI lf), .ref so, .ref t4])), (a1, .inl (dA 0, nc, .inl fun j => iZ ((updZ LX at_ x) j))), (a2, .inl (dA 0, nc, .inl fun j => iZ ((updZ LY at_ y) j))), (a3, .inl (dA 0, nc, .inl fun j => iZ (HX j))), (a4, .inl (dA 0, nc, .inl fun j => iZ (HY j)))] H := hP
  have hD : va_D A [(h0, .inr (5, [.ref a1, .ref a2, .ref a3, .ref a4, .ref t1, .ref t2, .ref t3, .int (nI nd), .int (nI lf), .ref so, .ref t4])), (a1, .inl (dA 0, nc, .inl fun j => iZ ((updZ LX at_ x) j))), (a2, .inl (dA 0, nc, .inl fun j => iZ ((updZ LY at_ y) j))), (a3, .inl (dA 0, nc, .inl fun j => iZ (HX j))), (a4, .inl (dA 0, nc, .inl fun j => iZ (HY j)))] := hD
  refine lv_aload_n hx hb dX5_set_21 rfl (lv_at hl 0 rfl) ?_
  refine va_get (D := D) (ci := 5) (v := .ref a3) (C := RX6) (T := TX6) (N := 11) hx hb hts in_X6 hown hK.1 hP 0 rfl rfl 2 (Nat.le_of_ble_eq_true rfl) (hts _ q186) (fun _ h9 => h9) rfl dX5_set_22 ?_
  refine lv_iload_n hx hb dX5_set_25 rfl (lv_at hl 1 rfl) ?_
  refine lv_iload hx hb dX5_set_26 (lv_at hl 4 rfl) ?_
  refine zz_iastore (f := HX) (i := at_) (x := tx) hx hb hK.1 hP hD hS 3 0 rfl rfl (by omega) (by omega) dX5_set_28 (fun H locs hP hD hS => ?_)
  have hP : va_P D zCl [(h0, .inr (5, [.ref a1, .ref a2, .ref a3, .ref a4, .ref t1, .ref t2, .ref t3, .int (nI nd), .int (nI lf), .ref so, .ref t4])), (a1, .inl (dA 0, nc, .inl fun j => iZ ((updZ LX at_ x) j))), (a2, .inl (dA 0, nc, .inl fun j => iZ ((updZ LY at_ y) j))), (a3, .inl (dA 0, nc, .inl fun j => iZ ((updZ HX at_ tx) j))), (a4, .inl (dA 0, nc, .inl fun j => iZ (HY j)))] H := hP
  have hD : va_D A [(h0, .inr (5, [.ref a1, .ref a2, .ref a3, .ref a4, .ref t1, .ref t2, .ref t3, .int (nI nd), .int (nI lf), .ref so, .ref t4])), (a1, .inl (dA 0, nc, .inl fun j => iZ ((updZ LX at_ x) j))), (a2, .inl (dA 0, nc, .inl fun j => iZ ((updZ LY at_ y) j))), (a3, .inl (dA 0, nc, .inl fun j => iZ ((updZ HX at_ tx) j))), (a4, .inl (dA 0, nc, .inl fun j => iZ (HY j)))] := hD
  refine lv_aload_n hx hb dX5_set_29 rfl (lv_at hl 0 rfl) ?_
  refine va_get (D := D) (ci := 5) (v := .ref a4) (C := RX6) (T := TX6) (N := 11) hx hb hts in_X6 hown hK.1 hP 0 rfl rfl 3 (Nat.le_of_ble_eq_true rfl) (hts _ q188) (fun _ h9 => h9) rfl dX5_set_30 ?_
  refine lv_iload_n hx hb dX5_set_33 rfl (lv_at hl 1 rfl) ?_
  refine lv_iload hx hb dX5_set_34 (lv_at hl 5 rfl) ?_
  refine zz_iastore (f := HY) (i := at_) (x := ty) hx hb hK.1 hP hD hS 4 0 rfl rfl (by omega) (by omega) dX5_set_36 (fun H locs hP hD hS => ?_)
  have hP : va_P D zCl [(h0, .inr (5, [.ref a1, .ref a2, .ref a3, .ref a4, .ref t1, .ref t2, .ref t3, .int (nI nd), .int (nI lf), .ref so, .ref t4])), (a1, .inl (dA 0, nc, .inl fun j => iZ ((updZ LX at_ x) j))), (a2, .inl (dA 0, nc, .inl fun j => iZ ((updZ LY at_ y) j))), (a3, .inl (dA 0, nc, .inl fun j => iZ ((updZ HX at_ tx) j))), (a4, .inl (dA 0, nc, .inl fun j => iZ ((updZ HY at_ ty) j)))] H := hP
  have hD : va_D A [(h0, .inr (5, [.ref a1, .ref a2, .ref a3, .ref a4, .ref t1, .ref t2, .ref t3, .int (nI nd), .int (nI lf), .ref so, .ref t4])), (a1, .inl (dA 0, nc, .inl fun j => iZ ((updZ LX at_ x) j))), (a2, .inl (dA 0, nc, .inl fun j => iZ ((updZ LY at_ y) j))), (a3, .inl (dA 0, nc, .inl fun j => iZ ((updZ HX at_ tx) j))), (a4, .inl (dA 0, nc, .inl fun j => iZ ((updZ HY at_ ty) j)))] := hD
  exact zr_wrV (u := ()) rfl trivial (hP.sub [0, 1, 2, 3, 4] rfl) (hD.sub [0, 1, 2, 3, 4] (by decide) rfl) hS hx hb hr hlocks dX5_set_37
set_option maxHeartbeats 4000000 in
set_option maxRecDepth 100000 in
theorem metX5_meets_X6 (lG : Launch) (D : va_G) (dA : Nat → ClassId) (h0 : Nat) (a1 : Nat) (a2 : Nat) (a3 : Nat) (a4 : Nat) (t1 : Nat) (t2 : Nat) (t3 : Nat) (t4 : Nat) (nd : Nat) (lf : Nat) (so : Nat) (nc : Nat) (LX : Nat → Int) (LY : Nat → Int) (HX : Nat → Int) (HY : Nat → Int) (at_ : Nat) (x : Int) (y : Int) (tx : Int) (ty : Int) (hnc : nc ≤ 65536) (hat : at_ < nc) (hC : bxB LX LY HX HY) (q1 : inI x) (q2 : inI y) (q3 : inI tx) (q4 : inI ty) : Ro lG yX5_meets (ws_ yX5_meets cX5_meets 6 (some .boolean)) 0 0 D dA [.ref h0, .int (nI at_), .int (iZ x), .int (iZ y), .int (iZ tx), .int (iZ ty)] [(h0, .inr (5, [.ref a1, .ref a2, .ref a3, .ref a4, .ref t1, .ref t2, .ref t3, .int (nI nd), .int (nI lf), .ref so, .ref t4])), (a1, .inl (dA 0, nc, .inl fun j => iZ (LX j))), (a2, .inl (dA 0, nc, .inl fun j => iZ (LY j))), (a3, .inl (dA 0, nc, .inl fun j => iZ (HX j))), (a4, .inl (dA 0, nc, .inl fun j => iZ (HY j)))] (some (.int (bI (bxMeets (LX at_) (LY at_) (HX at_) (HY at_) x y tx ty)))) := by
  refine Ro.of (by decide) (Nat.le_of_ble_eq_true rfl) ?_
  intro pG eG sG mG bG tG cG ls hx hb hr hml hown hts hlocks hP hK hl
  have hown : sG.vm.findClass RX5 = some mG.cls := hown
  have hl : lv_has ls 6 [(0, .ref h0), (1, .int (nI at_)), (2, .int (iZ x)), (3, .int (iZ y)), (4, .int (iZ tx)), (5, .int (iZ ty))] := hl
  refine lv_aload_n hx hb dX5_meets_0 rfl (lv_at hl 0 rfl) ?_
  refine va_get (D := D) (ci := 5) (v := .ref a1) (C := RX6) (T := TX6) (N := 11) hx hb hts in_X6 hown hK.1 hP 0 rfl rfl 0 (Nat.le_of_ble_eq_true rfl) (hts _ q182) (fun _ h9 => h9) rfl dX5_meets_1 ?_
  refine lv_iload_n hx hb dX5_meets_4 rfl (lv_at hl 1 rfl) ?_
  refine zz_iaload (f := LX) (i := at_) hx hb hK.1 hP 1 0 rfl rfl (by omega) (by omega) dX5_meets_5 ?_
  refine lv_iload hx hb dX5_meets_6 (lv_at hl 4 rfl) ?_
  refine zz_icmp_gt (tgt := 46) hx hb (hC _).1.i q3 dX5_meets_8 (by decide) (fun c_1 => ?_) (fun c_1 => ?_)
  · skip
    refine lv_iconst (v := nI 0) hx hb dX5_meets_46 (by decide) ?_
    exact zr_roB (by first | exact (bI_iff bxMeets_iff).1 (by omega) | exact (bI_iff bxMeets_iff).2 (by omega)) hx hb hr hlocks dX5_meets_47
  · skip
    refine lv_aload_n hx hb dX5_meets_11 rfl (lv_at hl 0 rfl) ?_
    refine va_get (D := D) (ci := 5) (v := .ref a3) (C := RX6) (T := TX6) (N := 11) hx hb hts in_X6 hown hK.1 hP 0 rfl rfl 2 (Nat.le_of_ble_eq_true rfl) (hts _ q186) (fun _ h9 => h9) rfl dX5_meets_12 ?_
    refine lv_iload_n hx hb dX5_meets_15 rfl (lv_at hl 1 rfl) ?_
    refine zz_iaload (f := HX) (i := at_) hx hb hK.1 hP 3 0 rfl rfl (by omega) (by omega) dX5_meets_16 ?_
    refine lv_iload_n hx hb dX5_meets_17 rfl (lv_at hl 2 rfl) ?_
    refine zz_icmp_lt (tgt := 46) hx hb (hC _).2.2.1.i q1 dX5_meets_18 (by decide) (fun c_2 => ?_) (fun c_2 => ?_)
    · skip
      refine lv_iconst (v := nI 0) hx hb dX5_meets_46 (by decide) ?_
      exact zr_roB (by first | exact (bI_iff bxMeets_iff).1 (by omega) | exact (bI_iff bxMeets_iff).2 (by omega)) hx hb hr hlocks dX5_meets_47
    · skip
      refine lv_aload_n hx hb dX5_meets_21 rfl (lv_at hl 0 rfl) ?_
      refine va_get (D := D) (ci := 5) (v := .ref a2) (C := RX6) (T := TX6) (N := 11) hx hb hts in_X6 hown hK.1 hP 0 rfl rfl 1 (Nat.le_of_ble_eq_true rfl) (hts _ q184) (fun _ h9 => h9) rfl dX5_meets_22 ?_
      refine lv_iload_n hx hb dX5_meets_25 rfl (lv_at hl 1 rfl) ?_
      refine zz_iaload (f := LY) (i := at_) hx hb hK.1 hP 2 0 rfl rfl (by omega) (by omega) dX5_meets_26 ?_
      refine lv_iload hx hb dX5_meets_27 (lv_at hl 5 rfl) ?_
      refine zz_icmp_gt (tgt := 46) hx hb (hC _).2.1.i q4 dX5_meets_29 (by decide) (fun c_3 => ?_) (fun c_3 => ?_)
      · skip
        refine lv_iconst (v := nI 0) hx hb dX5_meets_46 (by decide) ?_
        exact zr_roB (by first | exact (bI_iff bxMeets_iff).1 (by omega) | exact (bI_iff bxMeets_iff).2 (by omega)) hx hb hr hlocks dX5_meets_47
      · skip
        refine lv_aload_n hx hb dX5_meets_32 rfl (lv_at hl 0 rfl) ?_
        refine va_get (D := D) (ci := 5) (v := .ref a4) (C := RX6) (T := TX6) (N := 11) hx hb hts in_X6 hown hK.1 hP 0 rfl rfl 3 (Nat.le_of_ble_eq_true rfl) (hts _ q188) (fun _ h9 => h9) rfl dX5_meets_33 ?_
        refine lv_iload_n hx hb dX5_meets_36 rfl (lv_at hl 1 rfl) ?_
        refine zz_iaload (f := HY) (i := at_) hx hb hK.1 hP 4 0 rfl rfl (by omega) (by omega) dX5_meets_37 ?_
        refine lv_iload_n hx hb dX5_meets_38 rfl (lv_at hl 3 rfl) ?_
        refine zz_icmp_lt (tgt := 46) hx hb (hC _).2.2.2.i q2 dX5_meets_39 (by decide) (fun c_4 => ?_) (fun c_4 => ?_)
        · skip
          refine lv_iconst (v := nI 0) hx hb dX5_meets_46 (by decide) ?_
          exact zr_roB (by first | exact (bI_iff bxMeets_iff).1 (by omega) | exact (bI_iff bxMeets_iff).2 (by omega)) hx hb hr hlocks dX5_meets_47
        · skip
          refine lv_iconst (v := nI 1) hx hb dX5_meets_42 (by decide) ?_
          refine lv_goto (tgt := 47) hx hb dX5_meets_43 (by decide) ?_
          exact zr_roB (by first | exact (bI_iff bxMeets_iff).1 (by omega) | exact (bI_iff bxMeets_iff).2 (by omega)) hx hb hr hlocks dX5_meets_47
set_option maxHeartbeats 4000000 in
set_option maxRecDepth 100000 in
theorem metX5_join_X6 (lG : Launch) (D : va_G) (dA : Nat → ClassId) (h0 : Nat) (a1 : Nat) (a2 : Nat) (a3 : Nat) (a4 : Nat) (t1 : Nat) (t2 : Nat) (t3 : Nat) (t4 : Nat) (nd : Nat) (lf : Nat) (so : Nat) (nc : Nat) (LX : Nat → Int) (LY : Nat → Int) (HX : Nat → Int) (HY : Nat → Int) (o0 : Nat) (g1 : Nat) (g2 : Nat) (g3 : Nat) (g4 : Nat) (nb : Nat) (UX : Nat → Int) (UY : Nat → Int) (VX : Nat → Int) (VY : Nat → Int) (at_ : Nat) (fr : Nat) (hnc : nc ≤ 65536) (hat : at_ < nc) (hC : bxB LX LY HX HY) (hnb : nb ≤ 65536) (hfr : fr < nb) (hE : bxB UX UY VX VY) : Wr lG yX5_join (ws_ yX5_join cX5_join 4 none) 1 21 D dA [.ref h0, .int (nI at_), .ref o0, .int (nI fr)] [(h0, .inr (5, [.ref a1, .ref a2, .ref a3, .ref a4, .ref t1, .ref t2, .ref t3, .int (nI nd), .int (nI lf), .ref so, .ref t4])), (a1, .inl (dA 0, nc, .inl fun j => iZ (LX j))), (a2, .inl (dA 0, nc, .inl fun j => iZ (LY j))), (a3, .inl (dA 0, nc, .inl fun j => iZ (HX j))), (a4, .inl (dA 0, nc, .inl fun j => iZ (HY j))), (o0, .inr (4, [.ref g1, .ref g2, .ref g3, .ref g4])), (g1, .inl (dA 0, nb, .inl fun j => iZ (UX j))), (g2, .inl (dA 0, nb, .inl fun j => iZ (UY j))), (g3, .inl (dA 0, nb, .inl fun j => iZ (VX j))), (g4, .inl (dA 0, nb, .inl fun j => iZ (VY j)))] 0 0 (fun (_u : Unit) => True) (fun (_u : Unit) => none) (fun (_u : Unit) => [(h0, .inr (5, [.ref a1, .ref a2, .ref a3, .ref a4, .ref t1, .ref t2, .ref t3, .int (nI nd), .int (nI lf), .ref so, .ref t4])), (a1, .inl (dA 0, nc, .inl fun j => iZ ((updZ LX at_ (min (LX at_) (UX fr))) j))), (a2, .inl (dA 0, nc, .inl fun j => iZ ((updZ LY at_ (min (LY at_) (UY fr))) j))), (a3, .inl (dA 0, nc, .inl fun j => iZ ((updZ HX at_ (max (HX at_) (VX fr))) j))), (a4, .inl (dA 0, nc, .inl fun j => iZ ((updZ HY at_ (max (HY at_) (VY fr))) j))), (o0, .inr (4, [.ref g1, .ref g2, .ref g3, .ref g4])), (g1, .inl (dA 0, nb, .inl fun j => iZ (UX j))), (g2, .inl (dA 0, nb, .inl fun j => iZ (UY j))), (g3, .inl (dA 0, nb, .inl fun j => iZ (VX j))), (g4, .inl (dA 0, nb, .inl fun j => iZ (VY j)))]) := by
  refine Wr.of (by decide) (Nat.le_of_ble_eq_true rfl) ?_
  intro pG eG sG mG bG tG cG ls A hx hb hr hml hown hts hlocks hnm hP hK hD hS hA hl
  have hK1 := hK.1
  have hown : sG.vm.findClass RX5 = some mG.cls := hown
  have hl : lv_has ls 4 [(0, .ref h0), (1, .int (nI at_)), (2, .ref o0), (3, .int (nI fr))] := hl
  refine lv_aload_n hx hb dX5_join_0 rfl (lv_at hl 0 rfl) ?_
  refine va_get (D := D) (ci := 5) (v := .ref a1) (C := RX6) (T := TX6) (N := 11) hx hb hts in_X6 hown hK.1 hP 0 rfl rfl 0 (Nat.le_of_ble_eq_true rfl) (hts _ q182) (fun _ h9 => h9) rfl dX5_join_1 ?_
  refine lv_iload_n hx hb dX5_join_4 rfl (lv_at hl 1 rfl) ?_
  refine lv_aload_n hx hb dX5_join_5 rfl (lv_at hl 0 rfl) ?_
  refine va_get (D := D) (ci := 5) (v := .ref a1) (C := RX6) (T := TX6) (N := 11) hx hb hts in_X6 hown hK.1 hP 0 rfl rfl 0 (Nat.le_of_ble_eq_true rfl) (hts _ q182) (fun _ h9 => h9) rfl dX5_join_6 ?_
  refine lv_iload_n hx hb dX5_join_9 rfl (lv_at hl 1 rfl) ?_
  refine zz_iaload (f := LX) (i := at_) hx hb hK.1 hP 1 0 rfl rfl (by omega) (by omega) dX5_join_10 ?_
  refine lv_aload_n hx hb dX5_join_11 rfl (lv_at hl 2 rfl) ?_
  refine va_get (D := D) (ci := 4) (v := .ref g1) (C := RX5) (T := TX5) (N := 4) hx hb hts in_X5 hown hK.1 hP 5 rfl rfl 0 (Nat.le_of_ble_eq_true rfl) (hts _ q182) (fun _ h9 => h9) rfl dX5_join_12 ?_
  refine lv_iload_n hx hb dX5_join_15 rfl (lv_at hl 3 rfl) ?_
  refine zz_iaload (f := UX) (i := fr) hx hb hK.1 hP 6 0 rfl rfl (by omega) (by omega) dX5_join_16 ?_
  refine zc_roS (v := .int (iZ (min (LX at_) (UX fr)))) (rest := [.int (nI at_), .ref a1]) ⟨hx, hb, hml, hown, hts⟩ (metJ8_min lG D dA (LX at_) (UX fr) ((hC _).1.i) ((hE _).1.i)) (va_cwS 2 hts (lw_S q478 q401 q90 q402) rfl rfl rfl (by decide +kernel) ⟨Nat.le_of_ble_eq_true rfl, Nat.le_of_ble_eq_true rfl⟩) (hP.sub [] rfl) hK rfl hl.1 rfl (Nat.le_of_ble_eq_true rfl) dX5_join_17 ⟨Nat.zero_le _, Nat.zero_le _⟩ ?_
  refine zz_iastore (f := LX) (i := at_) (x := min (LX at_) (UX fr)) hx hb hK.1 hP hD hS 1 0 rfl rfl (by omega) (by omega) dX5_join_20 (fun H locs hP hD hS => ?_)
  have hP : va_P D zCl [(h0, .inr (5, [.ref a1, .ref a2, .ref a3, .ref a4, .ref t1, .ref t2, .ref t3, .int (nI nd), .int (nI lf), .ref so, .ref t4])), (a1, .inl (dA 0, nc, .inl fun j => iZ ((updZ LX at_ (min (LX at_) (UX fr))) j))), (a2, .inl (dA 0, nc, .inl fun j => iZ (LY j))), (a3, .inl (dA 0, nc, .inl fun j => iZ (HX j))), (a4, .inl (dA 0, nc, .inl fun j => iZ (HY j))), (o0, .inr (4, [.ref g1, .ref g2, .ref g3, .ref g4])), (g1, .inl (dA 0, nb, .inl fun j => iZ (UX j))), (g2, .inl (dA 0, nb, .inl fun j => iZ (UY j))), (g3, .inl (dA 0, nb, .inl fun j => iZ (VX j))), (g4, .inl (dA 0, nb, .inl fun j => iZ (VY j)))] H := hP
  have hD : va_D A [(h0, .inr (5, [.ref a1, .ref a2, .ref a3, .ref a4, .ref t1, .ref t2, .ref t3, .int (nI nd), .int (nI lf), .ref so, .ref t4])), (a1, .inl (dA 0, nc, .inl fun j => iZ ((updZ LX at_ (min (LX at_) (UX fr))) j))), (a2, .inl (dA 0, nc, .inl fun j => iZ (LY j))), (a3, .inl (dA 0, nc, .inl fun j => iZ (HX j))), (a4, .inl (dA 0, nc, .inl fun j => iZ (HY j))), (o0, .inr (4, [.ref g1, .ref g2, .ref g3, .ref g4])), (g1, .inl (dA 0, nb, .inl fun j => iZ (UX j))), (g2, .inl (dA 0, nb, .inl fun j => iZ (UY j))), (g3, .inl (dA 0, nb, .inl fun j => iZ (VX j))), (g4, .inl (dA 0, nb, .inl fun j => iZ (VY j)))] := hD
  refine lv_aload_n hx hb dX5_join_21 rfl (lv_at hl 0 rfl) ?_
  refine va_get (D := D) (ci := 5) (v := .ref a2) (C := RX6) (T := TX6) (N := 11) hx hb hts in_X6 hown hK.1 hP 0 rfl rfl 1 (Nat.le_of_ble_eq_true rfl) (hts _ q184) (fun _ h9 => h9) rfl dX5_join_22 ?_
  refine lv_iload_n hx hb dX5_join_25 rfl (lv_at hl 1 rfl) ?_
  refine lv_aload_n hx hb dX5_join_26 rfl (lv_at hl 0 rfl) ?_
  refine va_get (D := D) (ci := 5) (v := .ref a2) (C := RX6) (T := TX6) (N := 11) hx hb hts in_X6 hown hK.1 hP 0 rfl rfl 1 (Nat.le_of_ble_eq_true rfl) (hts _ q184) (fun _ h9 => h9) rfl dX5_join_27 ?_
  refine lv_iload_n hx hb dX5_join_30 rfl (lv_at hl 1 rfl) ?_
  refine zz_iaload (f := LY) (i := at_) hx hb hK.1 hP 2 0 rfl rfl (by omega) (by omega) dX5_join_31 ?_
  refine lv_aload_n hx hb dX5_join_32 rfl (lv_at hl 2 rfl) ?_
  refine va_get (D := D) (ci := 4) (v := .ref g2) (C := RX5) (T := TX5) (N := 4) hx hb hts in_X5 hown hK.1 hP 5 rfl rfl 1 (Nat.le_of_ble_eq_true rfl) (hts _ q184) (fun _ h9 => h9) rfl dX5_join_33 ?_
  refine lv_iload_n hx hb dX5_join_36 rfl (lv_at hl 3 rfl) ?_
  refine zz_iaload (f := UY) (i := fr) hx hb hK.1 hP 7 0 rfl rfl (by omega) (by omega) dX5_join_37 ?_
  refine zc_roS (v := .int (iZ (min (LY at_) (UY fr)))) (rest := [.int (nI at_), .ref a2]) ⟨hx, hb, hml, hown, hts⟩ (metJ8_min lG D dA (LY at_) (UY fr) ((hC _).2.1.i) ((hE _).2.1.i)) (va_cwS 2 hts (lw_S q478 q401 q90 q402) rfl rfl rfl (by decide +kernel) ⟨Nat.le_of_ble_eq_true rfl, Nat.le_of_ble_eq_true rfl⟩) (hP.sub [] rfl) hK rfl hl.1 rfl (Nat.le_of_ble_eq_true rfl) dX5_join_38 ⟨Nat.zero_le _, Nat.zero_le _⟩ ?_
  refine zz_iastore (f := LY) (i := at_) (x := min (LY at_) (UY fr)) hx hb hK.1 hP hD hS 2 0 rfl rfl (by omega) (by omega) dX5_join_41 (fun H locs hP hD hS => ?_)
  have hP : va_P D zCl [(h0, .inr (5, [.ref a1, .ref a2, .ref a3, .ref a4, .ref t1, .ref t2, .ref t3, .int (nI nd), .int (nI lf), .ref so, .ref t4])), (a1, .inl (dA 0, nc, .inl fun j => iZ ((updZ LX at_ (min (LX at_) (UX fr))) j))), (a2, .inl (dA 0, nc, .inl fun j => iZ ((updZ LY at_ (min (LY at_) (UY fr))) j))), (a3, .inl (dA 0, nc, .inl fun j => iZ (HX j))), (a4, .inl (dA 0, nc, .inl fun j => iZ (HY j))), (o0, .inr (4, [.ref g1, .ref g2, .ref g3, .ref g4])), (g1, .inl (dA 0, nb, .inl fun j => iZ (UX j))), (g2, .inl (dA 0, nb, .inl fun j => iZ (UY j))), (g3, .inl (dA 0, nb, .inl fun j => iZ (VX j))), (g4, .inl (dA 0, nb, .inl fun j => iZ (VY j)))] H := hP
  have hD : va_D A [(h0, .inr (5, [.ref a1, .ref a2, .ref a3, .ref a4, .ref t1, .ref t2, .ref t3, .int (nI nd), .int (nI lf), .ref so, .ref t4])), (a1, .inl (dA 0, nc, .inl fun j => iZ ((updZ LX at_ (min (LX at_) (UX fr))) j))), (a2, .inl (dA 0, nc, .inl fun j => iZ ((updZ LY at_ (min (LY at_) (UY fr))) j))), (a3, .inl (dA 0, nc, .inl fun j => iZ (HX j))), (a4, .inl (dA 0, nc, .inl fun j => iZ (HY j))), (o0, .inr (4, [.ref g1, .ref g2, .ref g3, .ref g4])), (g1, .inl (dA 0, nb, .inl fun j => iZ (UX j))), (g2, .inl (dA 0, nb, .inl fun j => iZ (UY j))), (g3, .inl (dA 0, nb, .inl fun j => iZ (VX j))), (g4, .inl (dA 0, nb, .inl fun j => iZ (VY j)))] := hD
  refine lv_aload_n hx hb dX5_join_42 rfl (lv_at hl 0 rfl) ?_
  refine va_get (D := D) (ci := 5) (v := .ref a3) (C := RX6) (T := TX6) (N := 11) hx hb hts in_X6 hown hK.1 hP 0 rfl rfl 2 (Nat.le_of_ble_eq_true rfl) (hts _ q186) (fun _ h9 => h9) rfl dX5_join_43 ?_
  refine lv_iload_n hx hb dX5_join_46 rfl (lv_at hl 1 rfl) ?_
  refine lv_aload_n hx hb dX5_join_47 rfl (lv_at hl 0 rfl) ?_
  refine va_get (D := D) (ci := 5) (v := .ref a3) (C := RX6) (T := TX6) (N := 11) hx hb hts in_X6 hown hK.1 hP 0 rfl rfl 2 (Nat.le_of_ble_eq_true rfl) (hts _ q186) (fun _ h9 => h9) rfl dX5_join_48 ?_
  refine lv_iload_n hx hb dX5_join_51 rfl (lv_at hl 1 rfl) ?_
  refine zz_iaload (f := HX) (i := at_) hx hb hK.1 hP 3 0 rfl rfl (by omega) (by omega) dX5_join_52 ?_
  refine lv_aload_n hx hb dX5_join_53 rfl (lv_at hl 2 rfl) ?_
  refine va_get (D := D) (ci := 4) (v := .ref g3) (C := RX5) (T := TX5) (N := 4) hx hb hts in_X5 hown hK.1 hP 5 rfl rfl 2 (Nat.le_of_ble_eq_true rfl) (hts _ q186) (fun _ h9 => h9) rfl dX5_join_54 ?_
  refine lv_iload_n hx hb dX5_join_57 rfl (lv_at hl 3 rfl) ?_
  refine zz_iaload (f := VX) (i := fr) hx hb hK.1 hP 8 0 rfl rfl (by omega) (by omega) dX5_join_58 ?_
  refine zc_roS (v := .int (iZ (max (HX at_) (VX fr)))) (rest := [.int (nI at_), .ref a3]) ⟨hx, hb, hml, hown, hts⟩ (metJ8_max lG D dA (HX at_) (VX fr) ((hC _).2.2.1.i) ((hE _).2.2.1.i)) (va_cwS 2 hts (lw_S q479 q404 q90 q405) rfl rfl rfl (by decide +kernel) ⟨Nat.le_of_ble_eq_true rfl, Nat.le_of_ble_eq_true rfl⟩) (hP.sub [] rfl) hK rfl hl.1 rfl (Nat.le_of_ble_eq_true rfl) dX5_join_59 ⟨Nat.zero_le _, Nat.zero_le _⟩ ?_
  refine zz_iastore (f := HX) (i := at_) (x := max (HX at_) (VX fr)) hx hb hK.1 hP hD hS 3 0 rfl rfl (by omega) (by omega) dX5_join_62 (fun H locs hP hD hS => ?_)
  have hP : va_P D zCl [(h0, .inr (5, [.ref a1, .ref a2, .ref a3, .ref a4, .ref t1, .ref t2, .ref t3, .int (nI nd), .int (nI lf), .ref so, .ref t4])), (a1, .inl (dA 0, nc, .inl fun j => iZ ((updZ LX at_ (min (LX at_) (UX fr))) j))), (a2, .inl (dA 0, nc, .inl fun j => iZ ((updZ LY at_ (min (LY at_) (UY fr))) j))), (a3, .inl (dA 0, nc, .inl fun j => iZ ((updZ HX at_ (max (HX at_) (VX fr))) j))), (a4, .inl (dA 0, nc, .inl fun j => iZ (HY j))), (o0, .inr (4, [.ref g1, .ref g2, .ref g3, .ref g4])), (g1, .inl (dA 0, nb, .inl fun j => iZ (UX j))), (g2, .inl (dA 0, nb, .inl fun j => iZ (UY j))), (g3, .inl (dA 0, nb, .inl fun j => iZ (VX j))), (g4, .inl (dA 0, nb, .inl fun j => iZ (VY j)))] H := hP
  have hD : va_D A [(h0, .inr (5, [.ref a1, .ref a2, .ref a3, .ref a4, .ref t1, .ref t2, .ref t3, .int (nI nd), .int (nI lf), .ref so, .ref t4])), (a1, .inl (dA 0, nc, .inl fun j => iZ ((updZ LX at_ (min (LX at_) (UX fr))) j))), (a2, .inl (dA 0, nc, .inl fun j => iZ ((updZ LY at_ (min (LY at_) (UY fr))) j))), (a3, .inl (dA 0, nc, .inl fun j => iZ ((updZ HX at_ (max (HX at_) (VX fr))) j))), (a4, .inl (dA 0, nc, .inl fun j => iZ (HY j))), (o0, .inr (4, [.ref g1, .ref g2, .ref g3, .ref g4])), (g1, .inl (dA 0, nb, .inl fun j => iZ (UX j))), (g2, .inl (dA 0, nb, .inl fun j => iZ (UY j))), (g3, .inl (dA 0, nb, .inl fun j => iZ (VX j))), (g4, .inl (dA 0, nb, .inl fun j => iZ (VY j)))] := hD
  refine lv_aload_n hx hb dX5_join_63 rfl (lv_at hl 0 rfl) ?_
  refine va_get (D := D) (ci := 5) (v := .ref a4) (C := RX6) (T := TX6) (N := 11) hx hb hts in_X6 hown hK.1 hP 0 rfl rfl 3 (Nat.le_of_ble_eq_true rfl) (hts _ q188) (fun _ h9 => h9) rfl dX5_join_64 ?_
  refine lv_iload_n hx hb dX5_join_67 rfl (lv_at hl 1 rfl) ?_
  refine lv_aload_n hx hb dX5_join_68 rfl (lv_at hl 0 rfl) ?_
  refine va_get (D := D) (ci := 5) (v := .ref a4) (C := RX6) (T := TX6) (N := 11) hx hb hts in_X6 hown hK.1 hP 0 rfl rfl 3 (Nat.le_of_ble_eq_true rfl) (hts _ q188) (fun _ h9 => h9) rfl dX5_join_69 ?_
  refine lv_iload_n hx hb dX5_join_72 rfl (lv_at hl 1 rfl) ?_
  refine zz_iaload (f := HY) (i := at_) hx hb hK.1 hP 4 0 rfl rfl (by omega) (by omega) dX5_join_73 ?_
  refine lv_aload_n hx hb dX5_join_74 rfl (lv_at hl 2 rfl) ?_
  refine va_get (D := D) (ci := 4) (v := .ref g4) (C := RX5) (T := TX5) (N := 4) hx hb hts in_X5 hown hK.1 hP 5 rfl rfl 3 (Nat.le_of_ble_eq_true rfl) (hts _ q188) (fun _ h9 => h9) rfl dX5_join_75 ?_
  refine lv_iload_n hx hb dX5_join_78 rfl (lv_at hl 3 rfl) ?_
  refine zz_iaload (f := VY) (i := fr) hx hb hK.1 hP 9 0 rfl rfl (by omega) (by omega) dX5_join_79 ?_
  refine zc_roS (v := .int (iZ (max (HY at_) (VY fr)))) (rest := [.int (nI at_), .ref a4]) ⟨hx, hb, hml, hown, hts⟩ (metJ8_max lG D dA (HY at_) (VY fr) ((hC _).2.2.2.i) ((hE _).2.2.2.i)) (va_cwS 2 hts (lw_S q479 q404 q90 q405) rfl rfl rfl (by decide +kernel) ⟨Nat.le_of_ble_eq_true rfl, Nat.le_of_ble_eq_true rfl⟩) (hP.sub [] rfl) hK rfl hl.1 rfl (Nat.le_of_ble_eq_true rfl) dX5_join_80 ⟨Nat.zero_le _, Nat.zero_le _⟩ ?_
  refine zz_iastore (f := HY) (i := at_) (x := max (HY at_) (VY fr)) hx hb hK.1 hP hD hS 4 0 rfl rfl (by omega) (by omega) dX5_join_83 (fun H locs hP hD hS => ?_)
  have hP : va_P D zCl [(h0, .inr (5, [.ref a1, .ref a2, .ref a3, .ref a4, .ref t1, .ref t2, .ref t3, .int (nI nd), .int (nI lf), .ref so, .ref t4])), (a1, .inl (dA 0, nc, .inl fun j => iZ ((updZ LX at_ (min (LX at_) (UX fr))) j))), (a2, .inl (dA 0, nc, .inl fun j => iZ ((updZ LY at_ (min (LY at_) (UY fr))) j))), (a3, .inl (dA 0, nc, .inl fun j => iZ ((updZ HX at_ (max (HX at_) (VX fr))) j))), (a4, .inl (dA 0, nc, .inl fun j => iZ ((updZ HY at_ (max (HY at_) (VY fr))) j))), (o0, .inr (4, [.ref g1, .ref g2, .ref g3, .ref g4])), (g1, .inl (dA 0, nb, .inl fun j => iZ (UX j))), (g2, .inl (dA 0, nb, .inl fun j => iZ (UY j))), (g3, .inl (dA 0, nb, .inl fun j => iZ (VX j))), (g4, .inl (dA 0, nb, .inl fun j => iZ (VY j)))] H := hP
  have hD : va_D A [(h0, .inr (5, [.ref a1, .ref a2, .ref a3, .ref a4, .ref t1, .ref t2, .ref t3, .int (nI nd), .int (nI lf), .ref so, .ref t4])), (a1, .inl (dA 0, nc, .inl fun j => iZ ((updZ LX at_ (min (LX at_) (UX fr))) j))), (a2, .inl (dA 0, nc, .inl fun j => iZ ((updZ LY at_ (min (LY at_) (UY fr))) j))), (a3, .inl (dA 0, nc, .inl fun j => iZ ((updZ HX at_ (max (HX at_) (VX fr))) j))), (a4, .inl (dA 0, nc, .inl fun j => iZ ((updZ HY at_ (max (HY at_) (VY fr))) j))), (o0, .inr (4, [.ref g1, .ref g2, .ref g3, .ref g4])), (g1, .inl (dA 0, nb, .inl fun j => iZ (UX j))), (g2, .inl (dA 0, nb, .inl fun j => iZ (UY j))), (g3, .inl (dA 0, nb, .inl fun j => iZ (VX j))), (g4, .inl (dA 0, nb, .inl fun j => iZ (VY j)))] := hD
  exact zr_wrV (u := ()) rfl trivial (hP.sub [0, 1, 2, 3, 4, 5, 6, 7, 8, 9] rfl) (hD.sub [0, 1, 2, 3, 4, 5, 6, 7, 8, 9] (by decide) rfl) hS hx hb hr hlocks dX5_join_84
set_option maxHeartbeats 4000000 in
set_option maxRecDepth 100000 in
theorem metX5_join_self (lG : Launch) (D : va_G) (dA : Nat → ClassId) (h0 : Nat) (a1 : Nat) (a2 : Nat) (a3 : Nat) (a4 : Nat) (t1 : Nat) (t2 : Nat) (t3 : Nat) (t4 : Nat) (nd : Nat) (lf : Nat) (so : Nat) (nc : Nat) (LX : Nat → Int) (LY : Nat → Int) (HX : Nat → Int) (HY : Nat → Int) (at_ : Nat) (fr : Nat) (hnc : nc ≤ 65536) (hat : at_ < nc) (hC : bxB LX LY HX HY) (hfr : fr < nc) : Wr lG yX5_join (ws_ yX5_join cX5_join 4 none) 1 21 D dA [.ref h0, .int (nI at_), .ref h0, .int (nI fr)] [(h0, .inr (5, [.ref a1, .ref a2, .ref a3, .ref a4, .ref t1, .ref t2, .ref t3, .int (nI nd), .int (nI lf), .ref so, .ref t4])), (a1, .inl (dA 0, nc, .inl fun j => iZ (LX j))), (a2, .inl (dA 0, nc, .inl fun j => iZ (LY j))), (a3, .inl (dA 0, nc, .inl fun j => iZ (HX j))), (a4, .inl (dA 0, nc, .inl fun j => iZ (HY j)))] 0 0 (fun (_u : Unit) => True) (fun (_u : Unit) => none) (fun (_u : Unit) => [(h0, .inr (5, [.ref a1, .ref a2, .ref a3, .ref a4, .ref t1, .ref t2, .ref t3, .int (nI nd), .int (nI lf), .ref so, .ref t4])), (a1, .inl (dA 0, nc, .inl fun j => iZ ((updZ LX at_ (min (LX at_) (LX fr))) j))), (a2, .inl (dA 0, nc, .inl fun j => iZ ((updZ LY at_ (min (LY at_) (LY fr))) j))), (a3, .inl (dA 0, nc, .inl fun j => iZ ((updZ HX at_ (max (HX at_) (HX fr))) j))), (a4, .inl (dA 0, nc, .inl fun j => iZ ((updZ HY at_ (max (HY at_) (HY fr))) j)))]) := by
  refine Wr.of (by decide) (Nat.le_of_ble_eq_true rfl) ?_
  intro pG eG sG mG bG tG cG ls A hx hb hr hml hown hts hlocks hnm hP hK hD hS hA hl
  have hK1 := hK.1
  have hown : sG.vm.findClass RX5 = some mG.cls := hown
  have hl : lv_has ls 4 [(0, .ref h0), (1, .int (nI at_)), (2, .ref h0), (3, .int (nI fr))] := hl
  refine lv_aload_n hx hb dX5_join_0 rfl (lv_at hl 0 rfl) ?_
  refine va_get (D := D) (ci := 5) (v := .ref a1) (C := RX6) (T := TX6) (N := 11) hx hb hts in_X6 hown hK.1 hP 0 rfl rfl 0 (Nat.le_of_ble_eq_true rfl) (hts _ q182) (fun _ h9 => h9) rfl dX5_join_1 ?_
  refine lv_iload_n hx hb dX5_join_4 rfl (lv_at hl 1 rfl) ?_
  refine lv_aload_n hx hb dX5_join_5 rfl (lv_at hl 0 rfl) ?_
  refine va_get (D := D) (ci := 5) (v := .ref a1) (C := RX6) (T := TX6) (N := 11) hx hb hts in_X6 hown hK.1 hP 0 rfl rfl 0 (Nat.le_of_ble_eq_true rfl) (hts _ q182) (fun _ h9 => h9) rfl dX5_join_6 ?_
  refine lv_iload_n hx hb dX5_join_9 rfl (lv_at hl 1 rfl) ?_
  refine zz_iaload (f := LX) (i := at_) hx hb hK.1 hP 1 0 rfl rfl (by omega) (by omega) dX5_join_10 ?_
  refine lv_aload_n hx hb dX5_join_11 rfl (lv_at hl 2 rfl) ?_
  refine va_get (D := D) (ci := 5) (v := .ref a1) (C := RX6) (T := TX6) (N := 11) hx hb hts in_X6 hown hK.1 hP 0 rfl rfl 0 (Nat.le_of_ble_eq_true rfl) (hts _ q182) (fun _ h9 => h9) rfl dX5_join_12 ?_
  refine lv_iload_n hx hb dX5_join_15 rfl (lv_at hl 3 rfl) ?_
  refine zz_iaload (f := LX) (i := fr) hx hb hK.1 hP 1 0 rfl rfl (by omega) (by omega) dX5_join_16 ?_
  refine zc_roS (v := .int (iZ (min (LX at_) (LX fr)))) (rest := [.int (nI at_), .ref a1]) ⟨hx, hb, hml, hown, hts⟩ (metJ8_min lG D dA (LX at_) (LX fr) ((hC _).1.i) ((hC _).1.i)) (va_cwS 2 hts (lw_S q478 q401 q90 q402) rfl rfl rfl (by decide +kernel) ⟨Nat.le_of_ble_eq_true rfl, Nat.le_of_ble_eq_true rfl⟩) (hP.sub [] rfl) hK rfl hl.1 rfl (Nat.le_of_ble_eq_true rfl) dX5_join_17 ⟨Nat.zero_le _, Nat.zero_le _⟩ ?_
  refine zz_iastore (f := LX) (i := at_) (x := min (LX at_) (LX fr)) hx hb hK.1 hP hD hS 1 0 rfl rfl (by omega) (by omega) dX5_join_20 (fun H locs hP hD hS => ?_)
  have hP : va_P D zCl [(h0, .inr (5, [.ref a1, .ref a2, .ref a3, .ref a4, .ref t1, .ref t2, .ref t3, .int (nI nd), .int (nI lf), .ref so, .ref t4])), (a1, .inl (dA 0, nc, .inl fun j => iZ ((updZ LX at_ (min (LX at_) (LX fr))) j))), (a2, .inl (dA 0, nc, .inl fun j => iZ (LY j))), (a3, .inl (dA 0, nc, .inl fun j => iZ (HX j))), (a4, .inl (dA 0, nc, .inl fun j => iZ (HY j)))] H := hP
  have hD : va_D A [(h0, .inr (5, [.ref a1, .ref a2, .ref a3, .ref a4, .ref t1, .ref t2, .ref t3, .int (nI nd), .int (nI lf), .ref so, .ref t4])), (a1, .inl (dA 0, nc, .inl fun j => iZ ((updZ LX at_ (min (LX at_) (LX fr))) j))), (a2, .inl (dA 0, nc, .inl fun j => iZ (LY j))), (a3, .inl (dA 0, nc, .inl fun j => iZ (HX j))), (a4, .inl (dA 0, nc, .inl fun j => iZ (HY j)))] := hD
  refine lv_aload_n hx hb dX5_join_21 rfl (lv_at hl 0 rfl) ?_
  refine va_get (D := D) (ci := 5) (v := .ref a2) (C := RX6) (T := TX6) (N := 11) hx hb hts in_X6 hown hK.1 hP 0 rfl rfl 1 (Nat.le_of_ble_eq_true rfl) (hts _ q184) (fun _ h9 => h9) rfl dX5_join_22 ?_
  refine lv_iload_n hx hb dX5_join_25 rfl (lv_at hl 1 rfl) ?_
  refine lv_aload_n hx hb dX5_join_26 rfl (lv_at hl 0 rfl) ?_
  refine va_get (D := D) (ci := 5) (v := .ref a2) (C := RX6) (T := TX6) (N := 11) hx hb hts in_X6 hown hK.1 hP 0 rfl rfl 1 (Nat.le_of_ble_eq_true rfl) (hts _ q184) (fun _ h9 => h9) rfl dX5_join_27 ?_
  refine lv_iload_n hx hb dX5_join_30 rfl (lv_at hl 1 rfl) ?_
  refine zz_iaload (f := LY) (i := at_) hx hb hK.1 hP 2 0 rfl rfl (by omega) (by omega) dX5_join_31 ?_
  refine lv_aload_n hx hb dX5_join_32 rfl (lv_at hl 2 rfl) ?_
  refine va_get (D := D) (ci := 5) (v := .ref a2) (C := RX6) (T := TX6) (N := 11) hx hb hts in_X6 hown hK.1 hP 0 rfl rfl 1 (Nat.le_of_ble_eq_true rfl) (hts _ q184) (fun _ h9 => h9) rfl dX5_join_33 ?_
  refine lv_iload_n hx hb dX5_join_36 rfl (lv_at hl 3 rfl) ?_
  refine zz_iaload (f := LY) (i := fr) hx hb hK.1 hP 2 0 rfl rfl (by omega) (by omega) dX5_join_37 ?_
  refine zc_roS (v := .int (iZ (min (LY at_) (LY fr)))) (rest := [.int (nI at_), .ref a2]) ⟨hx, hb, hml, hown, hts⟩ (metJ8_min lG D dA (LY at_) (LY fr) ((hC _).2.1.i) ((hC _).2.1.i)) (va_cwS 2 hts (lw_S q478 q401 q90 q402) rfl rfl rfl (by decide +kernel) ⟨Nat.le_of_ble_eq_true rfl, Nat.le_of_ble_eq_true rfl⟩) (hP.sub [] rfl) hK rfl hl.1 rfl (Nat.le_of_ble_eq_true rfl) dX5_join_38 ⟨Nat.zero_le _, Nat.zero_le _⟩ ?_
  refine zz_iastore (f := LY) (i := at_) (x := min (LY at_) (LY fr)) hx hb hK.1 hP hD hS 2 0 rfl rfl (by omega) (by omega) dX5_join_41 (fun H locs hP hD hS => ?_)
  have hP : va_P D zCl [(h0, .inr (5, [.ref a1, .ref a2, .ref a3, .ref a4, .ref t1, .ref t2, .ref t3, .int (nI nd), .int (nI lf), .ref so, .ref t4])), (a1, .inl (dA 0, nc, .inl fun j => iZ ((updZ LX at_ (min (LX at_) (LX fr))) j))), (a2, .inl (dA 0, nc, .inl fun j => iZ ((updZ LY at_ (min (LY at_) (LY fr))) j))), (a3, .inl (dA 0, nc, .inl fun j => iZ (HX j))), (a4, .inl (dA 0, nc, .inl fun j => iZ (HY j)))] H := hP
  have hD : va_D A [(h0, .inr (5, [.ref a1, .ref a2, .ref a3, .ref a4, .ref t1, .ref t2, .ref t3, .int (nI nd), .int (nI lf), .ref so, .ref t4])), (a1, .inl (dA 0, nc, .inl fun j => iZ ((updZ LX at_ (min (LX at_) (LX fr))) j))), (a2, .inl (dA 0, nc, .inl fun j => iZ ((updZ LY at_ (min (LY at_) (LY fr))) j))), (a3, .inl (dA 0, nc, .inl fun j => iZ (HX j))), (a4, .inl (dA 0, nc, .inl fun j => iZ (HY j)))] := hD
  refine lv_aload_n hx hb dX5_join_42 rfl (lv_at hl 0 rfl) ?_
  refine va_get (D := D) (ci := 5) (v := .ref a3) (C := RX6) (T := TX6) (N := 11) hx hb hts in_X6 hown hK.1 hP 0 rfl rfl 2 (Nat.le_of_ble_eq_true rfl) (hts _ q186) (fun _ h9 => h9) rfl dX5_join_43 ?_
  refine lv_iload_n hx hb dX5_join_46 rfl (lv_at hl 1 rfl) ?_
  refine lv_aload_n hx hb dX5_join_47 rfl (lv_at hl 0 rfl) ?_
  refine va_get (D := D) (ci := 5) (v := .ref a3) (C := RX6) (T := TX6) (N := 11) hx hb hts in_X6 hown hK.1 hP 0 rfl rfl 2 (Nat.le_of_ble_eq_true rfl) (hts _ q186) (fun _ h9 => h9) rfl dX5_join_48 ?_
  refine lv_iload_n hx hb dX5_join_51 rfl (lv_at hl 1 rfl) ?_
  refine zz_iaload (f := HX) (i := at_) hx hb hK.1 hP 3 0 rfl rfl (by omega) (by omega) dX5_join_52 ?_
  refine lv_aload_n hx hb dX5_join_53 rfl (lv_at hl 2 rfl) ?_
  refine va_get (D := D) (ci := 5) (v := .ref a3) (C := RX6) (T := TX6) (N := 11) hx hb hts in_X6 hown hK.1 hP 0 rfl rfl 2 (Nat.le_of_ble_eq_true rfl) (hts _ q186) (fun _ h9 => h9) rfl dX5_join_54 ?_
  refine lv_iload_n hx hb dX5_join_57 rfl (lv_at hl 3 rfl) ?_
  refine zz_iaload (f := HX) (i := fr) hx hb hK.1 hP 3 0 rfl rfl (by omega) (by omega) dX5_join_58 ?_
  refine zc_roS (v := .int (iZ (max (HX at_) (HX fr)))) (rest := [.int (nI at_), .ref a3]) ⟨hx, hb, hml, hown, hts⟩ (metJ8_max lG D dA (HX at_) (HX fr) ((hC _).2.2.1.i) ((hC _).2.2.1.i)) (va_cwS 2 hts (lw_S q479 q404 q90 q405) rfl rfl rfl (by decide +kernel) ⟨Nat.le_of_ble_eq_true rfl, Nat.le_of_ble_eq_true rfl⟩) (hP.sub [] rfl) hK rfl hl.1 rfl (Nat.le_of_ble_eq_true rfl) dX5_join_59 ⟨Nat.zero_le _, Nat.zero_le _⟩ ?_
  refine zz_iastore (f := HX) (i := at_) (x := max (HX at_) (HX fr)) hx hb hK.1 hP hD hS 3 0 rfl rfl (by omega) (by omega) dX5_join_62 (fun H locs hP hD hS => ?_)
  have hP : va_P D zCl [(h0, .inr (5, [.ref a1, .ref a2, .ref a3, .ref a4, .ref t1, .ref t2, .ref t3, .int (nI nd), .int (nI lf), .ref so, .ref t4])), (a1, .inl (dA 0, nc, .inl fun j => iZ ((updZ LX at_ (min (LX at_) (LX fr))) j))), (a2, .inl (dA 0, nc, .inl fun j => iZ ((updZ LY at_ (min (LY at_) (LY fr))) j))), (a3, .inl (dA 0, nc, .inl fun j => iZ ((updZ HX at_ (max (HX at_) (HX fr))) j))), (a4, .inl (dA 0, nc, .inl fun j => iZ (HY j)))] H := hP
  have hD : va_D A [(h0, .inr (5, [.ref a1, .ref a2, .ref a3, .ref a4, .ref t1, .ref t2, .ref t3, .int (nI nd), .int (nI lf), .ref so, .ref t4])), (a1, .inl (dA 0, nc, .inl fun j => iZ ((updZ LX at_ (min (LX at_) (LX fr))) j))), (a2, .inl (dA 0, nc, .inl fun j => iZ ((updZ LY at_ (min (LY at_) (LY fr))) j))), (a3, .inl (dA 0, nc, .inl fun j => iZ ((updZ HX at_ (max (HX at_) (HX fr))) j))), (a4, .inl (dA 0, nc, .inl fun j => iZ (HY j)))] := hD
  refine lv_aload_n hx hb dX5_join_63 rfl (lv_at hl 0 rfl) ?_
  refine va_get (D := D) (ci := 5) (v := .ref a4) (C := RX6) (T := TX6) (N := 11) hx hb hts in_X6 hown hK.1 hP 0 rfl rfl 3 (Nat.le_of_ble_eq_true rfl) (hts _ q188) (fun _ h9 => h9) rfl dX5_join_64 ?_
  refine lv_iload_n hx hb dX5_join_67 rfl (lv_at hl 1 rfl) ?_
  refine lv_aload_n hx hb dX5_join_68 rfl (lv_at hl 0 rfl) ?_
  refine va_get (D := D) (ci := 5) (v := .ref a4) (C := RX6) (T := TX6) (N := 11) hx hb hts in_X6 hown hK.1 hP 0 rfl rfl 3 (Nat.le_of_ble_eq_true rfl) (hts _ q188) (fun _ h9 => h9) rfl dX5_join_69 ?_
  refine lv_iload_n hx hb dX5_join_72 rfl (lv_at hl 1 rfl) ?_
  refine zz_iaload (f := HY) (i := at_) hx hb hK.1 hP 4 0 rfl rfl (by omega) (by omega) dX5_join_73 ?_
  refine lv_aload_n hx hb dX5_join_74 rfl (lv_at hl 2 rfl) ?_
  refine va_get (D := D) (ci := 5) (v := .ref a4) (C := RX6) (T := TX6) (N := 11) hx hb hts in_X6 hown hK.1 hP 0 rfl rfl 3 (Nat.le_of_ble_eq_true rfl) (hts _ q188) (fun _ h9 => h9) rfl dX5_join_75 ?_
  refine lv_iload_n hx hb dX5_join_78 rfl (lv_at hl 3 rfl) ?_
  refine zz_iaload (f := HY) (i := fr) hx hb hK.1 hP 4 0 rfl rfl (by omega) (by omega) dX5_join_79 ?_
  refine zc_roS (v := .int (iZ (max (HY at_) (HY fr)))) (rest := [.int (nI at_), .ref a4]) ⟨hx, hb, hml, hown, hts⟩ (metJ8_max lG D dA (HY at_) (HY fr) ((hC _).2.2.2.i) ((hC _).2.2.2.i)) (va_cwS 2 hts (lw_S q479 q404 q90 q405) rfl rfl rfl (by decide +kernel) ⟨Nat.le_of_ble_eq_true rfl, Nat.le_of_ble_eq_true rfl⟩) (hP.sub [] rfl) hK rfl hl.1 rfl (Nat.le_of_ble_eq_true rfl) dX5_join_80 ⟨Nat.zero_le _, Nat.zero_le _⟩ ?_
  refine zz_iastore (f := HY) (i := at_) (x := max (HY at_) (HY fr)) hx hb hK.1 hP hD hS 4 0 rfl rfl (by omega) (by omega) dX5_join_83 (fun H locs hP hD hS => ?_)
  have hP : va_P D zCl [(h0, .inr (5, [.ref a1, .ref a2, .ref a3, .ref a4, .ref t1, .ref t2, .ref t3, .int (nI nd), .int (nI lf), .ref so, .ref t4])), (a1, .inl (dA 0, nc, .inl fun j => iZ ((updZ LX at_ (min (LX at_) (LX fr))) j))), (a2, .inl (dA 0, nc, .inl fun j => iZ ((updZ LY at_ (min (LY at_) (LY fr))) j))), (a3, .inl (dA 0, nc, .inl fun j => iZ ((updZ HX at_ (max (HX at_) (HX fr))) j))), (a4, .inl (dA 0, nc, .inl fun j => iZ ((updZ HY at_ (max (HY at_) (HY fr))) j)))] H := hP
  have hD : va_D A [(h0, .inr (5, [.ref a1, .ref a2, .ref a3, .ref a4, .ref t1, .ref t2, .ref t3, .int (nI nd), .int (nI lf), .ref so, .ref t4])), (a1, .inl (dA 0, nc, .inl fun j => iZ ((updZ LX at_ (min (LX at_) (LX fr))) j))), (a2, .inl (dA 0, nc, .inl fun j => iZ ((updZ LY at_ (min (LY at_) (LY fr))) j))), (a3, .inl (dA 0, nc, .inl fun j => iZ ((updZ HX at_ (max (HX at_) (HX fr))) j))), (a4, .inl (dA 0, nc, .inl fun j => iZ ((updZ HY at_ (max (HY at_) (HY fr))) j)))] := hD
  exact zr_wrV (u := ()) rfl trivial (hP.sub [0, 1, 2, 3, 4] rfl) (hD.sub [0, 1, 2, 3, 4] (by decide) rfl) hS hx hb hr hlocks dX5_join_84
/-- the sorter's order -/
def bef (HP : Nat → Nat) (KY : Nat → Int) (a b : Nat) : Bool := if KY a ≠ KY b then decide (KY a < KY b) else decide (HP a < HP b)
def kyB (KY : Nat → Int) : Prop := ∀ k, dB (KY k)
/-- of a place and the two below the one that comes first -/
def lst1 (HP : Nat → Nat) (KY : Nat → Int) (sz a : Nat) : Nat := if 2 * a + 1 < sz then (if bef HP KY (2 * a + 1) a then 2 * a + 1 else a) else a
def lst (HP : Nat → Nat) (KY : Nat → Int) (sz a : Nat) : Nat := if 2 * a + 2 < sz then (if bef HP KY (2 * a + 2) (lst1 HP KY sz a) then 2 * a + 2 else lst1 HP KY sz a) else lst1 HP KY sz a
theorem lst1_in {HP : Nat → Nat} {KY : Nat → Int} {sz a : Nat} : lst1 HP KY sz a = a ∨ (lst1 HP KY sz a = 2 * a + 1 ∧ 2 * a + 1 < sz) := by
  unfold lst1; split
  · split
    · exact Or.inr ⟨rfl, by assumption⟩
    · exact Or.inl rfl
  · exact Or.inl rfl
theorem lst_in {HP : Nat → Nat} {KY : Nat → Int} {sz a : Nat} : lst HP KY sz a = a ∨ (a < lst HP KY sz a ∧ lst HP KY sz a < sz) := by
  have := lst1_in (HP := HP) (KY := KY) (sz := sz) (a := a)
  unfold lst; split
  · split
    · omega
    · omega
  · omega
theorem kyB_upd {KY : Nat → Int} {n : Nat} {a : Int} (h : kyB KY) (ha : dB a) : kyB (updZ KY n a) := updZ_all h ha
theorem kyB_cpy {KY : Nat → Int} {n : Nat} (h : kyB KY) : kyB (zcpy KY (fun _ => 0) n) := zcpy_all h dB_0
theorem plist_set {f : Nat → Nat} {n v : Nat} : plist (updZ f n v) (n + 1) = plist f n ++ [v] := by
  rw [plist_succ, updZ_s, plist_cong (g := f) (fun k hk => updZ_n (by omega))]
theorem plist_cpy {f : Nat → Nat} {n : Nat} : plist (zcpy f (fun _ => 0) n) n = plist f n := plist_cong fun k hk => zcpy_lt hk
/-- the first place taken, the last one put there -/
theorem plist_take {f : Nat → Nat} {n : Nat} (h : 1 ≤ n) : (plist (updZ f 0 (f (n - 1))) (n - 1) ++ [f 0]).Perm (plist f n) := by
  have h1 := plist_swap (f := f) (n := n) (i := 0) (j := n - 1) (by omega) (by omega)
  have h2 : plist (updZ (updZ f 0 (f (n - 1))) (n - 1) (f 0)) n = plist (updZ f 0 (f (n - 1))) (n - 1) ++ [f 0] := by
    have e : n = (n - 1) + 1 := by omega
    have h3 := plist_set (f := updZ f 0 (f (n - 1))) (n := n - 1) (v := f 0)
    rw [← e] at h3
    exact h3
  rw [← h2]; exact h1
set_option maxHeartbeats 4000000 in
set_option maxRecDepth 100000 in
theorem metX7_init (lG : Launch) (D : va_G) (dA : Nat → ClassId) (h0 : Nat)  : Wr lG yX7_init (ws_ yX7_init cX7_init 1 none) 1 12 D dA [.ref h0] [(h0, .inr (6, [.null, .null, .int (nI 0)]))] 2 32 (fun (u : Nat × Nat) => let b1 := u.1; let b2 := u.2; True) (fun (u : Nat × Nat) => let b1 := u.1; let b2 := u.2; none) (fun (u : Nat × Nat) => let b1 := u.1; let b2 := u.2; [(h0, .inr (6, [.ref b1, .ref b2, .int (nI 0)])), (b1, .inl (dA 0, 16, .inl fun j => nI ((fun _ => 0) j))), (b2, .inl (dA 1, 16, .inr (.inl fun j => lZ ((fun _ => 0) j))))]) := by
  refine Wr.of (by decide) (Nat.le_of_ble_eq_true rfl) ?_
  intro pG eG sG mG bG tG cG ls A hx hb hr hml hown hts hlocks hnm hP hK hD hS hA hl
  have hK1 := hK.1
  have hown : sG.vm.findClass RX7 = some mG.cls := hown
  have hl : lv_has ls 1 [(0, .ref h0)] := hl
  refine lv_aload_n hx hb dX7_init_0 rfl (lv_at hl 0 rfl) ?_
  refine W.objInit hx hb hown (hts _ q210) (hts _ q98) (hts _ q99) rfl (by rw [hml]; exact hl.1) rfl dX7_init_1 (Nat.le_of_ble_eq_true rfl) (Nat.le_of_ble_eq_true rfl) ?_
  refine W.eq (g2 := F0 mG 4 ls []) rfl ?_
  refine lv_aload_n hx hb dX7_init_4 rfl (lv_at hl 0 rfl) ?_
  refine lv_bipush (v := nI 16) hx hb dX7_init_5 (by decide) ?_
  refine zy_newa (atype := .int) (k := 0) (ty := .int) (N' := 16) (a0 := (16, .inl fun j => nI ((fun _ => (0 : Nat)) j))) hx hb (hts _ q144) rfl (fun C h => by cases h) rfl hK hP hD hS hA (fun cA => rfl) (by decide) (show 16 * 4 ≤ 536870912 by omega) (show 0 + 1 ≤ 2 by omega) (show 0 + 16 ≤ 32 by omega) dX7_init_7 (fun q_1 H hP hD hS => ?_)
  have hP : va_P D zCl [(h0, .inr (6, [.null, .null, .int (nI 0)])), (q_1, .inl (dA 0, 16, .inl fun j => nI ((fun _ => (0 : Nat)) j)))] H := hP
  have hD : va_D A [(h0, .inr (6, [.null, .null, .int (nI 0)])), (q_1, .inl (dA 0, 16, .inl fun j => nI ((fun _ => (0 : Nat)) j)))] := hD
  refine va_put (D := D) (ci := 6) (v := .ref q_1) (ty := .array .int) (C := RX7) (T := TX7) (N := 3) hx hb hts in_X7 tyX7 tyX7_ok nmX7 hown hK.1 hP hD hS 0 rfl rfl 0 (Nat.le_of_ble_eq_true rfl) (hts _ q211) (fun _ h9 => h9) rfl (by decide +kernel) rfl rfl (Nat.le_of_ble_eq_true rfl) dX7_init_9 (fun H locs hP hD hS => ?_)
  have hP : va_P D zCl [(h0, .inr (6, [.ref q_1, .null, .int (nI 0)])), (q_1, .inl (dA 0, 16, .inl fun j => nI ((fun _ => (0 : Nat)) j)))] H := hP
  have hD : va_D A [(h0, .inr (6, [.ref q_1, .null, .int (nI 0)])), (q_1, .inl (dA 0, 16, .inl fun j => nI ((fun _ => (0 : Nat)) j)))] := hD
  refine lv_aload_n hx hb dX7_init_12 rfl (lv_at hl 0 rfl) ?_
  refine lv_bipush (v := nI 16) hx hb dX7_init_13 (by decide) ?_
  refine zy_newa (atype := .long) (k := 1) (ty := .long) (N' := 16) (a0 := (16, .inr (.inl fun j => lZ ((fun _ => (0 : Int)) j)))) hx hb (hts _ q222) rfl (fun C h => by cases h) rfl hK hP hD hS hA (fun cA => rfl) (by decide) (show 16 * 8 ≤ 536870912 by omega) (show 1 + 1 ≤ 2 by omega) (show 16 + 16 ≤ 32 by omega) dX7_init_15 (fun q_2 H hP hD hS => ?_)
  have hP : va_P D zCl [(h0, .inr (6, [.ref q_1, .null, .int (nI 0)])), (q_1, .inl (dA 0, 16, .inl fun j => nI ((fun _ => (0 : Nat)) j))), (q_2, .inl (dA 1, 16, .inr (.inl fun j => lZ ((fun _ => (0 : Int)) j))))] H := hP
  have hD : va_D A [(h0, .inr (6, [.ref q_1, .null, .int (nI 0)])), (q_1, .inl (dA 0, 16, .inl fun j => nI ((fun _ => (0 : Nat)) j))), (q_2, .inl (dA 1, 16, .inr (.inl fun j => lZ ((fun _ => (0 : Int)) j))))] := hD
  refine va_put (D := D) (ci := 6) (v := .ref q_2) (ty := .array .long) (C := RX7) (T := TX7) (N := 3) hx hb hts in_X7 tyX7 tyX7_ok nmX7 hown hK.1 hP hD hS 0 rfl rfl 1 (Nat.le_of_ble_eq_true rfl) (hts _ q212) (fun _ h9 => h9) rfl (by decide +kernel) rfl rfl (Nat.le_of_ble_eq_true rfl) dX7_init_17 (fun H locs hP hD hS => ?_)
  have hP : va_P D zCl [(h0, .inr (6, [.ref q_1, .ref q_2, .int (nI 0)])), (q_1, .inl (dA 0, 16, .inl fun j => nI ((fun _ => (0 : Nat)) j))), (q_2, .inl (dA 1, 16, .inr (.inl fun j => lZ ((fun _ => (0 : Int)) j))))] H := hP
  have hD : va_D A [(h0, .inr (6, [.ref q_1, .ref q_2, .int (nI 0)])), (q_1, .inl (dA 0, 16, .inl fun j => nI ((fun _ => (0 : Nat)) j))), (q_2, .inl (dA 1, 16, .inr (.inl fun j => lZ ((fun _ => (0 : Int)) j))))] := hD
  exact zr_wrV (u := (q_1, q_2)) rfl trivial (hP.sub [0, 1, 2] rfl) (hD.sub [0, 1, 2] (by decide) rfl) hS hx hb hr hlocks dX7_init_20
set_option maxHeartbeats 4000000 in
set_option maxRecDepth 100000 in
theorem metX7_clear (lG : Launch) (D : va_G) (dA : Nat → ClassId) (h0 : Nat) (k1 : Nat) (k2 : Nat) (nc : Nat) (sz : Nat) (HP : Nat → Nat) (KY : Nat → Int)  : Wr lG yX7_clear (ws_ yX7_clear cX7_clear 1 none) 0 0 D dA [.ref h0] [(h0, .inr (6, [.ref k1, .ref k2, .int (nI sz)])), (k1, .inl (dA 0, nc, .inl fun j => nI (HP j))), (k2, .inl (dA 1, nc, .inr (.inl fun j => lZ (KY j))))] 0 0 (fun (_u : Unit) => True) (fun (_u : Unit) => none) (fun (_u : Unit) => [(h0, .inr (6, [.ref k1, .ref k2, .int (nI 0)])), (k1, .inl (dA 0, nc, .inl fun j => nI (HP j))), (k2, .inl (dA 1, nc, .inr (.inl fun j => lZ (KY j))))]) := by
  refine Wr.of (by decide) (Nat.le_of_ble_eq_true rfl) ?_
  intro pG eG sG mG bG tG cG ls A hx hb hr hml hown hts hlocks hnm hP hK hD hS hA hl
  have hK1 := hK.1
  have hown : sG.vm.findClass RX7 = some mG.cls := hown
  have hl : lv_has ls 1 [(0, .ref h0)] := hl
  refine lv_aload_n hx hb dX7_clear_0 rfl (lv_at hl 0 rfl) ?_
  refine lv_iconst (v := nI 0) hx hb dX7_clear_1 (by decide) ?_
  refine va_put (D := D) (ci := 6) (v := .int (nI 0)) (ty := .int) (C := RX7) (T := TX7) (N := 3) hx hb hts in_X7 tyX7 tyX7_ok nmX7 hown hK.1 hP hD hS 0 rfl rfl 2 (Nat.le_of_ble_eq_true rfl) (hts _ q213) (fun _ h9 => h9) rfl (by decide +kernel) rfl rfl (Nat.le_of_ble_eq_true rfl) dX7_clear_2 (fun H locs hP hD hS => ?_)
  have hP : va_P D zCl [(h0, .inr (6, [.ref k1, .ref k2, .int (nI 0)])), (k1, .inl (dA 0, nc, .inl fun j => nI (HP j))), (k2, .inl (dA 1, nc, .inr (.inl fun j => lZ (KY j))))] H := hP
  have hD : va_D A [(h0, .inr (6, [.ref k1, .ref k2, .int (nI 0)])), (k1, .inl (dA 0, nc, .inl fun j => nI (HP j))), (k2, .inl (dA 1, nc, .inr (.inl fun j => lZ (KY j))))] := hD
  exact zr_wrV (u := ()) rfl trivial (hP.sub [0, 1, 2] rfl) (hD.sub [0, 1, 2] (by decide) rfl) hS hx hb hr hlocks dX7_clear_5
set_option maxHeartbeats 4000000 in
set_option maxRecDepth 100000 in
theorem metX7_before (lG : Launch) (D : va_G) (dA : Nat → ClassId) (h0 : Nat) (k1 : Nat) (k2 : Nat) (nc : Nat) (sz : Nat) (HP : Nat → Nat) (KY : Nat → Int) (a : Nat) (b : Nat) (hnc : nc ≤ 4096) (ha : a < nc) (hb0 : b < nc) (hK0 : kyB KY) (h1 : HP a < 4096) (h2 : HP b < 4096) : Ro lG yX7_before (ws_ yX7_before cX7_before 3 (some .boolean)) 0 0 D dA [.ref h0, .int (nI a), .int (nI b)] [(h0, .inr (6, [.ref k1, .ref k2, .int (nI sz)])), (k1, .inl (dA 0, nc, .inl fun j => nI (HP j))), (k2, .inl (dA 1, nc, .inr (.inl fun j => lZ (KY j))))] (some (.int (bI (bef HP KY a b)))) := by
  refine Ro.of (by decide) (Nat.le_of_ble_eq_true rfl) ?_
  intro pG eG sG mG bG tG cG ls hx hb hr hml hown hts hlocks hP hK hl
  have hown : sG.vm.findClass RX7 = some mG.cls := hown
  have hl : lv_has ls 3 [(0, .ref h0), (1, .int (nI a)), (2, .int (nI b))] := hl
  refine lv_aload_n hx hb dX7_before_0 rfl (lv_at hl 0 rfl) ?_
  refine va_get (D := D) (ci := 6) (v := .ref k2) (C := RX7) (T := TX7) (N := 3) hx hb hts in_X7 hown hK.1 hP 0 rfl rfl 1 (Nat.le_of_ble_eq_true rfl) (hts _ q212) (fun _ h9 => h9) rfl dX7_before_1 ?_
  refine lv_iload_n hx hb dX7_before_4 rfl (lv_at hl 1 rfl) ?_
  refine zz_laload (f := KY) (i := a) hx hb hK.1 hP 2 1 rfl rfl (by omega) (by omega) dX7_before_5 ?_
  refine lv_aload_n hx hb dX7_before_6 rfl (lv_at hl 0 rfl) ?_
  refine va_get (D := D) (ci := 6) (v := .ref k2) (C := RX7) (T := TX7) (N := 3) hx hb hts in_X7 hown hK.1 hP 0 rfl rfl 1 (Nat.le_of_ble_eq_true rfl) (hts _ q212) (fun _ h9 => h9) rfl dX7_before_7 ?_
  refine lv_iload_n hx hb dX7_before_10 rfl (lv_at hl 2 rfl) ?_
  refine zz_laload (f := KY) (i := b) hx hb hK.1 hP 2 1 rfl rfl (by omega) (by omega) dX7_before_11 ?_
  refine zz_lc_eq (tgt := 40) hx hb (hK0 _).l (hK0 _).l dX7_before_12 dX7_before_13 (by decide) (fun c_1 => ?_) (fun c_1 => ?_)
  · skip
    refine lv_aload_n hx hb dX7_before_40 rfl (lv_at hl 0 rfl) ?_
    refine va_get (D := D) (ci := 6) (v := .ref k1) (C := RX7) (T := TX7) (N := 3) hx hb hts in_X7 hown hK.1 hP 0 rfl rfl 0 (Nat.le_of_ble_eq_true rfl) (hts _ q211) (fun _ h9 => h9) rfl dX7_before_41 ?_
    refine lv_iload_n hx hb dX7_before_44 rfl (lv_at hl 1 rfl) ?_
    refine zn_iaload (f := HP) (i := a) hx hb hK.1 hP 1 0 rfl rfl (by omega) (by omega) dX7_before_45 ?_
    refine lv_aload_n hx hb dX7_before_46 rfl (lv_at hl 0 rfl) ?_
    refine va_get (D := D) (ci := 6) (v := .ref k1) (C := RX7) (T := TX7) (N := 3) hx hb hts in_X7 hown hK.1 hP 0 rfl rfl 0 (Nat.le_of_ble_eq_true rfl) (hts _ q211) (fun _ h9 => h9) rfl dX7_before_47 ?_
    refine lv_iload_n hx hb dX7_before_50 rfl (lv_at hl 2 rfl) ?_
    refine zn_iaload (f := HP) (i := b) hx hb hK.1 hP 1 0 rfl rfl (by omega) (by omega) dX7_before_51 ?_
    refine zn_icmp_ge (tgt := 59) hx hb (by omega) (by omega) dX7_before_52 (by decide) (fun c_2 => ?_) (fun c_2 => ?_)
    · skip
      refine lv_iconst (v := nI 0) hx hb dX7_before_59 (by decide) ?_
      exact zr_roB (by unfold bef; first | (rw [if_pos (by assumption), decide_eq_true (by omega)]; rfl) | (rw [if_pos (by assumption), decide_eq_false (by omega)]; rfl) | (rw [if_neg (by omega), decide_eq_true (by omega)]; rfl) | (rw [if_neg (by omega), decide_eq_false (by omega)]; rfl)) hx hb hr hlocks dX7_before_60
    · skip
      refine lv_iconst (v := nI 1) hx hb dX7_before_55 (by decide) ?_
      refine lv_goto (tgt := 60) hx hb dX7_before_56 (by decide) ?_
      exact zr_roB (by unfold bef; first | (rw [if_pos (by assumption), decide_eq_true (by omega)]; rfl) | (rw [if_pos (by assumption), decide_eq_false (by omega)]; rfl) | (rw [if_neg (by omega), decide_eq_true (by omega)]; rfl) | (rw [if_neg (by omega), decide_eq_false (by omega)]; rfl)) hx hb hr hlocks dX7_before_60
  · skip
    refine lv_aload_n hx hb dX7_before_16 rfl (lv_at hl 0 rfl) ?_
    refine va_get (D := D) (ci := 6) (v := .ref k2) (C := RX7) (T := TX7) (N := 3) hx hb hts in_X7 hown hK.1 hP 0 rfl rfl 1 (Nat.le_of_ble_eq_true rfl) (hts _ q212) (fun _ h9 => h9) rfl dX7_before_17 ?_
    refine lv_iload_n hx hb dX7_before_20 rfl (lv_at hl 1 rfl) ?_
    refine zz_laload (f := KY) (i := a) hx hb hK.1 hP 2 1 rfl rfl (by omega) (by omega) dX7_before_21 ?_
    refine lv_aload_n hx hb dX7_before_22 rfl (lv_at hl 0 rfl) ?_
    refine va_get (D := D) (ci := 6) (v := .ref k2) (C := RX7) (T := TX7) (N := 3) hx hb hts in_X7 hown hK.1 hP 0 rfl rfl 1 (Nat.le_of_ble_eq_true rfl) (hts _ q212) (fun _ h9 => h9) rfl dX7_before_23 ?_
    refine lv_iload_n hx hb dX7_before_26 rfl (lv_at hl 2 rfl) ?_
    refine zz_laload (f := KY) (i := b) hx hb hK.1 hP 2 1 rfl rfl (by omega) (by omega) dX7_before_27 ?_
    refine zz_lc_ge (tgt := 36) hx hb (hK0 _).l (hK0 _).l dX7_before_28 dX7_before_29 (by decide) (fun c_3 => ?_) (fun c_3 => ?_)
    · skip
      refine lv_iconst (v := nI 0) hx hb dX7_before_36 (by decide) ?_
      refine lv_goto (tgt := 60) hx hb dX7_before_37 (by decide) ?_
      exact zr_roB (by unfold bef; first | (rw [if_pos (by assumption), decide_eq_true (by omega)]; rfl) | (rw [if_pos (by assumption), decide_eq_false (by omega)]; rfl) | (rw [if_neg (by omega), decide_eq_true (by omega)]; rfl) | (rw [if_neg (by omega), decide_eq_false (by omega)]; rfl)) hx hb hr hlocks dX7_before_60
    · skip
      refine lv_iconst (v := nI 1) hx hb dX7_before_32 (by decide) ?_
      refine lv_goto (tgt := 60) hx hb dX7_before_33 (by decide) ?_
      exact zr_roB (by unfold bef; first | (rw [if_pos (by assumption), decide_eq_true (by omega)]; rfl) | (rw [if_pos (by assumption), decide_eq_false (by omega)]; rfl) | (rw [if_neg (by omega), decide_eq_true (by omega)]; rfl) | (rw [if_neg (by omega), decide_eq_false (by omega)]; rfl)) hx hb hr hlocks dX7_before_60
set_option maxHeartbeats 4000000 in
set_option maxRecDepth 100000 in
theorem metX7_swap (lG : Launch) (D : va_G) (dA : Nat → ClassId) (h0 : Nat) (k1 : Nat) (k2 : Nat) (nc : Nat) (sz : Nat) (HP : Nat → Nat) (KY : Nat → Int) (a : Nat) (b : Nat) (hnc : nc ≤ 4096) (ha : a < nc) (hb0 : b < nc) : Wr lG yX7_swap (ws_ yX7_swap cX7_swap 6 none) 0 0 D dA [.ref h0, .int (nI a), .int (nI b)] [(h0, .inr (6, [.ref k1, .ref k2, .int (nI sz)])), (k1, .inl (dA 0, nc, .inl fun j => nI (HP j))), (k2, .inl (dA 1, nc, .inr (.inl fun j => lZ (KY j))))] 0 0 (fun (_u : Unit) => True) (fun (_u : Unit) => none) (fun (_u : Unit) => [(h0, .inr (6, [.ref k1, .ref k2, .int (nI sz)])), (k1, .inl (dA 0, nc, .inl fun j => nI ((updZ (updZ HP a (HP b)) b (HP a)) j))), (k2, .inl (dA 1, nc, .inr (.inl fun j => lZ ((updZ (updZ KY a (KY b)) b (KY a)) j))))]) := by
  refine Wr.of (by decide) (Nat.le_of_ble_eq_true rfl) ?_
  intro pG eG sG mG bG tG cG ls A hx hb hr hml hown hts hlocks hnm hP hK hD hS hA hl
  have hK1 := hK.1
  have hown : sG.vm.findClass RX7 = some mG.cls := hown
  have hl : lv_has ls 6 [(0, .ref h0), (1, .int (nI a)), (2, .int (nI b))] := hl
  refine lv_aload_n hx hb dX7_swap_0 rfl (lv_at hl 0 rfl) ?_
  refine va_get (D := D) (ci := 6) (v := .ref k1) (C := RX7) (T := TX7) (N := 3) hx hb hts in_X7 hown hK.1 hP 0 rfl rfl 0 (Nat.le_of_ble_eq_true rfl) (hts _ q211) (fun _ h9 => h9) rfl dX7_swap_1 ?_
  refine lv_iload_n hx hb dX7_swap_4 rfl (lv_at hl 1 rfl) ?_
  refine zn_iaload (f := HP) (i := a) hx hb hK.1 hP 1 0 rfl rfl (by omega) (by omega) dX7_swap_5 ?_
  refine lv_istore_n (lv' := [(3, .int (nI (HP a))), (0, .ref h0), (1, .int (nI a)), (2, .int (nI b))]) hx hb dX7_swap_6 rfl hl (by decide) rfl (fun ls hl => ?_)
  refine lv_aload_n hx hb dX7_swap_7 rfl (lv_at hl 1 rfl) ?_
  refine va_get (D := D) (ci := 6) (v := .ref k2) (C := RX7) (T := TX7) (N := 3) hx hb hts in_X7 hown hK.1 hP 0 rfl rfl 1 (Nat.le_of_ble_eq_true rfl) (hts _ q212) (fun _ h9 => h9) rfl dX7_swap_8 ?_
  refine lv_iload_n hx hb dX7_swap_11 rfl (lv_at hl 2 rfl) ?_
  refine zz_laload (f := KY) (i := a) hx hb hK.1 hP 2 1 rfl rfl (by omega) (by omega) dX7_swap_12 ?_
  refine lv_lstore (lv' := [(4, .long (lZ (KY a))), (3, .int (nI (HP a))), (0, .ref h0), (1, .int (nI a)), (2, .int (nI b))]) hx hb dX7_swap_13 hl (by decide) rfl (fun ls hl => ?_)
  refine lv_aload_n hx hb dX7_swap_15 rfl (lv_at hl 2 rfl) ?_
  refine va_get (D := D) (ci := 6) (v := .ref k1) (C := RX7) (T := TX7) (N := 3) hx hb hts in_X7 hown hK.1 hP 0 rfl rfl 0 (Nat.le_of_ble_eq_true rfl) (hts _ q211) (fun _ h9 => h9) rfl dX7_swap_16 ?_
  refine lv_iload_n hx hb dX7_swap_19 rfl (lv_at hl 3 rfl) ?_
  refine lv_aload_n hx hb dX7_swap_20 rfl (lv_at hl 2 rfl) ?_
  refine va_get (D := D) (ci := 6) (v := .ref k1) (C := RX7) (T := TX7) (N := 3) hx hb hts in_X7 hown hK.1 hP 0 rfl rfl 0 (Nat.le_of_ble_eq_true rfl) (hts _ q211) (fun _ h9 => h9) rfl dX7_swap_21 ?_
  refine lv_iload_n hx hb dX7_swap_24 rfl (lv_at hl 4 rfl) ?_
  refine zn_iaload (f := HP) (i := b) hx hb hK.1 hP 1 0 rfl rfl (by omega) (by omega) dX7_swap_25 ?_
  refine zn_iastore (f := HP) (i := a) (x := HP b) hx hb hK.1 hP hD hS 1 0 rfl rfl (by omega) (by omega) dX7_swap_26 (fun H locs hP hD hS => ?_)
  have hP : va_P D zCl [(h0, .inr (6, [.ref k1, .ref k2, .int (nI sz)])), (k1, .inl (dA 0, nc, .inl fun j => nI ((updZ HP a (HP b)) j))), (k2, .inl (dA 1, nc, .inr (.inl fun j => lZ (KY j))))] H := hP
  have hD : va_D A [(h0, .inr (6, [.ref k1, .ref k2, .int (nI sz)])), (k1, .inl (dA 0, nc, .inl fun j => nI ((updZ HP a (HP b)) j))), (k2, .inl (dA 1, nc, .inr (.inl fun j => lZ (KY j))))] := hD
  refine lv_aload_n hx hb dX7_swap_27 rfl (lv_at hl 2 rfl) ?_
  refine va_get (D := D) (ci := 6) (v := .ref k2) (C := RX7) (T := TX7) (N := 3) hx hb hts in_X7 hown hK.1 hP 0 rfl rfl 1 (Nat.le_of_ble_eq_true rfl) (hts _ q212) (fun _ h9 => h9) rfl dX7_swap_28 ?_
  refine lv_iload_n hx hb dX7_swap_31 rfl (lv_at hl 3 rfl) ?_
  refine lv_aload_n hx hb dX7_swap_32 rfl (lv_at hl 2 rfl) ?_
  refine va_get (D := D) (ci := 6) (v := .ref k2) (C := RX7) (T := TX7) (N := 3) hx hb hts in_X7 hown hK.1 hP 0 rfl rfl 1 (Nat.le_of_ble_eq_true rfl) (hts _ q212) (fun _ h9 => h9) rfl dX7_swap_33 ?_
  refine lv_iload_n hx hb dX7_swap_36 rfl (lv_at hl 4 rfl) ?_
  refine zz_laload (f := KY) (i := b) hx hb hK.1 hP 2 1 rfl rfl (by omega) (by omega) dX7_swap_37 ?_
  refine zz_lastore (f := KY) (i := a) (x := KY b) hx hb hK.1 hP hD hS 2 1 rfl rfl (by omega) (by omega) dX7_swap_38 (fun H locs hP hD hS => ?_)
  have hP : va_P D zCl [(h0, .inr (6, [.ref k1, .ref k2, .int (nI sz)])), (k1, .inl (dA 0, nc, .inl fun j => nI ((updZ HP a (HP b)) j))), (k2, .inl (dA 1, nc, .inr (.inl fun j => lZ ((updZ KY a (KY b)) j))))] H := hP
  have hD : va_D A [(h0, .inr (6, [.ref k1, .ref k2, .int (nI sz)])), (k1, .inl (dA 0, nc, .inl fun j => nI ((updZ HP a (HP b)) j))), (k2, .inl (dA 1, nc, .inr (.inl fun j => lZ ((updZ KY a (KY b)) j))))] := hD
  refine lv_aload_n hx hb dX7_swap_39 rfl (lv_at hl 2 rfl) ?_
  refine va_get (D := D) (ci := 6) (v := .ref k1) (C := RX7) (T := TX7) (N := 3) hx hb hts in_X7 hown hK.1 hP 0 rfl rfl 0 (Nat.le_of_ble_eq_true rfl) (hts _ q211) (fun _ h9 => h9) rfl dX7_swap_40 ?_
  refine lv_iload_n hx hb dX7_swap_43 rfl (lv_at hl 4 rfl) ?_
  refine lv_iload_n hx hb dX7_swap_44 rfl (lv_at hl 1 rfl) ?_
  refine zn_iastore (f := updZ HP a (HP b)) (i := b) (x := HP a) hx hb hK.1 hP hD hS 1 0 rfl rfl (by omega) (by omega) dX7_swap_45 (fun H locs hP hD hS => ?_)
  have hP : va_P D zCl [(h0, .inr (6, [.ref k1, .ref k2, .int (nI sz)])), (k1, .inl (dA 0, nc, .inl fun j => nI ((updZ (updZ HP a (HP b)) b (HP a)) j))), (k2, .inl (dA 1, nc, .inr (.inl fun j => lZ ((updZ KY a (KY b)) j))))] H := hP
  have hD : va_D A [(h0, .inr (6, [.ref k1, .ref k2, .int (nI sz)])), (k1, .inl (dA 0, nc, .inl fun j => nI ((updZ (updZ HP a (HP b)) b (HP a)) j))), (k2, .inl (dA 1, nc, .inr (.inl fun j => lZ ((updZ KY a (KY b)) j))))] := hD
  refine lv_aload_n hx hb dX7_swap_46 rfl (lv_at hl 2 rfl) ?_
  refine va_get (D := D) (ci := 6) (v := .ref k2) (C := RX7) (T := TX7) (N := 3) hx hb hts in_X7 hown hK.1 hP 0 rfl rfl 1 (Nat.le_of_ble_eq_true rfl) (hts _ q212) (fun _ h9 => h9) rfl dX7_swap_47 ?_
  refine lv_iload_n hx hb dX7_swap_50 rfl (lv_at hl 4 rfl) ?_
  refine lv_lload hx hb dX7_swap_51 (lv_at hl 0 rfl) ?_
  refine zz_lastore (f := updZ KY a (KY b)) (i := b) (x := KY a) hx hb hK.1 hP hD hS 2 1 rfl rfl (by omega) (by omega) dX7_swap_53 (fun H locs hP hD hS => ?_)
  have hP : va_P D zCl [(h0, .inr (6, [.ref k1, .ref k2, .int (nI sz)])), (k1, .inl (dA 0, nc, .inl fun j => nI ((updZ (updZ HP a (HP b)) b (HP a)) j))), (k2, .inl (dA 1, nc, .inr (.inl fun j => lZ ((updZ (updZ KY a (KY b)) b (KY a)) j))))] H := hP
  have hD : va_D A [(h0, .inr (6, [.ref k1, .ref k2, .int (nI sz)])), (k1, .inl (dA 0, nc, .inl fun j => nI ((updZ (updZ HP a (HP b)) b (HP a)) j))), (k2, .inl (dA 1, nc, .inr (.inl fun j => lZ ((updZ (updZ KY a (KY b)) b (KY a)) j))))] := hD
  exact zr_wrV (u := ()) rfl trivial (hP.sub [0, 1, 2] rfl) (hD.sub [0, 1, 2] (by decide) rfl) hS hx hb hr hlocks dX7_swap_54
set_option maxHeartbeats 4000000 in
set_option maxRecDepth 100000 in
theorem metX7_add_keep (lG : Launch) (D : va_G) (dA : Nat → ClassId) (h0 : Nat) (k1 : Nat) (k2 : Nat) (nc : Nat) (sz : Nat) (HP : Nat → Nat) (KY : Nat → Int) (ky : Int) (val : Nat) (hnc : nc ≤ 4096) (hsz : sz < nc) (hv : val < 4096) (hK0 : kyB KY) (hky : dB ky) (hHP : ∀ k, k < sz → HP k < 4096) : Wr lG yX7_add (ws_ yX7_add cX7_add 5 none) 1 25 D dA [.ref h0, .long (lZ ky), .int (nI val)] [(h0, .inr (6, [.ref k1, .ref k2, .int (nI sz)])), (k1, .inl (dA 0, nc, .inl fun j => nI (HP j))), (k2, .inl (dA 1, nc, .inr (.inl fun j => lZ (KY j))))] 0 0 (fun (u : (Nat → Nat) × (Nat → Int)) => let HP2 := u.1; let KY2 := u.2; (plist HP2 (sz + 1)).Perm (plist HP sz ++ [val]) ∧ kyB KY2) (fun (u : (Nat → Nat) × (Nat → Int)) => let HP2 := u.1; let KY2 := u.2; none) (fun (u : (Nat → Nat) × (Nat → Int)) => let HP2 := u.1; let KY2 := u.2; [(h0, .inr (6, [.ref k1, .ref k2, .int (nI (sz + 1))])), (k1, .inl (dA 0, nc, .inl fun j => nI (HP2 j))), (k2, .inl (dA 1, nc, .inr (.inl fun j => lZ (KY2 j))))]) := by
  refine Wr.of (by decide) (Nat.le_of_ble_eq_true rfl) ?_
  intro pG eG sG mG bG tG cG ls A hx hb hr hml hown hts hlocks hnm hP hK hD hS hA hl
  have hK1 := hK.1
  have hown : sG.vm.findClass RX7 = some mG.cls := hown
  have hl : lv_has ls 5 [(0, .ref h0), (1, .long (lZ ky)), (3, .int (nI val))] := hl
  have hp0 : plist (updZ HP sz val) (sz + 1) = plist HP sz ++ [val] := by rw [plist_set]
  have hlt0 : ∀ k, k < sz + 1 → (updZ HP sz val) k < 4096 := by
    intro k hk
    by_cases q : k = sz
    · rw [q, updZ_s]; exact hv
    · rw [updZ_n q]; exact hHP k (by omega)
  have hky0 : kyB (updZ KY sz ky) := kyB_upd hK0 hky
  refine lv_aload_n hx hb dX7_add_0 rfl (lv_at hl 0 rfl) ?_
  refine va_get (D := D) (ci := 6) (v := .int (nI sz)) (C := RX7) (T := TX7) (N := 3) hx hb hts in_X7 hown hK.1 hP 0 rfl rfl 2 (Nat.le_of_ble_eq_true rfl) (hts _ q213) (fun _ h9 => h9) rfl dX7_add_1 ?_
  refine lv_aload_n hx hb dX7_add_4 rfl (lv_at hl 0 rfl) ?_
  refine va_get (D := D) (ci := 6) (v := .ref k1) (C := RX7) (T := TX7) (N := 3) hx hb hts in_X7 hown hK.1 hP 0 rfl rfl 0 (Nat.le_of_ble_eq_true rfl) (hts _ q211) (fun _ h9 => h9) rfl dX7_add_5 ?_
  refine va_alen (v := nI nc) hx hb hK.1 hP 1 0 rfl rfl rfl dX7_add_8 ?_
  refine zn_icmp_ne (tgt := 60) hx hb (by omega) (by omega) dX7_add_9 (by decide) (fun c_1 => ?_) (fun c_1 => ?_)
  · skip
    refine lv_aload_n hx hb dX7_add_60 rfl (lv_at hl 0 rfl) ?_
    refine va_get (D := D) (ci := 6) (v := .ref k1) (C := RX7) (T := TX7) (N := 3) hx hb hts in_X7 hown hK.1 hP 0 rfl rfl 0 (Nat.le_of_ble_eq_true rfl) (hts _ q211) (fun _ h9 => h9) rfl dX7_add_61 ?_
    refine lv_aload_n hx hb dX7_add_64 rfl (lv_at hl 0 rfl) ?_
    refine va_get (D := D) (ci := 6) (v := .int (nI sz)) (C := RX7) (T := TX7) (N := 3) hx hb hts in_X7 hown hK.1 hP 0 rfl rfl 2 (Nat.le_of_ble_eq_true rfl) (hts _ q213) (fun _ h9 => h9) rfl dX7_add_65 ?_
    refine lv_iload_n hx hb dX7_add_68 rfl (lv_at hl 2 rfl) ?_
    refine zn_iastore (f := HP) (i := sz) (x := val) hx hb hK.1 hP hD hS 1 0 rfl rfl (by omega) (by omega) dX7_add_69 (fun H locs hP hD hS => ?_)
    have hP : va_P D zCl [(h0, .inr (6, [.ref k1, .ref k2, .int (nI sz)])), (k1, .inl (dA 0, nc, .inl fun j => nI ((updZ HP sz val) j))), (k2, .inl (dA 1, nc, .inr (.inl fun j => lZ (KY j))))] H := hP
    have hD : va_D A [(h0, .inr (6, [.ref k1, .ref k2, .int (nI sz)])), (k1, .inl (dA 0, nc, .inl fun j => nI ((updZ HP sz val) j))), (k2, .inl (dA 1, nc, .inr (.inl fun j => lZ (KY j))))] := hD
    refine lv_aload_n hx hb dX7_add_70 rfl (lv_at hl 0 rfl) ?_
    refine va_get (D := D) (ci := 6) (v := .ref k2) (C := RX7) (T := TX7) (N := 3) hx hb hts in_X7 hown hK.1 hP 0 rfl rfl 1 (Nat.le_of_ble_eq_true rfl) (hts _ q212) (fun _ h9 => h9) rfl dX7_add_71 ?_
    refine lv_aload_n hx hb dX7_add_74 rfl (lv_at hl 0 rfl) ?_
    refine va_get (D := D) (ci := 6) (v := .int (nI sz)) (C := RX7) (T := TX7) (N := 3) hx hb hts in_X7 hown hK.1 hP 0 rfl rfl 2 (Nat.le_of_ble_eq_true rfl) (hts _ q213) (fun _ h9 => h9) rfl dX7_add_75 ?_
    refine lv_lload_n hx hb dX7_add_78 rfl (lv_at hl 1 rfl) ?_
    refine zz_lastore (f := KY) (i := sz) (x := ky) hx hb hK.1 hP hD hS 2 1 rfl rfl (by omega) (by omega) dX7_add_79 (fun H locs hP hD hS => ?_)
    have hP : va_P D zCl [(h0, .inr (6, [.ref k1, .ref k2, .int (nI sz)])), (k1, .inl (dA 0, nc, .inl fun j => nI ((updZ HP sz val) j))), (k2, .inl (dA 1, nc, .inr (.inl fun j => lZ ((updZ KY sz ky) j))))] H := hP
    have hD : va_D A [(h0, .inr (6, [.ref k1, .ref k2, .int (nI sz)])), (k1, .inl (dA 0, nc, .inl fun j => nI ((updZ HP sz val) j))), (k2, .inl (dA 1, nc, .inr (.inl fun j => lZ ((updZ KY sz ky) j))))] := hD
    refine lv_aload_n hx hb dX7_add_80 rfl (lv_at hl 0 rfl) ?_
    refine va_get (D := D) (ci := 6) (v := .int (nI sz)) (C := RX7) (T := TX7) (N := 3) hx hb hts in_X7 hown hK.1 hP 0 rfl rfl 2 (Nat.le_of_ble_eq_true rfl) (hts _ q213) (fun _ h9 => h9) rfl dX7_add_81 ?_
    refine lv_istore (lv' := [(4, .int (nI sz)), (0, .ref h0), (1, .long (lZ ky)), (3, .int (nI val))]) hx hb dX7_add_84 hl (by decide) rfl (fun ls hl => ?_)
    refine lv_aload_n hx hb dX7_add_86 rfl (lv_at hl 1 rfl) ?_
    refine lv_dup hx hb dX7_add_87 rfl ?_
    refine va_get (D := D) (ci := 6) (v := .int (nI sz)) (C := RX7) (T := TX7) (N := 3) hx hb hts in_X7 hown hK.1 hP 0 rfl rfl 2 (Nat.le_of_ble_eq_true rfl) (hts _ q213) (fun _ h9 => h9) rfl dX7_add_88 ?_
    refine lv_iconst (v := nI 1) hx hb dX7_add_91 (by decide) ?_
    refine zn_iadd hx hb dX7_add_92 ?_
    refine va_put (D := D) (ci := 6) (v := .int (nI (sz + 1))) (ty := .int) (C := RX7) (T := TX7) (N := 3) hx hb hts in_X7 tyX7 tyX7_ok nmX7 hown hK.1 hP hD hS 0 rfl rfl 2 (Nat.le_of_ble_eq_true rfl) (hts _ q213) (fun _ h9 => h9) rfl (by decide +kernel) rfl rfl (Nat.le_of_ble_eq_true rfl) dX7_add_93 (fun H locs hP hD hS => ?_)
    have hP : va_P D zCl [(h0, .inr (6, [.ref k1, .ref k2, .int (nI (sz + 1))])), (k1, .inl (dA 0, nc, .inl fun j => nI ((updZ HP sz val) j))), (k2, .inl (dA 1, nc, .inr (.inl fun j => lZ ((updZ KY sz ky) j))))] H := hP
    have hD : va_D A [(h0, .inr (6, [.ref k1, .ref k2, .int (nI (sz + 1))])), (k1, .inl (dA 0, nc, .inl fun j => nI ((updZ HP sz val) j))), (k2, .inl (dA 1, nc, .inr (.inl fun j => lZ ((updZ KY sz ky) j))))] := hD
    have loop96 : ∀ (n96 : Nat) (x : Nat) (HP1 : Nat → Nat) (KY1 : Nat → Int), (x ≤ sz) → ((plist HP1 (sz + 1)).Perm (plist (updZ HP sz val) (sz + 1))) → (kyB KY1) → x < n96 → ∀ (H : Heap) (locs : List Loc), va_P D zCl [(h0, .inr (6, [.ref k1, .ref k2, .int (nI (sz + 1))])), (k1, .inl (dA 0, nc, .inl fun j => nI (HP1 j))), (k2, .inl (dA 1, nc, .inr (.inl fun j => lZ (KY1 j))))] H → va_D A [(h0, .inr (6, [.ref k1, .ref k2, .int (nI (sz + 1))])), (k1, .inl (dA 0, nc, .inl fun j => nI (HP1 j))), (k2, .inl (dA 1, nc, .inr (.inl fun j => lZ (KY1 j))))] → va_S A sG.heap H locs → ∀ (ls : Array Slot), lv_has ls 5 [(4, .int (nI x)), (0, .ref h0), (1, .long (lZ ky)), (3, .int (nI val))] → W pG lG eG (zRoom 1 0 0 25) sG mG [.ref h0, .long (lZ ky), .int (nI val)].toArray bG tG cG H locs 0 0 (MQ bG (wrQ D (fun (u : (Nat → Nat) × (Nat → Int)) => let HP2 := u.1; let KY2 := u.2; (plist HP2 (sz + 1)).Perm (plist HP sz ++ [val]) ∧ kyB KY2) (fun (u : (Nat → Nat) × (Nat → Int)) => let HP2 := u.1; let KY2 := u.2; none) (fun (u : (Nat → Nat) × (Nat → Int)) => let HP2 := u.1; let KY2 := u.2; [(h0, .inr (6, [.ref k1, .ref k2, .int (nI (sz + 1))])), (k1, .inl (dA 0, nc, .inl fun j => nI (HP2 j))), (k2, .inl (dA 1, nc, .inr (.inl fun j => lZ (KY2 j))))]) A) [.ref h0, .long (lZ ky), .int (nI val)].toArray sG 0 0 A) (F0 mG 96 ls []) := by
      intro n96
      induction n96 with
      | zero => intro x HP1 KY1 j1 j2 j3 hm; exact absurd hm (Nat.not_lt_zero _)
      | succ n96 ih96 =>
        intro x HP1 KY1 j1 j2 j3 hm96 H locs hP hD hS ls hl
        refine lv_iload hx hb dX7_add_96 (lv_at hl 0 rfl) ?_
        refine zn_if_le (tgt := 139) hx hb (by omega) dX7_add_98 (by decide) (fun c_2 => ?_) (fun c_2 => ?_)
        · skip
          exact zr_wrV (u := (HP1, KY1)) rfl (show (plist HP1 (sz + 1)).Perm (plist HP sz ++ [val]) ∧ kyB KY1 from ⟨j2.trans (by rw [hp0]), j3⟩) (hP.sub [0, 1, 2] rfl) (hD.sub [0, 1, 2] (by decide) rfl) hS hx hb hr hlocks dX7_add_139
        · skip
          refine lv_aload_n hx hb dX7_add_101 rfl (lv_at hl 1 rfl) ?_
          refine lv_iload hx hb dX7_add_102 (lv_at hl 0 rfl) ?_
          refine lv_iload hx hb dX7_add_104 (lv_at hl 0 rfl) ?_
          refine lv_iconst (v := nI 1) hx hb dX7_add_106 (by decide) ?_
          refine zn_isub hx hb (by omega) dX7_add_107 ?_
          refine lv_iconst (v := nI 2) hx hb dX7_add_108 (by decide) ?_
          refine zn_idiv hx hb (by omega) (by decide) (by decide) dX7_add_109 ?_
          refine zc_roV (v := .int (bI (bef HP1 KY1 x ((x - 1) / 2)))) (rest := []) ⟨hx, hb, hml, hown, hts⟩ (metX7_before lG D dA h0 k1 k2 nc (sz + 1) HP1 KY1 x ((x - 1) / 2) (by first | assumption | omega) (by first | assumption | omega) (by first | assumption | omega) (by first | assumption | omega) (perm_lt j2 hlt0 _ (by omega)) (perm_lt j2 hlt0 _ (by omega))) (cwV 2 hts (lw_V q444 q446 qs4 q77 q447) rfl rfl rfl (by decide +kernel) ⟨Nat.le_of_ble_eq_true rfl, Nat.le_of_ble_eq_true rfl⟩) (va_recv hK.1 hP (ci := 6) (q0 := 0) rfl rfl) (hP.sub [0, 1, 2] rfl) hK rfl hl.1 rfl (Nat.le_of_ble_eq_true rfl) dX7_add_110 ⟨Nat.zero_le _, Nat.zero_le _⟩ ?_
          refine zb_if_eq (tgt := 139) hx hb dX7_add_113 (by decide) (fun c_3 => ?_) (fun c_3 => ?_)
          · skip
            exact zr_wrV (u := (HP1, KY1)) rfl (show (plist HP1 (sz + 1)).Perm (plist HP sz ++ [val]) ∧ kyB KY1 from ⟨j2.trans (by rw [hp0]), j3⟩) (hP.sub [0, 1, 2] rfl) (hD.sub [0, 1, 2] (by decide) rfl) hS hx hb hr hlocks dX7_add_139
          · skip
            refine lv_aload_n hx hb dX7_add_116 rfl (lv_at hl 1 rfl) ?_
            refine lv_iload hx hb dX7_add_117 (lv_at hl 0 rfl) ?_
            refine lv_iload hx hb dX7_add_119 (lv_at hl 0 rfl) ?_
            refine lv_iconst (v := nI 1) hx hb dX7_add_121 (by decide) ?_
            refine zn_isub hx hb (by omega) dX7_add_122 ?_
            refine lv_iconst (v := nI 2) hx hb dX7_add_123 (by decide) ?_
            refine zn_idiv hx hb (by omega) (by decide) (by decide) dX7_add_124 ?_
            refine zc_wrV (rest := []) (wr := []) ⟨hx, hb, hml, hown, hts⟩ (metX7_swap lG D dA h0 k1 k2 nc (sz + 1) HP1 KY1 x ((x - 1) / 2) (by first | assumption | omega) (by first | assumption | omega) (by first | assumption | omega)) (cwV 2 hts (lw_V q448 q450 qs5 q77 q451) rfl rfl rfl (by decide +kernel) ⟨Nat.le_of_ble_eq_true rfl, Nat.le_of_ble_eq_true rfl⟩) (va_recv hK.1 hP (ci := 6) (q0 := 0) rfl rfl) hP hK hD hS hA [0, 1, 2] [] rfl rfl (by decide) (by decide) (by decide) rfl hl.1 rfl (Nat.le_of_ble_eq_true rfl) dX7_add_125 ⟨Nat.zero_le _, Nat.zero_le _⟩ (fun u H locs hp_4 hP hD hS => ?_)
            have hP : va_P D zCl [(h0, .inr (6, [.ref k1, .ref k2, .int (nI ((sz + 1)))])), (k1, .inl (dA 0, nc, .inl fun j => nI ((updZ (updZ HP1 x (HP1 ((x - 1) / 2))) ((x - 1) / 2) (HP1 x)) j))), (k2, .inl (dA 1, nc, .inr (.inl fun j => lZ ((updZ (updZ KY1 x (KY1 ((x - 1) / 2))) ((x - 1) / 2) (KY1 x)) j))))] H := hP
            have hD : va_D A [(h0, .inr (6, [.ref k1, .ref k2, .int (nI ((sz + 1)))])), (k1, .inl (dA 0, nc, .inl fun j => nI ((updZ (updZ HP1 x (HP1 ((x - 1) / 2))) ((x - 1) / 2) (HP1 x)) j))), (k2, .inl (dA 1, nc, .inr (.inl fun j => lZ ((updZ (updZ KY1 x (KY1 ((x - 1) / 2))) ((x - 1) / 2) (KY1 x)) j))))] := hD
            show W _ _ _ _ _ _ _ _ _ _ _ _ 0 0 _ (F0 mG 128 ls [])
            refine lv_iload hx hb dX7_add_128 (lv_at hl 0 rfl) ?_
            refine lv_iconst (v := nI 1) hx hb dX7_add_130 (by decide) ?_
            refine zn_isub hx hb (by omega) dX7_add_131 ?_
            refine lv_iconst (v := nI 2) hx hb dX7_add_132 (by decide) ?_
            refine zn_idiv hx hb (by omega) (by decide) (by decide) dX7_add_133 ?_
            refine lv_istore (lv' := [(4, .int (nI ((x - 1) / 2))), (0, .ref h0), (1, .long (lZ ky)), (3, .int (nI val))]) hx hb dX7_add_134 hl (by decide) rfl (fun ls hl => ?_)
            refine lv_goto (tgt := 96) hx hb dX7_add_136 (by decide) ?_
            exact ih96 ((x - 1) / 2) (updZ (updZ HP1 x (HP1 ((x - 1) / 2))) ((x - 1) / 2) (HP1 x)) (updZ (updZ KY1 x (KY1 ((x - 1) / 2))) ((x - 1) / 2) (KY1 x)) (by first | assumption | omega) ((plist_swap (by omega) (by omega)).trans j2) (fun k => updZ_all (updZ_all j3 (j3 _)) (j3 _) k) (by omega) _ _ (hP.sub [0, 1, 2] rfl) (hD.sub [0, 1, 2] (by decide) rfl) hS _ (lv_sub hl [0, 1, 2, 3] rfl)
    exact loop96 (sz + 1) sz (updZ HP sz val) (updZ KY sz ky) (Nat.le_refl _) (List.Perm.refl _) hky0 (Nat.lt_succ_self _) _ _ (hP.sub [0, 1, 2] rfl) (hD.sub [0, 1, 2] (by decide) rfl) hS _ (lv_sub hl [0, 1, 2, 3] rfl)
  · skip
    exfalso; omega
set_option maxHeartbeats 4000000 in
set_option maxRecDepth 100000 in
theorem metX7_add_grow (lG : Launch) (D : va_G) (dA : Nat → ClassId) (h0 : Nat) (k1 : Nat) (k2 : Nat) (nc : Nat) (sz : Nat) (HP : Nat → Nat) (KY : Nat → Int) (ky : Int) (val : Nat) (hnc : nc ≤ 1024) (hnc0 : 1 ≤ nc) (hsz : sz = nc) (hv : val < 4096) (hK0 : kyB KY) (hky : dB ky) (hHP : ∀ k, k < sz → HP k < 4096) : Wr lG yX7_add (ws_ yX7_add cX7_add 5 none) 2 62 D dA [.ref h0, .long (lZ ky), .int (nI val)] [(h0, .inr (6, [.ref k1, .ref k2, .int (nI sz)])), (k1, .inl (dA 0, nc, .inl fun j => nI (HP j))), (k2, .inl (dA 1, nc, .inr (.inl fun j => lZ (KY j))))] 2 (4 * sz) (fun (u : Nat × Nat × (Nat → Nat) × (Nat → Int)) => let d1 := u.1; let d2 := u.2.1; let HP2 := u.2.2.1; let KY2 := u.2.2.2; (plist HP2 (sz + 1)).Perm (plist HP sz ++ [val]) ∧ kyB KY2) (fun (u : Nat × Nat × (Nat → Nat) × (Nat → Int)) => let d1 := u.1; let d2 := u.2.1; let HP2 := u.2.2.1; let KY2 := u.2.2.2; none) (fun (u : Nat × Nat × (Nat → Nat) × (Nat → Int)) => let d1 := u.1; let d2 := u.2.1; let HP2 := u.2.2.1; let KY2 := u.2.2.2; [(h0, .inr (6, [.ref d1, .ref d2, .int (nI (sz + 1))])), (d1, .inl (dA 0, 2 * sz, .inl fun j => nI (HP2 j))), (d2, .inl (dA 1, 2 * sz, .inr (.inl fun j => lZ (KY2 j))))]) := by
  refine Wr.of (by decide) (Nat.le_of_ble_eq_true rfl) ?_
  intro pG eG sG mG bG tG cG ls A hx hb hr hml hown hts hlocks hnm hP hK hD hS hA hl
  have hK1 := hK.1
  have hown : sG.vm.findClass RX7 = some mG.cls := hown
  have hl : lv_has ls 5 [(0, .ref h0), (1, .long (lZ ky)), (3, .int (nI val))] := hl
  have hp0 : plist (updZ (zcpy HP (fun _ => 0) nc) sz val) (sz + 1) = plist HP sz ++ [val] := by rw [plist_set, ← hsz, plist_cpy]
  have hlt0 : ∀ k, k < sz + 1 → (updZ (zcpy HP (fun _ => 0) nc) sz val) k < 4096 := by
    intro k hk
    by_cases q : k = sz
    · rw [q, updZ_s]; exact hv
    · rw [updZ_n q, zcpy_lt (by omega)]; exact hHP k (by omega)
  have hky0 : kyB (updZ (zcpy KY (fun _ => 0) sz) sz ky) := kyB_upd (kyB_cpy hK0) hky
  refine lv_aload_n hx hb dX7_add_0 rfl (lv_at hl 0 rfl) ?_
  refine va_get (D := D) (ci := 6) (v := .int (nI sz)) (C := RX7) (T := TX7) (N := 3) hx hb hts in_X7 hown hK.1 hP 0 rfl rfl 2 (Nat.le_of_ble_eq_true rfl) (hts _ q213) (fun _ h9 => h9) rfl dX7_add_1 ?_
  refine lv_aload_n hx hb dX7_add_4 rfl (lv_at hl 0 rfl) ?_
  refine va_get (D := D) (ci := 6) (v := .ref k1) (C := RX7) (T := TX7) (N := 3) hx hb hts in_X7 hown hK.1 hP 0 rfl rfl 0 (Nat.le_of_ble_eq_true rfl) (hts _ q211) (fun _ h9 => h9) rfl dX7_add_5 ?_
  refine va_alen (v := nI nc) hx hb hK.1 hP 1 0 rfl rfl rfl dX7_add_8 ?_
  refine zn_icmp_ne (tgt := 60) hx hb (by omega) (by omega) dX7_add_9 (by decide) (fun c_1 => ?_) (fun c_1 => ?_)
  · skip
    exfalso; omega
  · skip
    refine lv_iconst (v := nI 2) hx hb dX7_add_12 (by decide) ?_
    refine lv_aload_n hx hb dX7_add_13 rfl (lv_at hl 0 rfl) ?_
    refine va_get (D := D) (ci := 6) (v := .int (nI sz)) (C := RX7) (T := TX7) (N := 3) hx hb hts in_X7 hown hK.1 hP 0 rfl rfl 2 (Nat.le_of_ble_eq_true rfl) (hts _ q213) (fun _ h9 => h9) rfl dX7_add_14 ?_
    refine zn_imul hx hb dX7_add_17 ?_
    refine zy_newa (atype := .long) (k := 1) (ty := .long) (N' := 2 * sz) (a0 := (2 * sz, .inr (.inl fun j => lZ ((fun _ => (0 : Int)) j)))) hx hb (hts _ q222) rfl (fun C h => by cases h) rfl hK hP hD hS hA (fun cA => rfl) (by omega) (show (2 * sz) * 8 ≤ 536870912 by omega) (show 0 + 1 ≤ 2 by omega) (show 0 + (2 * sz) ≤ (4 * sz) by omega) dX7_add_18 (fun q_2 H hP hD hS => ?_)
    have hP : va_P D zCl [(h0, .inr (6, [.ref k1, .ref k2, .int (nI sz)])), (k1, .inl (dA 0, nc, .inl fun j => nI (HP j))), (k2, .inl (dA 1, nc, .inr (.inl fun j => lZ (KY j)))), (q_2, .inl (dA 1, 2 * sz, .inr (.inl fun j => lZ ((fun _ => (0 : Int)) j))))] H := hP
    have hD : va_D A [(h0, .inr (6, [.ref k1, .ref k2, .int (nI sz)])), (k1, .inl (dA 0, nc, .inl fun j => nI (HP j))), (k2, .inl (dA 1, nc, .inr (.inl fun j => lZ (KY j)))), (q_2, .inl (dA 1, 2 * sz, .inr (.inl fun j => lZ ((fun _ => (0 : Int)) j))))] := hD
    refine lv_astore (lv' := [(4, .ref q_2), (0, .ref h0), (1, .long (lZ ky)), (3, .int (nI val))]) hx hb dX7_add_20 hl (by decide) rfl (fun ls hl => ?_)
    refine lv_aload_n hx hb dX7_add_22 rfl (lv_at hl 1 rfl) ?_
    refine va_get (D := D) (ci := 6) (v := .ref k2) (C := RX7) (T := TX7) (N := 3) hx hb hts in_X7 hown hK.1 hP 0 rfl rfl 1 (Nat.le_of_ble_eq_true rfl) (hts _ q212) (fun _ h9 => h9) rfl dX7_add_23 ?_
    refine lv_iconst (v := nI 0) hx hb dX7_add_26 (by decide) ?_
    refine lv_aload hx hb dX7_add_27 (lv_at hl 0 rfl) ?_
    refine lv_iconst (v := nI 0) hx hb dX7_add_29 (by decide) ?_
    refine lv_aload_n hx hb dX7_add_30 rfl (lv_at hl 1 rfl) ?_
    refine va_get (D := D) (ci := 6) (v := .int (nI sz)) (C := RX7) (T := TX7) (N := 3) hx hb hts in_X7 hown hK.1 hP 0 rfl rfl 2 (Nat.le_of_ble_eq_true rfl) (hts _ q213) (fun _ h9 => h9) rfl dX7_add_31 ?_
    refine zz_copyl (k := sz) hx hb (by rw [hml]; exact hl.1.symm) hown (hts _ q442) (hts _ q399) (hts _ q398) (hts _ q89) hK hP hD hS 2 3 rfl rfl (by omega) (by omega) (by omega) (Nat.le_of_ble_eq_true rfl) (Nat.le_of_ble_eq_true rfl) dX7_add_34 (fun H locs hP hD hS => ?_)
    have hP : va_P D zCl [(h0, .inr (6, [.ref k1, .ref k2, .int (nI sz)])), (k1, .inl (dA 0, nc, .inl fun j => nI (HP j))), (k2, .inl (dA 1, nc, .inr (.inl fun j => lZ (KY j)))), (q_2, .inl (dA 1, 2 * sz, .inr (.inl fun j => lZ ((zcpy KY (fun _ => (0 : Int)) sz) j))))] H := hP
    have hD : va_D A [(h0, .inr (6, [.ref k1, .ref k2, .int (nI sz)])), (k1, .inl (dA 0, nc, .inl fun j => nI (HP j))), (k2, .inl (dA 1, nc, .inr (.inl fun j => lZ (KY j)))), (q_2, .inl (dA 1, 2 * sz, .inr (.inl fun j => lZ ((zcpy KY (fun _ => (0 : Int)) sz) j))))] := hD
    refine lv_aload_n hx hb dX7_add_37 rfl (lv_at hl 1 rfl) ?_
    refine lv_aload_n hx hb dX7_add_38 rfl (lv_at hl 1 rfl) ?_
    refine va_get (D := D) (ci := 6) (v := .ref k1) (C := RX7) (T := TX7) (N := 3) hx hb hts in_X7 hown hK.1 hP 0 rfl rfl 0 (Nat.le_of_ble_eq_true rfl) (hts _ q211) (fun _ h9 => h9) rfl dX7_add_39 ?_
    refine lv_iconst (v := nI 2) hx hb dX7_add_42 (by decide) ?_
    refine lv_aload_n hx hb dX7_add_43 rfl (lv_at hl 1 rfl) ?_
    refine va_get (D := D) (ci := 6) (v := .int (nI sz)) (C := RX7) (T := TX7) (N := 3) hx hb hts in_X7 hown hK.1 hP 0 rfl rfl 2 (Nat.le_of_ble_eq_true rfl) (hts _ q213) (fun _ h9 => h9) rfl dX7_add_44 ?_
    refine zn_imul hx hb dX7_add_47 ?_
    refine zc_wrSN (rest := [.ref h0]) (wr := [(h0, .inr (6, [.ref k1, .ref k2, .int (nI sz)])), (k2, .inl (dA 1, nc, .inr (.inl fun j => lZ (KY j)))), (q_2, .inl (dA 1, 2 * sz, .inr (.inl fun j => lZ ((zcpy KY (fun _ => (0 : Int)) sz) j))))]) ⟨hx, hb, hml, hown, hts⟩ (metX5_longer_n lG D dA k1 nc HP (2 * sz) (by first | assumption | omega) (by first | assumption | omega)) ⟨(va_cnB 2 hts (lw_meth q396) rfl rfl rfl (hK.2.1 _ zq443) (hts _ q75) (by decide +kernel) ⟨Nat.le_of_ble_eq_true rfl, Nat.le_of_ble_eq_true rfl⟩), hts _ q395, trivial⟩ hP hK hD hS hA [1] [0, 2, 3] rfl rfl (by decide) (by decide) (by decide) rfl hl.1 rfl (Nat.le_of_ble_eq_true rfl) dX7_add_48 ⟨show 1 + 1 ≤ 2 by omega, show (0 + (2 * sz)) + ((2 * sz)) ≤ (4 * sz) by omega⟩ (fun u H locs hp_4 hP hD hS => ?_)
    obtain ⟨qn_3, rfl⟩ : ∃ z, z = u := ⟨_, rfl⟩
    have hP : va_P D zCl [(h0, .inr (6, [.ref k1, .ref k2, .int (nI sz)])), (k2, .inl (dA 1, nc, .inr (.inl fun j => lZ (KY j)))), (q_2, .inl (dA 1, 2 * sz, .inr (.inl fun j => lZ ((zcpy KY (fun _ => (0 : Int)) sz) j)))), (k1, .inl (dA 0, nc, .inl fun j => nI (HP j))), (qn_3, .inl (dA 0, (2 * sz), .inl fun j => nI ((zcpy HP (fun _ => 0) nc) j)))] H := hP
    have hD : va_D A [(h0, .inr (6, [.ref k1, .ref k2, .int (nI sz)])), (k2, .inl (dA 1, nc, .inr (.inl fun j => lZ (KY j)))), (q_2, .inl (dA 1, 2 * sz, .inr (.inl fun j => lZ ((zcpy KY (fun _ => (0 : Int)) sz) j)))), (k1, .inl (dA 0, nc, .inl fun j => nI (HP j))), (qn_3, .inl (dA 0, (2 * sz), .inl fun j => nI ((zcpy HP (fun _ => 0) nc) j)))] := hD
    show W _ _ _ _ _ _ _ _ _ _ _ _ 2 ((0 + (2 * sz)) + ((2 * sz))) _ (F0 mG 51 ls [.ref qn_3, .ref h0])
    refine va_put (D := D) (ci := 6) (v := .ref qn_3) (ty := .array .int) (C := RX7) (T := TX7) (N := 3) hx hb hts in_X7 tyX7 tyX7_ok nmX7 hown hK.1 hP hD hS 0 rfl rfl 0 (Nat.le_of_ble_eq_true rfl) (hts _ q211) (fun _ h9 => h9) rfl (by decide +kernel) rfl rfl (Nat.le_of_ble_eq_true rfl) dX7_add_51 (fun H locs hP hD hS => ?_)
    have hP : va_P D zCl [(h0, .inr (6, [.ref qn_3, .ref k2, .int (nI sz)])), (k2, .inl (dA 1, nc, .inr (.inl fun j => lZ (KY j)))), (q_2, .inl (dA 1, 2 * sz, .inr (.inl fun j => lZ ((zcpy KY (fun _ => (0 : Int)) sz) j)))), (k1, .inl (dA 0, nc, .inl fun j => nI (HP j))), (qn_3, .inl (dA 0, (2 * sz), .inl fun j => nI ((zcpy HP (fun _ => 0) nc) j)))] H := hP
    have hD : va_D A [(h0, .inr (6, [.ref qn_3, .ref k2, .int (nI sz)])), (k2, .inl (dA 1, nc, .inr (.inl fun j => lZ (KY j)))), (q_2, .inl (dA 1, 2 * sz, .inr (.inl fun j => lZ ((zcpy KY (fun _ => (0 : Int)) sz) j)))), (k1, .inl (dA 0, nc, .inl fun j => nI (HP j))), (qn_3, .inl (dA 0, (2 * sz), .inl fun j => nI ((zcpy HP (fun _ => 0) nc) j)))] := hD
    refine lv_aload_n hx hb dX7_add_54 rfl (lv_at hl 1 rfl) ?_
    refine lv_aload hx hb dX7_add_55 (lv_at hl 0 rfl) ?_
    refine va_put (D := D) (ci := 6) (v := .ref q_2) (ty := .array .long) (C := RX7) (T := TX7) (N := 3) hx hb hts in_X7 tyX7 tyX7_ok nmX7 hown hK.1 hP hD hS 0 rfl rfl 1 (Nat.le_of_ble_eq_true rfl) (hts _ q212) (fun _ h9 => h9) rfl (by decide +kernel) rfl rfl (Nat.le_of_ble_eq_true rfl) dX7_add_57 (fun H locs hP hD hS => ?_)
    have hP : va_P D zCl [(h0, .inr (6, [.ref qn_3, .ref q_2, .int (nI sz)])), (k2, .inl (dA 1, nc, .inr (.inl fun j => lZ (KY j)))), (q_2, .inl (dA 1, 2 * sz, .inr (.inl fun j => lZ ((zcpy KY (fun _ => (0 : Int)) sz) j)))), (k1, .inl (dA 0, nc, .inl fun j => nI (HP j))), (qn_3, .inl (dA 0, (2 * sz), .inl fun j => nI ((zcpy HP (fun _ => 0) nc) j)))] H := hP
    have hD : va_D A [(h0, .inr (6, [.ref qn_3, .ref q_2, .int (nI sz)])), (k2, .inl (dA 1, nc, .inr (.inl fun j => lZ (KY j)))), (q_2, .inl (dA 1, 2 * sz, .inr (.inl fun j => lZ ((zcpy KY (fun _ => (0 : Int)) sz) j)))), (k1, .inl (dA 0, nc, .inl fun j => nI (HP j))), (qn_3, .inl (dA 0, (2 * sz), .inl fun j => nI ((zcpy HP (fun _ => 0) nc) j)))] := hD
    refine lv_aload_n hx hb dX7_add_60 rfl (lv_at hl 1 rfl) ?_
    refine va_get (D := D) (ci := 6) (v := .ref qn_3) (C := RX7) (T := TX7) (N := 3) hx hb hts in_X7 hown hK.1 hP 0 rfl rfl 0 (Nat.le_of_ble_eq_true rfl) (hts _ q211) (fun _ h9 => h9) rfl dX7_add_61 ?_
    refine lv_aload_n hx hb dX7_add_64 rfl (lv_at hl 1 rfl) ?_
    refine va_get (D := D) (ci := 6) (v := .int (nI sz)) (C := RX7) (T := TX7) (N := 3) hx hb hts in_X7 hown hK.1 hP 0 rfl rfl 2 (Nat.le_of_ble_eq_true rfl) (hts _ q213) (fun _ h9 => h9) rfl dX7_add_65 ?_
    refine lv_iload_n hx hb dX7_add_68 rfl (lv_at hl 3 rfl) ?_
    refine zn_iastore (f := zcpy HP (fun _ => 0) nc) (i := sz) (x := val) hx hb hK.1 hP hD hS 4 0 rfl rfl (by omega) (by omega) dX7_add_69 (fun H locs hP hD hS => ?_)
    have hP : va_P D zCl [(h0, .inr (6, [.ref qn_3, .ref q_2, .int (nI sz)])), (k2, .inl (dA 1, nc, .inr (.inl fun j => lZ (KY j)))), (q_2, .inl (dA 1, 2 * sz, .inr (.inl fun j => lZ ((zcpy KY (fun _ => (0 : Int)) sz) j)))), (k1, .inl (dA 0, nc, .inl fun j => nI (HP j))), (qn_3, .inl (dA 0, (2 * sz), .inl fun j => nI ((updZ (zcpy HP (fun _ => 0) nc) sz val) j)))] H := hP
    have hD : va_D A [(h0, .inr (6, [.ref qn_3, .ref q_2, .int (nI sz)])), (k2, .inl (dA 1, nc, .inr (.inl fun j => lZ (KY j)))), (q_2, .inl (dA 1, 2 * sz, .inr (.inl fun j => lZ ((zcpy KY (fun _ => (0 : Int)) sz) j)))), (k1, .inl (dA 0, nc, .inl fun j => nI (HP j))), (qn_3, .inl (dA 0, (2 * sz), .inl fun j => nI ((updZ (zcpy HP (fun _ => 0) nc) sz val) j)))] := hD
    refine lv_aload_n hx hb dX7_add_70 rfl (lv_at hl 1 rfl) ?_
    refine va_get (D := D) (ci := 6) (v := .ref q_2) (C := RX7) (T := TX7) (N := 3) hx hb hts in_X7 hown hK.1 hP 0 rfl rfl 1 (Nat.le_of_ble_eq_true rfl) (hts _ q212) (fun _ h9 => h9) rfl dX7_add_71 ?_
    refine lv_aload_n hx hb dX7_add_74 rfl (lv_at hl 1 rfl) ?_
    refine va_get (D := D) (ci := 6) (v := .int (nI sz)) (C := RX7) (T := TX7) (N := 3) hx hb hts in_X7 hown hK.1 hP 0 rfl rfl 2 (Nat.le_of_ble_eq_true rfl) (hts _ q213) (fun _ h9 => h9) rfl dX7_add_75 ?_
    refine lv_lload_n hx hb dX7_add_78 rfl (lv_at hl 2 rfl) ?_
    refine zz_lastore (f := zcpy KY (fun _ => (0 : Int)) sz) (i := sz) (x := ky) hx hb hK.1 hP hD hS 2 1 rfl rfl (by omega) (by omega) dX7_add_79 (fun H locs hP hD hS => ?_)
    have hP : va_P D zCl [(h0, .inr (6, [.ref qn_3, .ref q_2, .int (nI sz)])), (k2, .inl (dA 1, nc, .inr (.inl fun j => lZ (KY j)))), (q_2, .inl (dA 1, 2 * sz, .inr (.inl fun j => lZ ((updZ (zcpy KY (fun _ => (0 : Int)) sz) sz ky) j)))), (k1, .inl (dA 0, nc, .inl fun j => nI (HP j))), (qn_3, .inl (dA 0, (2 * sz), .inl fun j => nI ((updZ (zcpy HP (fun _ => 0) nc) sz val) j)))] H := hP
    have hD : va_D A [(h0, .inr (6, [.ref qn_3, .ref q_2, .int (nI sz)])), (k2, .inl (dA 1, nc, .inr (.inl fun j => lZ (KY j)))), (q_2, .inl (dA 1, 2 * sz, .inr (.inl fun j => lZ ((updZ (zcpy KY (fun _ => (0 : Int)) sz) sz ky) j)))), (k1, .inl (dA 0, nc, .inl fun j => nI (HP j))), (qn_3, .inl (dA 0, (2 * sz), .inl fun j => nI ((updZ (zcpy HP (fun _ => 0) nc) sz val) j)))] := hD
    refine lv_aload_n hx hb dX7_add_80 rfl (lv_at hl 1 rfl) ?_
    refine va_get (D := D) (ci := 6) (v := .int (nI sz)) (C := RX7) (T := TX7) (N := 3) hx hb hts in_X7 hown hK.1 hP 0 rfl rfl 2 (Nat.le_of_ble_eq_true rfl) (hts _ q213) (fun _ h9 => h9) rfl dX7_add_81 ?_
    refine lv_istore (lv' := [(4, .int (nI sz)), (0, .ref h0), (1, .long (lZ ky)), (3, .int (nI val))]) hx hb dX7_add_84 hl (by decide) rfl (fun ls hl => ?_)
    refine lv_aload_n hx hb dX7_add_86 rfl (lv_at hl 1 rfl) ?_
    refine lv_dup hx hb dX7_add_87 rfl ?_
    refine va_get (D := D) (ci := 6) (v := .int (nI sz)) (C := RX7) (T := TX7) (N := 3) hx hb hts in_X7 hown hK.1 hP 0 rfl rfl 2 (Nat.le_of_ble_eq_true rfl) (hts _ q213) (fun _ h9 => h9) rfl dX7_add_88 ?_
    refine lv_iconst (v := nI 1) hx hb dX7_add_91 (by decide) ?_
    refine zn_iadd hx hb dX7_add_92 ?_
    refine va_put (D := D) (ci := 6) (v := .int (nI (sz + 1))) (ty := .int) (C := RX7) (T := TX7) (N := 3) hx hb hts in_X7 tyX7 tyX7_ok nmX7 hown hK.1 hP hD hS 0 rfl rfl 2 (Nat.le_of_ble_eq_true rfl) (hts _ q213) (fun _ h9 => h9) rfl (by decide +kernel) rfl rfl (Nat.le_of_ble_eq_true rfl) dX7_add_93 (fun H locs hP hD hS => ?_)
    have hP : va_P D zCl [(h0, .inr (6, [.ref qn_3, .ref q_2, .int (nI (sz + 1))])), (k2, .inl (dA 1, nc, .inr (.inl fun j => lZ (KY j)))), (q_2, .inl (dA 1, 2 * sz, .inr (.inl fun j => lZ ((updZ (zcpy KY (fun _ => (0 : Int)) sz) sz ky) j)))), (k1, .inl (dA 0, nc, .inl fun j => nI (HP j))), (qn_3, .inl (dA 0, (2 * sz), .inl fun j => nI ((updZ (zcpy HP (fun _ => 0) nc) sz val) j)))] H := hP
    have hD : va_D A [(h0, .inr (6, [.ref qn_3, .ref q_2, .int (nI (sz + 1))])), (k2, .inl (dA 1, nc, .inr (.inl fun j => lZ (KY j)))), (q_2, .inl (dA 1, 2 * sz, .inr (.inl fun j => lZ ((updZ (zcpy KY (fun _ => (0 : Int)) sz) sz ky) j)))), (k1, .inl (dA 0, nc, .inl fun j => nI (HP j))), (qn_3, .inl (dA 0, (2 * sz), .inl fun j => nI ((updZ (zcpy HP (fun _ => 0) nc) sz val) j)))] := hD
    have loop96 : ∀ (n96 : Nat) (x : Nat) (HP1 : Nat → Nat) (KY1 : Nat → Int) (f1 : Nat) (f2 : Nat), (x ≤ sz) → ((plist HP1 (sz + 1)).Perm (plist (updZ (zcpy HP (fun _ => 0) nc) sz val) (sz + 1))) → (kyB KY1) → x < n96 → ∀ (H : Heap) (locs : List Loc), va_P D zCl [(h0, .inr (6, [.ref f1, .ref f2, .int (nI (sz + 1))])), (f1, .inl (dA 0, 2 * sz, .inl fun j => nI (HP1 j))), (f2, .inl (dA 1, 2 * sz, .inr (.inl fun j => lZ (KY1 j))))] H → va_D A [(h0, .inr (6, [.ref f1, .ref f2, .int (nI (sz + 1))])), (f1, .inl (dA 0, 2 * sz, .inl fun j => nI (HP1 j))), (f2, .inl (dA 1, 2 * sz, .inr (.inl fun j => lZ (KY1 j))))] → va_S A sG.heap H locs → ∀ (ls : Array Slot), lv_has ls 5 [(4, .int (nI x)), (0, .ref h0), (1, .long (lZ ky)), (3, .int (nI val))] → W pG lG eG (zRoom 2 2 (4 * sz) 62) sG mG [.ref h0, .long (lZ ky), .int (nI val)].toArray bG tG cG H locs 2 ((0 + (2 * sz)) + ((2 * sz))) (MQ bG (wrQ D (fun (u : Nat × Nat × (Nat → Nat) × (Nat → Int)) => let d1 := u.1; let d2 := u.2.1; let HP2 := u.2.2.1; let KY2 := u.2.2.2; (plist HP2 (sz + 1)).Perm (plist HP sz ++ [val]) ∧ kyB KY2) (fun (u : Nat × Nat × (Nat → Nat) × (Nat → Int)) => let d1 := u.1; let d2 := u.2.1; let HP2 := u.2.2.1; let KY2 := u.2.2.2; none) (fun (u : Nat × Nat × (Nat → Nat) × (Nat → Int)) => let d1 := u.1; let d2 := u.2.1; let HP2 := u.2.2.1; let KY2 := u.2.2.2; [(h0, .inr (6, [.ref d1, .ref d2, .int (nI (sz + 1))])), (d1, .inl (dA 0, 2 * sz, .inl fun j => nI (HP2 j))), (d2, .inl (dA 1, 2 * sz, .inr (.inl fun j => lZ (KY2 j))))]) A) [.ref h0, .long (lZ ky), .int (nI val)].toArray sG 2 (4 * sz) A) (F0 mG 96 ls []) := by
      intro n96
      induction n96 with
      | zero => intro x HP1 KY1 f1 f2 j1 j2 j3 hm; exact absurd hm (Nat.not_lt_zero _)
      | succ n96 ih96 =>
        intro x HP1 KY1 f1 f2 j1 j2 j3 hm96 H locs hP hD hS ls hl
        refine lv_iload hx hb dX7_add_96 (lv_at hl 0 rfl) ?_
        refine zn_if_le (tgt := 139) hx hb (by omega) dX7_add_98 (by decide) (fun c_5 => ?_) (fun c_5 => ?_)
        · skip
          refine W.widen (k := 2) (n := 4 * sz) (by omega) (by omega) ?_
          exact zr_wrV (u := (f1, f2, HP1, KY1)) rfl (show (plist HP1 (sz + 1)).Perm (plist HP sz ++ [val]) ∧ kyB KY1 from ⟨j2.trans (by rw [hp0]), j3⟩) (hP.sub [0, 1, 2] rfl) (hD.sub [0, 1, 2] (by decide) rfl) hS hx hb hr hlocks dX7_add_139
        · skip
          refine lv_aload_n hx hb dX7_add_101 rfl (lv_at hl 1 rfl) ?_
          refine lv_iload hx hb dX7_add_102 (lv_at hl 0 rfl) ?_
          refine lv_iload hx hb dX7_add_104 (lv_at hl 0 rfl) ?_
          refine lv_iconst (v := nI 1) hx hb dX7_add_106 (by decide) ?_
          refine zn_isub hx hb (by omega) dX7_add_107 ?_
          refine lv_iconst (v := nI 2) hx hb dX7_add_108 (by decide) ?_
          refine zn_idiv hx hb (by omega) (by decide) (by decide) dX7_add_109 ?_
          refine zc_roV (v := .int (bI (bef HP1 KY1 x ((x - 1) / 2)))) (rest := []) ⟨hx, hb, hml, hown, hts⟩ (metX7_before lG D dA h0 f1 f2 (2 * sz) (sz + 1) HP1 KY1 x ((x - 1) / 2) (by first | assumption | omega) (by first | assumption | omega) (by first | assumption | omega) (by first | assumption | omega) (perm_lt j2 hlt0 _ (by omega)) (perm_lt j2 hlt0 _ (by omega))) (cwV 2 hts (lw_V q444 q446 qs4 q77 q447) rfl rfl rfl (by decide +kernel) ⟨Nat.le_of_ble_eq_true rfl, Nat.le_of_ble_eq_true rfl⟩) (va_recv hK.1 hP (ci := 6) (q0 := 0) rfl rfl) (hP.sub [0, 1, 2] rfl) hK rfl hl.1 rfl (Nat.le_of_ble_eq_true rfl) dX7_add_110 ⟨show 2 ≤ 2 by omega, show ((0 + (2 * sz)) + ((2 * sz))) ≤ (4 * sz) by omega⟩ ?_
          refine zb_if_eq (tgt := 139) hx hb dX7_add_113 (by decide) (fun c_6 => ?_) (fun c_6 => ?_)
          · skip
            refine W.widen (k := 2) (n := 4 * sz) (by omega) (by omega) ?_
            exact zr_wrV (u := (f1, f2, HP1, KY1)) rfl (show (plist HP1 (sz + 1)).Perm (plist HP sz ++ [val]) ∧ kyB KY1 from ⟨j2.trans (by rw [hp0]), j3⟩) (hP.sub [0, 1, 2] rfl) (hD.sub [0, 1, 2] (by decide) rfl) hS hx hb hr hlocks dX7_add_139
          · skip
            refine lv_aload_n hx hb dX7_add_116 rfl (lv_at hl 1 rfl) ?_
            refine lv_iload hx hb dX7_add_117 (lv_at hl 0 rfl) ?_
            refine lv_iload hx hb dX7_add_119 (lv_at hl 0 rfl) ?_
            refine lv_iconst (v := nI 1) hx hb dX7_add_121 (by decide) ?_
            refine zn_isub hx hb (by omega) dX7_add_122 ?_
            refine lv_iconst (v := nI 2) hx hb dX7_add_123 (by decide) ?_
            refine zn_idiv hx hb (by omega) (by decide) (by decide) dX7_add_124 ?_
            refine zc_wrV (rest := []) (wr := []) ⟨hx, hb, hml, hown, hts⟩ (metX7_swap lG D dA h0 f1 f2 (2 * sz) (sz + 1) HP1 KY1 x ((x - 1) / 2) (by first | assumption | omega) (by first | assumption | omega) (by first | assumption | omega)) (cwV 2 hts (lw_V q448 q450 qs5 q77 q451) rfl rfl rfl (by decide +kernel) ⟨Nat.le_of_ble_eq_true rfl, Nat.le_of_ble_eq_true rfl⟩) (va_recv hK.1 hP (ci := 6) (q0 := 0) rfl rfl) hP hK hD hS hA [0, 1, 2] [] rfl rfl (by decide) (by decide) (by decide) rfl hl.1 rfl (Nat.le_of_ble_eq_true rfl) dX7_add_125 ⟨show 2 ≤ 2 by omega, show ((0 + (2 * sz)) + ((2 * sz))) ≤ (4 * sz) by omega⟩ (fun u H locs hp_7 hP hD hS => ?_)
            have hP : va_P D zCl [(h0, .inr (6, [.ref f1, .ref f2, .int (nI ((sz + 1)))])), (f1, .inl (dA 0, (2 * sz), .inl fun j => nI ((updZ (updZ HP1 x (HP1 ((x - 1) / 2))) ((x - 1) / 2) (HP1 x)) j))), (f2, .inl (dA 1, (2 * sz), .inr (.inl fun j => lZ ((updZ (updZ KY1 x (KY1 ((x - 1) / 2))) ((x - 1) / 2) (KY1 x)) j))))] H := hP
            have hD : va_D A [(h0, .inr (6, [.ref f1, .ref f2, .int (nI ((sz + 1)))])), (f1, .inl (dA 0, (2 * sz), .inl fun j => nI ((updZ (updZ HP1 x (HP1 ((x - 1) / 2))) ((x - 1) / 2) (HP1 x)) j))), (f2, .inl (dA 1, (2 * sz), .inr (.inl fun j => lZ ((updZ (updZ KY1 x (KY1 ((x - 1) / 2))) ((x - 1) / 2) (KY1 x)) j))))] := hD
            show W _ _ _ _ _ _ _ _ _ _ _ _ 2 ((0 + (2 * sz)) + ((2 * sz))) _ (F0 mG 128 ls [])
            refine lv_iload hx hb dX7_add_128 (lv_at hl 0 rfl) ?_
            refine lv_iconst (v := nI 1) hx hb dX7_add_130 (by decide) ?_
            refine zn_isub hx hb (by omega) dX7_add_131 ?_
            refine lv_iconst (v := nI 2) hx hb dX7_add_132 (by decide) ?_
            refine zn_idiv hx hb (by omega) (by decide) (by decide) dX7_add_133 ?_
            refine lv_istore (lv' := [(4, .int (nI ((x - 1) / 2))), (0, .ref h0), (1, .long (lZ ky)), (3, .int (nI val))]) hx hb dX7_add_134 hl (by decide) rfl (fun ls hl => ?_)
            refine lv_goto (tgt := 96) hx hb dX7_add_136 (by decide) ?_
            exact ih96 ((x - 1) / 2) (updZ (updZ HP1 x (HP1 ((x - 1) / 2))) ((x - 1) / 2) (HP1 x)) (updZ (updZ KY1 x (KY1 ((x - 1) / 2))) ((x - 1) / 2) (KY1 x)) f1 f2 (by first | assumption | omega) ((plist_swap (by omega) (by omega)).trans j2) (fun k => updZ_all (updZ_all j3 (j3 _)) (j3 _) k) (by omega) _ _ (hP.sub [0, 1, 2] rfl) (hD.sub [0, 1, 2] (by decide) rfl) hS _ (lv_sub hl [0, 1, 2, 3] rfl)
    exact loop96 (sz + 1) sz (updZ (zcpy HP (fun _ => 0) nc) sz val) (updZ (zcpy KY (fun _ => (0 : Int)) sz) sz ky) qn_3 q_2 (Nat.le_refl _) (List.Perm.refl _) hky0 (Nat.lt_succ_self _) _ _ (hP.sub [0, 4, 2] rfl) (hD.sub [0, 4, 2] (by decide) rfl) hS _ (lv_sub hl [0, 1, 2, 3] rfl)
theorem lst_step1 {HP : Nat → Nat} {KY : Nat → Int} {sz a k b : Nat} (hi : (k = 2 * a + 1 ∧ b = a) ∨ (k = 2 * a + 2 ∧ 2 * a + 1 < sz ∧ b = lst1 HP KY sz a) ∨ (k = 2 * a + 3 ∧ 2 * a + 2 < sz ∧ b = lst HP KY sz a)) (h1 : k ≤ 2 * a + 2) (h2 : k < sz) (hb : bef HP KY k b = true) : (k + 1 = 2 * a + 1 ∧ k = a) ∨ (k + 1 = 2 * a + 2 ∧ 2 * a + 1 < sz ∧ k = lst1 HP KY sz a) ∨ (k + 1 = 2 * a + 3 ∧ 2 * a + 2 < sz ∧ k = lst HP KY sz a) := by
  rcases hi with ⟨e1, e2⟩ | ⟨e1, e3, e2⟩ | ⟨e1, e3, e2⟩
  · subst e1; subst e2; exact Or.inr (Or.inl ⟨by omega, h2, by unfold lst1; rw [if_pos h2, if_pos hb]⟩)
  · subst e1; subst e2; exact Or.inr (Or.inr ⟨by omega, h2, by unfold lst; rw [if_pos h2, if_pos hb]⟩)
  · omega
theorem lst_step2 {HP : Nat → Nat} {KY : Nat → Int} {sz a k b : Nat} (hi : (k = 2 * a + 1 ∧ b = a) ∨ (k = 2 * a + 2 ∧ 2 * a + 1 < sz ∧ b = lst1 HP KY sz a) ∨ (k = 2 * a + 3 ∧ 2 * a + 2 < sz ∧ b = lst HP KY sz a)) (h1 : k ≤ 2 * a + 2) (h2 : k < sz) (hb : bef HP KY k b = false) : (k + 1 = 2 * a + 1 ∧ b = a) ∨ (k + 1 = 2 * a + 2 ∧ 2 * a + 1 < sz ∧ b = lst1 HP KY sz a) ∨ (k + 1 = 2 * a + 3 ∧ 2 * a + 2 < sz ∧ b = lst HP KY sz a) := by
  rcases hi with ⟨e1, e2⟩ | ⟨e1, e3, e2⟩ | ⟨e1, e3, e2⟩
  · subst e1; subst e2; exact Or.inr (Or.inl ⟨by omega, h2, by unfold lst1; rw [if_pos h2, if_neg (by rw [hb]; decide)]⟩)
  · subst e1; subst e2; exact Or.inr (Or.inr ⟨by omega, h2, by unfold lst; rw [if_pos h2, if_neg (by rw [hb]; decide)]⟩)
  · omega
theorem lst_end {HP : Nat → Nat} {KY : Nat → Int} {sz a k b : Nat} (hi : (k = 2 * a + 1 ∧ b = a) ∨ (k = 2 * a + 2 ∧ 2 * a + 1 < sz ∧ b = lst1 HP KY sz a) ∨ (k = 2 * a + 3 ∧ 2 * a + 2 < sz ∧ b = lst HP KY sz a)) (h : 2 * a + 2 < k ∨ sz ≤ k) : b = lst HP KY sz a := by
  rcases hi with ⟨e1, e2⟩ | ⟨e1, e3, e2⟩ | ⟨e1, e3, e2⟩
  · rw [e2]; unfold lst; rw [if_neg (by omega)]; unfold lst1; rw [if_neg (by omega)]
  · rw [e2]; unfold lst; rw [if_neg (by omega)]
  · exact e2
theorem lt_swap {f : Nat → Nat} {n B a b : Nat} (h : ∀ k, k < n → f k < B) (ha : a < n) (hb : b < n) : ∀ k, k < n → updZ (updZ f a (f b)) b (f a) k < B := by
  intro k hk
  by_cases q : k = b
  · rw [q, updZ_s]; exact h a ha
  · rw [updZ_n q]
    by_cases w : k = a
    · rw [w, updZ_s]; exact h b hb
    · rw [updZ_n w]; exact h k hk
set_option maxHeartbeats 4000000 in
set_option maxRecDepth 100000 in
theorem metX7_least (lG : Launch) (D : va_G) (dA : Nat → ClassId) (h0 : Nat) (k1 : Nat) (k2 : Nat) (nc : Nat) (sz : Nat) (HP : Nat → Nat) (KY : Nat → Int) (a : Nat) (hnc : nc ≤ 4096) (hsz : sz ≤ nc) (ha : a < nc) (hK0 : kyB KY) (hHP : ∀ k, k < sz → HP k < 4096) : Ro lG yX7_least (ws_ yX7_least cX7_least 4 (some .int)) 1 22 D dA [.ref h0, .int (nI a)] [(h0, .inr (6, [.ref k1, .ref k2, .int (nI sz)])), (k1, .inl (dA 0, nc, .inl fun j => nI (HP j))), (k2, .inl (dA 1, nc, .inr (.inl fun j => lZ (KY j))))] (some (.int (nI (lst HP KY sz a)))) := by
  refine Ro.of (by decide) (Nat.le_of_ble_eq_true rfl) ?_
  intro pG eG sG mG bG tG cG ls hx hb hr hml hown hts hlocks hP hK hl
  have hown : sG.vm.findClass RX7 = some mG.cls := hown
  have hl : lv_has ls 4 [(0, .ref h0), (1, .int (nI a))] := hl
  refine lv_iload_n hx hb dX7_least_0 rfl (lv_at hl 1 rfl) ?_
  refine lv_istore_n (lv' := [(2, .int (nI a)), (0, .ref h0), (1, .int (nI a))]) hx hb dX7_least_1 rfl hl (by decide) rfl (fun ls hl => ?_)
  refine lv_iconst (v := nI 2) hx hb dX7_least_2 (by decide) ?_
  refine lv_iload_n hx hb dX7_least_3 rfl (lv_at hl 2 rfl) ?_
  refine zn_imul hx hb dX7_least_4 ?_
  refine lv_iconst (v := nI 1) hx hb dX7_least_5 (by decide) ?_
  refine zn_iadd hx hb dX7_least_6 ?_
  refine lv_istore_n (lv' := [(3, .int (nI ((2 * a) + 1))), (2, .int (nI a)), (0, .ref h0), (1, .int (nI a))]) hx hb dX7_least_7 rfl hl (by decide) rfl (fun ls hl => ?_)
  have loop8 : ∀ (n8 : Nat) (k : Nat) (b : Nat), ((k = 2 * a + 1 ∧ b = a) ∨ (k = 2 * a + 2 ∧ 2 * a + 1 < sz ∧ b = lst1 HP KY sz a) ∨ (k = 2 * a + 3 ∧ 2 * a + 2 < sz ∧ b = lst HP KY sz a)) → (b < nc) → (b < k) → 2 * a + 4 - k < n8 → ∀ (ls : Array Slot), lv_has ls 4 [(3, .int (nI k)), (2, .int (nI b)), (0, .ref h0), (1, .int (nI a))] → W pG lG eG (zRoom 1 0 0 22) sG mG [.ref h0, .int (nI a)].toArray bG tG cG sG.heap [] 0 0 (MQ bG (roQ (some (.int (nI (lst HP KY sz a)))) sG.heap) [.ref h0, .int (nI a)].toArray sG 0 0 (fun _ => False)) (F0 mG 8 ls []) := by
    intro n8
    induction n8 with
    | zero => intro k b hi hbn hbk hm; exact absurd hm (Nat.not_lt_zero _)
    | succ n8 ih8 =>
      intro k b hi hbn hbk hm8 ls hl
      refine lv_iload_n hx hb dX7_least_8 rfl (lv_at hl 0 rfl) ?_
      refine lv_iconst (v := nI 2) hx hb dX7_least_9 (by decide) ?_
      refine lv_iload_n hx hb dX7_least_10 rfl (lv_at hl 3 rfl) ?_
      refine zn_imul hx hb dX7_least_11 ?_
      refine lv_iconst (v := nI 2) hx hb dX7_least_12 (by decide) ?_
      refine zn_iadd hx hb dX7_least_13 ?_
      refine zn_icmp_gt (tgt := 46) hx hb (by omega) (by omega) dX7_least_14 (by decide) (fun c_1 => ?_) (fun c_1 => ?_)
      · skip
        refine lv_iload_n hx hb dX7_least_46 rfl (lv_at hl 1 rfl) ?_
        exact zr_roI (by rw [lst_end hi (by omega)]) hx hb hr hlocks dX7_least_47
      · skip
        refine lv_iload_n hx hb dX7_least_17 rfl (lv_at hl 0 rfl) ?_
        refine lv_aload_n hx hb dX7_least_18 rfl (lv_at hl 2 rfl) ?_
        refine va_get (D := D) (ci := 6) (v := .int (nI sz)) (C := RX7) (T := TX7) (N := 3) hx hb hts in_X7 hown hK.1 hP 0 rfl rfl 2 (Nat.le_of_ble_eq_true rfl) (hts _ q213) (fun _ h9 => h9) rfl dX7_least_19 ?_
        refine zn_icmp_ge (tgt := 46) hx hb (by omega) (by omega) dX7_least_22 (by decide) (fun c_2 => ?_) (fun c_2 => ?_)
        · skip
          refine lv_iload_n hx hb dX7_least_46 rfl (lv_at hl 1 rfl) ?_
          exact zr_roI (by rw [lst_end hi (by omega)]) hx hb hr hlocks dX7_least_47
        · skip
          refine lv_aload_n hx hb dX7_least_25 rfl (lv_at hl 2 rfl) ?_
          refine lv_iload_n hx hb dX7_least_26 rfl (lv_at hl 0 rfl) ?_
          refine lv_iload_n hx hb dX7_least_27 rfl (lv_at hl 1 rfl) ?_
          refine zc_roV (v := .int (bI (bef HP KY k b))) (rest := []) ⟨hx, hb, hml, hown, hts⟩ (metX7_before lG D dA h0 k1 k2 nc sz HP KY k b (by first | assumption | omega) (by first | assumption | omega) (by first | assumption | omega) (by first | assumption | omega) (hHP _ (by omega)) (hHP _ (by omega))) (cwV 2 hts (lw_V q444 q446 qs4 q77 q447) rfl rfl rfl (by decide +kernel) ⟨Nat.le_of_ble_eq_true rfl, Nat.le_of_ble_eq_true rfl⟩) (va_recv hK.1 hP (ci := 6) (q0 := 0) rfl rfl) (hP.sub [0, 1, 2] rfl) hK rfl hl.1 rfl (Nat.le_of_ble_eq_true rfl) dX7_least_28 ⟨Nat.zero_le _, Nat.zero_le _⟩ ?_
          refine zb_if_eq (tgt := 38) hx hb dX7_least_31 (by decide) (fun c_3 => ?_) (fun c_3 => ?_)
          · skip
            refine lv_iload_n hx hb dX7_least_38 rfl (lv_at hl 1 rfl) ?_
            refine lv_istore_n (lv' := [(2, .int (nI b)), (3, .int (nI k)), (0, .ref h0), (1, .int (nI a))]) hx hb dX7_least_39 rfl hl (by decide) rfl (fun ls hl => ?_)
            refine lv_iinc (v := nI (k + 1)) (lv' := [(3, .int (nI (k + 1))), (2, .int (nI b)), (0, .ref h0), (1, .int (nI a))]) hx hb dX7_least_40 hl (k := 1) rfl (nI_add _ _) (by decide) rfl (fun ls hl => ?_)
            refine lv_goto (tgt := 8) hx hb dX7_least_43 (by decide) ?_
            exact ih8 (k + 1) b (by first | exact lst_step1 hi (by omega) (by omega) (by assumption) | exact lst_step2 hi (by omega) (by omega) (by assumption)) (by first | assumption | omega) (by first | assumption | omega) (by omega) _ (lv_sub hl [0, 1, 2, 3] rfl)
          · skip
            refine lv_iload_n hx hb dX7_least_34 rfl (lv_at hl 0 rfl) ?_
            refine lv_goto (tgt := 39) hx hb dX7_least_35 (by decide) ?_
            refine lv_istore_n (lv' := [(2, .int (nI k)), (3, .int (nI k)), (0, .ref h0), (1, .int (nI a))]) hx hb dX7_least_39 rfl hl (by decide) rfl (fun ls hl => ?_)
            refine lv_iinc (v := nI (k + 1)) (lv' := [(3, .int (nI (k + 1))), (2, .int (nI k)), (0, .ref h0), (1, .int (nI a))]) hx hb dX7_least_40 hl (k := 1) rfl (nI_add _ _) (by decide) rfl (fun ls hl => ?_)
            refine lv_goto (tgt := 8) hx hb dX7_least_43 (by decide) ?_
            exact ih8 (k + 1) k (by first | exact lst_step1 hi (by omega) (by omega) (by assumption) | exact lst_step2 hi (by omega) (by omega) (by assumption)) (by first | assumption | omega) (by first | assumption | omega) (by omega) _ (lv_sub hl [0, 1, 2, 3] rfl)
  exact loop8 (2 * a + 4 - ((2 * a) + 1) + 1) ((2 * a) + 1) a (Or.inl ⟨rfl, rfl⟩) (by first | assumption | omega) (by first | assumption | omega) (Nat.lt_succ_self _) _ (lv_sub hl [0, 1, 2, 3] rfl)
set_option maxHeartbeats 4000000 in
set_option maxRecDepth 100000 in
theorem metX7_take (lG : Launch) (D : va_G) (dA : Nat → ClassId) (h0 : Nat) (k1 : Nat) (k2 : Nat) (nc : Nat) (sz : Nat) (HP : Nat → Nat) (KY : Nat → Int) (hnc : nc ≤ 4096) (hsz : sz ≤ nc) (hsz0 : 1 ≤ sz) (hK0 : kyB KY) (hHP : ∀ k, k < sz → HP k < 4096) : Wr lG yX7_take (ws_ yX7_take cX7_take 4 (some .int)) 2 45 D dA [.ref h0] [(h0, .inr (6, [.ref k1, .ref k2, .int (nI sz)])), (k1, .inl (dA 0, nc, .inl fun j => nI (HP j))), (k2, .inl (dA 1, nc, .inr (.inl fun j => lZ (KY j))))] 0 0 (fun (u : (Nat → Nat) × (Nat → Int)) => let HP2 := u.1; let KY2 := u.2; (plist HP2 (sz - 1) ++ [HP 0]).Perm (plist HP sz) ∧ kyB KY2 ∧ (∀ k, k < sz - 1 → HP2 k < 4096)) (fun (u : (Nat → Nat) × (Nat → Int)) => let HP2 := u.1; let KY2 := u.2; some (.int (nI (HP 0)))) (fun (u : (Nat → Nat) × (Nat → Int)) => let HP2 := u.1; let KY2 := u.2; [(h0, .inr (6, [.ref k1, .ref k2, .int (nI (sz - 1))])), (k1, .inl (dA 0, nc, .inl fun j => nI (HP2 j))), (k2, .inl (dA 1, nc, .inr (.inl fun j => lZ (KY2 j))))]) := by
  refine Wr.of (by decide) (Nat.le_of_ble_eq_true rfl) ?_
  intro pG eG sG mG bG tG cG ls A hx hb hr hml hown hts hlocks hnm hP hK hD hS hA hl
  have hK1 := hK.1
  have hown : sG.vm.findClass RX7 = some mG.cls := hown
  have hl : lv_has ls 4 [(0, .ref h0)] := hl
  refine lv_aload_n hx hb dX7_take_0 rfl (lv_at hl 0 rfl) ?_
  refine va_get (D := D) (ci := 6) (v := .ref k1) (C := RX7) (T := TX7) (N := 3) hx hb hts in_X7 hown hK.1 hP 0 rfl rfl 0 (Nat.le_of_ble_eq_true rfl) (hts _ q211) (fun _ h9 => h9) rfl dX7_take_1 ?_
  refine lv_iconst (v := nI 0) hx hb dX7_take_4 (by decide) ?_
  refine zn_iaload (f := HP) (i := 0) hx hb hK.1 hP 1 0 rfl rfl (by omega) (by omega) dX7_take_5 ?_
  refine lv_istore_n (lv' := [(1, .int (nI (HP 0))), (0, .ref h0)]) hx hb dX7_take_6 rfl hl (by decide) rfl (fun ls hl => ?_)
  refine lv_aload_n hx hb dX7_take_7 rfl (lv_at hl 1 rfl) ?_
  refine lv_dup hx hb dX7_take_8 rfl ?_
  refine va_get (D := D) (ci := 6) (v := .int (nI sz)) (C := RX7) (T := TX7) (N := 3) hx hb hts in_X7 hown hK.1 hP 0 rfl rfl 2 (Nat.le_of_ble_eq_true rfl) (hts _ q213) (fun _ h9 => h9) rfl dX7_take_9 ?_
  refine lv_iconst (v := nI 1) hx hb dX7_take_12 (by decide) ?_
  refine zn_isub hx hb (by omega) dX7_take_13 ?_
  refine va_put (D := D) (ci := 6) (v := .int (nI (sz - 1))) (ty := .int) (C := RX7) (T := TX7) (N := 3) hx hb hts in_X7 tyX7 tyX7_ok nmX7 hown hK.1 hP hD hS 0 rfl rfl 2 (Nat.le_of_ble_eq_true rfl) (hts _ q213) (fun _ h9 => h9) rfl (by decide +kernel) rfl rfl (Nat.le_of_ble_eq_true rfl) dX7_take_14 (fun H locs hP hD hS => ?_)
  have hP : va_P D zCl [(h0, .inr (6, [.ref k1, .ref k2, .int (nI (sz - 1))])), (k1, .inl (dA 0, nc, .inl fun j => nI (HP j))), (k2, .inl (dA 1, nc, .inr (.inl fun j => lZ (KY j))))] H := hP
  have hD : va_D A [(h0, .inr (6, [.ref k1, .ref k2, .int (nI (sz - 1))])), (k1, .inl (dA 0, nc, .inl fun j => nI (HP j))), (k2, .inl (dA 1, nc, .inr (.inl fun j => lZ (KY j))))] := hD
  refine lv_aload_n hx hb dX7_take_17 rfl (lv_at hl 1 rfl) ?_
  refine va_get (D := D) (ci := 6) (v := .ref k1) (C := RX7) (T := TX7) (N := 3) hx hb hts in_X7 hown hK.1 hP 0 rfl rfl 0 (Nat.le_of_ble_eq_true rfl) (hts _ q211) (fun _ h9 => h9) rfl dX7_take_18 ?_
  refine lv_iconst (v := nI 0) hx hb dX7_take_21 (by decide) ?_
  refine lv_aload_n hx hb dX7_take_22 rfl (lv_at hl 1 rfl) ?_
  refine va_get (D := D) (ci := 6) (v := .ref k1) (C := RX7) (T := TX7) (N := 3) hx hb hts in_X7 hown hK.1 hP 0 rfl rfl 0 (Nat.le_of_ble_eq_true rfl) (hts _ q211) (fun _ h9 => h9) rfl dX7_take_23 ?_
  refine lv_aload_n hx hb dX7_take_26 rfl (lv_at hl 1 rfl) ?_
  refine va_get (D := D) (ci := 6) (v := .int (nI (sz - 1))) (C := RX7) (T := TX7) (N := 3) hx hb hts in_X7 hown hK.1 hP 0 rfl rfl 2 (Nat.le_of_ble_eq_true rfl) (hts _ q213) (fun _ h9 => h9) rfl dX7_take_27 ?_
  refine zn_iaload (f := HP) (i := sz - 1) hx hb hK.1 hP 1 0 rfl rfl (by omega) (by omega) dX7_take_30 ?_
  refine zn_iastore (f := HP) (i := 0) (x := HP (sz - 1)) hx hb hK.1 hP hD hS 1 0 rfl rfl (by omega) (by omega) dX7_take_31 (fun H locs hP hD hS => ?_)
  have hP : va_P D zCl [(h0, .inr (6, [.ref k1, .ref k2, .int (nI (sz - 1))])), (k1, .inl (dA 0, nc, .inl fun j => nI ((updZ HP 0 (HP (sz - 1))) j))), (k2, .inl (dA 1, nc, .inr (.inl fun j => lZ (KY j))))] H := hP
  have hD : va_D A [(h0, .inr (6, [.ref k1, .ref k2, .int (nI (sz - 1))])), (k1, .inl (dA 0, nc, .inl fun j => nI ((updZ HP 0 (HP (sz - 1))) j))), (k2, .inl (dA 1, nc, .inr (.inl fun j => lZ (KY j))))] := hD
  refine lv_aload_n hx hb dX7_take_32 rfl (lv_at hl 1 rfl) ?_
  refine va_get (D := D) (ci := 6) (v := .ref k2) (C := RX7) (T := TX7) (N := 3) hx hb hts in_X7 hown hK.1 hP 0 rfl rfl 1 (Nat.le_of_ble_eq_true rfl) (hts _ q212) (fun _ h9 => h9) rfl dX7_take_33 ?_
  refine lv_iconst (v := nI 0) hx hb dX7_take_36 (by decide) ?_
  refine lv_aload_n hx hb dX7_take_37 rfl (lv_at hl 1 rfl) ?_
  refine va_get (D := D) (ci := 6) (v := .ref k2) (C := RX7) (T := TX7) (N := 3) hx hb hts in_X7 hown hK.1 hP 0 rfl rfl 1 (Nat.le_of_ble_eq_true rfl) (hts _ q212) (fun _ h9 => h9) rfl dX7_take_38 ?_
  refine lv_aload_n hx hb dX7_take_41 rfl (lv_at hl 1 rfl) ?_
  refine va_get (D := D) (ci := 6) (v := .int (nI (sz - 1))) (C := RX7) (T := TX7) (N := 3) hx hb hts in_X7 hown hK.1 hP 0 rfl rfl 2 (Nat.le_of_ble_eq_true rfl) (hts _ q213) (fun _ h9 => h9) rfl dX7_take_42 ?_
  refine zz_laload (f := KY) (i := sz - 1) hx hb hK.1 hP 2 1 rfl rfl (by omega) (by omega) dX7_take_45 ?_
  refine zz_lastore (f := KY) (i := 0) (x := KY (sz - 1)) hx hb hK.1 hP hD hS 2 1 rfl rfl (by omega) (by omega) dX7_take_46 (fun H locs hP hD hS => ?_)
  have hP : va_P D zCl [(h0, .inr (6, [.ref k1, .ref k2, .int (nI (sz - 1))])), (k1, .inl (dA 0, nc, .inl fun j => nI ((updZ HP 0 (HP (sz - 1))) j))), (k2, .inl (dA 1, nc, .inr (.inl fun j => lZ ((updZ KY 0 (KY (sz - 1))) j))))] H := hP
  have hD : va_D A [(h0, .inr (6, [.ref k1, .ref k2, .int (nI (sz - 1))])), (k1, .inl (dA 0, nc, .inl fun j => nI ((updZ HP 0 (HP (sz - 1))) j))), (k2, .inl (dA 1, nc, .inr (.inl fun j => lZ ((updZ KY 0 (KY (sz - 1))) j))))] := hD
  refine lv_iconst (v := nI 0) hx hb dX7_take_47 (by decide) ?_
  refine lv_istore_n (lv' := [(2, .int (nI 0)), (1, .int (nI (HP 0))), (0, .ref h0)]) hx hb dX7_take_48 rfl hl (by decide) rfl (fun ls hl => ?_)
  refine lv_aload_n hx hb dX7_take_49 rfl (lv_at hl 2 rfl) ?_
  refine lv_iconst (v := nI 0) hx hb dX7_take_50 (by decide) ?_
  refine zc_roV (v := .int (nI (lst (updZ HP 0 (HP (sz - 1))) (updZ KY 0 (KY (sz - 1))) (sz - 1) 0))) (rest := []) ⟨hx, hb, hml, hown, hts⟩ (metX7_least lG D dA h0 k1 k2 nc (sz - 1) (updZ HP 0 (HP (sz - 1))) (updZ KY 0 (KY (sz - 1))) 0 (by first | assumption | omega) (by first | assumption | omega) (by first | assumption | omega) (kyB_upd hK0 (hK0 _)) (fun k hk => by by_cases q : k = 0; rw [q, updZ_s]; exact hHP _ (by omega); rw [updZ_n q]; exact hHP k (by omega))) (cwV 1 hts (lw_V q456 q458 qs6 q77 q459) rfl rfl rfl (by decide +kernel) ⟨Nat.le_of_ble_eq_true rfl, Nat.le_of_ble_eq_true rfl⟩) (va_recv hK.1 hP (ci := 6) (q0 := 0) rfl rfl) (hP.sub [0, 1, 2] rfl) hK rfl hl.1 rfl (Nat.le_of_ble_eq_true rfl) dX7_take_51 ⟨Nat.zero_le _, Nat.zero_le _⟩ ?_
  refine lv_istore_n (lv' := [(3, .int (nI (lst (updZ HP 0 (HP (sz - 1))) (updZ KY 0 (KY (sz - 1))) (sz - 1) 0))), (2, .int (nI 0)), (1, .int (nI (HP 0))), (0, .ref h0)]) hx hb dX7_take_54 rfl hl (by decide) rfl (fun ls hl => ?_)
  have loop55 : ∀ (n55 : Nat) (x : Nat) (HP1 : Nat → Nat) (KY1 : Nat → Int), (x < nc) → (x < sz - 1 ∨ x = 0) → ((plist HP1 (sz - 1)).Perm (plist (updZ HP 0 (HP (sz - 1))) (sz - 1))) → (kyB KY1) → (∀ k, k < sz - 1 → HP1 k < 4096) → sz - x < n55 → ∀ (H : Heap) (locs : List Loc), va_P D zCl [(h0, .inr (6, [.ref k1, .ref k2, .int (nI (sz - 1))])), (k1, .inl (dA 0, nc, .inl fun j => nI (HP1 j))), (k2, .inl (dA 1, nc, .inr (.inl fun j => lZ (KY1 j))))] H → va_D A [(h0, .inr (6, [.ref k1, .ref k2, .int (nI (sz - 1))])), (k1, .inl (dA 0, nc, .inl fun j => nI (HP1 j))), (k2, .inl (dA 1, nc, .inr (.inl fun j => lZ (KY1 j))))] → va_S A sG.heap H locs → ∀ (ls : Array Slot), lv_has ls 4 [(3, .int (nI (lst HP1 KY1 (sz - 1) x))), (2, .int (nI x)), (1, .int (nI (HP 0))), (0, .ref h0)] → W pG lG eG (zRoom 2 0 0 45) sG mG [.ref h0].toArray bG tG cG H locs 0 0 (MQ bG (wrQ D (fun (u : (Nat → Nat) × (Nat → Int)) => let HP2 := u.1; let KY2 := u.2; (plist HP2 (sz - 1) ++ [HP 0]).Perm (plist HP sz) ∧ kyB KY2 ∧ (∀ k, k < sz - 1 → HP2 k < 4096)) (fun (u : (Nat → Nat) × (Nat → Int)) => let HP2 := u.1; let KY2 := u.2; some (.int (nI (HP 0)))) (fun (u : (Nat → Nat) × (Nat → Int)) => let HP2 := u.1; let KY2 := u.2; [(h0, .inr (6, [.ref k1, .ref k2, .int (nI (sz - 1))])), (k1, .inl (dA 0, nc, .inl fun j => nI (HP2 j))), (k2, .inl (dA 1, nc, .inr (.inl fun j => lZ (KY2 j))))]) A) [.ref h0].toArray sG 0 0 A) (F0 mG 55 ls []) := by
    intro n55
    induction n55 with
    | zero => intro x HP1 KY1 j1 j0 j2 j3 j4 hm; exact absurd hm (Nat.not_lt_zero _)
    | succ n55 ih55 =>
      intro x HP1 KY1 j1 j0 j2 j3 j4 hm55 H locs hP hD hS ls hl
      have hli := lst_in (HP := HP1) (KY := KY1) (sz := sz - 1) (a := x)
      refine lv_iload_n hx hb dX7_take_55 rfl (lv_at hl 0 rfl) ?_
      refine lv_iload_n hx hb dX7_take_56 rfl (lv_at hl 1 rfl) ?_
      refine zn_icmp_eq (tgt := 77) hx hb (by omega) (by omega) dX7_take_57 (by decide) (fun c_1 => ?_) (fun c_1 => ?_)
      · skip
        refine lv_iload_n hx hb dX7_take_77 rfl (lv_at hl 2 rfl) ?_
        exact zr_wrI (u := (HP1, KY1)) rfl (show (plist HP1 (sz - 1) ++ [HP 0]).Perm (plist HP sz) ∧ kyB KY1 ∧ (∀ k, k < sz - 1 → HP1 k < 4096) from ⟨(j2.append_right _).trans (plist_take hsz0), j3, j4⟩) (hP.sub [0, 1, 2] rfl) (hD.sub [0, 1, 2] (by decide) rfl) hS hx hb hr hlocks dX7_take_78
      · skip
        refine lv_aload_n hx hb dX7_take_60 rfl (lv_at hl 3 rfl) ?_
        refine lv_iload_n hx hb dX7_take_61 rfl (lv_at hl 1 rfl) ?_
        refine lv_iload_n hx hb dX7_take_62 rfl (lv_at hl 0 rfl) ?_
        refine zc_wrV (rest := []) (wr := []) ⟨hx, hb, hml, hown, hts⟩ (metX7_swap lG D dA h0 k1 k2 nc (sz - 1) HP1 KY1 x (lst HP1 KY1 (sz - 1) x) (by first | assumption | omega) (by first | assumption | omega) (by first | assumption | omega)) (cwV 2 hts (lw_V q448 q450 qs5 q77 q451) rfl rfl rfl (by decide +kernel) ⟨Nat.le_of_ble_eq_true rfl, Nat.le_of_ble_eq_true rfl⟩) (va_recv hK.1 hP (ci := 6) (q0 := 0) rfl rfl) hP hK hD hS hA [0, 1, 2] [] rfl rfl (by decide) (by decide) (by decide) rfl hl.1 rfl (Nat.le_of_ble_eq_true rfl) dX7_take_63 ⟨Nat.zero_le _, Nat.zero_le _⟩ (fun u H locs hp_2 hP hD hS => ?_)
        have hP : va_P D zCl [(h0, .inr (6, [.ref k1, .ref k2, .int (nI ((sz - 1)))])), (k1, .inl (dA 0, nc, .inl fun j => nI ((updZ (updZ HP1 x (HP1 (lst HP1 KY1 (sz - 1) x))) (lst HP1 KY1 (sz - 1) x) (HP1 x)) j))), (k2, .inl (dA 1, nc, .inr (.inl fun j => lZ ((updZ (updZ KY1 x (KY1 (lst HP1 KY1 (sz - 1) x))) (lst HP1 KY1 (sz - 1) x) (KY1 x)) j))))] H := hP
        have hD : va_D A [(h0, .inr (6, [.ref k1, .ref k2, .int (nI ((sz - 1)))])), (k1, .inl (dA 0, nc, .inl fun j => nI ((updZ (updZ HP1 x (HP1 (lst HP1 KY1 (sz - 1) x))) (lst HP1 KY1 (sz - 1) x) (HP1 x)) j))), (k2, .inl (dA 1, nc, .inr (.inl fun j => lZ ((updZ (updZ KY1 x (KY1 (lst HP1 KY1 (sz - 1) x))) (lst HP1 KY1 (sz - 1) x) (KY1 x)) j))))] := hD
        show W _ _ _ _ _ _ _ _ _ _ _ _ 0 0 _ (F0 mG 66 ls [])
        refine lv_iload_n hx hb dX7_take_66 rfl (lv_at hl 0 rfl) ?_
        refine lv_istore_n (lv' := [(2, .int (nI (lst HP1 KY1 (sz - 1) x))), (3, .int (nI (lst HP1 KY1 (sz - 1) x))), (1, .int (nI (HP 0))), (0, .ref h0)]) hx hb dX7_take_67 rfl hl (by decide) rfl (fun ls hl => ?_)
        refine lv_aload_n hx hb dX7_take_68 rfl (lv_at hl 3 rfl) ?_
        refine lv_iload_n hx hb dX7_take_69 rfl (lv_at hl 0 rfl) ?_
        refine zc_roV (v := .int (nI (lst (updZ (updZ HP1 x (HP1 (lst HP1 KY1 (sz - 1) x))) (lst HP1 KY1 (sz - 1) x) (HP1 x)) (updZ (updZ KY1 x (KY1 (lst HP1 KY1 (sz - 1) x))) (lst HP1 KY1 (sz - 1) x) (KY1 x)) ((sz - 1)) (lst HP1 KY1 (sz - 1) x)))) (rest := []) ⟨hx, hb, hml, hown, hts⟩ (metX7_least lG D dA h0 k1 k2 nc ((sz - 1)) (updZ (updZ HP1 x (HP1 (lst HP1 KY1 (sz - 1) x))) (lst HP1 KY1 (sz - 1) x) (HP1 x)) (updZ (updZ KY1 x (KY1 (lst HP1 KY1 (sz - 1) x))) (lst HP1 KY1 (sz - 1) x) (KY1 x)) (lst HP1 KY1 (sz - 1) x) (by first | assumption | omega) (by first | assumption | omega) (by first | assumption | omega) (fun k => updZ_all (updZ_all j3 (j3 _)) (j3 _) k) (lt_swap j4 (by omega) (by omega))) (cwV 1 hts (lw_V q456 q458 qs6 q77 q459) rfl rfl rfl (by decide +kernel) ⟨Nat.le_of_ble_eq_true rfl, Nat.le_of_ble_eq_true rfl⟩) (va_recv hK.1 hP (ci := 6) (q0 := 0) rfl rfl) (hP.sub [0, 1, 2] rfl) hK rfl hl.1 rfl (Nat.le_of_ble_eq_true rfl) dX7_take_70 ⟨Nat.zero_le _, Nat.zero_le _⟩ ?_
        refine lv_istore_n (lv' := [(3, .int (nI (lst (updZ (updZ HP1 x (HP1 (lst HP1 KY1 (sz - 1) x))) (lst HP1 KY1 (sz - 1) x) (HP1 x)) (updZ (updZ KY1 x (KY1 (lst HP1 KY1 (sz - 1) x))) (lst HP1 KY1 (sz - 1) x) (KY1 x)) ((sz - 1)) (lst HP1 KY1 (sz - 1) x)))), (2, .int (nI (lst HP1 KY1 (sz - 1) x))), (1, .int (nI (HP 0))), (0, .ref h0)]) hx hb dX7_take_73 rfl hl (by decide) rfl (fun ls hl => ?_)
        refine lv_goto (tgt := 55) hx hb dX7_take_74 (by decide) ?_
        exact ih55 (lst HP1 KY1 (sz - 1) x) (updZ (updZ HP1 x (HP1 (lst HP1 KY1 (sz - 1) x))) (lst HP1 KY1 (sz - 1) x) (HP1 x)) (updZ (updZ KY1 x (KY1 (lst HP1 KY1 (sz - 1) x))) (lst HP1 KY1 (sz - 1) x) (KY1 x)) (by first | assumption | omega) (by first | assumption | omega) ((plist_swap (by omega) (by omega)).trans j2) (fun k => updZ_all (updZ_all j3 (j3 _)) (j3 _) k) (lt_swap j4 (by omega) (by omega)) (by omega) _ _ (hP.sub [0, 1, 2] rfl) (hD.sub [0, 1, 2] (by decide) rfl) hS _ (lv_sub hl [0, 1, 2, 3] rfl)
  exact loop55 (sz - 0 + 1) 0 (updZ HP 0 (HP (sz - 1))) (updZ KY 0 (KY (sz - 1))) (by first | assumption | omega) (by first | assumption | omega) (List.Perm.refl _) (kyB_upd hK0 (hK0 _)) (fun k hk => by by_cases q : k = 0; rw [q, updZ_s]; exact hHP _ (by omega); rw [updZ_n q]; exact hHP k (by omega)) (Nat.lt_succ_self _) _ _ (hP.sub [0, 1, 2] rfl) (hD.sub [0, 1, 2] (by decide) rfl) hS _ (lv_sub hl [0, 1, 2, 3] rfl)
