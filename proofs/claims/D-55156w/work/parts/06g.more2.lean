/-! AN EMPTY Object[] OF THE START -/
set_option maxRecDepth 100000
section YE
variable {p : Program} {l : Launch} {e : Env} {R : Room} {s : State} {m : MethodId} {args : Array Value} {below : List Frame} {meth : Method} {c : Code} {H : Heap} {locs : List Loc} {cells slots : Nat} {Q : State → Prop}
variable {cc : ByteArray} {pc : Nat} {ls : Array Slot} {rest : List Value} {D : va_G} {cl : List vw_C} {A : Nat → Prop} {a : Nat} {tys : List (ClassId × FieldType)} {ws : va_W}
theorem y_copyE {cc : ByteArray} (hexec : p.tables.exec = Jvm.exec) (hb : c.code = cc) (hml : c.maxLocals = ls.size) {own : String} {index : Nat} (hown : s.vm.findClass own = some m.cls) (hlink : (Cond.methodLink own index arraycopyName).before args s = true) (hnat : (Cond.native arraycopyName).before args s = true) (hstat : (Cond.static arraycopyName).before args s = true) (hini : (Cond.initialized "java/lang/System").before args s = true)
    (hK : va_K D cl tys s) (hP : va_P D cl ws H) (hD : va_D A ws) (hS : va_S A s.heap H locs) {b0 : Nat} {E0 E1 : String} {f : Nat → Value} (hX : va_T (.object E0) b0 0 f A s s.heap) (q1 t1 : Nat) {c1 : ClassId} {n1 : Nat} {g : Nat → Option Nat} (ha1 : ws[q1]? = some (a, .inl (c1, n1, .inr (.inr (.inr (.inr g)))))) (ht1 : tys[t1]? = some (c1, .object E1))
    (hframes : 1 ≤ R.frames) (hlocals : (rest.map fun v => v.category).sum + (nativeFrameWords "java/lang/System" "arraycopy" 5 + 11) ≤ R.locals) (hdg : decode cc pc = .ok (.invokestatic index, 3))
    (kk : ∀ (H1 : Heap) (locs1 : List Loc), va_P D cl (ws.set q1 (a, .inl (c1, n1, .inr (.inr (.inr (.inr g)))))) H1 → va_D A (ws.set q1 (a, .inl (c1, n1, .inr (.inr (.inr (.inr g)))))) → va_S A s.heap H1 locs1 → W p l e R s m args below meth c H1 locs1 cells slots Q (F0 m (pc + 3) ls rest)) : W p l e R s m args below meth c H locs cells slots Q (F0 m pc ls (.int 0 :: .int 0 :: .ref a :: .int 0 :: .ref b0 :: rest)) := by
  intro T hT X
  obtain ⟨scr, hs1, hs2, hs3, hs4, hs7, hs5, hs8⟩ := hX
  have hbl : b0 < s.heap.size := (Array.getElem?_eq_some_iff.mp hs1).1
  have hc0 : H[b0]? = some scr := by rw [hS.2.1 b0 hbl hs8]; exact hs1
  have hc1 : H[a]? = some (vp_cell c1 (n1, .inr (.inr (.inr (.inr g))))) := hP q1 _ ha1
  obtain ⟨hs6, k0, hk0, cm0, hkk0⟩ := hs2
  obtain ⟨-, k1, hk1, cm1, hkk1⟩ := (hK.2 t1 _ ht1).1 n1 (fun j => va_rf (g j))
  obtain ⟨vm', X', step⟩ := X.arraycopy hexec hown hlink hnat hstat hini (src := b0) (dst := a) (cs := scr) (cd := vp_cell c1 (n1, .inr (.inr (.inr (.inr g))))) (srcPos := 0) (destPos := 0) (n := 0) (by rw [hT]; exact hc0) (by rw [hT]; exact hc1)
    hs6 (fun _ h => by cases h) hs3 (fun h => by cases h) hk0 hk1 hkk0 hkk1 rfl (by decide) (by decide) (by decide)
    (by show ¬ ((0 : Int) + 0 > (scr.slots.size : Int)); omega)
    (by show ¬ ((0 : Int) + 0 > ((arrV c1 n1 (fun j => va_rf (g j))).slots.size : Int)); omega)
    (fun vm₁ hal i hi => absurd hi (by show ¬ i < 0; omega))
    (g := F0 m pc ls (.int 0 :: .int 0 :: .ref a :: .int 0 :: .ref b0 :: rest)) rfl (by rw [hml]) (rest := rest) rfl (by rw [hb]; exact hdg) hframes (by show 2 * 0 + _ + _ ≤ _; omega)
  have e1 : copied scr (vp_cell c1 (n1, .inr (.inr (.inr (.inr g))))) 0 0 0 = vp_cell c1 (n1, .inr (.inr (.inr (.inr g)))) := by
    show (vp_cell c1 (n1, .inr (.inr (.inr (.inr g))))).storeRun 0 (scr.stretch 0 0) = _
    rfl
  rw [e1] at X' step
  have hl : a < H.size := (Array.getElem?_eq_some_iff.mp hc1).1
  have hheap : ((T.setVm vm').setCell a (vp_cell c1 (n1, .inr (.inr (.inr (.inr g)))))).heap = H.setIfInBounds a (vp_cell c1 (n1, .inr (.inr (.inr (.inr g))))) := by rw [← hT]; rfl
  have oq : ∀ q : Nat, q ≠ a → (H.setIfInBounds a (vp_cell c1 (n1, .inr (.inr (.inr (.inr g))))))[q]? = H[q]? := fun q hq => by simp [Array.getElem?_setIfInBounds, Ne.symm hq]
  obtain ⟨t, a1, b1⟩ := kk _ _ (hP.set hD ha1 (show (H.setIfInBounds a _)[a]? = some _ by simp [Array.getElem?_setIfInBounds, hl]) oq) (hD.set ha1) ⟨by simp; exact hS.1, fun q g1 g2 => by
      rw [oq q (fun e => g2 (by rw [e]; exact hD.2 q1 _ ha1))]
      exact hS.2.1 q g1 g2, fun q hq => by
      rcases List.mem_append.mp hq with h | h
      · exact hS.2.2 q h
      · obtain ⟨z, -, hz⟩ := List.mem_map.mp h
        rw [← hz]
        exact hD.2 q1 _ ha1⟩ _ hheap X'
  exact ⟨t, step t a1, b1⟩
end YE
section YE2
variable {en : yEn} {d : Nat} {mi : yM} {pc : Nat} {ls : List (Nat × Value)} {st : List Value} {σ : yH} {k n : Nat} {K : Option Value → yH → Prop} {X : String → Addr → yH → Prop}
/-- a copy of nothing out of an empty Object[] of the start -/
def cpyE (en : yEn) (σ : yH) (a0 a : Nat) (sp dp z : Int32) (F : yH → Prop) : Prop := sp = 0 ∧ dp = 0 ∧ z = 0 ∧ (∃ f : Nat → Option Nat, σ a0 = some (false, .inl (en.2.2.2 5, 0, .inr (.inr (.inr (.inr f)))))) ∧ (∃ (N1 : Nat) (g : Nat → Option Nat), σ a = some (true, .inl (en.2.2.2 5, N1, .inr (.inr (.inr (.inr g)))))) ∧ F σ
theorem yup_self {a : Nat} {e : va_E} (h : σ a = some (true, e)) : yup σ a e = σ := by
  funext q
  by_cases hq : q = a
  · subst hq; rw [yup_s, h]
  · rw [yup_n hq]
theorem cpyE.mono {a0 a : Nat} {sp dp z : Int32} {F G : yH → Prop} (h : cpyE en σ a0 a sp dp z F) (g : ∀ σ', F σ' → G σ') : cpyE en σ a0 a sp dp z G := ⟨h.1, h.2.1, h.2.2.1, h.2.2.2.1, h.2.2.2.2.1, g _ h.2.2.2.2.2⟩
theorem sd_copyE {idx a0 a : Nat} {sp dp z : Int32} (dd : decode mi.2.1 pc = .ok (.invokestatic idx, 3)) (hq : CpW mi idx) (hd : 1 ≤ d) (hw : (st.map fun v => v.category).sum ≤ 8) (h : cpyE en σ a0 a sp dp z (fun σ' => Wx en d mi (pc + 3) ls st σ' k n K X)) : Wx en d mi pc ls (.int z :: .int dp :: .ref a :: .int sp :: .ref a0 :: st) σ k n K X := by
  intro R p e s m args below meth c H locs cells slots lsA a1 a2 C9 a4 a5 a6 a7 a8
  have hts := C9.2.2.2.2.2.2.2.1
  have hSt := C9.2.2.2.2.2.2.2.2.2
  obtain ⟨rfl, rfl, rfl, ⟨f, h1⟩, ⟨N1, g, h2⟩, h9⟩ := h
  obtain ⟨ws, q0, hP, hD, hq0, hcv⟩ := a4.1.get h2
  obtain ⟨-, C8, hT9⟩ := a4.2 a0 _ h1
  exact y_copyE C9.1 C9.2.1 (by rw [C9.2.2.2.2.1]; exact a8.1.symm) C9.2.2.2.2.2.1 (hts _ hq.1) (hts _ hq.2.1) (hts _ hq.2.2.1) (hts _ hq.2.2.2) (y_K hSt) hP hD a5 (y_T hSt hT9) q0 5 hq0 rfl (by rw [a1]; exact hd) (by rw [a2]; unfold y_lo; have := y_natw; omega) dd (fun H1 locs1 hP1 hD1 hS1 => by
    have h9 := h9
    rw [← yup_self h2] at h9
    exact h9 R p e s m args below meth c H1 locs1 cells slots lsA a1 a2 C9 ⟨y_cov_set hD hq0 hcv hP1 hD1, a4.2.up⟩ hS1 a6 a7 a8)
/-- a cell of the start of the class Object[] -/
def yEc (en : yEn) (a : Nat) : Prop := ∃ cell : Cell, en.2.1.heap[a]? = some cell ∧ cell.vm.isStatics = false ∧ en.2.1.vm.findClass "[Ljava/lang/Object;" = some cell.cls
/-- getClass() of the start's empty Object[] of the ArrayLists -/
theorem sd_getClassE {idx a : Nat} (dd : decode mi.2.1 pc = .ok (.invokevirtual idx, 3)) (hT : yEc en a) (hq : Cond.methodLink mi.1.cls idx ⟨"java/lang/Object", "getClass", "()Ljava/lang/Class;"⟩ ∈ lw_all) (hdc : Cond.declares ⟨"java/lang/Object", "getClass", "()Ljava/lang/Class;"⟩ ∈ lw_tbl) (hse : Cond.selects "[Ljava/lang/Object;" ⟨"java/lang/Object", "getClass", "()Ljava/lang/Class;"⟩ ⟨"java/lang/Object", "getClass", "()Ljava/lang/Class;"⟩ ∈ lw_all) (hi : Cond.instanceMethod ⟨"java/lang/Object", "getClass", "()Ljava/lang/Class;"⟩ ∈ lw_all) (hn : Cond.native ⟨"java/lang/Object", "getClass", "()Ljava/lang/Class;"⟩ ∈ lw_all) (h1 : Cond.isRef (.mirror "[Ljava/lang/Object;") ∈ y_nar) (hd : 1 ≤ d) (hw : (st.map fun v => v.category).sum ≤ 8)
    (h : Wx en d mi (pc + 3) ls (.ref (y_mir en "[Ljava/lang/Object;") :: st) σ k n K X) : Wx en d mi pc ls (.ref a :: st) σ k n K X := by
  intro R p e s m args below meth c H locs cells slots lsA a1 a2 C9 a4 a5 a6 a7 a8
  have hts := C9.2.2.2.2.2.2.2.1
  have hSt := C9.2.2.2.2.2.2.2.2.2
  obtain ⟨cell, g1, g2, g3⟩ := hT
  have hl : a < en.2.1.heap.size := (Array.getElem?_eq_some_iff.mp g1).1
  have gs : s.heap[a]? = some cell := by rw [hSt.2.2.2 a hl]; exact g1
  have gH : H[a]? = some cell := by rw [a5.2.1 a (Array.getElem?_eq_some_iff.mp gs).1 (by unfold y_A; omega)]; exact gs
  refine va_getC C9.1 C9.2.1 (by rw [C9.2.2.2.2.1]; exact a8.1.symm) C9.2.2.2.2.2.1 (hts _ hq) (va_Nw.use rfl ?_) (hts _ hse) (hts _ hi) (hts _ hn) (y_Mi hSt h1) ⟨cell, gH, g2, ?_⟩ (by rw [a1]; exact hd) (by rw [a2]; unfold y_lo; omega) dd (h R p e s m args below meth c H locs cells slots lsA a1 a2 C9 a4 a5 a6 a7 a8)
  · obtain ⟨b0, ht⟩ := y_tbl hSt
    exact va_Nw.warmD hSt.2.1 (va_Nw.of rfl (ht _ hdc))
  · rw [hSt.2.1.alike.findClass]
    exact g3
def yLet (x : Int32) (F : Int32 → Prop) : Prop := F x
theorem yLet.mono {x : Int32} {F G : Int32 → Prop} (h : yLet x F) (g : ∀ y, F y → G y) : yLet x G := g _ h
theorem sd_mminL {idx : Nat} {x y : Int32} (dd : decode mi.2.1 pc = .ok (.invokestatic idx, 3)) (hq : Cond.methodLink mi.1.cls idx Lib.Math.min.name ∈ lw_all) (hs : Cond.static Lib.Math.min.name ∈ lw_all) (hi : Cond.initialized "java/lang/Math" ∈ lw_all) (hc : Cond.code Lib.Math.min.name Lib.Math.min.code 2 (some .int) ∈ lw_all) (hd : 1 ≤ d) (hw : (st.map fun v => v.category).sum ≤ 8) (h : yLet (if y < x then y else x) (fun r => Wx en d mi (pc + 3) ls (.int r :: st) σ k n K X)) : Wx en d mi pc ls (.int y :: .int x :: st) σ k n K X := sd_mmin dd hq hs hi hc hd hw h
theorem sd_mmaxL {idx : Nat} {x y : Int32} (dd : decode mi.2.1 pc = .ok (.invokestatic idx, 3)) (hq : Cond.methodLink mi.1.cls idx Lib.Math.max.name ∈ lw_all) (hs : Cond.static Lib.Math.max.name ∈ lw_all) (hi : Cond.initialized "java/lang/Math" ∈ lw_all) (hc : Cond.code Lib.Math.max.name Lib.Math.max.code 2 (some .int) ∈ lw_all) (hd : 1 ≤ d) (hw : (st.map fun v => v.category).sum ≤ 8) (h : yLet (if x < y then y else x) (fun r => Wx en d mi (pc + 3) ls (.int r :: st) σ k n K X)) : Wx en d mi pc ls (.int y :: .int x :: st) σ k n K X := sd_mmax dd hq hs hi hc hd hw h
theorem sd_mabsL {idx : Nat} {x : Int32} (dd : decode mi.2.1 pc = .ok (.invokestatic idx, 3)) (hq : Cond.methodLink mi.1.cls idx Lib.Math.abs.name ∈ lw_all) (hs : Cond.static Lib.Math.abs.name ∈ lw_all) (hi : Cond.initialized "java/lang/Math" ∈ lw_all) (hc : Cond.code Lib.Math.abs.name Lib.Math.abs.code 1 (some .int) ∈ lw_all) (hd : 1 ≤ d) (hw : (st.map fun v => v.category).sum ≤ 8) (h : yLet (if 0 ≤ x then x else 0 - x) (fun r => Wx en d mi (pc + 3) ls (.int r :: st) σ k n K X)) : Wx en d mi pc ls (.int x :: st) σ k n K X := sd_mabs dd hq hs hi hc hd hw h
end YE2
