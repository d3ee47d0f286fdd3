/-! SPECIALS: mirrors, wide constants, Math, private methods of a class above -/
set_option maxRecDepth 100000
/-- the Class object of a class -/
noncomputable def y_mir (en : yEn) (C : String) : Nat := Classical.epsilon (fun i => va_Mi C i en.2.1)
theorem y_Mi {en : yEn} {s : State} (h : y_St en s) {C : String} (h1 : Cond.isRef (.mirror C) ∈ y_nar) : va_Mi C (y_mir en C) s := by
  obtain ⟨-, -, -, b, ht, hn⟩ := h.1
  exact (Classical.epsilon_spec (va_Mi.of (flat_of_before _ hn _ h1)) : va_Mi C (y_mir en C) en.2.1).moved h.2.1.alike
theorem y_prW {s : State} {args : Array Value} {en : yEn} (h : y_St en s) {y : MethodName} (hw : Cond.privateMethod y ∈ lw_tbl) : (Cond.privateMethod y).before args s = true := by
  obtain ⟨b0, ht⟩ := y_tbl h
  exact Cond.privateMethod_warm h.2.1 (ht _ hw)
theorem y_selP {args : Array Value} {s : State} {C : String} {y z w : MethodName} (hy : y.cls ≠ "java/lang/invoke/MethodHandle" ∧ y.cls ≠ "java/lang/invoke/VarHandle") (hpriv : (Cond.privateMethod y).before args s = true) (hinst : (Cond.instanceMethod y).before args s = true) (hs : (Cond.selects C z w).before args s = true) (hw : w.cls = y.cls) : (Cond.selects C y y).before args s = true := by
  obtain ⟨c, r, m, h1, h2, h3, h4, mk0, h5, h6⟩ := Cond.selects_spec hs
  obtain ⟨mk, methM, hnamed, hmethM, -, -⟩ := Cond.instanceMethod_spec hinst
  have hfound : s.methodFound? y.cls y.name y.desc = some mk := State.methodFound?_of_named hnamed hy
  have hcls : mk.cls = m.cls := by
    have e1 := findClass_of_methodNamed hnamed
    have e2 := findClass_of_methodNamed h3
    rw [hw] at e2
    exact Option.some.inj (e1.symm.trans e2)
  have hsel : selectMethod {} s.vm c mk = .method mk := selectMethod_private hmethM (Cond.privateMethod_at hpriv mk methM hnamed hmethM)
  simp only [Cond.before, Cond.holds, Cond.value, h1, hfound, hnamed, hsel, hcls, h5]
  simp; exact h6
theorem y_ldcw {p : Program} {l : Launch} {e : Env} {R : Room} {s : State} {m : MethodId} {args : Array Value} {below : List Frame} {meth : Method} {c : Code} {T : State} {locs : List Loc} {cells slots : Nat}
    (X : Stand p l e R s m args below meth c T locs cells slots) (hexec : p.tables.exec = Jvm.exec) {own text : String} {index : Nat} {a : Addr} (hown : s.vm.findClass own = some m.cls)
    (hconst : (Cond.stringRef own index text).before args s = true) (hev : (Term.string own index).eval args s none [] s = some (.ref a)) {g : JFrame} (hg : g.method = m) (hdg : decode c.code g.pc = .ok (.ldc_w index, 3)) :
    ∀ target, Steps p.tables e below (T.setTop { g with pc := g.pc + 3, stack := .ref a :: g.stack }) target → Steps p.tables e below (T.setTop g) target := by
  obtain ⟨k, cf, i, a', hk, hcf, hcp, -, hr, hev'⟩ := Cond.stringRef_spec hown hconst
  cases hev.symm.trans hev'
  obtain ⟨k', hk', he⟩ := X.warmed.alike.2.2 _ _ hk
  have hr' : k'.resolved[index]? = some (some (.string a)) := by
    rcases X.warmed.entry hk hk' index with h | ⟨h, -⟩
    · rw [h]; exact hr
    · rw [hr] at h; cases h
  intro target hrest
  subst hg
  jvm_step X.here [hexec, hdg, ldc_w.wp_string (e := e) (s := T) (f := g) X.here.top hk' (by rw [he]; exact hcf) hcp hr']
  exact hrest
section YS
variable {en : yEn} {d : Nat} {mi : yM} {pc : Nat} {ls : List (Nat × Value)} {st : List Value} {σ : yH} {k n : Nat} {K : Option Value → yH → Prop} {X : String → Addr → yH → Prop}
theorem sd_ldcSw {tx : String} {idx : Nat} (dd : decode mi.2.1 pc = .ok (.ldc_w idx, 3)) (h1 : Cond.stringRef mi.1.cls idx tx ∈ lw_tbl) (h2 : Cond.exactly (.string mi.1.cls idx) "java/lang/String" ∈ y_nar) (h : Wx en d mi (pc + 3) ls (.ref (y_str en mi.1.cls idx) :: st) σ k n K X) : Wx en d mi pc ls st σ k n K X := by
  intro R p e s m args below meth c H locs cells slots lsA a1 a2 C9 a4 a5 a6 a7 a8
  intro T hT X9
  obtain ⟨t, b1, b2⟩ := h R p e s m args below meth c H locs cells slots lsA a1 a2 C9 a4 a5 a6 a7 a8 T hT X9
  have hZ := y_vkR C9.2.2.2.2.2.2.2.2.2 h1 h2
  have e1 : (Cond.stringRef mi.1.cls idx tx).before args s = true := hZ.1
  have e2 : (Term.string mi.1.cls idx).eval args s none [] s = some (.ref (y_str en mi.1.cls idx)) := hZ.2
  exact ⟨t, y_ldcw X9 C9.1 C9.2.2.2.2.2.1 e1 e2 (g := F0 m pc lsA st) rfl (by rw [C9.2.1]; exact dd) t b1, b2⟩
theorem sd_ldcM {C : String} {idx : Nat} (dd : decode mi.2.1 pc = .ok (.ldc idx, 2)) (hq : Cond.classLink mi.1.cls idx C ∈ lw_all) (h1 : Cond.isRef (.mirror C) ∈ y_nar) (h : Wx en d mi (pc + 2) ls (.ref (y_mir en C) :: st) σ k n K X) : Wx en d mi pc ls st σ k n K X := by
  intro R p e s m args below meth c H locs cells slots lsA a1 a2 C9 a4 a5 a6 a7 a8
  exact va_ldcM C9.1 C9.2.1 C9.2.2.2.2.2.1 (C9.2.2.2.2.2.2.2.1 _ hq) (y_Mi C9.2.2.2.2.2.2.2.2.2 h1) dd (h R p e s m args below meth c H locs cells slots lsA a1 a2 C9 a4 a5 a6 a7 a8)
/-- getClass() of an Object[] -/
theorem sd_getClassA {idx a : Nat} {w : Bool} {x : vp_A} (dd : decode mi.2.1 pc = .ok (.invokevirtual idx, 3)) (hb : σ a = some (true, .inl (en.2.2.2 5, x))) (hq : Cond.methodLink mi.1.cls idx ⟨"java/lang/Object", "getClass", "()Ljava/lang/Class;"⟩ ∈ lw_all) (hdc : Cond.declares ⟨"java/lang/Object", "getClass", "()Ljava/lang/Class;"⟩ ∈ lw_tbl) (hse : Cond.selects "[Ljava/lang/Object;" ⟨"java/lang/Object", "getClass", "()Ljava/lang/Class;"⟩ ⟨"java/lang/Object", "getClass", "()Ljava/lang/Class;"⟩ ∈ lw_all) (hi : Cond.instanceMethod ⟨"java/lang/Object", "getClass", "()Ljava/lang/Class;"⟩ ∈ lw_all) (hn : Cond.native ⟨"java/lang/Object", "getClass", "()Ljava/lang/Class;"⟩ ∈ lw_all) (h1 : Cond.isRef (.mirror "[Ljava/lang/Object;") ∈ y_nar) (hd : 1 ≤ d) (hw : (st.map fun v => v.category).sum ≤ 8)
    (h : Wx en d mi (pc + 3) ls (.ref (y_mir en "[Ljava/lang/Object;") :: st) σ k n K X) : Wx en d mi pc ls (.ref a :: st) σ k n K X := by
  intro R p e s m args below meth c H locs cells slots lsA a1 a2 C9 a4 a5 a6 a7 a8
  have hts := C9.2.2.2.2.2.2.2.1
  have hSt := C9.2.2.2.2.2.2.2.2.2
  obtain ⟨ws, q0, hP, hD, hq0, hcv⟩ := a4.1.get hb
  have hcell := hP q0 _ hq0
  have hfc : s.vm.findClass "[Ljava/lang/Object;" = some (en.2.2.2 5) := by
    obtain ⟨k2, c2, -, -, -, e2⟩ := ((y_K hSt).2 5 _ rfl).2
    exact e2
  refine va_getC C9.1 C9.2.1 (by rw [C9.2.2.2.2.1]; exact a8.1.symm) C9.2.2.2.2.2.1 (hts _ hq) (va_Nw.use rfl ?_) (hts _ hse) (hts _ hi) (hts _ hn) (y_Mi hSt h1) ⟨_, hcell, ?_, ?_⟩ (by rw [a1]; exact hd) (by rw [a2]; unfold y_lo; omega) dd (h R p e s m args below meth c H locs cells slots lsA a1 a2 C9 a4 a5 a6 a7 a8)
  · obtain ⟨b0, ht⟩ := y_tbl hSt
    exact va_Nw.warmD hSt.2.1 (va_Nw.of rfl (ht _ hdc))
  · obtain ⟨N9, f9⟩ := x
    rcases f9 with f | f | f | f | f <;> rfl
  · rw [hfc]
    obtain ⟨N9, f9⟩ := x
    rcases f9 with f | f | f | f | f <;> rfl
theorem sd_mmin {idx : Nat} {x y : Int32} (dd : decode mi.2.1 pc = .ok (.invokestatic idx, 3)) (hq : Cond.methodLink mi.1.cls idx Lib.Math.min.name ∈ lw_all) (hs : Cond.static Lib.Math.min.name ∈ lw_all) (hi : Cond.initialized "java/lang/Math" ∈ lw_all) (hc : Cond.code Lib.Math.min.name Lib.Math.min.code 2 (some .int) ∈ lw_all) (hd : 1 ≤ d) (hw : (st.map fun v => v.category).sum ≤ 8) (h : Wx en d mi (pc + 3) ls (.int (if y < x then y else x) :: st) σ k n K X) : Wx en d mi pc ls (.int y :: .int x :: st) σ k n K X := by
  intro R p e s m args below meth c H locs cells slots lsA a1 a2 C9 a4 a5 a6 a7 a8
  have hts := C9.2.2.2.2.2.2.2.1
  exact va_mmin C9.1 C9.2.1 (by rw [C9.2.2.2.2.1]; exact a8.1.symm) C9.2.2.2.2.2.1 (hts _ hq) (hts _ hs) (hts _ hi) (hts _ hc) (by rw [a1]; exact hd) (by rw [a2]; unfold y_lo; omega) (by omega) (by omega) dd (h R p e s m args below meth c H locs cells slots lsA a1 a2 C9 a4 a5 a6 a7 a8)
theorem sd_mmax {idx : Nat} {x y : Int32} (dd : decode mi.2.1 pc = .ok (.invokestatic idx, 3)) (hq : Cond.methodLink mi.1.cls idx Lib.Math.max.name ∈ lw_all) (hs : Cond.static Lib.Math.max.name ∈ lw_all) (hi : Cond.initialized "java/lang/Math" ∈ lw_all) (hc : Cond.code Lib.Math.max.name Lib.Math.max.code 2 (some .int) ∈ lw_all) (hd : 1 ≤ d) (hw : (st.map fun v => v.category).sum ≤ 8) (h : Wx en d mi (pc + 3) ls (.int (if x < y then y else x) :: st) σ k n K X) : Wx en d mi pc ls (.int y :: .int x :: st) σ k n K X := by
  intro R p e s m args below meth c H locs cells slots lsA a1 a2 C9 a4 a5 a6 a7 a8
  have hts := C9.2.2.2.2.2.2.2.1
  exact va_mmax C9.1 C9.2.1 (by rw [C9.2.2.2.2.1]; exact a8.1.symm) C9.2.2.2.2.2.1 (hts _ hq) (hts _ hs) (hts _ hi) (hts _ hc) (by rw [a1]; exact hd) (by rw [a2]; unfold y_lo; omega) (by omega) (by omega) dd (h R p e s m args below meth c H locs cells slots lsA a1 a2 C9 a4 a5 a6 a7 a8)
theorem sd_mabs {idx : Nat} {x : Int32} (dd : decode mi.2.1 pc = .ok (.invokestatic idx, 3)) (hq : Cond.methodLink mi.1.cls idx Lib.Math.abs.name ∈ lw_all) (hs : Cond.static Lib.Math.abs.name ∈ lw_all) (hi : Cond.initialized "java/lang/Math" ∈ lw_all) (hc : Cond.code Lib.Math.abs.name Lib.Math.abs.code 1 (some .int) ∈ lw_all) (hd : 1 ≤ d) (hw : (st.map fun v => v.category).sum ≤ 8) (h : Wx en d mi (pc + 3) ls (.int (if 0 ≤ x then x else 0 - x) :: st) σ k n K X) : Wx en d mi pc ls (.int x :: st) σ k n K X := by
  intro R p e s m args below meth c H locs cells slots lsA a1 a2 C9 a4 a5 a6 a7 a8
  have hts := C9.2.2.2.2.2.2.2.1
  exact va_mabs C9.1 C9.2.1 (by rw [C9.2.2.2.2.1]; exact a8.1.symm) C9.2.2.2.2.2.1 (hts _ hq) (hts _ hs) (hts _ hi) (hts _ hc) (by rw [a1]; exact hd) (by rw [a2]; unfold y_lo; omega) (by omega) (by omega) dd (h R p e s m args below meth c H locs cells slots lsA a1 a2 C9 a4 a5 a6 a7 a8)
theorem sd_callP {idx k0 n0 d0 : Nat} {y : MethodName} {bytes : ByteArray} {maxL : Nat} {ret : Option FieldType} {As : List Value} {b ci : Nat} {r : vw_C} {z9 w9n : MethodName} (dd : decode mi.2.1 pc = .ok (.invokevirtual idx, 3)) (hc : y_cl[ci]? = some r) (hb : isC σ b ci) (hq : Cond.methodLink mi.1.cls idx y ∈ lw_all) (hi : Cond.instanceMethod y ∈ lw_all) (hpr : Cond.privateMethod y ∈ lw_tbl) (hse : Cond.selects r.1 z9 w9n ∈ lw_all) (hwn : w9n.cls = y.cls) (hini : Cond.initialized y.cls ∈ lw_all) (hco : Cond.code y bytes maxL ret ∈ lw_all) (na : Nat) (hd : y.cls ≠ "java/lang/invoke/MethodHandle" ∧ y.cls ≠ "java/lang/invoke/VarHandle" ∧ (parseMethodDescriptor y.desc).map (fun d => d.parameters.length) = some na) (hna : As.length = na) (hdd : d0 + 1 ≤ d) (hmL : maxL ≤ 40) (hw : (st.map fun v => v.category).sum ≤ 8) 
    (h : Cx en d0 k0 n0 (y, bytes, maxL, ret, []) (.ref b :: As) σ (fun v σ' => Wx en d mi (pc + 3) ls (v.toList ++ st) σ' k n K X) (fun E q σ' => WxT en d mi pc ls E q σ' k n K X)) : Wx en d mi pc ls (As.reverse ++ .ref b :: st) σ (k + k0) (n + n0) K X := by
  intro R p e s m args below meth c H locs cells slots lsA a1 a2 C9 a4 a5 a6 a7 a8
  have hts := C9.2.2.2.2.2.2.2.1
  have hSt := C9.2.2.2.2.2.2.2.2.2
  subst hna
  obtain ⟨w9, fs9, hb⟩ := hb
  exact y_after a1 a2 C9 a5 a6 a7 a8 (yx_runV (As := As) (rest := st) (y_fix C9) h (⟨callB_of As.length hts (lw_meth hco) rfl rfl rfl (hts _ hini) (hts _ hq) hd ⟨by rw [a1]; exact hdd, by rw [a2]; show 8 + (maxL + 11) + y_lo d0 ≤ y_lo d; unfold y_lo; omega⟩, hts _ hi, y_selP ⟨hd.1, hd.2.1⟩ (y_prW hSt hpr) (hts _ hi) (hts _ hse) hwn⟩) (y_preV hSt a5 a4 hc hb) rfl rfl a8.1 rfl (lv_room hw) dd ⟨by omega, by omega⟩) (fun _ _ h => h) (fun _ _ _ h => h)
end YS
