/-! MORE: statics, strings, casts, arraycopy, exceptions that are made -/
set_option maxRecDepth 100000
def y_nar : List Cond := flatC (Jvm.Cond.and given_1 narrow_1)
/-- a static reference, null or some -/
def y_sr (en : yEn) (C n d : String) : Option Nat := match (Term.static C n d).eval #[] en.2.1 none [] en.2.1 with
  | some (.ref a) => some a
  | _ => none
/-- a String constant's address -/
def y_str (en : yEn) (own : String) (k : Nat) : Nat := match (Term.string own k).eval #[] en.2.1 none [] en.2.1 with
  | some (.ref a) => a
  | _ => 0
theorem y_hN {en : yEn} : ∀ a : Nat, a < en.2.1.heap.size → ¬ y_A en a := fun a h z => absurd z (Nat.not_le.mpr h)
theorem y_Zi {en : yEn} {s : State} (h : y_St en s) {C n d : String} {z : Int32} (h1 : Cond.laysStatic C n d ∈ lw_tbl) (h2 : Cond.initialized C ∈ lw_tbl) (h3 : Cond.eq (.static C n d) (.int z) ∈ y_nar) : va_Z C n d (.int z) (y_A en) s s.heap := by
  obtain ⟨-, -, -, b, ht, hn⟩ := h.1
  have h4 := va_eqi (flat_of_before _ hn _ h3)
  exact ((va_Zof (ht _ h1) (ht _ h2) h4 y_hN).moved h.2.1.alike).kept (fun a ha _ => h.2.2.2 a ha)
theorem y_Zr {en : yEn} {s : State} (h : y_St en s) {C n d : String} (h1 : Cond.laysStatic C n d ∈ lw_tbl) (h2 : Cond.initialized C ∈ lw_tbl) (h3 : Cond.isRef (.static C n d) ∈ y_nar) : va_Z C n d (va_rf (y_sr en C n d)) (y_A en) s s.heap := by
  obtain ⟨-, -, -, b, ht, hn⟩ := h.1
  have h4 := flat_of_before _ hn _ h3
  have h5 : va_Z C n d (va_rf (y_sr en C n d)) (y_A en) en.2.1 en.2.1.heap := by
    cases hv : (Term.static C n d).eval #[Value.ref b] en.2.1 none [] en.2.1 with
    | none => simp [Cond.before, Cond.holds, Cond.value, hv] at h4
    | some w =>
      have e1 : (Term.static C n d).eval #[] en.2.1 none [] en.2.1 = some w := hv
      have h6 := va_Zof (ht _ h1) (ht _ h2) hv (A := y_A en) y_hN
      cases w with
      | ref a => rw [show y_sr en C n d = some a by unfold y_sr; rw [e1]]; exact h6
      | null => rw [show y_sr en C n d = none by unfold y_sr; rw [e1]]; exact h6
      | _ => simp [Cond.before, Cond.holds, Cond.value, hv, Value.isRef] at h4
  exact (h5.moved h.2.1.alike).kept (fun a ha _ => h.2.2.2 a ha)
theorem y_vkR {en : yEn} {s : State} (h : y_St en s) {own tx : String} {k : Nat} (h1 : Cond.stringRef own k tx ∈ lw_tbl) (h2 : Cond.exactly (.string own k) "java/lang/String" ∈ y_nar) : vk_R own k tx (y_str en own k) s := by
  obtain ⟨-, -, -, b, ht, hn⟩ := h.1
  have h4 := flat_of_before _ hn _ h2
  have h5 : (Term.string own k).eval #[Value.ref b] en.2.1 none [] en.2.1 = some (.ref (y_str en own k)) := by
    obtain ⟨a, hv⟩ : ∃ a, (Term.string own k).eval #[Value.ref b] en.2.1 none [] en.2.1 = some (.ref a) := by
      have h6 := Cond.exactly_spec h4
      obtain ⟨a, c6, cell, k6, hx, -⟩ := h6
      exact ⟨a, hx⟩
    have e1 : (Term.string own k).eval #[] en.2.1 none [] en.2.1 = some (.ref a) := hv
    rw [show y_str en own k = a by unfold y_str; rw [e1]]
    exact hv
  exact (vk_R.of (ht _ h1) h5).warm h.2.1
section YM
variable {en : yEn} {d : Nat} {mi : yM} {pc : Nat} {ls : List (Nat × Value)} {st : List Value} {σ : yH} {k n : Nat} {K : Option Value → yH → Prop} {X : String → Addr → yH → Prop}
theorem sd_getsI {C nm ds : String} {z : Int32} {idx : Nat} (dd : decode mi.2.1 pc = .ok (.getstatic idx, 3)) (hq : Cond.fieldLink mi.1.cls idx C nm ds ∈ lw_all) (h1 : Cond.laysStatic C nm ds ∈ lw_tbl) (h2 : Cond.initialized C ∈ lw_tbl) (h3 : Cond.eq (.static C nm ds) (.int z) ∈ y_nar) (h : Wx en d mi (pc + 3) ls (.int z :: st) σ k n K X) : Wx en d mi pc ls st σ k n K X := by
  intro R p e s m args below meth c H locs cells slots lsA a1 a2 C9 a4 a5 a6 a7 a8
  exact va_gets C9.1 C9.2.1 (y_Zi C9.2.2.2.2.2.2.2.2.2 h1 h2 h3) a5 C9.2.2.2.2.2.1 (C9.2.2.2.2.2.2.2.1 _ hq) (fun _ h => h) dd (h R p e s m args below meth c H locs cells slots lsA a1 a2 C9 a4 a5 a6 a7 a8)
theorem sd_getsQ {C nm ds : String} {idx : Nat} (dd : decode mi.2.1 pc = .ok (.getstatic idx, 3)) (hq : Cond.fieldLink mi.1.cls idx C nm ds ∈ lw_all) (h1 : Cond.laysStatic C nm ds ∈ lw_tbl) (h2 : Cond.initialized C ∈ lw_tbl) (h3 : Cond.isRef (.static C nm ds) ∈ y_nar) (h : Wx en d mi (pc + 3) ls (va_rf (y_sr en C nm ds) :: st) σ k n K X) : Wx en d mi pc ls st σ k n K X := by
  intro R p e s m args below meth c H locs cells slots lsA a1 a2 C9 a4 a5 a6 a7 a8
  exact va_gets C9.1 C9.2.1 (y_Zr C9.2.2.2.2.2.2.2.2.2 h1 h2 h3) a5 C9.2.2.2.2.2.1 (C9.2.2.2.2.2.2.2.1 _ hq) (fun _ h => h) dd (h R p e s m args below meth c H locs cells slots lsA a1 a2 C9 a4 a5 a6 a7 a8)
theorem sd_ldcS {tx : String} {idx : Nat} (dd : decode mi.2.1 pc = .ok (.ldc idx, 2)) (h1 : Cond.stringRef mi.1.cls idx tx ∈ lw_tbl) (h2 : Cond.exactly (.string mi.1.cls idx) "java/lang/String" ∈ y_nar) (h : Wx en d mi (pc + 2) ls (.ref (y_str en mi.1.cls idx) :: st) σ k n K X) : Wx en d mi pc ls st σ k n K X := by
  intro R p e s m args below meth c H locs cells slots lsA a1 a2 C9 a4 a5 a6 a7 a8
  exact va_ldcS C9.1 C9.2.1 C9.2.2.2.2.2.1 (y_vkR C9.2.2.2.2.2.2.2.2.2 h1 h2) dd (h R p e s m args below meth c H locs cells slots lsA a1 a2 C9 a4 a5 a6 a7 a8)
/-! casts -/
theorem sd_cast {idx a ci : Nat} {r : vw_C} {nm : String} (dd : decode mi.2.1 pc = .ok (.checkcast idx, 3)) (hq : Cond.classLink mi.1.cls idx nm ∈ lw_all) (hc : y_cl[ci]? = some r) (hb : isC σ a ci) (hn : Cond.castable r.1 nm ∈ lw_tbl) (h : Wx en d mi (pc + 3) ls (.ref a :: st) σ k n K X) : Wx en d mi pc ls (.ref a :: st) σ k n K X := by
  intro R p e s m args below meth c H locs cells slots lsA a1 a2 C9 a4 a5 a6 a7 a8
  obtain ⟨w9, fs9, hb⟩ := hb
  exact va_castY C9.1 C9.2.1 C9.2.2.2.2.2.1 (C9.2.2.2.2.2.2.2.1 _ hq) (y_nC C9.2.2.2.2.2.2.2.2.2 hn) (y_recv C9.2.2.2.2.2.2.2.2.2 a5 a4 hc hb) dd (h R p e s m args below meth c H locs cells slots lsA a1 a2 C9 a4 a5 a6 a7 a8)
theorem sd_castE {idx a ci : Nat} {r : vw_C} (dd : decode mi.2.1 pc = .ok (.checkcast idx, 3)) (hq : Cond.classLink mi.1.cls idx r.1 ∈ lw_all) (hc : y_cl[ci]? = some r) (hb : isC σ a ci) (h : Wx en d mi (pc + 3) ls (.ref a :: st) σ k n K X) : Wx en d mi pc ls (.ref a :: st) σ k n K X := by
  intro R p e s m args below meth c H locs cells slots lsA a1 a2 C9 a4 a5 a6 a7 a8
  obtain ⟨w9, fs9, hb⟩ := hb
  exact va_castE C9.1 C9.2.1 C9.2.2.2.2.2.1 (C9.2.2.2.2.2.2.2.1 _ hq) (y_recv C9.2.2.2.2.2.2.2.2.2 a5 a4 hc hb) dd (h R p e s m args below meth c H locs cells slots lsA a1 a2 C9 a4 a5 a6 a7 a8)
theorem sd_castN {idx : Nat} (dd : decode mi.2.1 pc = .ok (.checkcast idx, 3)) (h : Wx en d mi (pc + 3) ls (.null :: st) σ k n K X) : Wx en d mi pc ls (.null :: st) σ k n K X := by
  intro R p e s m args below meth c H locs cells slots lsA a1 a2 C9 a4 a5 a6 a7 a8
  exact lv_castN C9.1 C9.2.1 dd (h R p e s m args below meth c H locs cells slots lsA a1 a2 C9 a4 a5 a6 a7 a8)
theorem sd_inst {idx a ci : Nat} {r : vw_C} {nm : String} (dd : decode mi.2.1 pc = .ok (.instanceof idx, 3)) (hq : Cond.classLink mi.1.cls idx nm ∈ lw_all) (hc : y_cl[ci]? = some r) (hb : isC σ a ci) (hn : Cond.castable r.1 nm ∈ lw_tbl) (h : Wx en d mi (pc + 3) ls (.int 1 :: st) σ k n K X) : Wx en d mi pc ls (.ref a :: st) σ k n K X := by
  intro R p e s m args below meth c H locs cells slots lsA a1 a2 C9 a4 a5 a6 a7 a8
  obtain ⟨w9, fs9, hb⟩ := hb
  exact va_instY C9.1 C9.2.1 C9.2.2.2.2.2.1 (C9.2.2.2.2.2.2.2.1 _ hq) (y_nC C9.2.2.2.2.2.2.2.2.2 hn) (y_recv C9.2.2.2.2.2.2.2.2.2 a5 a4 hc hb) dd (h R p e s m args below meth c H locs cells slots lsA a1 a2 C9 a4 a5 a6 a7 a8)
theorem sd_instE {idx a ci : Nat} {r : vw_C} (dd : decode mi.2.1 pc = .ok (.instanceof idx, 3)) (hq : Cond.classLink mi.1.cls idx r.1 ∈ lw_all) (hc : y_cl[ci]? = some r) (hb : isC σ a ci) (h : Wx en d mi (pc + 3) ls (.int 1 :: st) σ k n K X) : Wx en d mi pc ls (.ref a :: st) σ k n K X := by
  intro R p e s m args below meth c H locs cells slots lsA a1 a2 C9 a4 a5 a6 a7 a8
  obtain ⟨w9, fs9, hb⟩ := hb
  exact va_instE C9.1 C9.2.1 C9.2.2.2.2.2.1 (C9.2.2.2.2.2.2.2.1 _ hq) (y_recv C9.2.2.2.2.2.2.2.2.2 a5 a4 hc hb) dd (h R p e s m args below meth c H locs cells slots lsA a1 a2 C9 a4 a5 a6 a7 a8)
theorem sd_instNo {idx a ci : Nat} {r : vw_C} {nm : String} (dd : decode mi.2.1 pc = .ok (.instanceof idx, 3)) (hq : Cond.classLink mi.1.cls idx nm ∈ lw_all) (hc : y_cl[ci]? = some r) (hb : isC σ a ci) (hn : Cond.not (.castable r.1 nm) ∈ y_nar) (h : Wx en d mi (pc + 3) ls (.int 0 :: st) σ k n K X) : Wx en d mi pc ls (.ref a :: st) σ k n K X := by
  intro R p e s m args below meth c H locs cells slots lsA a1 a2 C9 a4 a5 a6 a7 a8
  obtain ⟨w9, fs9, hb⟩ := hb
  exact va_instNo C9.1 C9.2.1 C9.2.2.2.2.2.1 (C9.2.2.2.2.2.2.2.1 _ hq) (y_nN C9.2.2.2.2.2.2.2.2.2 hn) (y_recv C9.2.2.2.2.2.2.2.2.2 a5 a4 hc hb) dd (h R p e s m args below meth c H locs cells slots lsA a1 a2 C9 a4 a5 a6 a7 a8)
theorem sd_instN {idx : Nat} (dd : decode mi.2.1 pc = .ok (.instanceof idx, 3)) (h : Wx en d mi (pc + 3) ls (.int 0 :: st) σ k n K X) : Wx en d mi pc ls (.null :: st) σ k n K X := by
  intro R p e s m args below meth c H locs cells slots lsA a1 a2 C9 a4 a5 a6 a7 a8
  exact lv_instN C9.1 C9.2.1 dd (h R p e s m args below meth c H locs cells slots lsA a1 a2 C9 a4 a5 a6 a7 a8)
/-- something that an Object[] takes -/
def y_any (en : yEn) (σ : yH) (v : Nat) : Prop := ∀ (s : State) (H : Heap) (locs : List Loc), y_St en s → va_S (y_A en) s.heap H locs → y_Rp en σ H → va_Any "java/lang/Object" s H v
theorem y_anyC {v ci : Nat} {r : vw_C} (hc : y_cl[ci]? = some r) (hb : isC σ v ci) (hn : Cond.castable r.1 "java/lang/Object" ∈ lw_tbl) : y_any en σ v := by
  intro s H locs hSt hS hR
  obtain ⟨w9, fs9, hb⟩ := hb
  obtain ⟨cell, h1, h2, h3⟩ := y_recv hSt hS hR hc hb
  obtain ⟨kC, hkC, -⟩ := Vm.findClass_spec h3
  obtain ⟨c3, c4, hc3, hc4, hasg⟩ := Cond.castable_spec (va_Nw.use (A := #[]) rfl (y_nC hSt hn))
  refine ⟨cell, h1, h2, ⟨kC, hkC⟩, fun comp h => ?_⟩
  cases Option.some.inj (hc3.symm.trans h3)
  cases Option.some.inj (hc4.symm.trans h)
  exact hasg
theorem sd_aastore {a v : Nat} {i : Int32} (dd : decode mi.2.1 pc = .ok (.aastore, 1)) (hv : y_any en σ v) (h : astQ σ (en.2.2.2 5) a i (some v) (fun σ' => Wx en d mi (pc + 1) ls st σ' k n K X)) : Wx en d mi pc ls (.ref v :: .int i :: .ref a :: st) σ k n K X := by
  intro R p e s m args below meth c H locs cells slots lsA a1 a2 C9 a4 a5 a6 a7 a8
  obtain ⟨N, f, hs, hi, h⟩ := h
  obtain ⟨ws, q0, hP, hD, hq0, hcv⟩ := a4.1.get hs
  exact va_astqM C9.1 C9.2.1 (y_K C9.2.2.2.2.2.2.2.2.2) hP hD a5 q0 5 hq0 rfl (hv s H locs C9.2.2.2.2.2.2.2.2.2 a5 a4) hi dd (fun H1 locs1 hP1 hD1 hS1 => h R p e s m args below meth c H1 locs1 cells slots lsA a1 a2 C9 ⟨y_cov_set hD hq0 hcv hP1 hD1, a4.2.up⟩ hS1 a6 a7 a8)
/-! System.arraycopy -/
abbrev CpW (mi : yM) (idx : Nat) : Prop := Cond.methodLink mi.1.cls idx arraycopyName ∈ lw_all ∧ Cond.native arraycopyName ∈ lw_all ∧ Cond.static arraycopyName ∈ lw_all ∧ Cond.initialized "java/lang/System" ∈ lw_all
def cpyI (σ : yH) (cA : ClassId) (a0 a : Nat) (sp dp z : Int32) (ok : Int32 → Bool) (F : yH → Prop) : Prop := ∃ (w : Bool) (N0 N1 : Nat) (f g : Nat → Int32), σ a0 = some (w, .inl (cA, N0, .inl f)) ∧ σ a = some (true, .inl (cA, N1, .inl g)) ∧ ¬ sp < 0 ∧ ¬ dp < 0 ∧ ¬ z < 0 ∧ sp.toNatClampNeg + z.toNatClampNeg ≤ N0 ∧ dp.toNatClampNeg + z.toNatClampNeg ≤ N1 ∧ (∀ i, i < z.toNatClampNeg → ok (f (sp.toNatClampNeg + i)) = true) ∧
  F (yup σ a (.inl (cA, N1, .inl (va_cpy f g sp.toNatClampNeg dp.toNatClampNeg z.toNatClampNeg))))
def cpyQ (en : yEn) (σ : yH) (a0 a : Nat) (sp dp z : Int32) (F : yH → Prop) : Prop := ∃ (N0 N1 : Nat) (f g : Nat → Option Nat), σ a0 = some (true, .inl (en.2.2.2 5, N0, .inr (.inr (.inr (.inr f))))) ∧ σ a = some (true, .inl (en.2.2.2 5, N1, .inr (.inr (.inr (.inr g))))) ∧ ¬ sp < 0 ∧ ¬ dp < 0 ∧ ¬ z < 0 ∧ sp.toNatClampNeg + z.toNatClampNeg ≤ N0 ∧ dp.toNatClampNeg + z.toNatClampNeg ≤ N1 ∧ (∀ i, i < z.toNatClampNeg → ∀ y : Nat, f (sp.toNatClampNeg + i) = some y → y_any en σ y) ∧
  F (yup σ a (.inl (en.2.2.2 5, N1, .inr (.inr (.inr (.inr (va_cpy f g sp.toNatClampNeg dp.toNatClampNeg z.toNatClampNeg)))))))
theorem cpyI.mono {cA : ClassId} {a0 a : Nat} {sp dp z : Int32} {ok : Int32 → Bool} {F G : yH → Prop} (h : cpyI σ cA a0 a sp dp z ok F) (g : ∀ σ', F σ' → G σ') : cpyI σ cA a0 a sp dp z ok G := by
  obtain ⟨w, N0, N1, f, g1, h1, h2, h3, h4, h5, h6, h7, h8, h9⟩ := h
  exact ⟨w, N0, N1, f, g1, h1, h2, h3, h4, h5, h6, h7, h8, g _ h9⟩
theorem cpyQ.mono {a0 a : Nat} {sp dp z : Int32} {F G : yH → Prop} (h : cpyQ en σ a0 a sp dp z F) (g : ∀ σ', F σ' → G σ') : cpyQ en σ a0 a sp dp z G := by
  obtain ⟨N0, N1, f, g1, h1, h2, h3, h4, h5, h6, h7, h8, h9⟩ := h
  exact ⟨N0, N1, f, g1, h1, h2, h3, h4, h5, h6, h7, h8, g _ h9⟩
theorem y_natw : nativeFrameWords "java/lang/System" "arraycopy" 5 + 11 ≤ 3900 := by decide +kernel
theorem sd_copyi {idx a0 a : Nat} {sp dp z : Int32} (dd : decode mi.2.1 pc = .ok (.invokestatic idx, 3)) (hq : CpW mi idx) (hd : 1 ≤ d) (hw : (st.map fun v => v.category).sum ≤ 8) (hro : ∀ f N0, σ a0 ≠ some (false, .inl (en.2.2.2 0, N0, .inl f))) (h : cpyI σ (en.2.2.2 0) a0 a sp dp z (fun x => fits .int (.int x)) (fun σ' => Wx en d mi (pc + 3) ls st σ' k n K X)) : Wx en d mi pc ls (.int z :: .int dp :: .ref a :: .int sp :: .ref a0 :: st) σ k n K X := by
  intro R p e s m args below meth c H locs cells slots lsA a1 a2 C9 a4 a5 a6 a7 a8
  have hts := C9.2.2.2.2.2.2.2.1
  have hSt := C9.2.2.2.2.2.2.2.2.2
  obtain ⟨w, N0, N1, f, g, h1, h2, h3, h4, h5, h6, h7, h8, h9⟩ := h
  obtain ⟨ws, q0, hP, hD, hq0, hcv⟩ := a4.1.get h2
  cases w with
  | true =>
    obtain ⟨q1, hq1⟩ := List.getElem?_of_mem (hcv a0 _ h1)
    exact va_copyi C9.1 C9.2.1 (by rw [C9.2.2.2.2.1]; exact a8.1.symm) C9.2.2.2.2.2.1 (hts _ hq.1) (hts _ hq.2.1) (hts _ hq.2.2.1) (hts _ hq.2.2.2) (y_K hSt) hP hD a5 q1 q0 0 0 hq1 hq0 rfl rfl rfl h3 h4 h5 h6 h7 h8 (by rw [a1]; exact hd) (by rw [a2]; unfold y_lo; have := y_natw; omega) dd (fun H1 locs1 hP1 hD1 hS1 => h9 R p e s m args below meth c H1 locs1 cells slots lsA a1 a2 C9 ⟨y_cov_set hD hq0 hcv hP1 hD1, a4.2.up⟩ hS1 a6 a7 a8)
  | false =>
    exact absurd h1 (hro _ _)
theorem sd_copyb {idx a0 a : Nat} {sp dp z : Int32} (dd : decode mi.2.1 pc = .ok (.invokestatic idx, 3)) (hq : CpW mi idx) (hd : 1 ≤ d) (hw : (st.map fun v => v.category).sum ≤ 8) (h : cpyI σ (en.2.2.2 1) a0 a sp dp z (fun x => fits .byte (.int x)) (fun σ' => Wx en d mi (pc + 3) ls st σ' k n K X)) : Wx en d mi pc ls (.int z :: .int dp :: .ref a :: .int sp :: .ref a0 :: st) σ k n K X := by
  intro R p e s m args below meth c H locs cells slots lsA a1 a2 C9 a4 a5 a6 a7 a8
  have hts := C9.2.2.2.2.2.2.2.1
  have hSt := C9.2.2.2.2.2.2.2.2.2
  obtain ⟨w, N0, N1, f, g, h1, h2, h3, h4, h5, h6, h7, h8, h9⟩ := h
  obtain ⟨ws, q0, hP, hD, hq0, hcv⟩ := a4.1.get h2
  cases w with
  | true =>
    obtain ⟨q1, hq1⟩ := List.getElem?_of_mem (hcv a0 _ h1)
    exact va_copyi C9.1 C9.2.1 (by rw [C9.2.2.2.2.1]; exact a8.1.symm) C9.2.2.2.2.2.1 (hts _ hq.1) (hts _ hq.2.1) (hts _ hq.2.2.1) (hts _ hq.2.2.2) (y_K hSt) hP hD a5 q1 q0 1 1 hq1 hq0 rfl rfl rfl h3 h4 h5 h6 h7 h8 (by rw [a1]; exact hd) (by rw [a2]; unfold y_lo; have := y_natw; omega) dd (fun H1 locs1 hP1 hD1 hS1 => h9 R p e s m args below meth c H1 locs1 cells slots lsA a1 a2 C9 ⟨y_cov_set hD hq0 hcv hP1 hD1, a4.2.up⟩ hS1 a6 a7 a8)
  | false =>
    obtain ⟨k9, ty9, hk9, ho9, hT9⟩ := a4.2 a0 _ h1
    have e9 := y_tag (y_K hSt) hk9 (show (y_ty en)[1]? = some (en.2.2.2 1, .byte) from rfl) ⟨ho9, by decide⟩
    subst e9
    exact vk_copyt C9.1 C9.2.1 (by rw [C9.2.2.2.2.1]; exact a8.1.symm) C9.2.2.2.2.2.1 (hts _ hq.1) (hts _ hq.2.1) (hts _ hq.2.2.1) (hts _ hq.2.2.2) (y_K hSt) hP hD a5 (y_T hSt hT9) q0 1 hq0 rfl h3 h4 h5 h6 h7 h8 (by rw [a1]; exact hd) (by rw [a2]; unfold y_lo; have := y_natw; omega) dd (fun H1 locs1 hP1 hD1 hS1 => h9 R p e s m args below meth c H1 locs1 cells slots lsA a1 a2 C9 ⟨y_cov_set hD hq0 hcv hP1 hD1, a4.2.up⟩ hS1 a6 a7 a8)
theorem sd_copyq {idx a0 a : Nat} {sp dp z : Int32} (dd : decode mi.2.1 pc = .ok (.invokestatic idx, 3)) (hq : CpW mi idx) (hd : 1 ≤ d) (hw : (st.map fun v => v.category).sum ≤ 8) (h : cpyQ en σ a0 a sp dp z (fun σ' => Wx en d mi (pc + 3) ls st σ' k n K X)) : Wx en d mi pc ls (.int z :: .int dp :: .ref a :: .int sp :: .ref a0 :: st) σ k n K X := by
  intro R p e s m args below meth c H locs cells slots lsA a1 a2 C9 a4 a5 a6 a7 a8
  have hts := C9.2.2.2.2.2.2.2.1
  have hSt := C9.2.2.2.2.2.2.2.2.2
  obtain ⟨N0, N1, f, g, h1, h2, h3, h4, h5, h6, h7, h8, h9⟩ := h
  obtain ⟨ws, q0, hP, hD, hq0, hcv⟩ := a4.1.get h2
  obtain ⟨q1, hq1⟩ := List.getElem?_of_mem (hcv a0 _ h1)
  exact va_copyM C9.1 C9.2.1 (by rw [C9.2.2.2.2.1]; exact a8.1.symm) C9.2.2.2.2.2.1 (hts _ hq.1) (hts _ hq.2.1) (hts _ hq.2.2.1) (hts _ hq.2.2.2) (y_K hSt) hP hD a5 q1 q0 5 5 hq1 hq0 rfl rfl h3 h4 h5 h6 h7 (fun i hi y hy => h8 i hi y hy s H locs hSt a5 a4) (by rw [a1]; exact hd) (by rw [a2]; unfold y_lo; have := y_natw; omega) dd (fun H1 locs1 hP1 hD1 hS1 => h9 R p e s m args below meth c H1 locs1 cells slots lsA a1 a2 C9 ⟨y_cov_set hD hq0 hcv hP1 hD1, a4.2.up⟩ hS1 a6 a7 a8)
/-- a word that holds at every state of the run -/
def y_okw (w : Cond) : Prop := w ∈ lw_all ∨ (w ∈ lw_tbl ∧ ((∃ C T, w = .castable C T) ∨ ∃ x, w = .declares x))
theorem y_okw_at {s : State} {args : Array Value} (h : y_St en s) (hts : ∀ w ∈ lw_all, w.before args s = true) {w : Cond} (hw : y_okw w) : w.before args s = true := by
  rcases hw with hw | ⟨hw, ⟨C, T, rfl⟩ | ⟨x, rfl⟩⟩
  · exact hts w hw
  · exact va_Nw.use rfl (y_nC h hw)
  · obtain ⟨b0, ht⟩ := y_tbl h
    exact va_Nw.use rfl (va_Nw.warmD h.2.1 (va_Nw.of rfl (ht _ hw)))
theorem y_okw_ot {w : Cond} (hw : y_okw w) : yx_ot w = true := by
  rcases hw with hw | ⟨hw, ⟨C, T, rfl⟩ | ⟨x, rfl⟩⟩
  · have h9 := (List.mem_filter.mp hw).2
    unfold yx_ot
    rw [h9, Bool.or_true]
  · rfl
  · rfl
/-! an exception made by its constructor without arguments -/
theorem sd_make0 {cls : String} {names : List String} {ik ic ci : Nat} {T0 : u_T} (d0 : decode mi.2.1 pc = .ok (.new ik, 3)) (d3 : decode mi.2.1 (pc + 3) = .ok (.dup, 1)) (d4 : decode mi.2.1 (pc + 4) = .ok (.invokespecial ic, 3)) (hcls : Bundle.fit cls = true) (hnames : ∀ n ∈ names, Bundle.fit n = true)
    (hk : Cond.classLink mi.1.cls ik cls ∈ lw_all) (hini : Cond.initialized cls ∈ lw_all) (hat : ∀ w ∈ yx_at0 mi.1.cls ic cls names, y_okw w) (hc : y_cl[ci]? = some (cls, T0, 0)) (hd : names.length + 3 < d) (hl : names.length ≤ 10) (hw : (st.map fun v => v.category).sum ≤ 8)
    (h : newV σ (.inr (ci, [])) (fun q σ' => Wx en d mi (pc + 7) ls (.ref q :: st) σ' k n K X)) (z1 : Cond.laysStatic Bundle.tN "UNASSIGNED_STACK" Bundle.steD ∈ lw_tbl) (z2 : Cond.laysStatic Bundle.tN "SUPPRESSED_SENTINEL" Bundle.listD ∈ lw_tbl) (z3 : Cond.initialized Bundle.tN ∈ lw_tbl) (z4 : Cond.isRef (.static Bundle.tN "UNASSIGNED_STACK" Bundle.steD) ∈ y_nar) (z5 : Cond.isRef (.static Bundle.tN "SUPPRESSED_SENTINEL" Bundle.listD) ∈ y_nar) : Wx en d mi pc ls st σ (k + 1) (n + 6) K X := by
  intro R p e s m args below meth c H locs cells slots lsA a1 a2 C9 a4 a5 a6 a7 a8
  have hts := C9.2.2.2.2.2.2.2.1
  have hSt := C9.2.2.2.2.2.2.2.2.2
  obtain ⟨ws, hP, hD, hcv⟩ := a4.1
  obtain ⟨-, hst, -, b, ht, hn⟩ := hSt.1
  have zq : ∀ nm ds, Cond.laysStatic Bundle.tN nm ds ∈ lw_tbl → Cond.isRef (.static Bundle.tN nm ds) ∈ y_nar → yx_Zq Bundle.tN nm ds (y_A en) s s.heap := fun nm ds g1 g2 => ((yx_Zqof (ht _ g1) (ht _ z3) (flat_of_before _ hn _ g2) y_hN).moved hSt.2.1.alike).kept (fun a ha _ => hSt.2.2.2 a ha)
  have hg : ∀ w ∈ lw_all, yx_ot w = true := fun w hw => by
    have h9 := (List.mem_filter.mp hw).2
    unfold yx_ot
    rw [h9, Bool.or_true]
  refine yx_make0 C9.1 C9.2.1 hst C9.2.2.2.2.2.1 hcls hnames (hts _ hk) (hts _ hini) (fun w hw => y_okw_at hSt hts (hat w hw)) (fun w hw => ?_) (zq _ _ z1 z4) (zq _ _ z2 z5) a5 (by rw [C9.2.2.2.2.1]; exact a8.1) d0 d3 d4 (y_K hSt) hP hD (y_hA hSt) hc (by rw [a1]; exact hd) (by rw [a2]; unfold y_lo; omega) (by omega) (by omega) (fun q H1 hP1 hD1 hS1 => ?_)
  · rcases List.mem_cons.mp hw with e9 | hw
    · rw [e9]; exact hg _ hk
    · rcases List.mem_cons.mp hw with e9 | hw
      · rw [e9]; exact hg _ hini
      · exact y_okw_ot (hat w hw)
  · exact h q (y_fresh a4.2 hcv hD1) R p e s m args below meth c H1 locs (cells + 1) (slots + 6) lsA a1 a2 C9 ⟨y_cov_push hcv hP1 hD1, a4.2.up⟩ hS1 (by omega) (by omega) a8
end YM
