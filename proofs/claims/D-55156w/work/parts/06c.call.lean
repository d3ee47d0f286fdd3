/-! CALLS -/
set_option maxRecDepth 100000
section YC
variable {en : yEn} {d : Nat} {mi : yM} {pc : Nat} {ls : List (Nat × Value)} {st : List Value} {σ : yH} {k n : Nat} {K : Option Value → yH → Prop} {X : String → Addr → yH → Prop}
theorem y_after {R : Room} {p : Program} {e : Env} {s : State} {m : MethodId} {args args' : Array Value} {below : List Frame} {meth : Method} {c : Code} {H : Heap} {locs : List Loc} {cells slots : Nat} {lsA : Array Slot} {k0 n0 : Nat} {st0 : List Value} {K0 : Option Value → yH → Prop} {X0 : String → Addr → yH → Prop}
    (a1 : R.frames = d) (a2 : R.locals = y_lo d) (C9 : y_Ct en mi p s m args meth c) (a5 : va_S (y_A en) s.heap H locs) (a6 : cells + (k + k0) ≤ R.cells) (a7 : slots + (n + n0) ≤ R.slots) (a8 : lv_has lsA mi.2.2.1 ls)
    (hr : yx_Run p en.1 e R s m args below meth c H locs cells slots k0 n0 (F0 m pc lsA st0) st (y_Qc en K0 args') (y_XC en X0) (y_A en))
    (hK : ∀ v σ', K0 v σ' → Wx en d mi (pc + 3) ls (v.toList ++ st) σ' k n K X) (hX : ∀ E q σ', X0 E q σ' → WxT en d mi pc ls E q σ' k n K X) :
    W p en.1 e R s m args below meth c H locs cells slots (yx_MQ below (y_Qc en K) (y_XC en X) args s R.cells R.slots (y_A en)) (F0 m pc lsA st0) := by
  refine yx_callg hr (fun E ce q9 st₀ t H1 L e0 e1 hx hL hce hcv hcl => ?_) (fun v st₀ t H1 L e0 e1 hq hL => ?_)
  · obtain ⟨σ', h1, h2, h3⟩ := hx
    exact hX E q9 σ' h1 R p e s m args below meth c H1 (locs ++ L) (cells + k0) (slots + n0) lsA st ce a1 a2 C9 (by rw [← e1]; exact h2) (y_S2 a5 e0 e1 h3 hL) (by omega) (by omega) a8 hce hcv hcl
  · obtain ⟨v', σ', h0, h1, h2, h3⟩ := hq
    cases h0
    exact hK v σ' h1 R p e s m args below meth c H1 (locs ++ L) (cells + k0) (slots + n0) lsA a1 a2 C9 (by rw [← e1]; exact h2) (y_S2 a5 e0 e1 h3 hL) (by omega) (by omega) a8
theorem y_after5 {R : Room} {p : Program} {e : Env} {s : State} {m : MethodId} {args args' : Array Value} {below : List Frame} {meth : Method} {c : Code} {H : Heap} {locs : List Loc} {cells slots : Nat} {lsA : Array Slot} {k0 n0 : Nat} {st0 : List Value} {K0 : Option Value → yH → Prop} {X0 : String → Addr → yH → Prop}
    (a1 : R.frames = d) (a2 : R.locals = y_lo d) (C9 : y_Ct en mi p s m args meth c) (a5 : va_S (y_A en) s.heap H locs) (a6 : cells + (k + k0) ≤ R.cells) (a7 : slots + (n + n0) ≤ R.slots) (a8 : lv_has lsA mi.2.2.1 ls)
    (hr : yx_Run5 p en.1 e R s m args below meth c H locs cells slots k0 n0 (F0 m pc lsA st0) st (y_Qc en K0 args') (y_XC en X0) (y_A en))
    (hK : ∀ v σ', K0 v σ' → Wx en d mi (pc + 5) ls (v.toList ++ st) σ' k n K X) (hX : ∀ E q σ', X0 E q σ' → WxT en d mi pc ls E q σ' k n K X) :
    W p en.1 e R s m args below meth c H locs cells slots (yx_MQ below (y_Qc en K) (y_XC en X) args s R.cells R.slots (y_A en)) (F0 m pc lsA st0) := by
  refine yx_callg5 hr (fun E ce q9 st₀ t H1 L e0 e1 hx hL hce hcv hcl => ?_) (fun v st₀ t H1 L e0 e1 hq hL => ?_)
  · obtain ⟨σ', h1, h2, h3⟩ := hx
    exact hX E q9 σ' h1 R p e s m args below meth c H1 (locs ++ L) (cells + k0) (slots + n0) lsA st ce a1 a2 C9 (by rw [← e1]; exact h2) (y_S2 a5 e0 e1 h3 hL) (by omega) (by omega) a8 hce hcv hcl
  · obtain ⟨v', σ', h0, h1, h2, h3⟩ := hq
    cases h0
    exact hK v σ' h1 R p e s m args below meth c H1 (locs ++ L) (cells + k0) (slots + n0) lsA a1 a2 C9 (by rw [← e1]; exact h2) (y_S2 a5 e0 e1 h3 hL) (by omega) (by omega) a8
theorem y_pre {s : State} {H : Heap} {locs : List Loc} {As : List Value} (h : y_St en s) (hS : va_S (y_A en) s.heap H locs) (hR : y_Rp en σ H) : PreS s H (y_Pc en As σ) As :=
  ⟨y_Pc.blind, fun U hU hW => ⟨rfl, y_St.next h hS hU hW, by rw [hU]; exact hR⟩⟩
/-- the receiver's class -/
theorem y_recv {s : State} {H : Heap} {locs : List Loc} {b ci : Nat} {w : Bool} {fs : List Value} {r : vw_C} (h : y_St en s) (hS : va_S (y_A en) s.heap H locs) (hR : y_Rp en σ H) (hc : y_cl[ci]? = some r) (hb : σ b = some (w, .inr (ci, fs))) : ∃ cellB : Cell, H[b]? = some cellB ∧ cellB.vm.isStatics = false ∧ s.vm.findClass r.1 = some cellB.cls := by
  cases w with
  | true =>
    obtain ⟨ws, q0, hP, hD, hq0, hcv⟩ := hR.1.get hb
    exact va_recv (y_K h) hP hc hq0
  | false =>
    obtain ⟨r', hr, hO, -⟩ := hR.2 b _ hb
    obtain rfl : r' = r := Option.some.inj (hr.symm.trans hc)
    exact va_Orecv (y_O h hO) hS
theorem y_preV {s : State} {H : Heap} {locs : List Loc} {As : List Value} {b ci : Nat} {w : Bool} {fs : List Value} {r : vw_C} (h : y_St en s) (hS : va_S (y_A en) s.heap H locs) (hR : y_Rp en σ H) (hc : y_cl[ci]? = some r) (hb : σ b = some (w, .inr (ci, fs))) : PreV s H r.1 b (y_Pc en (.ref b :: As) σ) As :=
  ⟨y_Pc.blind, y_recv h hS hR hc hb, fun U hU hW => ⟨rfl, y_St.next h hS hU hW, by rw [hU]; exact hR⟩⟩
theorem y_fix {p : Program} {s : State} {m : MethodId} {args : Array Value} {meth : Method} {c : Code} (C9 : y_Ct en mi p s m args meth c) : CallFix p m c mi.2.1 mi.2.2.1 s args lw_all mi.1.cls := ⟨C9.1, C9.2.1, C9.2.2.2.2.1, C9.2.2.2.2.2.1, C9.2.2.2.2.2.2.2.1⟩
/-- the class of an object that is known -/
def isC (σ : yH) (a ci : Nat) : Prop := ∃ (w : Bool) (fs : List Value), σ a = some (w, .inr (ci, fs))

theorem sd_callS {idx k0 n0 d0 : Nat} {y : MethodName} {bytes : ByteArray} {maxL : Nat} {ret : Option FieldType} {As : List Value} (dd : decode mi.2.1 pc = .ok (.invokestatic idx, 3)) (hq : Cond.methodLink mi.1.cls idx y ∈ lw_all) (hst : Cond.static y ∈ lw_all) (hini : Cond.initialized y.cls ∈ lw_all) (hco : Cond.code y bytes maxL ret ∈ lw_all) (na : Nat) (hd : y.cls ≠ "java/lang/invoke/MethodHandle" ∧ y.cls ≠ "java/lang/invoke/VarHandle" ∧ (parseMethodDescriptor y.desc).map (fun d => d.parameters.length) = some na) (hna : As.length = na) (hdd : d0 + 1 ≤ d) (hmL : maxL ≤ 40) (hw : (st.map fun v => v.category).sum ≤ 8) 
    (h : Cx en d0 k0 n0 (y, bytes, maxL, ret, []) (As) σ (fun v σ' => Wx en d mi (pc + 3) ls (v.toList ++ st) σ' k n K X) (fun E q σ' => WxT en d mi pc ls E q σ' k n K X)) : Wx en d mi pc ls (As.reverse ++ st) σ (k + k0) (n + n0) K X := by
  intro R p e s m args below meth c H locs cells slots lsA a1 a2 C9 a4 a5 a6 a7 a8
  have hts := C9.2.2.2.2.2.2.2.1
  have hSt := C9.2.2.2.2.2.2.2.2.2
  subst hna
  
  exact y_after a1 a2 C9 a5 a6 a7 a8 (yx_runS (As := As) (rest := st) (y_fix C9) h (va_cwS As.length hts (lw_S hq hst hini hco) rfl rfl rfl hd ⟨by rw [a1]; exact hdd, by rw [a2]; show 8 + (maxL + 11) + y_lo d0 ≤ y_lo d; unfold y_lo; omega⟩) (y_pre hSt a5 a4) rfl rfl a8.1 rfl (lv_room hw) dd ⟨by omega, by omega⟩) (fun _ _ h => h) (fun _ _ _ h => h)
theorem sd_callSH {idx k0 n0 d0 : Nat} {y : MethodName} {bytes : ByteArray} {maxL : Nat} {ret : Option FieldType} {As : List Value} {h0 : Nat × Nat × Nat × Nat} {h1 : List (Nat × Nat × Nat × Nat)} (dd : decode mi.2.1 pc = .ok (.invokestatic idx, 3)) (hq : Cond.methodLink mi.1.cls idx y ∈ lw_all) (hst : Cond.static y ∈ lw_all) (hini : Cond.initialized y.cls ∈ lw_all) (hco : Cond.codeWith y bytes maxL ret (h0 :: h1) ∈ lw_all) (na : Nat) (hd : y.cls ≠ "java/lang/invoke/MethodHandle" ∧ y.cls ≠ "java/lang/invoke/VarHandle" ∧ (parseMethodDescriptor y.desc).map (fun d => d.parameters.length) = some na) (hna : As.length = na) (hdd : d0 + 1 ≤ d) (hmL : maxL ≤ 40) (hw : (st.map fun v => v.category).sum ≤ 8) 
    (h : Cx en d0 k0 n0 (y, bytes, maxL, ret, (h0 :: h1)) (As) σ (fun v σ' => Wx en d mi (pc + 3) ls (v.toList ++ st) σ' k n K X) (fun E q σ' => WxT en d mi pc ls E q σ' k n K X)) : Wx en d mi pc ls (As.reverse ++ st) σ (k + k0) (n + n0) K X := by
  intro R p e s m args below meth c H locs cells slots lsA a1 a2 C9 a4 a5 a6 a7 a8
  have hts := C9.2.2.2.2.2.2.2.1
  have hSt := C9.2.2.2.2.2.2.2.2.2
  subst hna
  
  exact y_after a1 a2 C9 a5 a6 a7 a8 (yx_runSX (As := As) (rest := st) (y_fix C9) h (yx_cwSW As.length hts (lw_SW hq hst hini hco) rfl rfl rfl hd ⟨by rw [a1]; exact hdd, by rw [a2]; show 8 + (maxL + 11) + y_lo d0 ≤ y_lo d; unfold y_lo; omega⟩) (y_pre hSt a5 a4) rfl rfl a8.1 rfl (lv_room hw) dd ⟨by omega, by omega⟩) (fun _ _ h => h) (fun _ _ _ h => h)
theorem sd_callV {idx k0 n0 d0 : Nat} {y : MethodName} {bytes : ByteArray} {maxL : Nat} {ret : Option FieldType} {As : List Value} {b ci : Nat} {r : vw_C} (dd : decode mi.2.1 pc = .ok (.invokevirtual idx, 3)) (hc : y_cl[ci]? = some r) (hb : isC σ b ci) (hC : y.cls = r.1) (hq : Cond.methodLink mi.1.cls idx y ∈ lw_all) (hi : Cond.instanceMethod y ∈ lw_all) (hse : Cond.selects r.1 y y ∈ lw_all) (hini : Cond.initialized r.1 ∈ lw_all) (hco : Cond.code y bytes maxL ret ∈ lw_all) (na : Nat) (hd : y.cls ≠ "java/lang/invoke/MethodHandle" ∧ y.cls ≠ "java/lang/invoke/VarHandle" ∧ (parseMethodDescriptor y.desc).map (fun d => d.parameters.length) = some na) (hna : As.length = na) (hdd : d0 + 1 ≤ d) (hmL : maxL ≤ 40) (hw : (st.map fun v => v.category).sum ≤ 8) 
    (h : Cx en d0 k0 n0 (y, bytes, maxL, ret, []) (.ref b :: As) σ (fun v σ' => Wx en d mi (pc + 3) ls (v.toList ++ st) σ' k n K X) (fun E q σ' => WxT en d mi pc ls E q σ' k n K X)) : Wx en d mi pc ls (As.reverse ++ .ref b :: st) σ (k + k0) (n + n0) K X := by
  intro R p e s m args below meth c H locs cells slots lsA a1 a2 C9 a4 a5 a6 a7 a8
  have hts := C9.2.2.2.2.2.2.2.1
  have hSt := C9.2.2.2.2.2.2.2.2.2
  subst hna
  obtain ⟨w9, fs9, hb⟩ := hb
  exact y_after a1 a2 C9 a5 a6 a7 a8 (yx_runV (As := As) (rest := st) (y_fix C9) h (cwV As.length hts (lw_V hq hi hse hini hco) rfl rfl rfl ⟨hC, hd⟩ ⟨by rw [a1]; exact hdd, by rw [a2]; show 8 + (maxL + 11) + y_lo d0 ≤ y_lo d; unfold y_lo; omega⟩) (y_preV hSt a5 a4 hc hb) rfl rfl a8.1 rfl (lv_room hw) dd ⟨by omega, by omega⟩) (fun _ _ h => h) (fun _ _ _ h => h)
theorem sd_callVH {idx k0 n0 d0 : Nat} {y : MethodName} {bytes : ByteArray} {maxL : Nat} {ret : Option FieldType} {As : List Value} {h0 : Nat × Nat × Nat × Nat} {h1 : List (Nat × Nat × Nat × Nat)} {b ci : Nat} {r : vw_C} (dd : decode mi.2.1 pc = .ok (.invokevirtual idx, 3)) (hc : y_cl[ci]? = some r) (hb : isC σ b ci) (hC : y.cls = r.1) (hq : Cond.methodLink mi.1.cls idx y ∈ lw_all) (hi : Cond.instanceMethod y ∈ lw_all) (hse : Cond.selects r.1 y y ∈ lw_all) (hini : Cond.initialized r.1 ∈ lw_all) (hco : Cond.codeWith y bytes maxL ret (h0 :: h1) ∈ lw_all) (na : Nat) (hd : y.cls ≠ "java/lang/invoke/MethodHandle" ∧ y.cls ≠ "java/lang/invoke/VarHandle" ∧ (parseMethodDescriptor y.desc).map (fun d => d.parameters.length) = some na) (hna : As.length = na) (hdd : d0 + 1 ≤ d) (hmL : maxL ≤ 40) (hw : (st.map fun v => v.category).sum ≤ 8) 
    (h : Cx en d0 k0 n0 (y, bytes, maxL, ret, (h0 :: h1)) (.ref b :: As) σ (fun v σ' => Wx en d mi (pc + 3) ls (v.toList ++ st) σ' k n K X) (fun E q σ' => WxT en d mi pc ls E q σ' k n K X)) : Wx en d mi pc ls (As.reverse ++ .ref b :: st) σ (k + k0) (n + n0) K X := by
  intro R p e s m args below meth c H locs cells slots lsA a1 a2 C9 a4 a5 a6 a7 a8
  have hts := C9.2.2.2.2.2.2.2.1
  have hSt := C9.2.2.2.2.2.2.2.2.2
  subst hna
  obtain ⟨w9, fs9, hb⟩ := hb
  exact y_after a1 a2 C9 a5 a6 a7 a8 (yx_runVX (As := As) (rest := st) (y_fix C9) h (yx_cwVW As.length hts (lw_VW hq hi hse hini hco) rfl rfl rfl ⟨hC, hd⟩ ⟨by rw [a1]; exact hdd, by rw [a2]; show 8 + (maxL + 11) + y_lo d0 ≤ y_lo d; unfold y_lo; omega⟩) (y_preV hSt a5 a4 hc hb) rfl rfl a8.1 rfl (lv_room hw) dd ⟨by omega, by omega⟩) (fun _ _ h => h) (fun _ _ _ h => h)
theorem sd_callI {idx k0 n0 d0 : Nat} {y : MethodName} {bytes : ByteArray} {maxL : Nat} {As : List Value} {b : Nat} (dd : decode mi.2.1 pc = .ok (.invokespecial idx, 3)) (hq : Cond.methodLink mi.1.cls idx y ∈ lw_all) (hi : Cond.instanceMethod y ∈ lw_all) (hini : Cond.initialized y.cls ∈ lw_all) (hco : Cond.code y bytes maxL none ∈ lw_all) (hy : y.name = "<init>") (na : Nat) (hd : y.cls ≠ "java/lang/invoke/MethodHandle" ∧ y.cls ≠ "java/lang/invoke/VarHandle" ∧ (parseMethodDescriptor y.desc).map (fun d => d.parameters.length) = some na) (hna : As.length = na) (hdd : d0 + 1 ≤ d) (hmL : maxL ≤ 40) (hw : (st.map fun v => v.category).sum ≤ 8) 
    (h : Cx en d0 k0 n0 (y, bytes, maxL, none, []) (.ref b :: As) σ (fun v σ' => Wx en d mi (pc + 3) ls (v.toList ++ st) σ' k n K X) (fun E q σ' => WxT en d mi pc ls E q σ' k n K X)) : Wx en d mi pc ls (As.reverse ++ .ref b :: st) σ (k + k0) (n + n0) K X := by
  intro R p e s m args below meth c H locs cells slots lsA a1 a2 C9 a4 a5 a6 a7 a8
  have hts := C9.2.2.2.2.2.2.2.1
  have hSt := C9.2.2.2.2.2.2.2.2.2
  subst hna
  exact y_after a1 a2 C9 a5 a6 a7 a8 (yx_runI (As := As) (rest := st) (y_fix C9) h (cwI As.length hts (lw_meth hco) rfl rfl rfl (hts _ hini) (hts _ hq) (hts _ hi) hy hd ⟨by rw [a1]; exact hdd, by rw [a2]; show 8 + (maxL + 11) + y_lo d0 ≤ y_lo d; unfold y_lo; omega⟩) (y_pre hSt a5 a4) rfl rfl a8.1 rfl (lv_room hw) dd ⟨by omega, by omega⟩) (fun _ _ h => h) (fun _ _ _ h => h)
theorem sd_callIN {idx k0 n0 d0 : Nat} {y : MethodName} {bytes : ByteArray} {maxL : Nat} {As : List Value} {b : Nat} {host : String} (dd : decode mi.2.1 pc = .ok (.invokespecial idx, 3)) (hq : Cond.methodLinkNest mi.1.cls idx y host ∈ lw_tbl) (hi : Cond.instanceMethod y ∈ lw_all) (hini : Cond.initialized y.cls ∈ lw_all) (hco : Cond.code y bytes maxL none ∈ lw_all) (hy : y.name = "<init>") (na : Nat) (hd : y.cls ≠ "java/lang/invoke/MethodHandle" ∧ y.cls ≠ "java/lang/invoke/VarHandle" ∧ (parseMethodDescriptor y.desc).map (fun d => d.parameters.length) = some na) (hna : As.length = na) (hdd : d0 + 1 ≤ d) (hmL : maxL ≤ 40) (hw : (st.map fun v => v.category).sum ≤ 8) 
    (h : Cx en d0 k0 n0 (y, bytes, maxL, none, []) (.ref b :: As) σ (fun v σ' => Wx en d mi (pc + 3) ls (v.toList ++ st) σ' k n K X) (fun E q σ' => WxT en d mi pc ls E q σ' k n K X)) : Wx en d mi pc ls (As.reverse ++ .ref b :: st) σ (k + k0) (n + n0) K X := by
  intro R p e s m args below meth c H locs cells slots lsA a1 a2 C9 a4 a5 a6 a7 a8
  have hts := C9.2.2.2.2.2.2.2.1
  have hSt := C9.2.2.2.2.2.2.2.2.2
  subst hna
  exact y_after a1 a2 C9 a5 a6 a7 a8 (yx_runIN (As := As) (rest := st) (y_fix C9) h ⟨va_cnB As.length hts (lw_meth hco) rfl rfl rfl (y_nM hSt hq) (hts _ hini) hd ⟨by rw [a1]; exact hdd, by rw [a2]; show 8 + (maxL + 11) + y_lo d0 ≤ y_lo d; unfold y_lo; omega⟩, hy, hts _ hi⟩ (y_pre hSt a5 a4) rfl rfl a8.1 rfl (lv_room hw) dd ⟨by omega, by omega⟩) (fun _ _ h => h) (fun _ _ _ h => h)
theorem sd_callSN {idx k0 n0 d0 : Nat} {y : MethodName} {bytes : ByteArray} {maxL : Nat} {ret : Option FieldType} {As : List Value} {host : String} (dd : decode mi.2.1 pc = .ok (.invokestatic idx, 3)) (hq : Cond.methodLinkNest mi.1.cls idx y host ∈ lw_tbl) (hst : Cond.static y ∈ lw_all) (hini : Cond.initialized y.cls ∈ lw_all) (hco : Cond.code y bytes maxL ret ∈ lw_all) (na : Nat) (hd : y.cls ≠ "java/lang/invoke/MethodHandle" ∧ y.cls ≠ "java/lang/invoke/VarHandle" ∧ (parseMethodDescriptor y.desc).map (fun d => d.parameters.length) = some na) (hna : As.length = na) (hdd : d0 + 1 ≤ d) (hmL : maxL ≤ 40) (hw : (st.map fun v => v.category).sum ≤ 8) 
    (h : Cx en d0 k0 n0 (y, bytes, maxL, ret, []) (As) σ (fun v σ' => Wx en d mi (pc + 3) ls (v.toList ++ st) σ' k n K X) (fun E q σ' => WxT en d mi pc ls E q σ' k n K X)) : Wx en d mi pc ls (As.reverse ++ st) σ (k + k0) (n + n0) K X := by
  intro R p e s m args below meth c H locs cells slots lsA a1 a2 C9 a4 a5 a6 a7 a8
  have hts := C9.2.2.2.2.2.2.2.1
  have hSt := C9.2.2.2.2.2.2.2.2.2
  subst hna
  
  exact y_after a1 a2 C9 a5 a6 a7 a8 (yx_runSN (As := As) (rest := st) (y_fix C9) h (⟨va_cnB As.length hts (lw_meth hco) rfl rfl rfl (y_nM hSt hq) (hts _ hini) hd ⟨by rw [a1]; exact hdd, by rw [a2]; show 8 + (maxL + 11) + y_lo d0 ≤ y_lo d; unfold y_lo; omega⟩, hts _ hst, trivial⟩) (y_pre hSt a5 a4) rfl rfl a8.1 rfl (lv_room hw) dd ⟨by omega, by omega⟩) (fun _ _ h => h) (fun _ _ _ h => h)
theorem sd_callVN {idx k0 n0 d0 : Nat} {y : MethodName} {bytes : ByteArray} {maxL : Nat} {ret : Option FieldType} {As : List Value} {b ci : Nat} {r : vw_C} {host : String} (dd : decode mi.2.1 pc = .ok (.invokevirtual idx, 3)) (hc : y_cl[ci]? = some r) (hb : isC σ b ci) (hq : Cond.methodLinkNest mi.1.cls idx y host ∈ lw_tbl) (hi : Cond.instanceMethod y ∈ lw_all) (hse : Cond.selects r.1 y y ∈ lw_all) (hini : Cond.initialized y.cls ∈ lw_all) (hco : Cond.code y bytes maxL ret ∈ lw_all) (na : Nat) (hd : y.cls ≠ "java/lang/invoke/MethodHandle" ∧ y.cls ≠ "java/lang/invoke/VarHandle" ∧ (parseMethodDescriptor y.desc).map (fun d => d.parameters.length) = some na) (hna : As.length = na) (hdd : d0 + 1 ≤ d) (hmL : maxL ≤ 40) (hw : (st.map fun v => v.category).sum ≤ 8) 
    (h : Cx en d0 k0 n0 (y, bytes, maxL, ret, []) (.ref b :: As) σ (fun v σ' => Wx en d mi (pc + 3) ls (v.toList ++ st) σ' k n K X) (fun E q σ' => WxT en d mi pc ls E q σ' k n K X)) : Wx en d mi pc ls (As.reverse ++ .ref b :: st) σ (k + k0) (n + n0) K X := by
  intro R p e s m args below meth c H locs cells slots lsA a1 a2 C9 a4 a5 a6 a7 a8
  have hts := C9.2.2.2.2.2.2.2.1
  have hSt := C9.2.2.2.2.2.2.2.2.2
  subst hna
  obtain ⟨w9, fs9, hb⟩ := hb
  exact y_after a1 a2 C9 a5 a6 a7 a8 (yx_runVN (As := As) (rest := st) (y_fix C9) h (⟨va_cnB As.length hts (lw_meth hco) rfl rfl rfl (y_nM hSt hq) (hts _ hini) hd ⟨by rw [a1]; exact hdd, by rw [a2]; show 8 + (maxL + 11) + y_lo d0 ≤ y_lo d; unfold y_lo; omega⟩, hts _ hi, hts _ hse⟩) (y_preV hSt a5 a4 hc hb) rfl rfl a8.1 rfl (lv_room hw) dd ⟨by omega, by omega⟩) (fun _ _ h => h) (fun _ _ _ h => h)
theorem sd_callU {idx k0 n0 d0 : Nat} {y : MethodName} {bytes : ByteArray} {maxL : Nat} {ret : Option FieldType} {As : List Value} {b ci : Nat} {r : vw_C} {owner : String} {x : MethodName} (dd : decode mi.2.1 pc = .ok (.invokevirtual idx, 3)) (hc : y_cl[ci]? = some r) (hb : isC σ b ci) (hyx : y = ⟨owner, x.name, x.desc⟩) (hq : Cond.methodLink mi.1.cls idx x ∈ lw_all) (hsm : Cond.sameMethod x.cls owner x.name x.desc ∈ lw_all) (hi : Cond.instanceMethod y ∈ lw_all) (hse : Cond.selects r.1 x y ∈ lw_all) (hini : Cond.initialized y.cls ∈ lw_all) (hco : Cond.code y bytes maxL ret ∈ lw_all) (nb : Nat) (hx : owner ≠ "java/lang/invoke/MethodHandle" ∧ owner ≠ "java/lang/invoke/VarHandle" ∧ (parseMethodDescriptor x.desc).map (fun d => d.parameters.length) = some nb) (hnb : As.length = nb) (na : Nat) (hd : y.cls ≠ "java/lang/invoke/MethodHandle" ∧ y.cls ≠ "java/lang/invoke/VarHandle" ∧ (parseMethodDescriptor y.desc).map (fun d => d.parameters.length) = some na) (hna : As.length = na) (hdd : d0 + 1 ≤ d) (hmL : maxL ≤ 40) (hw : (st.map fun v => v.category).sum ≤ 8) 
    (h : Cx en d0 k0 n0 (y, bytes, maxL, ret, []) (.ref b :: As) σ (fun v σ' => Wx en d mi (pc + 3) ls (v.toList ++ st) σ' k n K X) (fun E q σ' => WxT en d mi pc ls E q σ' k n K X)) : Wx en d mi pc ls (As.reverse ++ .ref b :: st) σ (k + k0) (n + n0) K X := by
  intro R p e s m args below meth c H locs cells slots lsA a1 a2 C9 a4 a5 a6 a7 a8
  have hts := C9.2.2.2.2.2.2.2.1
  have hSt := C9.2.2.2.2.2.2.2.2.2
  subst hna
  obtain ⟨w9, fs9, hb⟩ := hb
  subst hnb
  exact y_after a1 a2 C9 a5 a6 a7 a8 (yx_runU (As := As) (rest := st) (y_fix C9) h (va_cwU (owner := owner) As.length hts (lw_app (by intro w hw9; simp only [List.mem_cons, List.not_mem_nil, or_false] at hw9; rcases hw9 with e9 | e9 | e9 | e9 | e9 <;> rw [e9] <;> assumption) (lw_meth hco)) rfl rfl rfl hyx hx ⟨by rw [a1]; exact hdd, by rw [a2]; show 8 + (maxL + 11) + y_lo d0 ≤ y_lo d; unfold y_lo; omega⟩) (y_preV hSt a5 a4 hc hb) rfl rfl a8.1 rfl (lv_room hw) dd ⟨by omega, by omega⟩) (fun _ _ h => h) (fun _ _ _ h => h)
theorem sd_callO {idx k0 n0 d0 : Nat} {y : MethodName} {bytes : ByteArray} {maxL : Nat} {ret : Option FieldType} {As : List Value} {b ci : Nat} {r : vw_C} {owner : String} {x : MethodName} {b9 : ByteArray} {m9 : Nat} {r9 : Option FieldType} (dd : decode mi.2.1 pc = .ok (.invokevirtual idx, 3)) (hc : y_cl[ci]? = some r) (hb : isC σ b ci) (hyo : Cond.code ⟨owner, x.name, x.desc⟩ b9 m9 r9 ∈ lw_all) (hio : Cond.instanceMethod ⟨owner, x.name, x.desc⟩ ∈ lw_all) (hq : Cond.methodLink mi.1.cls idx x ∈ lw_all) (hsm : Cond.sameMethod x.cls owner x.name x.desc ∈ lw_all) (hi : Cond.instanceMethod y ∈ lw_all) (hse : Cond.selects r.1 x y ∈ lw_all) (hini : Cond.initialized y.cls ∈ lw_all) (hco : Cond.code y bytes maxL ret ∈ lw_all) (nb : Nat) (hx : owner ≠ "java/lang/invoke/MethodHandle" ∧ owner ≠ "java/lang/invoke/VarHandle" ∧ (parseMethodDescriptor x.desc).map (fun d => d.parameters.length) = some nb) (hnb : As.length = nb) (na : Nat) (hd : y.cls ≠ "java/lang/invoke/MethodHandle" ∧ y.cls ≠ "java/lang/invoke/VarHandle" ∧ (parseMethodDescriptor y.desc).map (fun d => d.parameters.length) = some na) (hna : As.length = na) (hdd : d0 + 1 ≤ d) (hmL : maxL ≤ 40) (hw : (st.map fun v => v.category).sum ≤ 8) 
    (h : Cx en d0 k0 n0 (y, bytes, maxL, ret, []) (.ref b :: As) σ (fun v σ' => Wx en d mi (pc + 3) ls (v.toList ++ st) σ' k n K X) (fun E q σ' => WxT en d mi pc ls E q σ' k n K X)) : Wx en d mi pc ls (As.reverse ++ .ref b :: st) σ (k + k0) (n + n0) K X := by
  intro R p e s m args below meth c H locs cells slots lsA a1 a2 C9 a4 a5 a6 a7 a8
  have hts := C9.2.2.2.2.2.2.2.1
  have hSt := C9.2.2.2.2.2.2.2.2.2
  subst hna
  obtain ⟨w9, fs9, hb⟩ := hb
  subst hnb
  exact y_after a1 a2 C9 a5 a6 a7 a8 (yx_runU (As := As) (rest := st) (y_fix C9) h (va_cwO (owner := owner) As.length hts (lw_app (by intro w hw9; simp only [List.mem_cons, List.not_mem_nil, or_false] at hw9; rcases hw9 with e9 | e9 | e9 | e9 | e9 | e9 <;> rw [e9] <;> assumption) (lw_meth hco)) rfl rfl rfl hyo hx ⟨by rw [a1]; exact hdd, by rw [a2]; show 8 + (maxL + 11) + y_lo d0 ≤ y_lo d; unfold y_lo; omega⟩) (y_preV hSt a5 a4 hc hb) rfl rfl a8.1 rfl (lv_room hw) dd ⟨by omega, by omega⟩) (fun _ _ h => h) (fun _ _ _ h => h)
theorem sd_callSU {idx k0 n0 d0 : Nat} {y : MethodName} {bytes : ByteArray} {maxL : Nat} {ret : Option FieldType} {As : List Value} {b ci : Nat} {r : vw_C} (dd : decode mi.2.1 pc = .ok (.invokespecial idx, 3)) (hc : y_cl[ci]? = some r) (hb : isC σ b ci) (hq : Cond.methodLink mi.1.cls idx y ∈ lw_all) (hsm : Cond.sameMethod y.cls y.cls y.name y.desc ∈ lw_all) (hsu : Cond.superclass mi.1.cls y.cls ∈ lw_all) (hi : Cond.instanceMethod y ∈ lw_all) (hini : Cond.initialized y.cls ∈ lw_all) (hco : Cond.code y bytes maxL ret ∈ lw_all) (hny : y.name ≠ "<init>") (na : Nat) (hd : y.cls ≠ "java/lang/invoke/MethodHandle" ∧ y.cls ≠ "java/lang/invoke/VarHandle" ∧ (parseMethodDescriptor y.desc).map (fun d => d.parameters.length) = some na) (hna : As.length = na) (hdd : d0 + 1 ≤ d) (hmL : maxL ≤ 40) (hw : (st.map fun v => v.category).sum ≤ 8) 
    (h : Cx en d0 k0 n0 (y, bytes, maxL, ret, []) (.ref b :: As) σ (fun v σ' => Wx en d mi (pc + 3) ls (v.toList ++ st) σ' k n K X) (fun E q σ' => WxT en d mi pc ls E q σ' k n K X)) : Wx en d mi pc ls (As.reverse ++ .ref b :: st) σ (k + k0) (n + n0) K X := by
  intro R p e s m args below meth c H locs cells slots lsA a1 a2 C9 a4 a5 a6 a7 a8
  have hts := C9.2.2.2.2.2.2.2.1
  have hSt := C9.2.2.2.2.2.2.2.2.2
  subst hna
  obtain ⟨w9, fs9, hb⟩ := hb
  exact y_after a1 a2 C9 a5 a6 a7 a8 (yx_runSU (As := As) (rest := st) ((y_K hSt).1 ci r hc).2 (y_fix C9) h (va_cwSU As.length hts (lw_app (by intro w hw9; simp only [List.mem_cons, List.not_mem_nil, or_false] at hw9; rcases hw9 with e9 | e9 | e9 | e9 | e9 <;> rw [e9] <;> assumption) (lw_meth hco)) rfl rfl rfl ⟨hny, hd.2.2⟩ ⟨by rw [a1]; exact hdd, by rw [a2]; show 8 + (maxL + 11) + y_lo d0 ≤ y_lo d; unfold y_lo; omega⟩) (y_preV hSt a5 a4 hc hb) rfl rfl a8.1 rfl (lv_room hw) dd ⟨by omega, by omega⟩) (fun _ _ h => h) (fun _ _ _ h => h)
theorem y_Fw {s : State} (h : y_St en s) {C : String} {x y : MethodName} (h1 : Cond.declares x ∈ lw_tbl) (h2 : Cond.interfaceMethod x.cls x.cls x.name x.desc ∈ lw_tbl) (h3 : Cond.publicMethod y ∈ lw_tbl) (h4 : Cond.unhidden C x.name x.desc ∈ lw_tbl) (h5 : Cond.castable C x.cls ∈ lw_tbl) (hx : x.cls ≠ "java/lang/invoke/MethodHandle" ∧ x.cls ≠ "java/lang/invoke/VarHandle") : va_Fw C x y s := by
  obtain ⟨b0, ht⟩ := y_tbl h
  exact (va_Fw.of (ht _ h1) (ht _ h2) (ht _ h3) (ht _ h4) (ht _ h5)).moved hx h.2.1.alike
theorem sd_callF {idx k0 n0 d0 : Nat} {y : MethodName} {bytes : ByteArray} {maxL : Nat} {ret : Option FieldType} {As : List Value} {b ci : Nat} {r : vw_C} {x : MethodName} {cnt : Nat} (dd : decode mi.2.1 pc = .ok (.invokeinterface idx cnt, 5)) (hc : y_cl[ci]? = some r) (hb : isC σ b ci) (hq : Cond.methodLink mi.1.cls idx x ∈ lw_all) (hse : Cond.selects r.1 x y ∈ lw_all) (hi : Cond.instanceMethod y ∈ lw_all) (hini : Cond.initialized y.cls ∈ lw_all) (hco : Cond.code y bytes maxL ret ∈ lw_all) (f1 : Cond.declares x ∈ lw_tbl) (f2 : Cond.interfaceMethod x.cls x.cls x.name x.desc ∈ lw_tbl) (f3 : Cond.publicMethod y ∈ lw_tbl) (f4 : Cond.unhidden r.1 x.name x.desc ∈ lw_tbl) (f5 : Cond.castable r.1 x.cls ∈ lw_tbl) (nb : Nat) (hx : x.cls ≠ "java/lang/invoke/MethodHandle" ∧ x.cls ≠ "java/lang/invoke/VarHandle" ∧ (parseMethodDescriptor x.desc).map (fun d => d.parameters.length) = some nb) (hnb : As.length = nb) (na : Nat) (hd : y.cls ≠ "java/lang/invoke/MethodHandle" ∧ y.cls ≠ "java/lang/invoke/VarHandle" ∧ (parseMethodDescriptor y.desc).map (fun d => d.parameters.length) = some na) (hna : As.length = na) (hdd : d0 + 1 ≤ d) (hmL : maxL ≤ 40) (hw : (st.map fun v => v.category).sum ≤ 8) 
    (h : Cx en d0 k0 n0 (y, bytes, maxL, ret, []) (.ref b :: As) σ (fun v σ' => Wx en d mi (pc + 5) ls (v.toList ++ st) σ' k n K X) (fun E q σ' => WxT en d mi pc ls E q σ' k n K X)) : Wx en d mi pc ls (As.reverse ++ .ref b :: st) σ (k + k0) (n + n0) K X := by
  intro R p e s m args below meth c H locs cells slots lsA a1 a2 C9 a4 a5 a6 a7 a8
  have hts := C9.2.2.2.2.2.2.2.1
  have hSt := C9.2.2.2.2.2.2.2.2.2
  subst hna
  obtain ⟨w9, fs9, hb⟩ := hb
  subst hnb
  exact y_after5 a1 a2 C9 a5 a6 a7 a8 (yx_runF (As := As) (rest := st) ((y_K hSt).1 ci r hc).2 (y_fix C9) h (va_cwF As.length hts (lw_app (by intro w hw9; simp only [List.mem_cons, List.not_mem_nil, or_false] at hw9; rcases hw9 with e9 | e9 | e9 | e9 <;> rw [e9] <;> assumption) (lw_meth hco)) rfl rfl rfl (y_Fw hSt f1 f2 f3 f4 f5 ⟨hx.1, hx.2.1⟩) hx ⟨by rw [a1]; exact hdd, by rw [a2]; show 8 + (maxL + 11) + y_lo d0 ≤ y_lo d; unfold y_lo; omega⟩) (y_preV hSt a5 a4 hc hb) rfl rfl a8.1 rfl (lv_room hw) dd ⟨by omega, by omega⟩) (fun _ _ h => h) (fun _ _ _ h => h)
theorem sd_callFH {idx k0 n0 d0 : Nat} {y : MethodName} {bytes : ByteArray} {maxL : Nat} {ret : Option FieldType} {As : List Value} {h0 : Nat × Nat × Nat × Nat} {h1 : List (Nat × Nat × Nat × Nat)} {b ci : Nat} {r : vw_C} {x : MethodName} {cnt : Nat} (dd : decode mi.2.1 pc = .ok (.invokeinterface idx cnt, 5)) (hc : y_cl[ci]? = some r) (hb : isC σ b ci) (hq : Cond.methodLink mi.1.cls idx x ∈ lw_all) (hse : Cond.selects r.1 x y ∈ lw_all) (hi : Cond.instanceMethod y ∈ lw_all) (hini : Cond.initialized y.cls ∈ lw_all) (hco : Cond.codeWith y bytes maxL ret (h0 :: h1) ∈ lw_all) (f1 : Cond.declares x ∈ lw_tbl) (f2 : Cond.interfaceMethod x.cls x.cls x.name x.desc ∈ lw_tbl) (f3 : Cond.publicMethod y ∈ lw_tbl) (f4 : Cond.unhidden r.1 x.name x.desc ∈ lw_tbl) (f5 : Cond.castable r.1 x.cls ∈ lw_tbl) (nb : Nat) (hx : x.cls ≠ "java/lang/invoke/MethodHandle" ∧ x.cls ≠ "java/lang/invoke/VarHandle" ∧ (parseMethodDescriptor x.desc).map (fun d => d.parameters.length) = some nb) (hnb : As.length = nb) (na : Nat) (hd : y.cls ≠ "java/lang/invoke/MethodHandle" ∧ y.cls ≠ "java/lang/invoke/VarHandle" ∧ (parseMethodDescriptor y.desc).map (fun d => d.parameters.length) = some na) (hna : As.length = na) (hdd : d0 + 1 ≤ d) (hmL : maxL ≤ 40) (hw : (st.map fun v => v.category).sum ≤ 8) 
    (h : Cx en d0 k0 n0 (y, bytes, maxL, ret, (h0 :: h1)) (.ref b :: As) σ (fun v σ' => Wx en d mi (pc + 5) ls (v.toList ++ st) σ' k n K X) (fun E q σ' => WxT en d mi pc ls E q σ' k n K X)) : Wx en d mi pc ls (As.reverse ++ .ref b :: st) σ (k + k0) (n + n0) K X := by
  intro R p e s m args below meth c H locs cells slots lsA a1 a2 C9 a4 a5 a6 a7 a8
  have hts := C9.2.2.2.2.2.2.2.1
  have hSt := C9.2.2.2.2.2.2.2.2.2
  subst hna
  obtain ⟨w9, fs9, hb⟩ := hb
  subst hnb
  exact y_after5 a1 a2 C9 a5 a6 a7 a8 (yx_runFW (As := As) (rest := st) ((y_K hSt).1 ci r hc).2 (y_fix C9) h (va_cwFW As.length hts (lw_app (by intro w hw9; simp only [List.mem_cons, List.not_mem_nil, or_false] at hw9; rcases hw9 with e9 | e9 | e9 | e9 <;> rw [e9] <;> assumption) (lw_methW hco)) rfl rfl rfl (y_Fw hSt f1 f2 f3 f4 f5 ⟨hx.1, hx.2.1⟩) hx ⟨by rw [a1]; exact hdd, by rw [a2]; show 8 + (maxL + 11) + y_lo d0 ≤ y_lo d; unfold y_lo; omega⟩) (y_preV hSt a5 a4 hc hb) rfl rfl a8.1 rfl (lv_room hw) dd ⟨by omega, by omega⟩) (fun _ _ h => h) (fun _ _ _ h => h)
/-! exceptions -/
theorem y_xc {s t : State} {H : Heap} {locs : List Loc} {E : String} {q : Addr} (h : X E q σ) (hR : y_Rp en σ H) (hS : va_S (y_A en) s.heap H locs) (ht : t.heap = H) : y_XC en X E q s t := ⟨σ, h, by rw [ht]; exact hR, hS.F ht⟩
/-- no handler here -/
theorem st_out {E : String} {q : Addr} (ht : (tableOf mi.2.2.2.2).all (fun x => !covers x pc) = true) (h : X E q σ) : WxT en d mi pc ls E q σ k n K X := by
  intro R p e s m args below meth c H locs cells slots lsA st9 ce a1 a2 C9 a4 a5 a6 a7 a8 b1 b2 b3
  refine yx_out (fun x hx => ?_) C9.2.2.2.1 b1 b2 b3 (fun t hT _ => y_xc h a4 a5 hT) a5.2.2 (by omega) (by omega)
  rw [C9.2.2.2.2.2.2.2.2.1] at hx
  have h9 := List.all_eq_true.mp ht x hx
  cases hcv9 : covers x pc with
  | false => rfl
  | true => rw [hcv9] at h9; exact absurd h9 (by decide)
/-- a pair of classes that isn't castable, by its place in the start's words -/
theorem y_nN {s : State} (h : y_St en s) {E T : String} (hw : Cond.not (.castable E T) ∈ flatC (Jvm.Cond.and given_1 narrow_1)) : va_Nc E T s := by
  obtain ⟨-, -, -, b, -, h2⟩ := h.1
  exact va_Nc.moved h.2.1.alike (va_Nc.of (flat_of_before _ h2 _ hw))
/-- the handlers don't take it -/
theorem st_outP {E : String} {q : Addr} (hp : ∀ z ∈ tableOf mi.2.2.2.2, covers z pc = false ∨ (z.catchType ≠ 0 ∧ ∃ nm : String, Cond.classLink mi.1.cls z.catchType nm ∈ lw_all ∧ Cond.not (.castable E nm) ∈ flatC (Jvm.Cond.and given_1 narrow_1))) (h : X E q σ) : WxT en d mi pc ls E q σ k n K X := by
  intro R p e s m args below meth c H locs cells slots lsA st9 ce a1 a2 C9 a4 a5 a6 a7 a8 b1 b2 b3
  refine yx_outP C9.2.2.2.2.2.1 C9.2.2.2.1 (fun z hz => ?_) b1 b2 b3 (fun t hT _ => y_xc h a4 a5 hT) a5.2.2 (by omega) (by omega)
  rw [C9.2.2.2.2.2.2.2.2.1] at hz
  rcases hp z hz with h1 | ⟨h1, nm, h2, h3⟩
  · exact Or.inl h1
  · exact Or.inr ⟨h1, nm, C9.2.2.2.2.2.2.2.1 _ h2, y_nN C9.2.2.2.2.2.2.2.2.2 h3⟩
theorem st_catch {E name : String} {q : Addr} (pre : List ExceptionTableEntry) (x : ExceptionTableEntry) (suf : List ExceptionTableEntry) (hs : tableOf mi.2.2.2.2 = pre ++ x :: suf) (hp : ∀ z ∈ pre, covers z pc = false ∨ (z.catchType ≠ 0 ∧ ∃ nm : String, Cond.classLink mi.1.cls z.catchType nm ∈ lw_all ∧ Cond.not (.castable E nm) ∈ flatC (Jvm.Cond.and given_1 narrow_1)))
    (hx : covers x pc = true) (h0 : x.catchType ≠ 0) (hl : Cond.classLink mi.1.cls x.catchType name ∈ lw_all) (hcast : Cond.castable E name ∈ lw_tbl) (h : Wx en d mi x.handlerPc ls [.ref q] σ k n K X) : WxT en d mi pc ls E q σ k n K X := by
  intro R p e s m args below meth c H locs cells slots lsA st9 ce a1 a2 C9 a4 a5 a6 a7 a8 b1 b2 b3
  refine yx_catch C9.2.2.2.2.2.1 pre x suf (C9.2.2.2.2.2.2.2.2.1.trans hs) (fun z hz => ?_) hx h0 (C9.2.2.2.2.2.2.2.1 _ hl) (va_Nw.use rfl (y_nC C9.2.2.2.2.2.2.2.2.2 hcast)) b1 b2 b3 (h R p e s m args below meth c H locs cells slots lsA a1 a2 C9 a4 a5 a6 a7 a8)
  rcases hp z hz with h1 | ⟨h1, nm, h2, h3⟩
  · exact Or.inl h1
  · exact Or.inr ⟨h1, nm, C9.2.2.2.2.2.2.2.1 _ h2, y_nN C9.2.2.2.2.2.2.2.2.2 h3⟩
/-- athrow of a known object -/
theorem sd_athrow {q ci : Nat} {r : vw_C} {fs : List Value} (dd : decode mi.2.1 pc = .ok (.athrow, 1)) (hc : y_cl[ci]? = some r) (hq : σ q = some (true, .inr (ci, fs))) (h : WxT en d mi pc ls r.1 q σ k n K X) : Wx en d mi pc ls (.ref q :: st) σ k n K X := by
  intro R p e s m args below meth c H locs cells slots lsA a1 a2 C9 a4 a5 a6 a7 a8
  obtain ⟨ws, q0, hP, hD, hq0, hcv⟩ := a4.1.get hq
  obtain ⟨r', h1, cell, h2, h3, h4, -⟩ := hP q0 _ hq0
  have h5 := ((y_K C9.2.2.2.2.2.2.2.2.2).1 ci r hc).2.1
  exact yx_athrow C9.1 C9.2.1 dd (h R p e s m args below meth c H locs cells slots lsA st cell a1 a2 C9 a4 a5 a6 a7 a8 h2 h4 (by rw [h3]; exact h5))
end YC
