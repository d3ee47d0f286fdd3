/-! BASE: an abstract heap over the kit; contracts Cx, the judgement Wx, lifted rows sd_ -/
set_option maxRecDepth 100000
abbrev yE : Type := Bool × va_E
abbrev yH : Type := Nat → Option yE
/-- launch, the law's start, its classes, its array classes -/
abbrev yEn : Type := Launch × State × va_G × (Nat → ClassId)
abbrev yM : Type := MethodName × ByteArray × Nat × Option FieldType × List (Nat × Nat × Nat × Nat)
def y_cl : List vw_C := [(RX1, TX1, 7), (RX2, TX2, 15), (RX3, TX3, 27), (RX4, TX4, 6), (RX5, TX5, 8), (RX6, TX6, 2), (RX7, TX7, 4), (RX8, TX8, 3), (RX9, TX9, 2), (RX10, TX10, 7), (RJ18, TJ18, 1), (RJ2, TJ2, 3), (RJ25, TJ25, 4), (RJ4, TJ4, 3), (RJ6, TJ6, 4), (RJ7, TJ7, 4), (RJ12, TJ12, 0), (RJ14, TJ14, 0), (RJ21, TJ21, 0), (RJ22, TJ22, 0), (RJ23, TJ23, 0), (RJ26, TJ26, 0)]
def y_ty (en : yEn) : List (ClassId × FieldType) := [(en.2.2.2 0, .int), (en.2.2.2 1, .byte), (en.2.2.2 2, .char), (en.2.2.2 3, .long), (en.2.2.2 4, .double), (en.2.2.2 5, .object "java/lang/Object"), (en.2.2.2 6, .array .int)]
def y_A (en : yEn) : Nat → Prop := fun q => en.2.1.heap.size ≤ q
/-- what is known of a cell that was there before the law began -/
def y_roA (en : yEn) (a : Nat) (x : ClassId × vp_A) : Prop := match x.2.2 with
  | .inl f => ∃ k ty, (y_ty en)[k]? = some (x.1, ty) ∧ (k = 0 ∨ k = 1) ∧ va_T ty a x.2.1 (fun j => .int (f j)) (y_A en) en.2.1 en.2.1.heap
  | .inr (.inr (.inr (.inr f))) => x.1 = en.2.2.2 5 ∧ ∃ C, va_T (.object C) a x.2.1 (fun j => va_rf (f j)) (y_A en) en.2.1 en.2.1.heap
  | _ => False
def y_roO (en : yEn) (a : Nat) (o : Nat × List Value) : Prop := ∃ r : vw_C, y_cl[o.1]? = some r ∧ va_O r.1 a (y_A en) en.2.1 en.2.1.heap ∧ ∀ k, k < o.2.length → k < r.2.2 ∧ va_OF (r.2.1 k).1 (r.2.1 k).2.1 (r.2.1 k).2.2.1 (vp_V o.2 k) a (y_A en) en.2.1 en.2.1.heap
def y_ro (en : yEn) (a : Nat) (e : va_E) : Prop := match e with
  | .inl x => y_roA en a x
  | .inr o => y_roO en a o
def y_Good (en : yEn) : Prop := en.1.flags = flags0 ∧ en.1.stackTraces = false ∧ va_K en.2.2.1 y_cl (y_ty en) en.2.1 ∧ ∃ b : Nat, (∀ w ∈ lw_tbl, w.before #[Value.ref b] en.2.1 = true) ∧ (Jvm.Cond.and given_1 narrow_1).before #[Value.ref b] en.2.1 = true
def y_St (en : yEn) (s : State) : Prop := y_Good en ∧ en.2.1.WarmedH s.vm ∧ en.2.1.heap.size ≤ s.heap.size ∧ ∀ q : Nat, q < en.2.1.heap.size → s.heap[q]? = en.2.1.heap[q]?
def y_Rw (en : yEn) (σ : yH) (H : Heap) : Prop := ∃ ws : va_W, va_P en.2.2.1 y_cl ws H ∧ va_D (y_A en) ws ∧ ∀ (a : Nat) (e : va_E), σ a = some (true, e) → (a, e) ∈ ws
def y_Ro (en : yEn) (σ : yH) : Prop := ∀ (a : Nat) (e : va_E), σ a = some (false, e) → y_ro en a e
def y_Rp (en : yEn) (σ : yH) (H : Heap) : Prop := y_Rw en σ H ∧ y_Ro en σ
def y_ws (mi : yM) : List Cond := match mi.2.2.2.2 with
  | [] => ws_ mi.1 mi.2.1 mi.2.2.1 mi.2.2.2.1
  | h :: t => wsW_ mi.1 mi.2.1 mi.2.2.1 mi.2.2.2.1 (h :: t)
def y_lo (d : Nat) : Nat := 64 * d + 4000
def y_R (d k n : Nat) : Room := { frames := d, cells := k, slots := n, locals := y_lo d }
def y_Qc (en : yEn) (K : Option Value → yH → Prop) : Array Value → State → Outcome → State → Prop := fun _ st o t => ∃ v σ', o = .returned v ∧ K v σ' ∧ y_Rp en σ' t.heap ∧ va_F (y_A en) st t
def y_XC (en : yEn) (X : String → Addr → yH → Prop) : String → Addr → State → State → Prop := fun E q st t => ∃ σ', X E q σ' ∧ y_Rp en σ' t.heap ∧ va_F (y_A en) st t
def y_Pc (en : yEn) (as : List Value) (σ : yH) : Array Value → State → Prop := va_Pc as (fun U => y_St en U ∧ y_Rp en σ U.heap)
/-- the contract of mi at the arguments as in the heap σ: depth d, at most k cells of n slots; it returns with K, or throws with X -/
def Cx (en : yEn) (d k n : Nat) (mi : yM) (as : List Value) (σ : yH) (K : Option Value → yH → Prop) (X : String → Addr → yH → Prop) : Prop :=
  yx_Met en.1 mi.1 (y_ws mi) (y_R d k n) (y_Pc en as σ) (y_Qc en K) (y_XC en X) k n (y_A en)
def y_Ct (en : yEn) (mi : yM) (p : Program) (s : State) (m : MethodId) (args : Array Value) (meth : Method) (c : Code) : Prop :=
  p.tables.exec = Jvm.exec ∧ c.code = mi.2.1 ∧ meth.sig.returnType = mi.2.2.2.1 ∧ meth.locks = false ∧ c.maxLocals = mi.2.2.1 ∧ s.vm.findClass mi.1.cls = some m.cls ∧ meth.name = mi.1.name ∧ (∀ w ∈ lw_all, w.before args s = true) ∧ c.exceptionTable.toList = tableOf mi.2.2.2.2 ∧ y_St en s
def Wx (en : yEn) (d : Nat) (mi : yM) (pc : Nat) (ls : List (Nat × Value)) (st : List Value) (σ : yH) (k n : Nat) (K : Option Value → yH → Prop) (X : String → Addr → yH → Prop) : Prop :=
  ∀ (R : Room) (p : Program) (e : Env) (s : State) (m : MethodId) (args : Array Value) (below : List Frame) (meth : Method) (c : Code) (H : Heap) (locs : List Loc) (cells slots : Nat) (lsA : Array Slot),
    R.frames = d → R.locals = y_lo d → y_Ct en mi p s m args meth c → y_Rp en σ H → va_S (y_A en) s.heap H locs → cells + k ≤ R.cells → slots + n ≤ R.slots → lv_has lsA mi.2.2.1 ls →
    W p en.1 e R s m args below meth c H locs cells slots (yx_MQ below (y_Qc en K) (y_XC en X) args s R.cells R.slots (y_A en)) (F0 m pc lsA st)
/-- an exception q of the class E on its way at pc -/
def WxT (en : yEn) (d : Nat) (mi : yM) (pc : Nat) (ls : List (Nat × Value)) (E : String) (q : Addr) (σ : yH) (k n : Nat) (K : Option Value → yH → Prop) (X : String → Addr → yH → Prop) : Prop :=
  ∀ (R : Room) (p : Program) (e : Env) (s : State) (m : MethodId) (args : Array Value) (below : List Frame) (meth : Method) (c : Code) (H : Heap) (locs : List Loc) (cells slots : Nat) (lsA : Array Slot) (st : List Value) (ce : Cell),
    R.frames = d → R.locals = y_lo d → y_Ct en mi p s m args meth c → y_Rp en σ H → va_S (y_A en) s.heap H locs → cells + k ≤ R.cells → slots + n ≤ R.slots → lv_has lsA mi.2.2.1 ls →
    H[q]? = some ce → ce.vm = .none → s.vm.findClass E = some ce.cls →
    yx_W p en.1 e R s m args below meth c H locs cells slots (yx_MQ below (y_Qc en K) (y_XC en X) args s R.cells R.slots (y_A en)) (F0 m pc lsA st) q
/-! the abstract heap -/
def yup (σ : yH) (a : Nat) (e : va_E) : yH := fun q => if q = a then some (true, e) else σ q
theorem yup_s {σ : yH} {a : Nat} {e : va_E} : yup σ a e a = some (true, e) := by simp [yup]
theorem yup_n {σ : yH} {a b : Nat} {e : va_E} (h : b ≠ a) : yup σ a e b = σ b := by simp [yup, h]
theorem yup_o {σ : yH} {a b : Nat} {e : va_E} {x : yE} (ha : σ a = none) (hb : σ b = some x) : yup σ a e b = some x := by
  rw [yup_n (fun h => by rw [h, ha] at hb; cases hb)]
  exact hb
theorem yne {σ : yH} {a b : Nat} {x : yE} (ha : σ a = none) (hb : σ b = some x) : b ≠ a := fun h => by rw [h, ha] at hb; cases hb
theorem y_Rw.get {en : yEn} {σ : yH} {H : Heap} (h : y_Rw en σ H) {a : Nat} {e : va_E} (hs : σ a = some (true, e)) : ∃ (ws : va_W) (q0 : Nat), va_P en.2.2.1 y_cl ws H ∧ va_D (y_A en) ws ∧ ws[q0]? = some (a, e) ∧ ∀ (a : Nat) (e : va_E), σ a = some (true, e) → (a, e) ∈ ws := by
  obtain ⟨ws, hP, hD, hc⟩ := h
  obtain ⟨q0, hq⟩ := List.getElem?_of_mem (hc a e hs)
  exact ⟨ws, q0, hP, hD, hq, hc⟩
theorem y_cov_set {en : yEn} {σ : yH} {ws : va_W} {H1 : Heap} {q0 a : Nat} {e0 e : va_E} (hD : va_D (y_A en) ws) (hq : ws[q0]? = some (a, e0)) (hc : ∀ (a : Nat) (e : va_E), σ a = some (true, e) → (a, e) ∈ ws) (hP1 : va_P en.2.2.1 y_cl (ws.set q0 (a, e)) H1) (hD1 : va_D (y_A en) (ws.set q0 (a, e))) : y_Rw en (yup σ a e) H1 := by
  refine ⟨_, hP1, hD1, fun b x hb => ?_⟩
  have hl := (List.getElem?_eq_some_iff.mp hq).1
  by_cases h : b = a
  · subst h
    rw [yup_s] at hb
    cases hb
    exact List.mem_of_getElem? (List.getElem?_set_self hl)
  · rw [yup_n h] at hb
    obtain ⟨i, hi⟩ := List.getElem?_of_mem (hc b x hb)
    have hne : q0 ≠ i := fun z => by subst z; rw [hq] at hi; cases hi; exact h rfl
    exact List.mem_of_getElem? (by rw [List.getElem?_set_ne hne]; exact hi)
theorem y_cov_push {en : yEn} {σ : yH} {ws : va_W} {H1 : Heap} {a : Nat} {e : va_E} (hc : ∀ (a : Nat) (e : va_E), σ a = some (true, e) → (a, e) ∈ ws) (hP1 : va_P en.2.2.1 y_cl (ws ++ [(a, e)]) H1) (hD1 : va_D (y_A en) (ws ++ [(a, e)])) : y_Rw en (yup σ a e) H1 := by
  refine ⟨_, hP1, hD1, fun b x hb => ?_⟩
  by_cases h : b = a
  · subst h
    rw [yup_s] at hb
    cases hb
    exact List.mem_append_right _ List.mem_cons_self
  · rw [yup_n h] at hb
    exact List.mem_append_left _ (hc b x hb)
theorem y_Ro.up {en : yEn} {σ : yH} {a : Nat} {e : va_E} (h : y_Ro en σ) : y_Ro en (yup σ a e) := by
  intro b x hb
  by_cases hba : b = a
  · subst hba
    rw [yup_s] at hb
    cases hb
  · rw [yup_n hba] at hb
    exact h b x hb
/-- a new cell's address isn't known yet -/
theorem y_fresh {en : yEn} {σ : yH} {ws : va_W} {a : Nat} {e : va_E} (hRo : y_Ro en σ) (hc : ∀ (a : Nat) (e : va_E), σ a = some (true, e) → (a, e) ∈ ws) (hD1 : va_D (y_A en) (ws ++ [(a, e)])) : σ a = none := by
  have hlast : (ws ++ [(a, e)])[ws.length]? = some (a, e) := by simp
  cases hs : σ a with
  | none => rfl
  | some x =>
    exfalso
    obtain ⟨w, e'⟩ := x
    cases w with
    | true =>
      obtain ⟨i, hi⟩ := List.getElem?_of_mem (hc a e' hs)
      have hl := (List.getElem?_eq_some_iff.mp hi).1
      have h1 : (ws ++ [(a, e)])[i]? = some (a, e') := by rw [List.getElem?_append_left hl]; exact hi
      have := hD1.1 i ws.length _ _ h1 hlast rfl
      omega
    | false =>
      have h1 := hRo a e' hs
      have h2 : en.2.1.heap.size ≤ a := hD1.2 ws.length _ hlast
      have h3 : ¬ y_A en a := by
        cases e' with
        | inl x =>
          obtain ⟨cc, n, f⟩ := x
          rcases f with f | f | f | f | f
          · obtain ⟨k, ty, -, -, cell, -, -, -, -, -, -, h⟩ := h1
            exact h
          · exact absurd h1 (fun h => h)
          · exact absurd h1 (fun h => h)
          · exact absurd h1 (fun h => h)
          · obtain ⟨-, C9, cell, -, -, -, -, -, -, h⟩ := h1
            exact h
        | inr o =>
          obtain ⟨r, -, ⟨cell, -, -, -, h⟩, -⟩ := h1
          exact h
      exact h3 h2
theorem y_hA {en : yEn} {s : State} (h : y_St en s) : ∀ q : Nat, s.heap.size ≤ q → y_A en q := fun q hq => Nat.le_trans h.2.2.1 hq
theorem y_K {en : yEn} {s : State} (h : y_St en s) : va_K en.2.2.1 y_cl (y_ty en) s := va_K.moved h.2.1.alike h.1.2.2.1
/-- below the start nothing has changed -/
theorem y_low {en : yEn} {s : State} {H : Heap} {locs : List Loc} (h : y_St en s) (hS : va_S (y_A en) s.heap H locs) : ∀ q : Nat, q < en.2.1.heap.size → H[q]? = en.2.1.heap[q]? := fun q hq => (hS.2.1 q (Nat.lt_of_lt_of_le hq h.2.2.1) (fun z => absurd z (Nat.not_le.mpr hq))).trans (h.2.2.2 q hq)
theorem y_low' {en : yEn} {s : State} {H : Heap} {locs : List Loc} (h : y_St en s) (hS : va_S (y_A en) s.heap H locs) : ∀ q : Nat, q < en.2.1.heap.size → ¬ y_A en q → H[q]? = en.2.1.heap[q]? := fun q hq _ => y_low h hS q hq
theorem y_St.next {en : yEn} {s U : State} {H : Heap} {locs : List Loc} (h : y_St en s) (hS : va_S (y_A en) s.heap H locs) (hU : U.heap = H) (hW : s.WarmedH U.vm) : y_St en U :=
  ⟨h.1, State.WarmedH.trans h.2.1 hW, by rw [hU]; exact Nat.le_trans h.2.2.1 hS.1, fun q hq => by rw [hU]; exact y_low h hS q hq⟩
theorem y_Pc.blind {en : yEn} {as : List Value} {σ : yH} : FrameBlind (y_Pc en as σ) := fun a U g mk h => ⟨h.1, ⟨h.2.1.1, h.2.1.2.1, h.2.1.2.2.1, h.2.1.2.2.2⟩, h.2.2⟩
theorem y_tbl {en : yEn} {s : State} (h : y_St en s) : ∃ b : Nat, ∀ w ∈ lw_tbl, w.before #[Value.ref b] en.2.1 = true := by
  obtain ⟨-, -, -, b, h1, -⟩ := h.1
  exact ⟨b, h1⟩
theorem y_S2 {en : yEn} {s : State} {H H1 : Heap} {locs L : List Loc} {st t : State} (hS : va_S (y_A en) s.heap H locs) (h0 : st.heap = H) (h1 : t.heap = H1) (hF : va_F (y_A en) st t) (hL : ∀ z ∈ L, y_A en z.base) : va_S (y_A en) s.heap H1 (locs ++ L) := by
  obtain ⟨a, b⟩ := hF
  rw [h0, h1] at a b
  refine ⟨Nat.le_trans hS.1 a, fun q hq hn => (b q (Nat.lt_of_lt_of_le hq hS.1) hn).trans (hS.2.1 q hq hn), fun q hq => ?_⟩
  rcases List.mem_append.mp hq with h | h
  · exact hS.2.2 q h
  · exact hL q h
/-! monotone -/
theorem Cx.mono {en : yEn} {d k n : Nat} {mi : yM} {as : List Value} {σ : yH} {K K' : Option Value → yH → Prop} {X X' : String → Addr → yH → Prop} (h : Cx en d k n mi as σ K X) (hK : ∀ v σ', K v σ' → K' v σ') (hX : ∀ E q σ', X E q σ' → X' E q σ') : Cx en d k n mi as σ K' X' := by
  intro p e ha hc hk s m args below hf hap hP hT
  obtain ⟨kk, o, h1, h2, h3, h4⟩ := h p e ha hc hk s m args below hf hap hP hT
  refine ⟨kk, o, h1, h2, h3, ?_⟩
  rcases h4 with ⟨⟨v, σ', e1, e2, e3⟩, L⟩ | ⟨q, e0, E, ce, L, ⟨σ', e1, e2⟩, e3⟩
  · exact Or.inl ⟨⟨v, σ', e1, hK _ _ e2, e3⟩, L⟩
  · exact Or.inr ⟨q, e0, E, ce, L, ⟨σ', hX _ _ _ e1, e2⟩, e3⟩
theorem Cx.body {en : yEn} {d k n : Nat} {mi : yM} {as : List Value} {σ : yH} {K : Option Value → yH → Prop} {X : String → Addr → yH → Prop} (hy : plainName mi.1.cls = true) (hh : mi.2.2.2.2 = []) (hn : (lg_sl as).length ≤ mi.2.2.1)
    (h : Wx en d mi 0 (lv_args 0 as) [] σ k n K X) : Cx en d k n mi as σ K X := by
  obtain ⟨y, cc, nL, rt, hd⟩ := mi
  dsimp only at hh hn hy
  subst hh
  refine yx_ofW (cc := cc) (maxL := nL) (ret := rt) hy rfl ?_
  intro p e s m args below meth c s₁ B hml ht hv
  obtain ⟨rfl, hSt, hR⟩ := hv
  have hts := atoms_spec (ws := y_ws (y, cc, nL, rt, [])) B.pre
  have hts : ∀ w ∈ lw_all, w.before _ s = true := fun w h => hts w (List.mem_cons_of_mem _ h)
  have hl := lv_entry as hn
  rw [lg_entry_eq]
  refine h _ p e s m _ below meth c s.heap [] 0 0 _ rfl rfl ⟨B.exec, B.bytes, B.returns, B.notSynchronized, hml, findClass_of_methodNamed B.named, (name_of_methodNamed B.named B.method).1, hts, ?_, hSt⟩ hR va_S.rf (by show 0 + k ≤ k; omega) (by show 0 + n ≤ n; omega) hl
  cases hc : c.exceptionTable.toList with
  | nil => rfl
  | cons a b => exact absurd (ht a (by rw [hc]; exact List.mem_cons_self)) (fun h => h)
theorem Cx.bodyH {en : yEn} {d k n : Nat} {mi : yM} {as : List Value} {σ : yH} {K : Option Value → yH → Prop} {X : String → Addr → yH → Prop} (hy : plainName mi.1.cls = true) {h0 : Nat × Nat × Nat × Nat} {h1 : List (Nat × Nat × Nat × Nat)} (hh : mi.2.2.2.2 = h0 :: h1) (hn : (lg_sl as).length ≤ mi.2.2.1)
    (h : Wx en d mi 0 (lv_args 0 as) [] σ k n K X) : Cx en d k n mi as σ K X := by
  obtain ⟨y, cc, nL, rt, hd⟩ := mi
  dsimp only at hh hn hy
  subst hh
  refine yx_ofWH (cc := cc) (maxL := nL) (ret := rt) (hh := h0 :: h1) hy rfl ?_
  intro p e s m args below meth c s₁ B hml hv
  obtain ⟨rfl, hSt, hR⟩ := hv
  have hts0 := atoms_spec (ws := y_ws (y, cc, nL, rt, h0 :: h1)) B.pre
  have hts : ∀ w ∈ lw_all, w.before _ s = true := fun w h => hts0 w (List.mem_cons_of_mem _ h)
  have hl := lv_entry as hn
  rw [lg_entry_eq]
  exact h _ p e s m _ below meth c s.heap [] 0 0 _ rfl rfl ⟨B.exec, B.bytes, B.returns, B.notSynchronized, hml, findClass_of_methodNamed B.named, (name_of_methodNamed B.named B.method).1, hts, yx_table (x := y) B (hts0 _ List.mem_cons_self), hSt⟩ hR va_S.rf (by show 0 + k ≤ k; omega) (by show 0 + n ≤ n; omega) hl
section YR
variable {en : yEn} {d : Nat} {mi : yM} {pc : Nat} {ls : List (Nat × Value)} {st : List Value} {σ : yH} {k n : Nat} {K : Option Value → yH → Prop} {X : String → Addr → yH → Prop}
theorem Wx.mono {K' : Option Value → yH → Prop} {X' : String → Addr → yH → Prop} (h : Wx en d mi pc ls st σ k n K X) (hK : ∀ v σ', K v σ' → K' v σ') (hX : ∀ E q σ', X E q σ' → X' E q σ') : Wx en d mi pc ls st σ k n K' X' := by
  intro R p e s m args below meth c H locs cells slots lsA a1 a2 a3 a4 a5 a6 a7 a8 T hT S
  obtain ⟨t, h1, o, h2, h3, h4⟩ := h R p e s m args below meth c H locs cells slots lsA a1 a2 a3 a4 a5 a6 a7 a8 T hT S
  refine ⟨t, h1, o, h2, h3, ?_⟩
  rcases h4 with ⟨⟨v, σ', e1, e2, e3⟩, L⟩ | ⟨q, e0, E, ce, L, ⟨σ', e1, e2⟩, e3⟩
  · exact Or.inl ⟨⟨v, σ', e1, hK _ _ e2, e3⟩, L⟩
  · exact Or.inr ⟨q, e0, E, ce, L, ⟨σ', hX _ _ _ e1, e2⟩, e3⟩
theorem Wx.more {k' n' : Nat} (h : Wx en d mi pc ls st σ k' n' K X) (hk : k' ≤ k) (hn : n' ≤ n) : Wx en d mi pc ls st σ k n K X := by
  intro R p e s m args below meth c H locs cells slots lsA a1 a2 a3 a4 a5 a6 a7 a8
  exact h R p e s m args below meth c H locs cells slots lsA a1 a2 a3 a4 a5 (by omega) (by omega) a8
/-- fewer or reordered locals -/
theorem sd_loc {ls' : List (Nat × Value)} (ks : List Nat) (hl : lv_pick ls ks = ls') (h : Wx en d mi pc ls' st σ k n K X) : Wx en d mi pc ls st σ k n K X := by
  intro R p e s m args below meth c H locs cells slots lsA a1 a2 a3 a4 a5 a6 a7 a8
  exact h R p e s m args below meth c H locs cells slots lsA a1 a2 a3 a4 a5 a6 a7 (lv_sub a8 ks hl)
/-- less known of the heap -/
theorem sd_less {σ' : yH} (hs : ∀ a e, σ' a = some e → σ a = some e) (h : Wx en d mi pc ls st σ' k n K X) : Wx en d mi pc ls st σ k n K X := by
  intro R p e s m args below meth c H locs cells slots lsA a1 a2 a3 a4 a5 a6 a7 a8
  obtain ⟨⟨ws, h1, h2, h3⟩, h4⟩ := a4
  exact h R p e s m args below meth c H locs cells slots lsA a1 a2 a3 ⟨⟨ws, h1, h2, fun a e he => h3 a e (hs _ _ he)⟩, fun a e he => h4 a e (hs _ _ he)⟩ a5 a6 a7 a8
/-- branches of pure values that meet -/
theorem sd_ite {c : Prop} [Decidable c] {v w : Value} (h : Wx en d mi pc ls ((if c then v else w) :: st) σ k n K X) : (c → Wx en d mi pc ls (v :: st) σ k n K X) ∧ (¬ c → Wx en d mi pc ls (w :: st) σ k n K X) :=
  ⟨fun hc => by rw [if_pos hc] at h; exact h, fun hc => by rw [if_neg hc] at h; exact h⟩

theorem sd_iconst {z : Int} {v : Int32} (dd : decode mi.2.1 pc = .ok (.iconst z, 1)) (hv : Int32.ofInt z = v) (h : Wx en d mi (pc + 1) ls (.int v :: st) σ k n K X) : Wx en d mi pc ls (st) σ k n K X := by
  intro R p e s m args below meth c H locs cells slots lsA a1 a2 C a4 a5 a6 a7 a8
  exact lv_iconst C.1 C.2.1 dd hv (h R p e s m args below meth c H locs cells slots lsA a1 a2 C a4 a5 a6 a7 a8)
theorem sd_bipush {z : Int} {v : Int32} (dd : decode mi.2.1 pc = .ok (.bipush z, 2)) (hv : (Int8.ofInt z).toInt32 = v) (h : Wx en d mi (pc + 2) ls (.int v :: st) σ k n K X) : Wx en d mi pc ls (st) σ k n K X := by
  intro R p e s m args below meth c H locs cells slots lsA a1 a2 C a4 a5 a6 a7 a8
  exact lv_bipush C.1 C.2.1 dd hv (h R p e s m args below meth c H locs cells slots lsA a1 a2 C a4 a5 a6 a7 a8)
theorem sd_sipush {z : Int} {v : Int32} (dd : decode mi.2.1 pc = .ok (.sipush z, 3)) (hv : (Int16.ofInt z).toInt32 = v) (h : Wx en d mi (pc + 3) ls (.int v :: st) σ k n K X) : Wx en d mi pc ls (st) σ k n K X := by
  intro R p e s m args below meth c H locs cells slots lsA a1 a2 C a4 a5 a6 a7 a8
  exact lv_sipush C.1 C.2.1 dd hv (h R p e s m args below meth c H locs cells slots lsA a1 a2 C a4 a5 a6 a7 a8)
theorem sd_iload_n {kk : Fin 4} {i : Nat} {x : Int32} (dd : decode mi.2.1 pc = .ok (.iload_n kk, 1)) (hi : (kk : Nat) = i) (j : Nat) (hl : ls[j]? = some (i, .int x)) (h : Wx en d mi (pc + 1) ls (.int x :: st) σ k n K X) : Wx en d mi pc ls st σ k n K X := by
  intro R p e s m args below meth c H locs cells slots lsA a1 a2 C a4 a5 a6 a7 a8
  exact lv_iload_n C.1 C.2.1 dd hi (lv_at a8 j hl) (h R p e s m args below meth c H locs cells slots lsA a1 a2 C a4 a5 a6 a7 a8)
theorem sd_iload {i : Nat} {x : Int32} (dd : decode mi.2.1 pc = .ok (.iload i, 2)) (j : Nat) (hl : ls[j]? = some (i, .int x)) (h : Wx en d mi (pc + 2) ls (.int x :: st) σ k n K X) : Wx en d mi pc ls st σ k n K X := by
  intro R p e s m args below meth c H locs cells slots lsA a1 a2 C a4 a5 a6 a7 a8
  exact lv_iload C.1 C.2.1 dd (lv_at a8 j hl) (h R p e s m args below meth c H locs cells slots lsA a1 a2 C a4 a5 a6 a7 a8)
theorem sd_lload_n {kk : Fin 4} {i : Nat} {x : Int64} (dd : decode mi.2.1 pc = .ok (.lload_n kk, 1)) (hi : (kk : Nat) = i) (j : Nat) (hl : ls[j]? = some (i, .long x)) (h : Wx en d mi (pc + 1) ls (.long x :: st) σ k n K X) : Wx en d mi pc ls st σ k n K X := by
  intro R p e s m args below meth c H locs cells slots lsA a1 a2 C a4 a5 a6 a7 a8
  exact lv_lload_n C.1 C.2.1 dd hi (lv_at a8 j hl) (h R p e s m args below meth c H locs cells slots lsA a1 a2 C a4 a5 a6 a7 a8)
theorem sd_lload {i : Nat} {x : Int64} (dd : decode mi.2.1 pc = .ok (.lload i, 2)) (j : Nat) (hl : ls[j]? = some (i, .long x)) (h : Wx en d mi (pc + 2) ls (.long x :: st) σ k n K X) : Wx en d mi pc ls st σ k n K X := by
  intro R p e s m args below meth c H locs cells slots lsA a1 a2 C a4 a5 a6 a7 a8
  exact lv_lload C.1 C.2.1 dd (lv_at a8 j hl) (h R p e s m args below meth c H locs cells slots lsA a1 a2 C a4 a5 a6 a7 a8)
theorem sd_fload_n {kk : Fin 4} {i : Nat} {x : UInt32} (dd : decode mi.2.1 pc = .ok (.fload_n kk, 1)) (hi : (kk : Nat) = i) (j : Nat) (hl : ls[j]? = some (i, .float x)) (h : Wx en d mi (pc + 1) ls (.float x :: st) σ k n K X) : Wx en d mi pc ls st σ k n K X := by
  intro R p e s m args below meth c H locs cells slots lsA a1 a2 C a4 a5 a6 a7 a8
  exact lv_fload_n C.1 C.2.1 dd hi (lv_at a8 j hl) (h R p e s m args below meth c H locs cells slots lsA a1 a2 C a4 a5 a6 a7 a8)
theorem sd_fload {i : Nat} {x : UInt32} (dd : decode mi.2.1 pc = .ok (.fload i, 2)) (j : Nat) (hl : ls[j]? = some (i, .float x)) (h : Wx en d mi (pc + 2) ls (.float x :: st) σ k n K X) : Wx en d mi pc ls st σ k n K X := by
  intro R p e s m args below meth c H locs cells slots lsA a1 a2 C a4 a5 a6 a7 a8
  exact lv_fload C.1 C.2.1 dd (lv_at a8 j hl) (h R p e s m args below meth c H locs cells slots lsA a1 a2 C a4 a5 a6 a7 a8)
theorem sd_dload_n {kk : Fin 4} {i : Nat} {x : UInt64} (dd : decode mi.2.1 pc = .ok (.dload_n kk, 1)) (hi : (kk : Nat) = i) (j : Nat) (hl : ls[j]? = some (i, .double x)) (h : Wx en d mi (pc + 1) ls (.double x :: st) σ k n K X) : Wx en d mi pc ls st σ k n K X := by
  intro R p e s m args below meth c H locs cells slots lsA a1 a2 C a4 a5 a6 a7 a8
  exact lv_dload_n C.1 C.2.1 dd hi (lv_at a8 j hl) (h R p e s m args below meth c H locs cells slots lsA a1 a2 C a4 a5 a6 a7 a8)
theorem sd_dload {i : Nat} {x : UInt64} (dd : decode mi.2.1 pc = .ok (.dload i, 2)) (j : Nat) (hl : ls[j]? = some (i, .double x)) (h : Wx en d mi (pc + 2) ls (.double x :: st) σ k n K X) : Wx en d mi pc ls st σ k n K X := by
  intro R p e s m args below meth c H locs cells slots lsA a1 a2 C a4 a5 a6 a7 a8
  exact lv_dload C.1 C.2.1 dd (lv_at a8 j hl) (h R p e s m args below meth c H locs cells slots lsA a1 a2 C a4 a5 a6 a7 a8)
theorem sd_aload_n {kk : Fin 4} {i : Nat} {x : Nat} (dd : decode mi.2.1 pc = .ok (.aload_n kk, 1)) (hi : (kk : Nat) = i) (j : Nat) (hl : ls[j]? = some (i, .ref x)) (h : Wx en d mi (pc + 1) ls (.ref x :: st) σ k n K X) : Wx en d mi pc ls st σ k n K X := by
  intro R p e s m args below meth c H locs cells slots lsA a1 a2 C a4 a5 a6 a7 a8
  exact lv_aload_n C.1 C.2.1 dd hi (lv_at a8 j hl) (h R p e s m args below meth c H locs cells slots lsA a1 a2 C a4 a5 a6 a7 a8)
theorem sd_aload {i : Nat} {x : Nat} (dd : decode mi.2.1 pc = .ok (.aload i, 2)) (j : Nat) (hl : ls[j]? = some (i, .ref x)) (h : Wx en d mi (pc + 2) ls (.ref x :: st) σ k n K X) : Wx en d mi pc ls st σ k n K X := by
  intro R p e s m args below meth c H locs cells slots lsA a1 a2 C a4 a5 a6 a7 a8
  exact lv_aload C.1 C.2.1 dd (lv_at a8 j hl) (h R p e s m args below meth c H locs cells slots lsA a1 a2 C a4 a5 a6 a7 a8)
theorem sd_aload_nN {kk : Fin 4} {i : Nat} (dd : decode mi.2.1 pc = .ok (.aload_n kk, 1)) (hi : (kk : Nat) = i) (j : Nat) (hl : ls[j]? = some (i, .null)) (h : Wx en d mi (pc + 1) ls (.null :: st) σ k n K X) : Wx en d mi pc ls st σ k n K X := by
  intro R p e s m args below meth c H locs cells slots lsA a1 a2 C a4 a5 a6 a7 a8
  exact lv_aload_nN C.1 C.2.1 dd hi (lv_at a8 j hl) (h R p e s m args below meth c H locs cells slots lsA a1 a2 C a4 a5 a6 a7 a8)
theorem sd_aloadN {i : Nat} (dd : decode mi.2.1 pc = .ok (.aload i, 2)) (j : Nat) (hl : ls[j]? = some (i, .null)) (h : Wx en d mi (pc + 2) ls (.null :: st) σ k n K X) : Wx en d mi pc ls st σ k n K X := by
  intro R p e s m args below meth c H locs cells slots lsA a1 a2 C a4 a5 a6 a7 a8
  exact lv_aloadN C.1 C.2.1 dd (lv_at a8 j hl) (h R p e s m args below meth c H locs cells slots lsA a1 a2 C a4 a5 a6 a7 a8)
theorem sd_aload_nQ {kk : Fin 4} {i : Nat} {r : Option Nat} (dd : decode mi.2.1 pc = .ok (.aload_n kk, 1)) (hi : (kk : Nat) = i) (j : Nat) (hl : ls[j]? = some (i, va_rf r)) (h : Wx en d mi (pc + 1) ls (va_rf r :: st) σ k n K X) : Wx en d mi pc ls st σ k n K X := by
  cases r with
  | none => exact sd_aload_nN dd hi j hl h
  | some a => exact sd_aload_n dd hi j hl h
theorem sd_aloadQ {i : Nat} {r : Option Nat} (dd : decode mi.2.1 pc = .ok (.aload i, 2)) (j : Nat) (hl : ls[j]? = some (i, va_rf r)) (h : Wx en d mi (pc + 2) ls (va_rf r :: st) σ k n K X) : Wx en d mi pc ls st σ k n K X := by
  cases r with
  | none => exact sd_aloadN dd j hl h
  | some a => exact sd_aload dd j hl h
theorem sd_istore_n {kk : Fin 4} {i : Nat} {x : Int32} {ls' : List (Nat × Value)} (dd : decode mi.2.1 pc = .ok (.istore_n kk, 1)) (hi : (kk : Nat) = i) (hn : i < mi.2.2.1) (hl : (i, Value.int x) :: ls.filter (fun q => !(q.1 == i) && !(q.1 + 1 == i && q.2.category == 2)) = ls') (h : Wx en d mi (pc + 1) ls' st σ k n K X) : Wx en d mi pc ls (.int x :: st) σ k n K X := by
  intro R p e s m args below meth c H locs cells slots lsA a1 a2 C a4 a5 a6 a7 a8
  exact lv_istore_n C.1 C.2.1 dd hi a8 hn hl (fun lsB hB => h R p e s m args below meth c H locs cells slots lsB a1 a2 C a4 a5 a6 a7 hB)
theorem sd_istore {i : Nat} {x : Int32} {ls' : List (Nat × Value)} (dd : decode mi.2.1 pc = .ok (.istore i, 2)) (hn : i < mi.2.2.1) (hl : (i, Value.int x) :: ls.filter (fun q => !(q.1 == i) && !(q.1 + 1 == i && q.2.category == 2)) = ls') (h : Wx en d mi (pc + 2) ls' st σ k n K X) : Wx en d mi pc ls (.int x :: st) σ k n K X := by
  intro R p e s m args below meth c H locs cells slots lsA a1 a2 C a4 a5 a6 a7 a8
  exact lv_istore C.1 C.2.1 dd a8 hn hl (fun lsB hB => h R p e s m args below meth c H locs cells slots lsB a1 a2 C a4 a5 a6 a7 hB)
theorem sd_lstore_n {kk : Fin 4} {i : Nat} {x : Int64} {ls' : List (Nat × Value)} (dd : decode mi.2.1 pc = .ok (.lstore_n kk, 1)) (hi : (kk : Nat) = i) (hn : i + 1 < mi.2.2.1) (hl : (i, Value.long x) :: ls.filter (fun q => !(q.1 == i) && (!(q.1 == i + 1) && !(q.1 + 1 == i && q.2.category == 2))) = ls') (h : Wx en d mi (pc + 1) ls' st σ k n K X) : Wx en d mi pc ls (.long x :: st) σ k n K X := by
  intro R p e s m args below meth c H locs cells slots lsA a1 a2 C a4 a5 a6 a7 a8
  exact lv_lstore_n C.1 C.2.1 dd hi a8 hn hl (fun lsB hB => h R p e s m args below meth c H locs cells slots lsB a1 a2 C a4 a5 a6 a7 hB)
theorem sd_lstore {i : Nat} {x : Int64} {ls' : List (Nat × Value)} (dd : decode mi.2.1 pc = .ok (.lstore i, 2)) (hn : i + 1 < mi.2.2.1) (hl : (i, Value.long x) :: ls.filter (fun q => !(q.1 == i) && (!(q.1 == i + 1) && !(q.1 + 1 == i && q.2.category == 2))) = ls') (h : Wx en d mi (pc + 2) ls' st σ k n K X) : Wx en d mi pc ls (.long x :: st) σ k n K X := by
  intro R p e s m args below meth c H locs cells slots lsA a1 a2 C a4 a5 a6 a7 a8
  exact lv_lstore C.1 C.2.1 dd a8 hn hl (fun lsB hB => h R p e s m args below meth c H locs cells slots lsB a1 a2 C a4 a5 a6 a7 hB)
theorem sd_fstore_n {kk : Fin 4} {i : Nat} {x : UInt32} {ls' : List (Nat × Value)} (dd : decode mi.2.1 pc = .ok (.fstore_n kk, 1)) (hi : (kk : Nat) = i) (hn : i < mi.2.2.1) (hl : (i, Value.float x) :: ls.filter (fun q => !(q.1 == i) && !(q.1 + 1 == i && q.2.category == 2)) = ls') (h : Wx en d mi (pc + 1) ls' st σ k n K X) : Wx en d mi pc ls (.float x :: st) σ k n K X := by
  intro R p e s m args below meth c H locs cells slots lsA a1 a2 C a4 a5 a6 a7 a8
  exact lv_fstore_n C.1 C.2.1 dd hi a8 hn hl (fun lsB hB => h R p e s m args below meth c H locs cells slots lsB a1 a2 C a4 a5 a6 a7 hB)
theorem sd_fstore {i : Nat} {x : UInt32} {ls' : List (Nat × Value)} (dd : decode mi.2.1 pc = .ok (.fstore i, 2)) (hn : i < mi.2.2.1) (hl : (i, Value.float x) :: ls.filter (fun q => !(q.1 == i) && !(q.1 + 1 == i && q.2.category == 2)) = ls') (h : Wx en d mi (pc + 2) ls' st σ k n K X) : Wx en d mi pc ls (.float x :: st) σ k n K X := by
  intro R p e s m args below meth c H locs cells slots lsA a1 a2 C a4 a5 a6 a7 a8
  exact lv_fstore C.1 C.2.1 dd a8 hn hl (fun lsB hB => h R p e s m args below meth c H locs cells slots lsB a1 a2 C a4 a5 a6 a7 hB)
theorem sd_dstore_n {kk : Fin 4} {i : Nat} {x : UInt64} {ls' : List (Nat × Value)} (dd : decode mi.2.1 pc = .ok (.dstore_n kk, 1)) (hi : (kk : Nat) = i) (hn : i + 1 < mi.2.2.1) (hl : (i, Value.double x) :: ls.filter (fun q => !(q.1 == i) && (!(q.1 == i + 1) && !(q.1 + 1 == i && q.2.category == 2))) = ls') (h : Wx en d mi (pc + 1) ls' st σ k n K X) : Wx en d mi pc ls (.double x :: st) σ k n K X := by
  intro R p e s m args below meth c H locs cells slots lsA a1 a2 C a4 a5 a6 a7 a8
  exact lv_dstore_n C.1 C.2.1 dd hi a8 hn hl (fun lsB hB => h R p e s m args below meth c H locs cells slots lsB a1 a2 C a4 a5 a6 a7 hB)
theorem sd_dstore {i : Nat} {x : UInt64} {ls' : List (Nat × Value)} (dd : decode mi.2.1 pc = .ok (.dstore i, 2)) (hn : i + 1 < mi.2.2.1) (hl : (i, Value.double x) :: ls.filter (fun q => !(q.1 == i) && (!(q.1 == i + 1) && !(q.1 + 1 == i && q.2.category == 2))) = ls') (h : Wx en d mi (pc + 2) ls' st σ k n K X) : Wx en d mi pc ls (.double x :: st) σ k n K X := by
  intro R p e s m args below meth c H locs cells slots lsA a1 a2 C a4 a5 a6 a7 a8
  exact lv_dstore C.1 C.2.1 dd a8 hn hl (fun lsB hB => h R p e s m args below meth c H locs cells slots lsB a1 a2 C a4 a5 a6 a7 hB)
theorem sd_astore_n {kk : Fin 4} {i : Nat} {x : Nat} {ls' : List (Nat × Value)} (dd : decode mi.2.1 pc = .ok (.astore_n kk, 1)) (hi : (kk : Nat) = i) (hn : i < mi.2.2.1) (hl : (i, Value.ref x) :: ls.filter (fun q => !(q.1 == i) && !(q.1 + 1 == i && q.2.category == 2)) = ls') (h : Wx en d mi (pc + 1) ls' st σ k n K X) : Wx en d mi pc ls (.ref x :: st) σ k n K X := by
  intro R p e s m args below meth c H locs cells slots lsA a1 a2 C a4 a5 a6 a7 a8
  exact lv_astore_n C.1 C.2.1 dd hi a8 hn hl (fun lsB hB => h R p e s m args below meth c H locs cells slots lsB a1 a2 C a4 a5 a6 a7 hB)
theorem sd_astore {i : Nat} {x : Nat} {ls' : List (Nat × Value)} (dd : decode mi.2.1 pc = .ok (.astore i, 2)) (hn : i < mi.2.2.1) (hl : (i, Value.ref x) :: ls.filter (fun q => !(q.1 == i) && !(q.1 + 1 == i && q.2.category == 2)) = ls') (h : Wx en d mi (pc + 2) ls' st σ k n K X) : Wx en d mi pc ls (.ref x :: st) σ k n K X := by
  intro R p e s m args below meth c H locs cells slots lsA a1 a2 C a4 a5 a6 a7 a8
  exact lv_astore C.1 C.2.1 dd a8 hn hl (fun lsB hB => h R p e s m args below meth c H locs cells slots lsB a1 a2 C a4 a5 a6 a7 hB)
theorem sd_astore_nN {kk : Fin 4} {i : Nat} {ls' : List (Nat × Value)} (dd : decode mi.2.1 pc = .ok (.astore_n kk, 1)) (hi : (kk : Nat) = i) (hn : i < mi.2.2.1) (hl : (i, Value.null) :: ls.filter (fun q => !(q.1 == i) && !(q.1 + 1 == i && q.2.category == 2)) = ls') (h : Wx en d mi (pc + 1) ls' st σ k n K X) : Wx en d mi pc ls (.null :: st) σ k n K X := by
  intro R p e s m args below meth c H locs cells slots lsA a1 a2 C a4 a5 a6 a7 a8
  exact lv_astore_nN C.1 C.2.1 dd hi a8 hn hl (fun lsB hB => h R p e s m args below meth c H locs cells slots lsB a1 a2 C a4 a5 a6 a7 hB)
theorem sd_astoreN {i : Nat} {ls' : List (Nat × Value)} (dd : decode mi.2.1 pc = .ok (.astore i, 2)) (hn : i < mi.2.2.1) (hl : (i, Value.null) :: ls.filter (fun q => !(q.1 == i) && !(q.1 + 1 == i && q.2.category == 2)) = ls') (h : Wx en d mi (pc + 2) ls' st σ k n K X) : Wx en d mi pc ls (.null :: st) σ k n K X := by
  intro R p e s m args below meth c H locs cells slots lsA a1 a2 C a4 a5 a6 a7 a8
  exact lv_astoreN C.1 C.2.1 dd a8 hn hl (fun lsB hB => h R p e s m args below meth c H locs cells slots lsB a1 a2 C a4 a5 a6 a7 hB)
theorem sd_astore_nQ {kk : Fin 4} {i : Nat} {r : Option Nat} {ls' : List (Nat × Value)} (dd : decode mi.2.1 pc = .ok (.astore_n kk, 1)) (hi : (kk : Nat) = i) (hn : i < mi.2.2.1) (hl : (i, va_rf r) :: ls.filter (fun q => !(q.1 == i) && !(q.1 + 1 == i && q.2.category == 2)) = ls') (h : Wx en d mi (pc + 1) ls' st σ k n K X) : Wx en d mi pc ls (va_rf r :: st) σ k n K X := by
  cases r with
  | none => exact sd_astore_nN dd hi hn hl h
  | some a => exact sd_astore_n dd hi hn hl h
theorem sd_astoreQ {i : Nat} {r : Option Nat} {ls' : List (Nat × Value)} (dd : decode mi.2.1 pc = .ok (.astore i, 2)) (hn : i < mi.2.2.1) (hl : (i, va_rf r) :: ls.filter (fun q => !(q.1 == i) && !(q.1 + 1 == i && q.2.category == 2)) = ls') (h : Wx en d mi (pc + 2) ls' st σ k n K X) : Wx en d mi pc ls (va_rf r :: st) σ k n K X := by
  cases r with
  | none => exact sd_astoreN dd hn hl h
  | some a => exact sd_astore dd hn hl h
theorem sd_iinc {i : Nat} {z : Int} {x v : Int32} {ls' : List (Nat × Value)} (dd : decode mi.2.1 pc = .ok (.iinc i z, 3)) (j : Nat) (hj : ls[j]? = some (i, .int x)) (hv : x + Int32.ofInt z = v) (hn : i < mi.2.2.1) (hl : (i, Value.int v) :: ls.filter (fun q => !(q.1 == i) && !(q.1 + 1 == i && q.2.category == 2)) = ls') (h : Wx en d mi (pc + 3) ls' st σ k n K X) : Wx en d mi pc ls st σ k n K X := by
  intro R p e s m args below meth c H locs cells slots lsA a1 a2 C a4 a5 a6 a7 a8
  exact lv_iinc C.1 C.2.1 dd a8 (k := j) hj hv hn hl (fun lsB hB => h R p e s m args below meth c H locs cells slots lsB a1 a2 C a4 a5 a6 a7 hB)
theorem sd_iadd {x y : Int32} (dd : decode mi.2.1 pc = .ok (.iadd, 1)) (h : Wx en d mi (pc + 1) ls (.int (x + y) :: st) σ k n K X) : Wx en d mi pc ls (.int y :: .int x :: st) σ k n K X := by
  intro R p e s m args below meth c H locs cells slots lsA a1 a2 C a4 a5 a6 a7 a8
  exact lv_iadd C.1 C.2.1 dd (h R p e s m args below meth c H locs cells slots lsA a1 a2 C a4 a5 a6 a7 a8)
theorem sd_isub {x y : Int32} (dd : decode mi.2.1 pc = .ok (.isub, 1)) (h : Wx en d mi (pc + 1) ls (.int (x - y) :: st) σ k n K X) : Wx en d mi pc ls (.int y :: .int x :: st) σ k n K X := by
  intro R p e s m args below meth c H locs cells slots lsA a1 a2 C a4 a5 a6 a7 a8
  exact lv_isub C.1 C.2.1 dd (h R p e s m args below meth c H locs cells slots lsA a1 a2 C a4 a5 a6 a7 a8)
theorem sd_imul {x y : Int32} (dd : decode mi.2.1 pc = .ok (.imul, 1)) (h : Wx en d mi (pc + 1) ls (.int (x * y) :: st) σ k n K X) : Wx en d mi pc ls (.int y :: .int x :: st) σ k n K X := by
  intro R p e s m args below meth c H locs cells slots lsA a1 a2 C a4 a5 a6 a7 a8
  exact lv_imul C.1 C.2.1 dd (h R p e s m args below meth c H locs cells slots lsA a1 a2 C a4 a5 a6 a7 a8)
theorem sd_iand {x y : Int32} (dd : decode mi.2.1 pc = .ok (.iand, 1)) (h : Wx en d mi (pc + 1) ls (.int (x &&& y) :: st) σ k n K X) : Wx en d mi pc ls (.int y :: .int x :: st) σ k n K X := by
  intro R p e s m args below meth c H locs cells slots lsA a1 a2 C a4 a5 a6 a7 a8
  exact lv_iand C.1 C.2.1 dd (h R p e s m args below meth c H locs cells slots lsA a1 a2 C a4 a5 a6 a7 a8)
theorem sd_ior {x y : Int32} (dd : decode mi.2.1 pc = .ok (.ior, 1)) (h : Wx en d mi (pc + 1) ls (.int (x ||| y) :: st) σ k n K X) : Wx en d mi pc ls (.int y :: .int x :: st) σ k n K X := by
  intro R p e s m args below meth c H locs cells slots lsA a1 a2 C a4 a5 a6 a7 a8
  exact lv_ior C.1 C.2.1 dd (h R p e s m args below meth c H locs cells slots lsA a1 a2 C a4 a5 a6 a7 a8)
theorem sd_ixor {x y : Int32} (dd : decode mi.2.1 pc = .ok (.ixor, 1)) (h : Wx en d mi (pc + 1) ls (.int (x ^^^ y) :: st) σ k n K X) : Wx en d mi pc ls (.int y :: .int x :: st) σ k n K X := by
  intro R p e s m args below meth c H locs cells slots lsA a1 a2 C a4 a5 a6 a7 a8
  exact lv_ixor C.1 C.2.1 dd (h R p e s m args below meth c H locs cells slots lsA a1 a2 C a4 a5 a6 a7 a8)
theorem sd_ishl {x y : Int32} (dd : decode mi.2.1 pc = .ok (.ishl, 1)) (h : Wx en d mi (pc + 1) ls (.int (x <<< (y &&& 31)) :: st) σ k n K X) : Wx en d mi pc ls (.int y :: .int x :: st) σ k n K X := by
  intro R p e s m args below meth c H locs cells slots lsA a1 a2 C a4 a5 a6 a7 a8
  exact lv_ishl C.1 C.2.1 dd (h R p e s m args below meth c H locs cells slots lsA a1 a2 C a4 a5 a6 a7 a8)
theorem sd_ishr {x y : Int32} (dd : decode mi.2.1 pc = .ok (.ishr, 1)) (h : Wx en d mi (pc + 1) ls (.int (x >>> (y &&& 31)) :: st) σ k n K X) : Wx en d mi pc ls (.int y :: .int x :: st) σ k n K X := by
  intro R p e s m args below meth c H locs cells slots lsA a1 a2 C a4 a5 a6 a7 a8
  exact lv_ishr C.1 C.2.1 dd (h R p e s m args below meth c H locs cells slots lsA a1 a2 C a4 a5 a6 a7 a8)
theorem sd_idiv {x y : Int32} (dd : decode mi.2.1 pc = .ok (.idiv, 1)) (hne : ¬ y = 0) (h : Wx en d mi (pc + 1) ls (.int (x / y) :: st) σ k n K X) : Wx en d mi pc ls (.int y :: .int x :: st) σ k n K X := by
  intro R p e s m args below meth c H locs cells slots lsA a1 a2 C a4 a5 a6 a7 a8
  exact lv_idiv C.1 C.2.1 dd hne (h R p e s m args below meth c H locs cells slots lsA a1 a2 C a4 a5 a6 a7 a8)
theorem sd_irem {x y : Int32} (dd : decode mi.2.1 pc = .ok (.irem, 1)) (hne : ¬ y = 0) (h : Wx en d mi (pc + 1) ls (.int (x - x / y * y) :: st) σ k n K X) : Wx en d mi pc ls (.int y :: .int x :: st) σ k n K X := by
  intro R p e s m args below meth c H locs cells slots lsA a1 a2 C a4 a5 a6 a7 a8
  exact lv_irem C.1 C.2.1 dd hne (h R p e s m args below meth c H locs cells slots lsA a1 a2 C a4 a5 a6 a7 a8)
theorem sd_ineg {x : Int32} (dd : decode mi.2.1 pc = .ok (.ineg, 1)) (h : Wx en d mi (pc + 1) ls (.int (-x) :: st) σ k n K X) : Wx en d mi pc ls (.int x :: st) σ k n K X := by
  intro R p e s m args below meth c H locs cells slots lsA a1 a2 C a4 a5 a6 a7 a8
  exact lv_ineg C.1 C.2.1 dd (h R p e s m args below meth c H locs cells slots lsA a1 a2 C a4 a5 a6 a7 a8)
theorem sd_iushr {x y : Int32} (dd : decode mi.2.1 pc = .ok (.iushr, 1)) (h : Wx en d mi (pc + 1) ls (.int (x.toUInt32 >>> (y.toUInt32 &&& Int32.toUInt32 31)).toInt32 :: st) σ k n K X) : Wx en d mi pc ls (.int y :: .int x :: st) σ k n K X := by
  intro R p e s m args below meth c H locs cells slots lsA a1 a2 C a4 a5 a6 a7 a8
  exact lv_iushr C.1 C.2.1 dd rfl (h R p e s m args below meth c H locs cells slots lsA a1 a2 C a4 a5 a6 a7 a8)
theorem sd_i2l {x : Int32} (dd : decode mi.2.1 pc = .ok (.i2l, 1)) (h : Wx en d mi (pc + 1) ls (.long x.toInt64 :: st) σ k n K X) : Wx en d mi pc ls (.int x :: st) σ k n K X := by
  intro R p e s m args below meth c H locs cells slots lsA a1 a2 C a4 a5 a6 a7 a8
  exact lv_i2l C.1 C.2.1 dd rfl (h R p e s m args below meth c H locs cells slots lsA a1 a2 C a4 a5 a6 a7 a8)
theorem sd_i2b {x : Int32} (dd : decode mi.2.1 pc = .ok (.i2b, 1)) (h : Wx en d mi (pc + 1) ls (.int x.toInt8.toInt32 :: st) σ k n K X) : Wx en d mi pc ls (.int x :: st) σ k n K X := by
  intro R p e s m args below meth c H locs cells slots lsA a1 a2 C a4 a5 a6 a7 a8
  exact lv_i2b C.1 C.2.1 dd rfl (h R p e s m args below meth c H locs cells slots lsA a1 a2 C a4 a5 a6 a7 a8)
theorem sd_i2c {x : Int32} (dd : decode mi.2.1 pc = .ok (.i2c, 1)) (h : Wx en d mi (pc + 1) ls (.int (x.toUInt32 % 65536).toInt32 :: st) σ k n K X) : Wx en d mi pc ls (.int x :: st) σ k n K X := by
  intro R p e s m args below meth c H locs cells slots lsA a1 a2 C a4 a5 a6 a7 a8
  exact lv_i2c C.1 C.2.1 dd rfl (h R p e s m args below meth c H locs cells slots lsA a1 a2 C a4 a5 a6 a7 a8)
theorem sd_i2f {x : Int32} (dd : decode mi.2.1 pc = .ok (.i2f, 1)) (h : Wx en d mi (pc + 1) ls (.float (FP.i2f x) :: st) σ k n K X) : Wx en d mi pc ls (.int x :: st) σ k n K X := by
  intro R p e s m args below meth c H locs cells slots lsA a1 a2 C a4 a5 a6 a7 a8
  exact lv_i2f C.1 C.2.1 dd (h R p e s m args below meth c H locs cells slots lsA a1 a2 C a4 a5 a6 a7 a8)
theorem sd_i2d {x : Int32} (dd : decode mi.2.1 pc = .ok (.i2d, 1)) (h : Wx en d mi (pc + 1) ls (.double (FP.i2d x) :: st) σ k n K X) : Wx en d mi pc ls (.int x :: st) σ k n K X := by
  intro R p e s m args below meth c H locs cells slots lsA a1 a2 C a4 a5 a6 a7 a8
  exact lv_i2d C.1 C.2.1 dd (h R p e s m args below meth c H locs cells slots lsA a1 a2 C a4 a5 a6 a7 a8)
theorem sd_f2d {x : UInt32} (dd : decode mi.2.1 pc = .ok (.f2d, 1)) (hne : vf_n64 (FP.f2d x)) (h : Wx en d mi (pc + 1) ls (.double (FP.f2d x) :: st) σ k n K X) : Wx en d mi pc ls (.float x :: st) σ k n K X := by
  intro R p e s m args below meth c H locs cells slots lsA a1 a2 C a4 a5 a6 a7 a8
  exact lv_f2d C.1 C.2.1 dd hne (h R p e s m args below meth c H locs cells slots lsA a1 a2 C a4 a5 a6 a7 a8)
theorem sd_fdiv {x y : UInt32} (dd : decode mi.2.1 pc = .ok (.fdiv, 1)) (hne : vf_n32 (FP.fdiv x y)) (h : Wx en d mi (pc + 1) ls (.float (FP.fdiv x y) :: st) σ k n K X) : Wx en d mi pc ls (.float y :: .float x :: st) σ k n K X := by
  intro R p e s m args below meth c H locs cells slots lsA a1 a2 C a4 a5 a6 a7 a8
  exact lv_fdiv C.1 C.2.1 dd hne (h R p e s m args below meth c H locs cells slots lsA a1 a2 C a4 a5 a6 a7 a8)
theorem sd_ddiv {x y : UInt64} (dd : decode mi.2.1 pc = .ok (.ddiv, 1)) (hne : vf_n64 (FP.ddiv x y)) (h : Wx en d mi (pc + 1) ls (.double (FP.ddiv x y) :: st) σ k n K X) : Wx en d mi pc ls (.double y :: .double x :: st) σ k n K X := by
  intro R p e s m args below meth c H locs cells slots lsA a1 a2 C a4 a5 a6 a7 a8
  exact lv_ddiv C.1 C.2.1 dd hne (h R p e s m args below meth c H locs cells slots lsA a1 a2 C a4 a5 a6 a7 a8)
theorem sd_fcmp {x y : UInt32} {op : CmpOp} (dd : decode mi.2.1 pc = .ok (.fcmp op, 1)) (h : Wx en d mi (pc + 1) ls (.int (Op.cmpValue (FP.fcmp x y) op) :: st) σ k n K X) : Wx en d mi pc ls (.float y :: .float x :: st) σ k n K X := by
  intro R p e s m args below meth c H locs cells slots lsA a1 a2 C a4 a5 a6 a7 a8
  exact lv_fcmp C.1 C.2.1 dd (h R p e s m args below meth c H locs cells slots lsA a1 a2 C a4 a5 a6 a7 a8)
theorem sd_dcmp {x y : UInt64} {op : CmpOp} (dd : decode mi.2.1 pc = .ok (.dcmp op, 1)) (h : Wx en d mi (pc + 1) ls (.int (Op.cmpValue (FP.dcmp x y) op) :: st) σ k n K X) : Wx en d mi pc ls (.double y :: .double x :: st) σ k n K X := by
  intro R p e s m args below meth c H locs cells slots lsA a1 a2 C a4 a5 a6 a7 a8
  exact lv_dcmp C.1 C.2.1 dd (h R p e s m args below meth c H locs cells slots lsA a1 a2 C a4 a5 a6 a7 a8)
theorem sd_fconst0 (dd : decode mi.2.1 pc = .ok (.fconst 0, 1)) (h : Wx en d mi (pc + 1) ls (.float FP.fconst0 :: st) σ k n K X) : Wx en d mi pc ls (st) σ k n K X := by
  intro R p e s m args below meth c H locs cells slots lsA a1 a2 C a4 a5 a6 a7 a8
  exact lv_fconst0 C.1 C.2.1 dd (h R p e s m args below meth c H locs cells slots lsA a1 a2 C a4 a5 a6 a7 a8)
theorem sd_dup {v : Value} (dd : decode mi.2.1 pc = .ok (.dup, 1)) (hc : v.category = 1) (h : Wx en d mi (pc + 1) ls (v :: v :: st) σ k n K X) : Wx en d mi pc ls (v :: st) σ k n K X := by
  intro R p e s m args below meth c H locs cells slots lsA a1 a2 C a4 a5 a6 a7 a8
  exact lv_dup C.1 C.2.1 dd hc (h R p e s m args below meth c H locs cells slots lsA a1 a2 C a4 a5 a6 a7 a8)
theorem sd_pop {v : Value} (dd : decode mi.2.1 pc = .ok (.pop, 1)) (hc : v.category = 1) (h : Wx en d mi (pc + 1) ls (st) σ k n K X) : Wx en d mi pc ls (v :: st) σ k n K X := by
  intro R p e s m args below meth c H locs cells slots lsA a1 a2 C a4 a5 a6 a7 a8
  exact lv_pop C.1 C.2.1 dd hc (h R p e s m args below meth c H locs cells slots lsA a1 a2 C a4 a5 a6 a7 a8)
theorem sd_dup_x1 {v w : Value} (dd : decode mi.2.1 pc = .ok (.dup_x1, 1)) (hv : v.category = 1) (hw : w.category = 1) (h : Wx en d mi (pc + 1) ls (v :: w :: v :: st) σ k n K X) : Wx en d mi pc ls (v :: w :: st) σ k n K X := by
  intro R p e s m args below meth c H locs cells slots lsA a1 a2 C a4 a5 a6 a7 a8
  exact lv_dup_x1 C.1 C.2.1 dd hv hw (h R p e s m args below meth c H locs cells slots lsA a1 a2 C a4 a5 a6 a7 a8)
theorem sd_dup2 {v w : Value} (dd : decode mi.2.1 pc = .ok (.dup2, 1)) (hv : v.category = 1) (hw : w.category = 1) (h : Wx en d mi (pc + 1) ls (v :: w :: v :: w :: st) σ k n K X) : Wx en d mi pc ls (v :: w :: st) σ k n K X := by
  intro R p e s m args below meth c H locs cells slots lsA a1 a2 C a4 a5 a6 a7 a8
  exact lv_dup2_11 C.1 C.2.1 dd hv hw (h R p e s m args below meth c H locs cells slots lsA a1 a2 C a4 a5 a6 a7 a8)
theorem sd_null (dd : decode mi.2.1 pc = .ok (.aconst_null, 1)) (h : Wx en d mi (pc + 1) ls (.null :: st) σ k n K X) : Wx en d mi pc ls (st) σ k n K X := by
  intro R p e s m args below meth c H locs cells slots lsA a1 a2 C a4 a5 a6 a7 a8
  exact lv_null C.1 C.2.1 dd (h R p e s m args below meth c H locs cells slots lsA a1 a2 C a4 a5 a6 a7 a8)
theorem sd_ifeq {x : Int32} {off : Int} {tgt : Nat} (dd : decode mi.2.1 pc = .ok (.ifCond .eq off, 3)) (ht : (pc : Int) + off = (tgt : Int)) (hc : (x = 0 → Wx en d mi tgt ls st σ k n K X) ∧ (¬ x = 0 → Wx en d mi (pc + 3) ls st σ k n K X)) : Wx en d mi pc ls (.int x :: st) σ k n K X := by
  intro R p e s m args below meth c H locs cells slots lsA a1 a2 C a4 a5 a6 a7 a8
  exact lv_if_eq C.1 C.2.1 dd ht (fun c0 => hc.1 c0 R p e s m args below meth c H locs cells slots lsA a1 a2 C a4 a5 a6 a7 a8) (fun c0 => hc.2 c0 R p e s m args below meth c H locs cells slots lsA a1 a2 C a4 a5 a6 a7 a8)
theorem sd_ifne {x : Int32} {off : Int} {tgt : Nat} (dd : decode mi.2.1 pc = .ok (.ifCond .ne off, 3)) (ht : (pc : Int) + off = (tgt : Int)) (hc : (¬ x = 0 → Wx en d mi tgt ls st σ k n K X) ∧ (x = 0 → Wx en d mi (pc + 3) ls st σ k n K X)) : Wx en d mi pc ls (.int x :: st) σ k n K X := by
  intro R p e s m args below meth c H locs cells slots lsA a1 a2 C a4 a5 a6 a7 a8
  exact lv_if_ne C.1 C.2.1 dd ht (fun c0 => hc.1 c0 R p e s m args below meth c H locs cells slots lsA a1 a2 C a4 a5 a6 a7 a8) (fun c0 => hc.2 c0 R p e s m args below meth c H locs cells slots lsA a1 a2 C a4 a5 a6 a7 a8)
theorem sd_iflt {x : Int32} {off : Int} {tgt : Nat} (dd : decode mi.2.1 pc = .ok (.ifCond .lt off, 3)) (ht : (pc : Int) + off = (tgt : Int)) (hc : (x < 0 → Wx en d mi tgt ls st σ k n K X) ∧ (¬ x < 0 → Wx en d mi (pc + 3) ls st σ k n K X)) : Wx en d mi pc ls (.int x :: st) σ k n K X := by
  intro R p e s m args below meth c H locs cells slots lsA a1 a2 C a4 a5 a6 a7 a8
  exact lv_if_lt C.1 C.2.1 dd ht (fun c0 => hc.1 c0 R p e s m args below meth c H locs cells slots lsA a1 a2 C a4 a5 a6 a7 a8) (fun c0 => hc.2 c0 R p e s m args below meth c H locs cells slots lsA a1 a2 C a4 a5 a6 a7 a8)
theorem sd_ifge {x : Int32} {off : Int} {tgt : Nat} (dd : decode mi.2.1 pc = .ok (.ifCond .ge off, 3)) (ht : (pc : Int) + off = (tgt : Int)) (hc : (0 ≤ x → Wx en d mi tgt ls st σ k n K X) ∧ (¬ 0 ≤ x → Wx en d mi (pc + 3) ls st σ k n K X)) : Wx en d mi pc ls (.int x :: st) σ k n K X := by
  intro R p e s m args below meth c H locs cells slots lsA a1 a2 C a4 a5 a6 a7 a8
  exact lv_if_ge C.1 C.2.1 dd ht (fun c0 => hc.1 c0 R p e s m args below meth c H locs cells slots lsA a1 a2 C a4 a5 a6 a7 a8) (fun c0 => hc.2 c0 R p e s m args below meth c H locs cells slots lsA a1 a2 C a4 a5 a6 a7 a8)
theorem sd_ifgt {x : Int32} {off : Int} {tgt : Nat} (dd : decode mi.2.1 pc = .ok (.ifCond .gt off, 3)) (ht : (pc : Int) + off = (tgt : Int)) (hc : (0 < x → Wx en d mi tgt ls st σ k n K X) ∧ (¬ 0 < x → Wx en d mi (pc + 3) ls st σ k n K X)) : Wx en d mi pc ls (.int x :: st) σ k n K X := by
  intro R p e s m args below meth c H locs cells slots lsA a1 a2 C a4 a5 a6 a7 a8
  exact lv_if_gt C.1 C.2.1 dd ht (fun c0 => hc.1 c0 R p e s m args below meth c H locs cells slots lsA a1 a2 C a4 a5 a6 a7 a8) (fun c0 => hc.2 c0 R p e s m args below meth c H locs cells slots lsA a1 a2 C a4 a5 a6 a7 a8)
theorem sd_ifle {x : Int32} {off : Int} {tgt : Nat} (dd : decode mi.2.1 pc = .ok (.ifCond .le off, 3)) (ht : (pc : Int) + off = (tgt : Int)) (hc : (x ≤ 0 → Wx en d mi tgt ls st σ k n K X) ∧ (¬ x ≤ 0 → Wx en d mi (pc + 3) ls st σ k n K X)) : Wx en d mi pc ls (.int x :: st) σ k n K X := by
  intro R p e s m args below meth c H locs cells slots lsA a1 a2 C a4 a5 a6 a7 a8
  exact lv_if_le C.1 C.2.1 dd ht (fun c0 => hc.1 c0 R p e s m args below meth c H locs cells slots lsA a1 a2 C a4 a5 a6 a7 a8) (fun c0 => hc.2 c0 R p e s m args below meth c H locs cells slots lsA a1 a2 C a4 a5 a6 a7 a8)
theorem sd_icmpeq {x y : Int32} {off : Int} {tgt : Nat} (dd : decode mi.2.1 pc = .ok (.if_icmp .eq off, 3)) (ht : (pc : Int) + off = (tgt : Int)) (hc : (x = y → Wx en d mi tgt ls st σ k n K X) ∧ (¬ x = y → Wx en d mi (pc + 3) ls st σ k n K X)) : Wx en d mi pc ls (.int y :: .int x :: st) σ k n K X := by
  intro R p e s m args below meth c H locs cells slots lsA a1 a2 C a4 a5 a6 a7 a8
  exact lv_icmp_eq C.1 C.2.1 dd ht (fun c0 => hc.1 c0 R p e s m args below meth c H locs cells slots lsA a1 a2 C a4 a5 a6 a7 a8) (fun c0 => hc.2 c0 R p e s m args below meth c H locs cells slots lsA a1 a2 C a4 a5 a6 a7 a8)
theorem sd_icmpne {x y : Int32} {off : Int} {tgt : Nat} (dd : decode mi.2.1 pc = .ok (.if_icmp .ne off, 3)) (ht : (pc : Int) + off = (tgt : Int)) (hc : (¬ x = y → Wx en d mi tgt ls st σ k n K X) ∧ (x = y → Wx en d mi (pc + 3) ls st σ k n K X)) : Wx en d mi pc ls (.int y :: .int x :: st) σ k n K X := by
  intro R p e s m args below meth c H locs cells slots lsA a1 a2 C a4 a5 a6 a7 a8
  exact lv_icmp_ne C.1 C.2.1 dd ht (fun c0 => hc.1 c0 R p e s m args below meth c H locs cells slots lsA a1 a2 C a4 a5 a6 a7 a8) (fun c0 => hc.2 c0 R p e s m args below meth c H locs cells slots lsA a1 a2 C a4 a5 a6 a7 a8)
theorem sd_icmplt {x y : Int32} {off : Int} {tgt : Nat} (dd : decode mi.2.1 pc = .ok (.if_icmp .lt off, 3)) (ht : (pc : Int) + off = (tgt : Int)) (hc : (x < y → Wx en d mi tgt ls st σ k n K X) ∧ (¬ x < y → Wx en d mi (pc + 3) ls st σ k n K X)) : Wx en d mi pc ls (.int y :: .int x :: st) σ k n K X := by
  intro R p e s m args below meth c H locs cells slots lsA a1 a2 C a4 a5 a6 a7 a8
  exact lv_icmp_lt C.1 C.2.1 dd ht (fun c0 => hc.1 c0 R p e s m args below meth c H locs cells slots lsA a1 a2 C a4 a5 a6 a7 a8) (fun c0 => hc.2 c0 R p e s m args below meth c H locs cells slots lsA a1 a2 C a4 a5 a6 a7 a8)
theorem sd_icmpge {x y : Int32} {off : Int} {tgt : Nat} (dd : decode mi.2.1 pc = .ok (.if_icmp .ge off, 3)) (ht : (pc : Int) + off = (tgt : Int)) (hc : (y ≤ x → Wx en d mi tgt ls st σ k n K X) ∧ (¬ y ≤ x → Wx en d mi (pc + 3) ls st σ k n K X)) : Wx en d mi pc ls (.int y :: .int x :: st) σ k n K X := by
  intro R p e s m args below meth c H locs cells slots lsA a1 a2 C a4 a5 a6 a7 a8
  exact lv_icmp_ge C.1 C.2.1 dd ht (fun c0 => hc.1 c0 R p e s m args below meth c H locs cells slots lsA a1 a2 C a4 a5 a6 a7 a8) (fun c0 => hc.2 c0 R p e s m args below meth c H locs cells slots lsA a1 a2 C a4 a5 a6 a7 a8)
theorem sd_icmpgt {x y : Int32} {off : Int} {tgt : Nat} (dd : decode mi.2.1 pc = .ok (.if_icmp .gt off, 3)) (ht : (pc : Int) + off = (tgt : Int)) (hc : (y < x → Wx en d mi tgt ls st σ k n K X) ∧ (¬ y < x → Wx en d mi (pc + 3) ls st σ k n K X)) : Wx en d mi pc ls (.int y :: .int x :: st) σ k n K X := by
  intro R p e s m args below meth c H locs cells slots lsA a1 a2 C a4 a5 a6 a7 a8
  exact lv_icmp_gt C.1 C.2.1 dd ht (fun c0 => hc.1 c0 R p e s m args below meth c H locs cells slots lsA a1 a2 C a4 a5 a6 a7 a8) (fun c0 => hc.2 c0 R p e s m args below meth c H locs cells slots lsA a1 a2 C a4 a5 a6 a7 a8)
theorem sd_icmple {x y : Int32} {off : Int} {tgt : Nat} (dd : decode mi.2.1 pc = .ok (.if_icmp .le off, 3)) (ht : (pc : Int) + off = (tgt : Int)) (hc : (x ≤ y → Wx en d mi tgt ls st σ k n K X) ∧ (¬ x ≤ y → Wx en d mi (pc + 3) ls st σ k n K X)) : Wx en d mi pc ls (.int y :: .int x :: st) σ k n K X := by
  intro R p e s m args below meth c H locs cells slots lsA a1 a2 C a4 a5 a6 a7 a8
  exact lv_icmp_le C.1 C.2.1 dd ht (fun c0 => hc.1 c0 R p e s m args below meth c H locs cells slots lsA a1 a2 C a4 a5 a6 a7 a8) (fun c0 => hc.2 c0 R p e s m args below meth c H locs cells slots lsA a1 a2 C a4 a5 a6 a7 a8)
theorem sd_acmpeq {x y : Option Nat} {off : Int} {tgt : Nat} (dd : decode mi.2.1 pc = .ok (.if_acmp .eq off, 3)) (ht : (pc : Int) + off = (tgt : Int)) (hc : (x = y → Wx en d mi tgt ls st σ k n K X) ∧ (¬ x = y → Wx en d mi (pc + 3) ls st σ k n K X)) : Wx en d mi pc ls (va_rf y :: va_rf x :: st) σ k n K X := by
  intro R p e s m args below meth c H locs cells slots lsA a1 a2 C a4 a5 a6 a7 a8
  exact lv_acmp_eq C.1 C.2.1 dd ht (fun c0 => hc.1 c0 R p e s m args below meth c H locs cells slots lsA a1 a2 C a4 a5 a6 a7 a8) (fun c0 => hc.2 c0 R p e s m args below meth c H locs cells slots lsA a1 a2 C a4 a5 a6 a7 a8)
theorem sd_acmpne {x y : Option Nat} {off : Int} {tgt : Nat} (dd : decode mi.2.1 pc = .ok (.if_acmp .ne off, 3)) (ht : (pc : Int) + off = (tgt : Int)) (hc : (¬ x = y → Wx en d mi tgt ls st σ k n K X) ∧ (x = y → Wx en d mi (pc + 3) ls st σ k n K X)) : Wx en d mi pc ls (va_rf y :: va_rf x :: st) σ k n K X := by
  intro R p e s m args below meth c H locs cells slots lsA a1 a2 C a4 a5 a6 a7 a8
  exact lv_acmp_ne C.1 C.2.1 dd ht (fun c0 => hc.1 c0 R p e s m args below meth c H locs cells slots lsA a1 a2 C a4 a5 a6 a7 a8) (fun c0 => hc.2 c0 R p e s m args below meth c H locs cells slots lsA a1 a2 C a4 a5 a6 a7 a8)
theorem sd_goto {off : Int} {tgt : Nat} (dd : decode mi.2.1 pc = .ok (.goto off, 3)) (ht : (pc : Int) + off = (tgt : Int)) (h : Wx en d mi tgt ls st σ k n K X) : Wx en d mi pc ls st σ k n K X := by
  intro R p e s m args below meth c H locs cells slots lsA a1 a2 C a4 a5 a6 a7 a8
  exact lv_goto C.1 C.2.1 dd ht (h R p e s m args below meth c H locs cells slots lsA a1 a2 C a4 a5 a6 a7 a8)
theorem sd_ifnull {r : Option Nat} {off : Int} {tgt : Nat} (dd : decode mi.2.1 pc = .ok (.ifnull off, 3)) (ht : (pc : Int) + off = (tgt : Int)) (hc : (r = none → Wx en d mi tgt ls st σ k n K X) ∧ (¬ r = none → Wx en d mi (pc + 3) ls st σ k n K X)) : Wx en d mi pc ls (va_rf r :: st) σ k n K X := by
  intro R p e s m args below meth c H locs cells slots lsA a1 a2 C a4 a5 a6 a7 a8
  cases r with
  | none => exact lv_ifnullN C.1 C.2.1 dd ht (hc.1 rfl R p e s m args below meth c H locs cells slots lsA a1 a2 C a4 a5 a6 a7 a8)
  | some a => exact lv_ifnull C.1 C.2.1 dd (hc.2 (fun h => by cases h) R p e s m args below meth c H locs cells slots lsA a1 a2 C a4 a5 a6 a7 a8)
theorem sd_ifnonnull {r : Option Nat} {off : Int} {tgt : Nat} (dd : decode mi.2.1 pc = .ok (.ifnonnull off, 3)) (ht : (pc : Int) + off = (tgt : Int)) (hc : (¬ r = none → Wx en d mi tgt ls st σ k n K X) ∧ (r = none → Wx en d mi (pc + 3) ls st σ k n K X)) : Wx en d mi pc ls (va_rf r :: st) σ k n K X := by
  intro R p e s m args below meth c H locs cells slots lsA a1 a2 C a4 a5 a6 a7 a8
  cases r with
  | none => exact lv_ifnonnullN C.1 C.2.1 dd (hc.2 rfl R p e s m args below meth c H locs cells slots lsA a1 a2 C a4 a5 a6 a7 a8)
  | some a => exact lv_ifnonnull C.1 C.2.1 dd ht (hc.1 (fun h => by cases h) R p e s m args below meth c H locs cells slots lsA a1 a2 C a4 a5 a6 a7 a8)
theorem sd_ldc {i : Nat} {v : Int32} (dd : decode mi.2.1 pc = .ok (.ldc i, 2)) (hq : Cond.constant mi.1.cls i v ∈ lw_all) (h : Wx en d mi (pc + 2) ls (.int v :: st) σ k n K X) : Wx en d mi pc ls st σ k n K X := by
  intro R p e s m args below meth c H locs cells slots lsA a1 a2 C a4 a5 a6 a7 a8
  exact lv_ldc C.1 C.2.1 C.2.2.2.2.2.1 (C.2.2.2.2.2.2.2.1 _ hq) dd (h R p e s m args below meth c H locs cells slots lsA a1 a2 C a4 a5 a6 a7 a8)
theorem sd_ldc2d {i : Nat} {v : UInt64} (dd : decode mi.2.1 pc = .ok (.ldc2_w i, 3)) (hq : Cond.constantDouble mi.1.cls i v ∈ lw_all) (h : Wx en d mi (pc + 3) ls (.double v :: st) σ k n K X) : Wx en d mi pc ls st σ k n K X := by
  intro R p e s m args below meth c H locs cells slots lsA a1 a2 C a4 a5 a6 a7 a8
  exact lv_ldc2d C.1 C.2.1 C.2.2.2.2.2.1 (C.2.2.2.2.2.2.2.1 _ hq) dd (h R p e s m args below meth c H locs cells slots lsA a1 a2 C a4 a5 a6 a7 a8)
theorem sd_lookup {dflt : Int} {ps : Array (Int × Int)} {len : Nat} {x : Int32} {off : Int} {tgt : Nat} (dd : decode mi.2.1 pc = .ok (.lookupswitch dflt ps, len)) (hp : (ps.toList.zip (ps.toList.drop 1)).all (fun (a, next) => a.1 < next.1) = true) (ho : Op.lookupswitch.offset ps.toList dflt x.toInt = off) (ht : (pc : Int) + off = (tgt : Int)) (h : Wx en d mi tgt ls st σ k n K X) : Wx en d mi pc ls (.int x :: st) σ k n K X := by
  intro R p e s m args below meth c H locs cells slots lsA a1 a2 C a4 a5 a6 a7 a8
  exact lv_lookup C.1 C.2.1 dd hp ho ht (h R p e s m args below meth c H locs cells slots lsA a1 a2 C a4 a5 a6 a7 a8)
theorem sd_tableOut {dflt lo hi : Int} {offs : Array Int} {len : Nat} {x : Int32} {tgt : Nat} (dd : decode mi.2.1 pc = .ok (.tableswitch dflt lo hi offs, len)) (hh : x.toInt < lo ∨ hi < x.toInt) (ht : (pc : Int) + dflt = (tgt : Int)) (h : Wx en d mi tgt ls st σ k n K X) : Wx en d mi pc ls (.int x :: st) σ k n K X := by
  intro R p e s m args below meth c H locs cells slots lsA a1 a2 C a4 a5 a6 a7 a8
  exact lv_tableOut C.1 C.2.1 dd hh ht (h R p e s m args below meth c H locs cells slots lsA a1 a2 C a4 a5 a6 a7 a8)
theorem sd_tableIn {dflt lo hi : Int} {offs : Array Int} {len : Nat} {x : Int32} {off : Int} {tgt : Nat} (dd : decode mi.2.1 pc = .ok (.tableswitch dflt lo hi offs, len)) (h1 : ¬ x.toInt < lo) (h2 : ¬ hi < x.toInt) (ho : offs[(x.toInt - lo).toNat]? = some off) (ht : (pc : Int) + off = (tgt : Int)) (h : Wx en d mi tgt ls st σ k n K X) : Wx en d mi pc ls (.int x :: st) σ k n K X := by
  intro R p e s m args below meth c H locs cells slots lsA a1 a2 C a4 a5 a6 a7 a8
  exact lv_tableIn C.1 C.2.1 dd h1 h2 ho ht (h R p e s m args below meth c H locs cells slots lsA a1 a2 C a4 a5 a6 a7 a8)
theorem y_ret {en : yEn} {K : Option Value → yH → Prop} {s t : State} {σ : yH} {H : Heap} {locs : List Loc} {args : Array Value} {v : Option Value} (hK : K v σ) (hR : y_Rp en σ H) (hS : va_S (y_A en) s.heap H locs) (ht : t.heap = H) : y_Qc en K args s (.returned v) t := ⟨v, σ, rfl, hK, by rw [ht]; exact hR, hS.F ht⟩
theorem sd_ireturn {x : Int32} {ty0 : FieldType} (dd : decode mi.2.1 pc = .ok (.ireturn, 1)) (hr : mi.2.2.2.1 = some ty0) (hn : narrow ty0 (.int x) = .int x) (h : K (some (.int x)) σ) : Wx en d mi pc ls [.int x] σ k n K X := by
  intro R p e s m args below meth c H locs cells slots lsA a1 a2 C a4 a5 a6 a7 a8
  refine yx_ret (W.widen (k := R.cells) (n := R.slots) (by omega) (by omega) ?_)
  exact W.zret C.1 C.2.1 (C.2.2.1.trans hr) hn (fun t ht _ => y_ret h a4 a5 ht) a5.2.2 dd C.2.2.2.1
theorem sd_lreturn {x : Int64} (dd : decode mi.2.1 pc = .ok (.lreturn, 1)) (hr : mi.2.2.2.1 = some .long) (h : K (some (.long x)) σ) : Wx en d mi pc ls [.long x] σ k n K X := by
  intro R p e s m args below meth c H locs cells slots lsA a1 a2 C a4 a5 a6 a7 a8
  refine yx_ret (W.widen (k := R.cells) (n := R.slots) (by omega) (by omega) ?_)
  exact W.lret C.1 C.2.1 (C.2.2.1.trans hr) (fun t ht _ => y_ret h a4 a5 ht) a5.2.2 dd C.2.2.2.1
theorem sd_freturn {x : UInt32} (dd : decode mi.2.1 pc = .ok (.freturn, 1)) (hr : mi.2.2.2.1 = some .float) (h : K (some (.float x)) σ) : Wx en d mi pc ls [.float x] σ k n K X := by
  intro R p e s m args below meth c H locs cells slots lsA a1 a2 C a4 a5 a6 a7 a8
  refine yx_ret (W.widen (k := R.cells) (n := R.slots) (by omega) (by omega) ?_)
  exact W.fret C.1 C.2.1 (C.2.2.1.trans hr) (fun t ht _ => y_ret h a4 a5 ht) a5.2.2 dd C.2.2.2.1
theorem sd_dreturn {x : UInt64} (dd : decode mi.2.1 pc = .ok (.dreturn, 1)) (hr : mi.2.2.2.1 = some .double) (h : K (some (.double x)) σ) : Wx en d mi pc ls [.double x] σ k n K X := by
  intro R p e s m args below meth c H locs cells slots lsA a1 a2 C a4 a5 a6 a7 a8
  refine yx_ret (W.widen (k := R.cells) (n := R.slots) (by omega) (by omega) ?_)
  exact W.dret C.1 C.2.1 (C.2.2.1.trans hr) (fun t ht _ => y_ret h a4 a5 ht) a5.2.2 dd C.2.2.2.1
theorem sd_return (dd : decode mi.2.1 pc = .ok (.return_, 1)) (hr : mi.2.2.2.1 = none) (h : K none σ) : Wx en d mi pc ls [] σ k n K X := by
  intro R p e s m args below meth c H locs cells slots lsA a1 a2 C a4 a5 a6 a7 a8
  refine yx_ret (W.widen (k := R.cells) (n := R.slots) (by omega) (by omega) ?_)
  exact W.vret C.1 C.2.1 (C.2.2.1.trans hr) (fun t ht _ => y_ret h a4 a5 ht) a5.2.2 dd C.2.2.2.1
theorem sd_areturn {r : Option Nat} {rt : FieldType} (dd : decode mi.2.1 pc = .ok (.areturn, 1)) (hr : mi.2.2.2.1 = some rt) (hrt : (∃ n, rt = .object n) ∨ ∃ t, rt = .array t) (h : K (some (va_rf r)) σ) : Wx en d mi pc ls [va_rf r] σ k n K X := by
  intro R p e s m args below meth c H locs cells slots lsA a1 a2 C a4 a5 a6 a7 a8
  refine yx_ret (W.widen (k := R.cells) (n := R.slots) (by omega) (by omega) ?_)
  exact W.aret C.1 C.2.1 (C.2.2.1.trans hr) hrt (by cases r with
    | none => exact Or.inl rfl
    | some a => exact Or.inr ⟨a, rfl⟩) (fun t ht _ => y_ret h a4 a5 ht) a5.2.2 dd C.2.2.2.1
end YR
