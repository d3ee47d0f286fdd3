/-! HEAP: reads, stores, new cells over the abstract heap -/
set_option maxRecDepth 100000
/-! words at a state of the run -/
theorem y_nF {en : yEn} {s : State} {args : Array Value} (h : y_St en s) {a : String} {i : Nat} {b n d g : String} (hw : Cond.fieldLinkNest a i b n d g ∈ lw_tbl) : (Cond.fieldLinkNest a i b n d g).before args s = true := by
  obtain ⟨b0, ht⟩ := y_tbl h
  exact va_Nw.use rfl (va_Nw.warmF h.2.1 (va_Nw.of rfl (ht _ hw)))
theorem y_nM {en : yEn} {s : State} (h : y_St en s) {a : String} {i : Nat} {x : MethodName} {g : String} (hw : Cond.methodLinkNest a i x g ∈ lw_tbl) : va_Nw (.methodLinkNest a i x g) s := by
  obtain ⟨b0, ht⟩ := y_tbl h
  exact va_Nw.warmM h.2.1 (va_Nw.of rfl (ht _ hw))
theorem y_nC {en : yEn} {s : State} (h : y_St en s) {C T : String} (hw : Cond.castable C T ∈ lw_tbl) : va_Nw (.castable C T) s := by
  obtain ⟨b0, ht⟩ := y_tbl h
  exact va_Nw.warmC h.2.1 (va_Nw.of rfl (ht _ hw))
theorem y_nO {en : yEn} {s : State} (h : y_St en s) {C : String} (hw : Cond.arrayOver (.object C) ∈ lw_tbl) : va_AO C s := by
  obtain ⟨b0, ht⟩ := y_tbl h
  exact va_AO.moved h.2.1.alike (va_AO.of (ht _ hw))
theorem y_O {en : yEn} {s : State} (h : y_St en s) {E : String} {t : Nat} (hO : va_O E t (y_A en) en.2.1 en.2.1.heap) : va_O E t (y_A en) s s.heap := (hO.moved h.2.1.alike).kept (fun a ha _ => h.2.2.2 a ha)
theorem y_OF {en : yEn} {s : State} (h : y_St en s) {o n d : String} {v : Value} {t : Nat} (hO : va_OF o n d v t (y_A en) en.2.1 en.2.1.heap) : va_OF o n d v t (y_A en) s s.heap := (hO.moved h.2.1.alike).kept (fun a ha _ => h.2.2.2 a ha)
theorem y_T {en : yEn} {s : State} (h : y_St en s) {ty : FieldType} {t N : Nat} {f : Nat → Value} (hT : va_T ty t N f (y_A en) en.2.1 en.2.1.heap) : va_T ty t N f (y_A en) s s.heap := (hT.moved h.2.1.alike).kept (fun a ha _ => h.2.2.2 a ha)
/-! what is read -/
def getV (σ : yH) (a ci k : Nat) (F : Value → Prop) : Prop := ∃ (w : Bool) (fs : List Value) (v : Value), σ a = some (w, .inr (ci, fs)) ∧ fs[k]? = some v ∧ F v
def getI (σ : yH) (a ci k : Nat) (F : Int32 → Prop) : Prop := ∃ (w : Bool) (fs : List Value) (x : Int32), σ a = some (w, .inr (ci, fs)) ∧ fs[k]? = some (.int x) ∧ F x
def getQ (σ : yH) (a ci k : Nat) (F : Option Nat → Prop) : Prop := ∃ (w : Bool) (fs : List Value) (r : Option Nat), σ a = some (w, .inr (ci, fs)) ∧ fs[k]? = some (va_rf r) ∧ F r
def getR (σ : yH) (a ci k : Nat) (F : Nat → Prop) : Prop := ∃ (w : Bool) (fs : List Value) (r : Nat), σ a = some (w, .inr (ci, fs)) ∧ fs[k]? = some (.ref r) ∧ F r
def putV (σ : yH) (a ci k : Nat) (v : Value) (F : yH → Prop) : Prop := ∃ (fs : List Value), σ a = some (true, .inr (ci, fs)) ∧ k < fs.length ∧ F (yup σ a (.inr (ci, fs.set k v)))
def nonN (r : Option Nat) (F : Nat → Prop) : Prop := ∃ a, r = some a ∧ F a
theorem getV.mono {σ : yH} {a ci k : Nat} {F G : Value → Prop} (h : getV σ a ci k F) (g : ∀ v, F v → G v) : getV σ a ci k G := by
  obtain ⟨w, fs, v, h1, h2, h3⟩ := h; exact ⟨w, fs, v, h1, h2, g _ h3⟩
theorem getI.mono {σ : yH} {a ci k : Nat} {F G : Int32 → Prop} (h : getI σ a ci k F) (g : ∀ v, F v → G v) : getI σ a ci k G := by
  obtain ⟨w, fs, v, h1, h2, h3⟩ := h; exact ⟨w, fs, v, h1, h2, g _ h3⟩
theorem getQ.mono {σ : yH} {a ci k : Nat} {F G : Option Nat → Prop} (h : getQ σ a ci k F) (g : ∀ v, F v → G v) : getQ σ a ci k G := by
  obtain ⟨w, fs, v, h1, h2, h3⟩ := h; exact ⟨w, fs, v, h1, h2, g _ h3⟩
theorem getR.mono {σ : yH} {a ci k : Nat} {F G : Nat → Prop} (h : getR σ a ci k F) (g : ∀ v, F v → G v) : getR σ a ci k G := by
  obtain ⟨w, fs, v, h1, h2, h3⟩ := h; exact ⟨w, fs, v, h1, h2, g _ h3⟩
theorem putV.mono {σ : yH} {a ci k : Nat} {v : Value} {F G : yH → Prop} (h : putV σ a ci k v F) (g : ∀ σ', F σ' → G σ') : putV σ a ci k v G := by
  obtain ⟨fs, h1, h2, h3⟩ := h; exact ⟨fs, h1, h2, g _ h3⟩
theorem gI {σ : yH} {a ci k : Nat} {F : Int32 → Prop} {w : Bool} {fs : List Value} {x : Int32} (h : σ a = some (w, .inr (ci, fs))) (hk : fs[k]? = some (.int x)) (hF : F x) : getI σ a ci k F := ⟨w, fs, x, h, hk, hF⟩
theorem gQ {σ : yH} {a ci k : Nat} {F : Option Nat → Prop} {w : Bool} {fs : List Value} {x : Option Nat} (h : σ a = some (w, .inr (ci, fs))) (hk : fs[k]? = some (va_rf x)) (hF : F x) : getQ σ a ci k F := ⟨w, fs, x, h, hk, hF⟩
theorem gR {σ : yH} {a ci k : Nat} {F : Nat → Prop} {w : Bool} {fs : List Value} {x : Nat} (h : σ a = some (w, .inr (ci, fs))) (hk : fs[k]? = some (.ref x)) (hF : F x) : getR σ a ci k F := ⟨w, fs, x, h, hk, hF⟩
theorem pV {σ : yH} {a ci k : Nat} {v : Value} {F : yH → Prop} {fs : List Value} (h : σ a = some (true, .inr (ci, fs))) (hk : k < fs.length) (hF : F (yup σ a (.inr (ci, fs.set k v)))) : putV σ a ci k v F := ⟨fs, h, hk, hF⟩
/-! arrays: ints (also bytes, chars), longs, doubles, references -/
def aldI (σ : yH) (cA : ClassId) (a : Nat) (i : Int32) (F : Int32 → Prop) : Prop := ∃ (w : Bool) (N : Nat) (f : Nat → Int32), σ a = some (w, .inl (cA, N, .inl f)) ∧ vp_in i N ∧ F (f i.toNatClampNeg)
def aldJ (σ : yH) (cA : ClassId) (a : Nat) (i : Int32) (F : Int64 → Prop) : Prop := ∃ (N : Nat) (f : Nat → Int64), σ a = some (true, .inl (cA, N, .inr (.inl f))) ∧ vp_in i N ∧ F (f i.toNatClampNeg)
def aldD (σ : yH) (cA : ClassId) (a : Nat) (i : Int32) (F : UInt64 → Prop) : Prop := ∃ (N : Nat) (f : Nat → UInt64), σ a = some (true, .inl (cA, N, .inr (.inr (.inr (.inl f))))) ∧ vp_in i N ∧ F (f i.toNatClampNeg)
def aldQ (σ : yH) (cA : ClassId) (a : Nat) (i : Int32) (F : Option Nat → Prop) : Prop := ∃ (w : Bool) (N : Nat) (f : Nat → Option Nat), σ a = some (w, .inl (cA, N, .inr (.inr (.inr (.inr f))))) ∧ vp_in i N ∧ F (f i.toNatClampNeg)
def astI (σ : yH) (cA : ClassId) (a : Nat) (i x : Int32) (F : yH → Prop) : Prop := ∃ (N : Nat) (f : Nat → Int32), σ a = some (true, .inl (cA, N, .inl f)) ∧ vp_in i N ∧ F (yup σ a (.inl (cA, N, .inl (upd f i.toNatClampNeg x))))
def astJ (σ : yH) (cA : ClassId) (a : Nat) (i : Int32) (x : Int64) (F : yH → Prop) : Prop := ∃ (N : Nat) (f : Nat → Int64), σ a = some (true, .inl (cA, N, .inr (.inl f))) ∧ vp_in i N ∧ F (yup σ a (.inl (cA, N, .inr (.inl (vp_updL f i.toNatClampNeg x)))))
def astD (σ : yH) (cA : ClassId) (a : Nat) (i : Int32) (x : UInt64) (F : yH → Prop) : Prop := ∃ (N : Nat) (f : Nat → UInt64), σ a = some (true, .inl (cA, N, .inr (.inr (.inr (.inl f))))) ∧ vp_in i N ∧ F (yup σ a (.inl (cA, N, .inr (.inr (.inr (.inl (vf_upd f i.toNatClampNeg x)))))))
def astQ (σ : yH) (cA : ClassId) (a : Nat) (i : Int32) (x : Option Nat) (F : yH → Prop) : Prop := ∃ (N : Nat) (f : Nat → Option Nat), σ a = some (true, .inl (cA, N, .inr (.inr (.inr (.inr f))))) ∧ vp_in i N ∧ F (yup σ a (.inl (cA, N, .inr (.inr (.inr (.inr (va_up f i.toNatClampNeg x)))))))
def alenV (σ : yH) (a : Nat) (F : Int32 → Prop) : Prop := ∃ (w : Bool) (cA : ClassId) (x : vp_A), σ a = some (w, .inl (cA, x)) ∧ F (nI x.1)
def newV (σ : yH) (e : va_E) (F : Nat → yH → Prop) : Prop := ∀ a : Nat, σ a = none → F a (yup σ a e)
theorem aldI.mono {σ : yH} {cA : ClassId} {a : Nat} {i : Int32} {F G : Int32 → Prop} (h : aldI σ cA a i F) (g : ∀ v, F v → G v) : aldI σ cA a i G := by
  obtain ⟨w, N, f, h1, h2, h3⟩ := h; exact ⟨w, N, f, h1, h2, g _ h3⟩
theorem aldQ.mono {σ : yH} {cA : ClassId} {a : Nat} {i : Int32} {F G : Option Nat → Prop} (h : aldQ σ cA a i F) (g : ∀ v, F v → G v) : aldQ σ cA a i G := by
  obtain ⟨w, N, f, h1, h2, h3⟩ := h; exact ⟨w, N, f, h1, h2, g _ h3⟩
theorem aldJ.mono {σ : yH} {cA : ClassId} {a : Nat} {i : Int32} {F G : Int64 → Prop} (h : aldJ σ cA a i F) (g : ∀ v, F v → G v) : aldJ σ cA a i G := by
  obtain ⟨N, f, h1, h2, h3⟩ := h; exact ⟨N, f, h1, h2, g _ h3⟩
theorem aldD.mono {σ : yH} {cA : ClassId} {a : Nat} {i : Int32} {F G : UInt64 → Prop} (h : aldD σ cA a i F) (g : ∀ v, F v → G v) : aldD σ cA a i G := by
  obtain ⟨N, f, h1, h2, h3⟩ := h; exact ⟨N, f, h1, h2, g _ h3⟩
theorem astI.mono {σ : yH} {cA : ClassId} {a : Nat} {i : Int32} {x : Int32} {F G : yH → Prop} (h : astI σ cA a i x F) (g : ∀ v, F v → G v) : astI σ cA a i x G := by
  obtain ⟨N, f, h1, h2, h3⟩ := h; exact ⟨N, f, h1, h2, g _ h3⟩
theorem astJ.mono {σ : yH} {cA : ClassId} {a : Nat} {i : Int32} {x : Int64} {F G : yH → Prop} (h : astJ σ cA a i x F) (g : ∀ v, F v → G v) : astJ σ cA a i x G := by
  obtain ⟨N, f, h1, h2, h3⟩ := h; exact ⟨N, f, h1, h2, g _ h3⟩
theorem astD.mono {σ : yH} {cA : ClassId} {a : Nat} {i : Int32} {x : UInt64} {F G : yH → Prop} (h : astD σ cA a i x F) (g : ∀ v, F v → G v) : astD σ cA a i x G := by
  obtain ⟨N, f, h1, h2, h3⟩ := h; exact ⟨N, f, h1, h2, g _ h3⟩
theorem astQ.mono {σ : yH} {cA : ClassId} {a : Nat} {i : Int32} {x : Option Nat} {F G : yH → Prop} (h : astQ σ cA a i x F) (g : ∀ v, F v → G v) : astQ σ cA a i x G := by
  obtain ⟨N, f, h1, h2, h3⟩ := h; exact ⟨N, f, h1, h2, g _ h3⟩
theorem alenV.mono {σ : yH} {a : Nat} {F G : Int32 → Prop} (h : alenV σ a F) (g : ∀ v, F v → G v) : alenV σ a G := by
  obtain ⟨w, cA, x, h1, h3⟩ := h; exact ⟨w, cA, x, h1, g _ h3⟩
theorem newV.mono {σ : yH} {e : va_E} {F G : Nat → yH → Prop} (h : newV σ e F) (g : ∀ a σ', F a σ' → G a σ') : newV σ e G := fun a ha => g _ _ (h a ha)
theorem aI {σ : yH} {cA : ClassId} {a : Nat} {i : Int32} {F : Int32 → Prop} {w : Bool} {N : Nat} {f : Nat → Int32} (h : σ a = some (w, .inl (cA, N, .inl f))) (hi : vp_in i N) (hF : F (f i.toNatClampNeg)) : aldI σ cA a i F := ⟨w, N, f, h, hi, hF⟩
theorem aQ {σ : yH} {cA : ClassId} {a : Nat} {i : Int32} {F : Option Nat → Prop} {w : Bool} {N : Nat} {f : Nat → Option Nat} (h : σ a = some (w, .inl (cA, N, .inr (.inr (.inr (.inr f)))))) (hi : vp_in i N) (hF : F (f i.toNatClampNeg)) : aldQ σ cA a i F := ⟨w, N, f, h, hi, hF⟩
theorem sI {σ : yH} {cA : ClassId} {a : Nat} {i x : Int32} {F : yH → Prop} {N : Nat} {f : Nat → Int32} (h : σ a = some (true, .inl (cA, N, .inl f))) (hi : vp_in i N) (hF : F (yup σ a (.inl (cA, N, .inl (upd f i.toNatClampNeg x))))) : astI σ cA a i x F := ⟨N, f, h, hi, hF⟩
theorem sQ {σ : yH} {cA : ClassId} {a : Nat} {i : Int32} {x : Option Nat} {F : yH → Prop} {N : Nat} {f : Nat → Option Nat} (h : σ a = some (true, .inl (cA, N, .inr (.inr (.inr (.inr f)))))) (hi : vp_in i N) (hF : F (yup σ a (.inl (cA, N, .inr (.inr (.inr (.inr (va_up f i.toNatClampNeg x)))))))) : astQ σ cA a i x F := ⟨N, f, h, hi, hF⟩
theorem aL {σ : yH} {a : Nat} {F : Int32 → Prop} {w : Bool} {cA : ClassId} {x : vp_A} (h : σ a = some (w, .inl (cA, x))) (hF : F (nI x.1)) : alenV σ a F := ⟨w, cA, x, h, hF⟩
section YH
variable {en : yEn} {d : Nat} {mi : yM} {pc : Nat} {ls : List (Nat × Value)} {st : List Value} {σ : yH} {k n : Nat} {K : Option Value → yH → Prop} {X : String → Addr → yH → Prop}
variable {C : String} {T : u_T} {N ci idx kf a : Nat}
theorem sd_getf (dd : decode mi.2.1 pc = .ok (.getfield idx, 3)) (hc : y_cl[ci]? = some (C, T, N)) (hin : ∀ w ∈ u_ws C T N, w ∈ lw_all) (hk : kf < N) (hq : Cond.fieldLink mi.1.cls idx (T kf).1 (T kf).2.1 (T kf).2.2.1 ∈ lw_all) (h : getV σ a ci kf (fun v => Wx en d mi (pc + 3) ls (v :: st) σ k n K X)) : Wx en d mi pc ls (.ref a :: st) σ k n K X := by
  intro R p e s m args below meth c H locs cells slots lsA a1 a2 C9 a4 a5 a6 a7 a8
  obtain ⟨w, fs, v, hs, hv, h⟩ := h
  cases w with
  | true =>
    obtain ⟨ws, q0, hP, hD, hq0, hcv⟩ := a4.1.get hs
    exact va_get C9.1 C9.2.1 C9.2.2.2.2.2.2.2.1 hin C9.2.2.2.2.2.1 (y_K C9.2.2.2.2.2.2.2.2.2) hP q0 hq0 hc kf hk (C9.2.2.2.2.2.2.2.1 _ hq) (fun _ h => h) hv dd (h R p e s m args below meth c H locs cells slots lsA a1 a2 C9 a4 a5 a6 a7 a8)
  | false =>
    obtain ⟨r, hr, hO, hF⟩ := a4.2 a _ hs
    obtain rfl : r = (C, T, N) := Option.some.inj (hr.symm.trans hc)
    have hlt : kf < fs.length := (List.getElem?_eq_some_iff.mp hv).1
    have h9 := (hF kf hlt).2
    rw [show vp_V fs kf = v by simp [vp_V, hv]] at h9
    exact vk_getf C9.1 C9.2.1 (y_OF C9.2.2.2.2.2.2.2.2.2 h9) a5 C9.2.2.2.2.2.1 (C9.2.2.2.2.2.2.2.1 _ hq) (fun _ h => h) dd (h R p e s m args below meth c H locs cells slots lsA a1 a2 C9 a4 a5 a6 a7 a8)
theorem sd_getI (dd : decode mi.2.1 pc = .ok (.getfield idx, 3)) (hc : y_cl[ci]? = some (C, T, N)) (hin : ∀ w ∈ u_ws C T N, w ∈ lw_all) (hk : kf < N) (hq : Cond.fieldLink mi.1.cls idx (T kf).1 (T kf).2.1 (T kf).2.2.1 ∈ lw_all) (h : getI σ a ci kf (fun x => Wx en d mi (pc + 3) ls (.int x :: st) σ k n K X)) : Wx en d mi pc ls (.ref a :: st) σ k n K X := by
  obtain ⟨w, fs, x, hs, hv, h⟩ := h
  exact sd_getf dd hc hin hk hq ⟨w, fs, _, hs, hv, h⟩
theorem sd_getQ (dd : decode mi.2.1 pc = .ok (.getfield idx, 3)) (hc : y_cl[ci]? = some (C, T, N)) (hin : ∀ w ∈ u_ws C T N, w ∈ lw_all) (hk : kf < N) (hq : Cond.fieldLink mi.1.cls idx (T kf).1 (T kf).2.1 (T kf).2.2.1 ∈ lw_all) (h : getQ σ a ci kf (fun x => Wx en d mi (pc + 3) ls (va_rf x :: st) σ k n K X)) : Wx en d mi pc ls (.ref a :: st) σ k n K X := by
  obtain ⟨w, fs, x, hs, hv, h⟩ := h
  exact sd_getf dd hc hin hk hq ⟨w, fs, _, hs, hv, h⟩
theorem sd_getR (dd : decode mi.2.1 pc = .ok (.getfield idx, 3)) (hc : y_cl[ci]? = some (C, T, N)) (hin : ∀ w ∈ u_ws C T N, w ∈ lw_all) (hk : kf < N) (hq : Cond.fieldLink mi.1.cls idx (T kf).1 (T kf).2.1 (T kf).2.2.1 ∈ lw_all) (h : getR σ a ci kf (fun x => Wx en d mi (pc + 3) ls (.ref x :: st) σ k n K X)) : Wx en d mi pc ls (.ref a :: st) σ k n K X := by
  obtain ⟨w, fs, x, hs, hv, h⟩ := h
  exact sd_getf dd hc hin hk hq ⟨w, fs, _, hs, hv, h⟩
theorem sd_getfN (dd : decode mi.2.1 pc = .ok (.getfield idx, 3)) (hc : y_cl[ci]? = some (C, T, N)) (hin : ∀ w ∈ u_ws C T N, w ∈ lw_all) (hk : kf < N) {host : String} (hq : Cond.fieldLinkNest mi.1.cls idx (T kf).1 (T kf).2.1 (T kf).2.2.1 host ∈ lw_tbl) (h : getV σ a ci kf (fun v => Wx en d mi (pc + 3) ls (v :: st) σ k n K X)) : Wx en d mi pc ls (.ref a :: st) σ k n K X := by
  intro R p e s m args below meth c H locs cells slots lsA a1 a2 C9 a4 a5 a6 a7 a8
  obtain ⟨w, fs, v, hs, hv, h⟩ := h
  cases w with
  | true =>
    obtain ⟨ws, q0, hP, hD, hq0, hcv⟩ := a4.1.get hs
    exact va_getN C9.1 C9.2.1 C9.2.2.2.2.2.2.2.1 hin C9.2.2.2.2.2.1 (y_K C9.2.2.2.2.2.2.2.2.2) hP q0 hq0 hc kf hk (y_nF C9.2.2.2.2.2.2.2.2.2 hq) (fun _ h => h) hv dd (h R p e s m args below meth c H locs cells slots lsA a1 a2 C9 a4 a5 a6 a7 a8)
  | false =>
    obtain ⟨r, hr, hO, hF⟩ := a4.2 a _ hs
    obtain rfl : r = (C, T, N) := Option.some.inj (hr.symm.trans hc)
    have hlt : kf < fs.length := (List.getElem?_eq_some_iff.mp hv).1
    have h9 := (hF kf hlt).2
    rw [show vp_V fs kf = v by simp [vp_V, hv]] at h9
    have hO9 := y_OF C9.2.2.2.2.2.2.2.2.2 h9
    obtain ⟨cf, kk0, fi, f, cell, q1, q2, q3, q4, q5, q6⟩ := hO9
    exact va_Wgetf C9.1 C9.2.1 C9.2.2.2.2.2.1 (y_nF C9.2.2.2.2.2.2.2.2.2 hq) q1 q2 ((a5.2.1 _ (Array.getElem?_eq_some_iff.mp q3).1 q6).trans q3) q4 q5 rfl rfl dd (h R p e s m args below meth c H locs cells slots lsA a1 a2 C9 a4 a5 a6 a7 a8)
theorem sd_getIN (dd : decode mi.2.1 pc = .ok (.getfield idx, 3)) (hc : y_cl[ci]? = some (C, T, N)) (hin : ∀ w ∈ u_ws C T N, w ∈ lw_all) (hk : kf < N) {host : String} (hq : Cond.fieldLinkNest mi.1.cls idx (T kf).1 (T kf).2.1 (T kf).2.2.1 host ∈ lw_tbl) (h : getI σ a ci kf (fun x => Wx en d mi (pc + 3) ls (.int x :: st) σ k n K X)) : Wx en d mi pc ls (.ref a :: st) σ k n K X := by
  obtain ⟨w, fs, x, hs, hv, h⟩ := h
  exact sd_getfN dd hc hin hk hq ⟨w, fs, _, hs, hv, h⟩
theorem sd_getQN (dd : decode mi.2.1 pc = .ok (.getfield idx, 3)) (hc : y_cl[ci]? = some (C, T, N)) (hin : ∀ w ∈ u_ws C T N, w ∈ lw_all) (hk : kf < N) {host : String} (hq : Cond.fieldLinkNest mi.1.cls idx (T kf).1 (T kf).2.1 (T kf).2.2.1 host ∈ lw_tbl) (h : getQ σ a ci kf (fun x => Wx en d mi (pc + 3) ls (va_rf x :: st) σ k n K X)) : Wx en d mi pc ls (.ref a :: st) σ k n K X := by
  obtain ⟨w, fs, x, hs, hv, h⟩ := h
  exact sd_getfN dd hc hin hk hq ⟨w, fs, _, hs, hv, h⟩
theorem sd_getRN (dd : decode mi.2.1 pc = .ok (.getfield idx, 3)) (hc : y_cl[ci]? = some (C, T, N)) (hin : ∀ w ∈ u_ws C T N, w ∈ lw_all) (hk : kf < N) {host : String} (hq : Cond.fieldLinkNest mi.1.cls idx (T kf).1 (T kf).2.1 (T kf).2.2.1 host ∈ lw_tbl) (h : getR σ a ci kf (fun x => Wx en d mi (pc + 3) ls (.ref x :: st) σ k n K X)) : Wx en d mi pc ls (.ref a :: st) σ k n K X := by
  obtain ⟨w, fs, x, hs, hv, h⟩ := h
  exact sd_getfN dd hc hin hk hq ⟨w, fs, _, hs, hv, h⟩
theorem sd_getfS (dd : decode mi.2.1 pc = .ok (.getfield idx, 3)) (hc : y_cl[ci]? = some (C, T, N)) (hin : ∀ w ∈ u_ws C T N, w ∈ lw_all) (hk : kf < N) {ref : String} (hq : Cond.fieldLink mi.1.cls idx ref (T kf).2.1 (T kf).2.2.1 ∈ lw_all) (hqs : Cond.sameField ref (T kf).1 (T kf).2.1 (T kf).2.2.1 ∈ lw_all) (h : getV σ a ci kf (fun v => Wx en d mi (pc + 3) ls (v :: st) σ k n K X)) : Wx en d mi pc ls (.ref a :: st) σ k n K X := by
  intro R p e s m args below meth c H locs cells slots lsA a1 a2 C9 a4 a5 a6 a7 a8
  obtain ⟨w, fs, v, hs, hv, h⟩ := h
  cases w with
  | true =>
    obtain ⟨ws, q0, hP, hD, hq0, hcv⟩ := a4.1.get hs
    exact va_get C9.1 C9.2.1 C9.2.2.2.2.2.2.2.1 hin C9.2.2.2.2.2.1 (y_K C9.2.2.2.2.2.2.2.2.2) hP q0 hq0 hc kf hk (C9.2.2.2.2.2.2.2.1 _ hq) (fun x9 hx => u_same (C9.2.2.2.2.2.2.2.1 _ hqs) x9 hx) hv dd (h R p e s m args below meth c H locs cells slots lsA a1 a2 C9 a4 a5 a6 a7 a8)
  | false =>
    obtain ⟨r, hr, hO, hF⟩ := a4.2 a _ hs
    obtain rfl : r = (C, T, N) := Option.some.inj (hr.symm.trans hc)
    have hlt : kf < fs.length := (List.getElem?_eq_some_iff.mp hv).1
    have h9 := (hF kf hlt).2
    rw [show vp_V fs kf = v by simp [vp_V, hv]] at h9
    exact vk_getf C9.1 C9.2.1 (y_OF C9.2.2.2.2.2.2.2.2.2 h9) a5 C9.2.2.2.2.2.1 (C9.2.2.2.2.2.2.2.1 _ hq) (fun x9 hx => u_same (C9.2.2.2.2.2.2.2.1 _ hqs) x9 hx) dd (h R p e s m args below meth c H locs cells slots lsA a1 a2 C9 a4 a5 a6 a7 a8)
theorem sd_getIS (dd : decode mi.2.1 pc = .ok (.getfield idx, 3)) (hc : y_cl[ci]? = some (C, T, N)) (hin : ∀ w ∈ u_ws C T N, w ∈ lw_all) (hk : kf < N) {ref : String} (hq : Cond.fieldLink mi.1.cls idx ref (T kf).2.1 (T kf).2.2.1 ∈ lw_all) (hqs : Cond.sameField ref (T kf).1 (T kf).2.1 (T kf).2.2.1 ∈ lw_all) (h : getI σ a ci kf (fun x => Wx en d mi (pc + 3) ls (.int x :: st) σ k n K X)) : Wx en d mi pc ls (.ref a :: st) σ k n K X := by
  obtain ⟨w, fs, x, hs, hv, h⟩ := h
  exact sd_getfS dd hc hin hk hq hqs ⟨w, fs, _, hs, hv, h⟩
theorem sd_getQS (dd : decode mi.2.1 pc = .ok (.getfield idx, 3)) (hc : y_cl[ci]? = some (C, T, N)) (hin : ∀ w ∈ u_ws C T N, w ∈ lw_all) (hk : kf < N) {ref : String} (hq : Cond.fieldLink mi.1.cls idx ref (T kf).2.1 (T kf).2.2.1 ∈ lw_all) (hqs : Cond.sameField ref (T kf).1 (T kf).2.1 (T kf).2.2.1 ∈ lw_all) (h : getQ σ a ci kf (fun x => Wx en d mi (pc + 3) ls (va_rf x :: st) σ k n K X)) : Wx en d mi pc ls (.ref a :: st) σ k n K X := by
  obtain ⟨w, fs, x, hs, hv, h⟩ := h
  exact sd_getfS dd hc hin hk hq hqs ⟨w, fs, _, hs, hv, h⟩
theorem sd_getRS (dd : decode mi.2.1 pc = .ok (.getfield idx, 3)) (hc : y_cl[ci]? = some (C, T, N)) (hin : ∀ w ∈ u_ws C T N, w ∈ lw_all) (hk : kf < N) {ref : String} (hq : Cond.fieldLink mi.1.cls idx ref (T kf).2.1 (T kf).2.2.1 ∈ lw_all) (hqs : Cond.sameField ref (T kf).1 (T kf).2.1 (T kf).2.2.1 ∈ lw_all) (h : getR σ a ci kf (fun x => Wx en d mi (pc + 3) ls (.ref x :: st) σ k n K X)) : Wx en d mi pc ls (.ref a :: st) σ k n K X := by
  obtain ⟨w, fs, x, hs, hv, h⟩ := h
  exact sd_getfS dd hc hin hk hq hqs ⟨w, fs, _, hs, hv, h⟩
theorem sd_putf {v : Value} {ty : FieldType} (dd : decode mi.2.1 pc = .ok (.putfield idx, 3)) (hc : y_cl[ci]? = some (C, T, N)) (hin : ∀ w ∈ u_ws C T N, w ∈ lw_all) (ty0 : Nat → FieldType) (hty : ∀ k, k < N → parseFieldDescriptor (T k).2.2.1 = some (ty0 k)) (hnm : ∀ a, a < N → ∀ b, b < N → a ≠ b → (T a).2.1 ≠ (T b).2.1) (hk : kf < N) (hq : Cond.fieldLink mi.1.cls idx (T kf).1 (T kf).2.1 (T kf).2.2.1 ∈ lw_all) (hfin : (T kf).2.2.2 = false) (hd : parseFieldDescriptor (T kf).2.2.1 = some ty) (hnr : narrow ty v = v) (hft : fits ty v = true) (h : putV σ a ci kf v (fun σ' => Wx en d mi (pc + 3) ls st σ' k n K X)) : Wx en d mi pc ls (v :: .ref a :: st) σ k n K X := by
  intro R p e s m args below meth c H locs cells slots lsA a1 a2 C9 a4 a5 a6 a7 a8
  obtain ⟨fs, hs, hlt, h⟩ := h
  obtain ⟨ws, q0, hP, hD, hq0, hcv⟩ := a4.1.get hs
  exact va_put C9.1 C9.2.1 C9.2.2.2.2.2.2.2.1 hin ty0 hty hnm C9.2.2.2.2.2.1 (y_K C9.2.2.2.2.2.2.2.2.2) hP hD a5 q0 hq0 hc kf hk (C9.2.2.2.2.2.2.2.1 _ hq) (fun _ h => h) hfin hd hnr hft hlt dd (fun H1 locs1 hP1 hD1 hS1 => h R p e s m args below meth c H1 locs1 cells slots lsA a1 a2 C9 ⟨y_cov_set hD hq0 hcv hP1 hD1, a4.2.up⟩ hS1 a6 a7 a8)
theorem sd_putfN {v : Value} {ty : FieldType} (dd : decode mi.2.1 pc = .ok (.putfield idx, 3)) (hc : y_cl[ci]? = some (C, T, N)) (hin : ∀ w ∈ u_ws C T N, w ∈ lw_all) (ty0 : Nat → FieldType) (hty : ∀ k, k < N → parseFieldDescriptor (T k).2.2.1 = some (ty0 k)) (hnm : ∀ a, a < N → ∀ b, b < N → a ≠ b → (T a).2.1 ≠ (T b).2.1) (hk : kf < N) {host : String} (hq : Cond.fieldLinkNest mi.1.cls idx (T kf).1 (T kf).2.1 (T kf).2.2.1 host ∈ lw_tbl) (hfin : (T kf).2.2.2 = false) (hd : parseFieldDescriptor (T kf).2.2.1 = some ty) (hnr : narrow ty v = v) (hft : fits ty v = true) (h : putV σ a ci kf v (fun σ' => Wx en d mi (pc + 3) ls st σ' k n K X)) : Wx en d mi pc ls (v :: .ref a :: st) σ k n K X := by
  intro R p e s m args below meth c H locs cells slots lsA a1 a2 C9 a4 a5 a6 a7 a8
  obtain ⟨fs, hs, hlt, h⟩ := h
  obtain ⟨ws, q0, hP, hD, hq0, hcv⟩ := a4.1.get hs
  exact va_putN C9.1 C9.2.1 C9.2.2.2.2.2.2.2.1 hin ty0 hty hnm C9.2.2.2.2.2.1 (y_K C9.2.2.2.2.2.2.2.2.2) hP hD a5 q0 hq0 hc kf hk (y_nF C9.2.2.2.2.2.2.2.2.2 hq) (fun _ h => h) hfin hd hnr hft hlt dd (fun H1 locs1 hP1 hD1 hS1 => h R p e s m args below meth c H1 locs1 cells slots lsA a1 a2 C9 ⟨y_cov_set hD hq0 hcv hP1 hD1, a4.2.up⟩ hS1 a6 a7 a8)
theorem sd_putfS {v : Value} {ty : FieldType} (dd : decode mi.2.1 pc = .ok (.putfield idx, 3)) (hc : y_cl[ci]? = some (C, T, N)) (hin : ∀ w ∈ u_ws C T N, w ∈ lw_all) (ty0 : Nat → FieldType) (hty : ∀ k, k < N → parseFieldDescriptor (T k).2.2.1 = some (ty0 k)) (hnm : ∀ a, a < N → ∀ b, b < N → a ≠ b → (T a).2.1 ≠ (T b).2.1) (hk : kf < N) {ref : String} (hq : Cond.fieldLink mi.1.cls idx ref (T kf).2.1 (T kf).2.2.1 ∈ lw_all) (hqs : Cond.sameField ref (T kf).1 (T kf).2.1 (T kf).2.2.1 ∈ lw_all) (hfin : (T kf).2.2.2 = false) (hd : parseFieldDescriptor (T kf).2.2.1 = some ty) (hnr : narrow ty v = v) (hft : fits ty v = true) (h : putV σ a ci kf v (fun σ' => Wx en d mi (pc + 3) ls st σ' k n K X)) : Wx en d mi pc ls (v :: .ref a :: st) σ k n K X := by
  intro R p e s m args below meth c H locs cells slots lsA a1 a2 C9 a4 a5 a6 a7 a8
  obtain ⟨fs, hs, hlt, h⟩ := h
  obtain ⟨ws, q0, hP, hD, hq0, hcv⟩ := a4.1.get hs
  exact va_put C9.1 C9.2.1 C9.2.2.2.2.2.2.2.1 hin ty0 hty hnm C9.2.2.2.2.2.1 (y_K C9.2.2.2.2.2.2.2.2.2) hP hD a5 q0 hq0 hc kf hk (C9.2.2.2.2.2.2.2.1 _ hq) (fun x9 hx => u_same (C9.2.2.2.2.2.2.2.1 _ hqs) x9 hx) hfin hd hnr hft hlt dd (fun H1 locs1 hP1 hD1 hS1 => h R p e s m args below meth c H1 locs1 cells slots lsA a1 a2 C9 ⟨y_cov_set hD hq0 hcv hP1 hD1, a4.2.up⟩ hS1 a6 a7 a8)
theorem sd_putfF {v : Value} {ty : FieldType} (dd : decode mi.2.1 pc = .ok (.putfield idx, 3)) (hc : y_cl[ci]? = some (C, T, N)) (hin : ∀ w ∈ u_ws C T N, w ∈ lw_all) (ty0 : Nat → FieldType) (hty : ∀ k, k < N → parseFieldDescriptor (T k).2.2.1 = some (ty0 k)) (hnm : ∀ a, a < N → ∀ b, b < N → a ≠ b → (T a).2.1 ≠ (T b).2.1) (hk : kf < N) (hq : Cond.fieldLink mi.1.cls idx (T kf).1 (T kf).2.1 (T kf).2.2.1 ∈ lw_all) (hfin : (T kf).2.2.2 = true) (hin2 : mi.1.name = "<init>") (hdecl : (T kf).1 = mi.1.cls) (hd : parseFieldDescriptor (T kf).2.2.1 = some ty) (hnr : narrow ty v = v) (hft : fits ty v = true) (h : putV σ a ci kf v (fun σ' => Wx en d mi (pc + 3) ls st σ' k n K X)) : Wx en d mi pc ls (v :: .ref a :: st) σ k n K X := by
  intro R p e s m args below meth c H locs cells slots lsA a1 a2 C9 a4 a5 a6 a7 a8
  obtain ⟨fs, hs, hlt, h⟩ := h
  obtain ⟨ws, q0, hP, hD, hq0, hcv⟩ := a4.1.get hs
  exact va_putF C9.1 C9.2.1 C9.2.2.2.2.2.2.2.1 hin ty0 hty hnm C9.2.2.2.2.2.1 (y_K C9.2.2.2.2.2.2.2.2.2) hP hD a5 q0 hq0 hc kf hk (C9.2.2.2.2.2.2.2.1 _ hq) (fun _ h => h) hfin (C9.2.2.2.2.2.2.1.trans hin2) hdecl hd hnr hft hlt dd (fun H1 locs1 hP1 hD1 hS1 => h R p e s m args below meth c H1 locs1 cells slots lsA a1 a2 C9 ⟨y_cov_set hD hq0 hcv hP1 hD1, a4.2.up⟩ hS1 a6 a7 a8)
theorem y_tag {en : yEn} {j : Nat} {ty : FieldType} {x : ClassId} {s : State} (hK : va_K en.2.2.1 y_cl (y_ty en) s) {j2 : Nat} {ty2 : FieldType} (h : (y_ty en)[j]? = some (x, ty)) (h2 : (y_ty en)[j2]? = some (x, ty2)) (hp : (j = 0 ∨ j = 1) ∧ (j2 = 0 ∨ j2 = 1)) : ty = ty2 := by
  have e1 := (hK.2 j _ h).2
  have e2 := (hK.2 j2 _ h2).2
  rcases hp with ⟨rfl | rfl, rfl | rfl⟩
  · cases h; cases h2; rfl
  · exfalso
    cases h
    injection h2 with h2
    injection h2 with h3 h4
    subst h4
    have e1 : s.vm.findClass ("[" ++ FieldType.int.toString) = some (en.2.2.2 0) := e1
    have e2 : s.vm.findClass ("[" ++ FieldType.byte.toString) = some (en.2.2.2 0) := e2
    obtain ⟨k1, n1, m1⟩ := Vm.findClass_spec e1
    obtain ⟨k2, n2, m2⟩ := Vm.findClass_spec e2
    rw [n1] at n2
    cases n2
    exact absurd (m1.symm.trans m2) (by decide)
  · exfalso
    cases h2
    injection h with h
    injection h with h3 h4
    subst h4
    have e2 : s.vm.findClass ("[" ++ FieldType.int.toString) = some (en.2.2.2 0) := e2
    have e1 : s.vm.findClass ("[" ++ FieldType.byte.toString) = some (en.2.2.2 0) := e1
    obtain ⟨k1, n1, m1⟩ := Vm.findClass_spec e1
    obtain ⟨k2, n2, m2⟩ := Vm.findClass_spec e2
    rw [n1] at n2
    cases n2
    exact absurd (m1.symm.trans m2) (by decide)
  · cases h; cases h2; rfl
theorem sd_iaload {i : Int32} (dd : decode mi.2.1 pc = .ok (.iaload, 1)) (h : aldI σ (en.2.2.2 0) a i (fun x => Wx en d mi (pc + 1) ls (.int x :: st) σ k n K X)) : Wx en d mi pc ls (.int i :: .ref a :: st) σ k n K X := by
  intro R p e s m args below meth c H locs cells slots lsA a1 a2 C9 a4 a5 a6 a7 a8
  obtain ⟨w, N, f, hs, hi, h⟩ := h
  cases w with
  | true =>
    obtain ⟨ws, q0, hP, hD, hq0, hcv⟩ := a4.1.get hs
    exact va_iald C9.1 C9.2.1 (y_K C9.2.2.2.2.2.2.2.2.2) hP q0 0 hq0 rfl hi dd (h R p e s m args below meth c H locs cells slots lsA a1 a2 C9 a4 a5 a6 a7 a8)
  | false =>
    obtain ⟨k9, ty9, hk9, ho9, hT9⟩ := a4.2 a _ hs
    have e9 := y_tag (y_K C9.2.2.2.2.2.2.2.2.2) hk9 (show (y_ty en)[0]? = some (en.2.2.2 0, .int) from rfl) ⟨ho9, by decide⟩
    subst e9
    exact va_ti C9.1 C9.2.1 (y_T C9.2.2.2.2.2.2.2.2.2 hT9) a5 hi rfl dd (h R p e s m args below meth c H locs cells slots lsA a1 a2 C9 a4 a5 a6 a7 a8)
theorem sd_baload {i : Int32} (dd : decode mi.2.1 pc = .ok (.baload, 1)) (h : aldI σ (en.2.2.2 1) a i (fun x => Wx en d mi (pc + 1) ls (.int x :: st) σ k n K X)) : Wx en d mi pc ls (.int i :: .ref a :: st) σ k n K X := by
  intro R p e s m args below meth c H locs cells slots lsA a1 a2 C9 a4 a5 a6 a7 a8
  obtain ⟨w, N, f, hs, hi, h⟩ := h
  cases w with
  | true =>
    obtain ⟨ws, q0, hP, hD, hq0, hcv⟩ := a4.1.get hs
    exact va_bald C9.1 C9.2.1 (y_K C9.2.2.2.2.2.2.2.2.2) hP q0 1 hq0 rfl hi dd (h R p e s m args below meth c H locs cells slots lsA a1 a2 C9 a4 a5 a6 a7 a8)
  | false =>
    obtain ⟨k9, ty9, hk9, ho9, hT9⟩ := a4.2 a _ hs
    have e9 := y_tag (y_K C9.2.2.2.2.2.2.2.2.2) hk9 (show (y_ty en)[1]? = some (en.2.2.2 1, .byte) from rfl) ⟨ho9, by decide⟩
    subst e9
    exact va_tb C9.1 C9.2.1 (y_T C9.2.2.2.2.2.2.2.2.2 hT9) a5 hi rfl dd (h R p e s m args below meth c H locs cells slots lsA a1 a2 C9 a4 a5 a6 a7 a8)
theorem sd_aaload {i : Int32} (dd : decode mi.2.1 pc = .ok (.aaload, 1)) (h : aldQ σ (en.2.2.2 5) a i (fun x => Wx en d mi (pc + 1) ls (va_rf x :: st) σ k n K X)) : Wx en d mi pc ls (.int i :: .ref a :: st) σ k n K X := by
  intro R p e s m args below meth c H locs cells slots lsA a1 a2 C9 a4 a5 a6 a7 a8
  obtain ⟨w, N, f, hs, hi, h⟩ := h
  cases w with
  | true =>
    obtain ⟨ws, q0, hP, hD, hq0, hcv⟩ := a4.1.get hs
    exact va_aldq C9.1 C9.2.1 (y_K C9.2.2.2.2.2.2.2.2.2) hP q0 5 hq0 rfl hi dd (h R p e s m args below meth c H locs cells slots lsA a1 a2 C9 a4 a5 a6 a7 a8)
  | false =>
    obtain ⟨-, C8, hT9⟩ := a4.2 a _ hs
    exact vb_tq C9.1 C9.2.1 (y_T C9.2.2.2.2.2.2.2.2.2 hT9) a5 hi rfl dd (h R p e s m args below meth c H locs cells slots lsA a1 a2 C9 a4 a5 a6 a7 a8)
theorem sd_caload {i : Int32} (dd : decode mi.2.1 pc = .ok (.caload, 1)) (h : ∃ (N : Nat) (f : Nat → Int32), σ a = some (true, .inl (en.2.2.2 2, N, .inl f)) ∧ vp_in i N ∧ Wx en d mi (pc + 1) ls (.int (f i.toNatClampNeg) :: st) σ k n K X) : Wx en d mi pc ls (.int i :: .ref a :: st) σ k n K X := by
  intro R p e s m args below meth c H locs cells slots lsA a1 a2 C9 a4 a5 a6 a7 a8
  obtain ⟨N, f, hs, hi, h⟩ := h
  obtain ⟨ws, q0, hP, hD, hq0, hcv⟩ := a4.1.get hs
  exact va_cald C9.1 C9.2.1 (y_K C9.2.2.2.2.2.2.2.2.2) hP q0 2 hq0 rfl hi dd (h R p e s m args below meth c H locs cells slots lsA a1 a2 C9 a4 a5 a6 a7 a8)
theorem sd_laload {i : Int32} (dd : decode mi.2.1 pc = .ok (.laload, 1)) (h : aldJ σ (en.2.2.2 3) a i (fun x => Wx en d mi (pc + 1) ls (.long x :: st) σ k n K X)) : Wx en d mi pc ls (.int i :: .ref a :: st) σ k n K X := by
  intro R p e s m args below meth c H locs cells slots lsA a1 a2 C9 a4 a5 a6 a7 a8
  obtain ⟨N, f, hs, hi, h⟩ := h
  obtain ⟨ws, q0, hP, hD, hq0, hcv⟩ := a4.1.get hs
  exact va_lald C9.1 C9.2.1 (y_K C9.2.2.2.2.2.2.2.2.2) hP q0 3 hq0 rfl hi dd (h R p e s m args below meth c H locs cells slots lsA a1 a2 C9 a4 a5 a6 a7 a8)
theorem sd_daload {i : Int32} (dd : decode mi.2.1 pc = .ok (.daload, 1)) (h : aldD σ (en.2.2.2 4) a i (fun x => Wx en d mi (pc + 1) ls (.double x :: st) σ k n K X)) : Wx en d mi pc ls (.int i :: .ref a :: st) σ k n K X := by
  intro R p e s m args below meth c H locs cells slots lsA a1 a2 C9 a4 a5 a6 a7 a8
  obtain ⟨N, f, hs, hi, h⟩ := h
  obtain ⟨ws, q0, hP, hD, hq0, hcv⟩ := a4.1.get hs
  exact va_dald C9.1 C9.2.1 (y_K C9.2.2.2.2.2.2.2.2.2) hP q0 4 hq0 rfl hi dd (h R p e s m args below meth c H locs cells slots lsA a1 a2 C9 a4 a5 a6 a7 a8)
theorem sd_iastore {i : Int32} {x : Int32} (dd : decode mi.2.1 pc = .ok (.iastore, 1)) (h : astI σ (en.2.2.2 0) a i x (fun σ' => Wx en d mi (pc + 1) ls st σ' k n K X)) : Wx en d mi pc ls (.int x :: .int i :: .ref a :: st) σ k n K X := by
  intro R p e s m args below meth c H locs cells slots lsA a1 a2 C9 a4 a5 a6 a7 a8
  obtain ⟨N, f, hs, hi, h⟩ := h
  obtain ⟨ws, q0, hP, hD, hq0, hcv⟩ := a4.1.get hs
  exact va_iast C9.1 C9.2.1 (y_K C9.2.2.2.2.2.2.2.2.2) hP hD a5 q0 0 hq0 rfl hi dd (fun H1 locs1 hP1 hD1 hS1 => h R p e s m args below meth c H1 locs1 cells slots lsA a1 a2 C9 ⟨y_cov_set hD hq0 hcv hP1 hD1, a4.2.up⟩ hS1 a6 a7 a8)
theorem sd_bastore {i : Int32} {x : Int32} (dd : decode mi.2.1 pc = .ok (.bastore, 1)) (h : astI σ (en.2.2.2 1) a i (vp_nar .byte x) (fun σ' => Wx en d mi (pc + 1) ls st σ' k n K X)) : Wx en d mi pc ls (.int x :: .int i :: .ref a :: st) σ k n K X := by
  intro R p e s m args below meth c H locs cells slots lsA a1 a2 C9 a4 a5 a6 a7 a8
  obtain ⟨N, f, hs, hi, h⟩ := h
  obtain ⟨ws, q0, hP, hD, hq0, hcv⟩ := a4.1.get hs
  exact va_bast C9.1 C9.2.1 (y_K C9.2.2.2.2.2.2.2.2.2) hP hD a5 q0 1 hq0 rfl hi dd (fun H1 locs1 hP1 hD1 hS1 => h R p e s m args below meth c H1 locs1 cells slots lsA a1 a2 C9 ⟨y_cov_set hD hq0 hcv hP1 hD1, a4.2.up⟩ hS1 a6 a7 a8)
theorem sd_castore {i : Int32} {x : Int32} (dd : decode mi.2.1 pc = .ok (.castore, 1)) (h : astI σ (en.2.2.2 2) a i (vp_nar .char x) (fun σ' => Wx en d mi (pc + 1) ls st σ' k n K X)) : Wx en d mi pc ls (.int x :: .int i :: .ref a :: st) σ k n K X := by
  intro R p e s m args below meth c H locs cells slots lsA a1 a2 C9 a4 a5 a6 a7 a8
  obtain ⟨N, f, hs, hi, h⟩ := h
  obtain ⟨ws, q0, hP, hD, hq0, hcv⟩ := a4.1.get hs
  exact va_cast C9.1 C9.2.1 (y_K C9.2.2.2.2.2.2.2.2.2) hP hD a5 q0 2 hq0 rfl hi dd (fun H1 locs1 hP1 hD1 hS1 => h R p e s m args below meth c H1 locs1 cells slots lsA a1 a2 C9 ⟨y_cov_set hD hq0 hcv hP1 hD1, a4.2.up⟩ hS1 a6 a7 a8)
theorem sd_lastore {i : Int32} {x : Int64} (dd : decode mi.2.1 pc = .ok (.lastore, 1)) (h : astJ σ (en.2.2.2 3) a i x (fun σ' => Wx en d mi (pc + 1) ls st σ' k n K X)) : Wx en d mi pc ls (.long x :: .int i :: .ref a :: st) σ k n K X := by
  intro R p e s m args below meth c H locs cells slots lsA a1 a2 C9 a4 a5 a6 a7 a8
  obtain ⟨N, f, hs, hi, h⟩ := h
  obtain ⟨ws, q0, hP, hD, hq0, hcv⟩ := a4.1.get hs
  exact va_last C9.1 C9.2.1 (y_K C9.2.2.2.2.2.2.2.2.2) hP hD a5 q0 3 hq0 rfl hi dd (fun H1 locs1 hP1 hD1 hS1 => h R p e s m args below meth c H1 locs1 cells slots lsA a1 a2 C9 ⟨y_cov_set hD hq0 hcv hP1 hD1, a4.2.up⟩ hS1 a6 a7 a8)
theorem sd_dastore {i : Int32} {x : UInt64} (dd : decode mi.2.1 pc = .ok (.dastore, 1)) (h : astD σ (en.2.2.2 4) a i x (fun σ' => Wx en d mi (pc + 1) ls st σ' k n K X)) : Wx en d mi pc ls (.double x :: .int i :: .ref a :: st) σ k n K X := by
  intro R p e s m args below meth c H locs cells slots lsA a1 a2 C9 a4 a5 a6 a7 a8
  obtain ⟨N, f, hs, hi, h⟩ := h
  obtain ⟨ws, q0, hP, hD, hq0, hcv⟩ := a4.1.get hs
  exact va_dast C9.1 C9.2.1 (y_K C9.2.2.2.2.2.2.2.2.2) hP hD a5 q0 4 hq0 rfl hi dd (fun H1 locs1 hP1 hD1 hS1 => h R p e s m args below meth c H1 locs1 cells slots lsA a1 a2 C9 ⟨y_cov_set hD hq0 hcv hP1 hD1, a4.2.up⟩ hS1 a6 a7 a8)
theorem sd_aastoreN {i : Int32} (dd : decode mi.2.1 pc = .ok (.aastore, 1)) (h : astQ σ (en.2.2.2 5) a i none (fun σ' => Wx en d mi (pc + 1) ls st σ' k n K X)) : Wx en d mi pc ls (.null :: .int i :: .ref a :: st) σ k n K X := by
  intro R p e s m args below meth c H locs cells slots lsA a1 a2 C9 a4 a5 a6 a7 a8
  obtain ⟨N, f, hs, hi, h⟩ := h
  obtain ⟨ws, q0, hP, hD, hq0, hcv⟩ := a4.1.get hs
  exact va_astqN C9.1 C9.2.1 (y_K C9.2.2.2.2.2.2.2.2.2) hP hD a5 q0 5 hq0 rfl hi dd (fun H1 locs1 hP1 hD1 hS1 => h R p e s m args below meth c H1 locs1 cells slots lsA a1 a2 C9 ⟨y_cov_set hD hq0 hcv hP1 hD1, a4.2.up⟩ hS1 a6 a7 a8)
theorem sd_alen (dd : decode mi.2.1 pc = .ok (.arraylength, 1)) (h : ∃ (w : Bool) (j : Nat) (x : vp_A), σ a = some (w, .inl (en.2.2.2 j, x)) ∧ j < 7 ∧ Wx en d mi (pc + 1) ls (.int (nI x.1) :: st) σ k n K X) : Wx en d mi pc ls (.ref a :: st) σ k n K X := by
  intro R p e s m args below meth c H locs cells slots lsA a1 a2 C9 a4 a5 a6 a7 a8
  obtain ⟨w, j, x, hs, hj, h⟩ := h
  have hty : ∃ ty, (y_ty en)[j]? = some (en.2.2.2 j, ty) := by
    rcases (show j = 0 ∨ j = 1 ∨ j = 2 ∨ j = 3 ∨ j = 4 ∨ j = 5 ∨ j = 6 by omega) with rfl | rfl | rfl | rfl | rfl | rfl | rfl <;> exact ⟨_, rfl⟩
  obtain ⟨ty, hty⟩ := hty
  cases w with
  | true =>
    obtain ⟨ws, q0, hP, hD, hq0, hcv⟩ := a4.1.get hs
    exact va_alen C9.1 C9.2.1 (y_K C9.2.2.2.2.2.2.2.2.2) hP q0 j hq0 hty rfl dd (h R p e s m args below meth c H locs cells slots lsA a1 a2 C9 a4 a5 a6 a7 a8)
  | false =>
    have h1 := a4.2 a _ hs
    obtain ⟨N, f⟩ := x
    rcases f with f | f | f | f | f
    · obtain ⟨k9, ty9, -, -, hT9⟩ := h1
      exact va_tlen C9.1 C9.2.1 (y_T C9.2.2.2.2.2.2.2.2.2 hT9) a5 rfl dd (h R p e s m args below meth c H locs cells slots lsA a1 a2 C9 a4 a5 a6 a7 a8)
    · exact absurd h1 (fun h => h)
    · exact absurd h1 (fun h => h)
    · exact absurd h1 (fun h => h)
    · obtain ⟨-, C8, hT9⟩ := h1
      exact va_tlen C9.1 C9.2.1 (y_T C9.2.2.2.2.2.2.2.2.2 hT9) a5 rfl dd (h R p e s m args below meth c H locs cells slots lsA a1 a2 C9 a4 a5 a6 a7 a8)
theorem sd_new {fs : List Value} (dd : decode mi.2.1 pc = .ok (.new idx, 3)) (hc : y_cl[ci]? = some (C, T, N)) (hin : ∀ w ∈ u_ws C T N, w ∈ lw_all) (ty0 : Nat → FieldType) (hty : ∀ k, k < N → parseFieldDescriptor (T k).2.2.1 = some (ty0 k)) (hl : Cond.classLink mi.1.cls idx C ∈ lw_all) (hins : Cond.instantiable C N ∈ lw_all) (hini : Cond.initialized C ∈ lw_all) (hfs : ∀ j, j < N → defaultValue (ty0 j) = vp_V fs j)
    (h : newV σ (.inr (ci, fs)) (fun a σ' => Wx en d mi (pc + 3) ls (.ref a :: st) σ' k n K X)) : Wx en d mi pc ls st σ (k + 1) (n + N) K X := by
  intro R p e s m args below meth c H locs cells slots lsA a1 a2 C9 a4 a5 a6 a7 a8
  obtain ⟨ws, hP, hD, hcv⟩ := a4.1
  have hts := C9.2.2.2.2.2.2.2.1
  refine va_new C9.1 C9.2.1 hts hin ty0 hty C9.2.2.2.2.2.1 (hts _ hl) (hts _ hins) (hts _ hini) (y_K C9.2.2.2.2.2.2.2.2.2) hP hD a5 (y_hA C9.2.2.2.2.2.2.2.2.2) hc hfs (by omega) (by omega) dd (fun q H1 hP1 hD1 hS1 => ?_)
  exact h q (y_fresh a4.2 hcv hD1) R p e s m args below meth c H1 locs (cells + 1) (slots + N) lsA a1 a2 C9 ⟨y_cov_push hcv hP1 hD1, a4.2.up⟩ hS1 (by omega) (by omega) a8
theorem sd_objInit (dd : decode mi.2.1 pc = .ok (.invokespecial idx, 3)) (hl : Cond.methodLink mi.1.cls idx objectInit ∈ lw_all) (hi : Cond.instanceMethod objectInit ∈ lw_all) (hco : Cond.code objectInit ⟨#[0xb1]⟩ 1 none ∈ lw_all) (hd : 1 ≤ d) (hw : (st.map fun v => v.category).sum ≤ 8) (h : Wx en d mi (pc + 3) ls st σ k n K X) : Wx en d mi pc ls (.ref a :: st) σ k n K X := by
  intro R p e s m args below meth c H locs cells slots lsA a1 a2 C9 a4 a5 a6 a7 a8
  have hts := C9.2.2.2.2.2.2.2.1
  have h8 := lv_room (m := m) (pc := pc) (ls := lsA) (rest := .ref a :: st) hw
  refine W.objInit C9.1 C9.2.1 C9.2.2.2.2.2.1 (hts _ hl) (hts _ hi) (hts _ hco) rfl (by show lsA.size = c.maxLocals; rw [C9.2.2.2.2.1]; exact a8.1) rfl dd (by rw [a1]; exact hd) (by rw [a2]; unfold y_lo; omega) ?_
  exact h R p e s m args below meth c H locs cells slots lsA a1 a2 C9 a4 a5 a6 a7 a8
theorem sd_newa_int {z : Int32} {M : Nat} (dd : decode mi.2.1 pc = .ok (.newarray .int, 2)) (hw : Cond.arrayClass (newarray.typeOf .int) ∈ lw_all) (hz : ¬ z < 0) (hM : z.toNatClampNeg = M) (hb : M * componentBytes .int ≤ 536870912)
    (h : newV σ (.inl (en.2.2.2 0, M, .inl (fun _ => 0))) (fun a σ' => Wx en d mi (pc + 2) ls (.ref a :: st) σ' k n K X)) : Wx en d mi pc ls (.int z :: st) σ (k + 1) (n + M) K X := by
  intro R p e s m args below meth c H locs cells slots lsA a1 a2 C9 a4 a5 a6 a7 a8
  obtain ⟨ws, hP, hD, hcv⟩ := a4.1
  have hts := C9.2.2.2.2.2.2.2.1
  have hK := y_K C9.2.2.2.2.2.2.2.2.2
  refine va_newa (atype := .int) (ty := .int) (a0 := (M, .inl (fun _ => 0))) C9.1 C9.2.1 (hts _ hw) rfl hK hP hD a5 (y_hA C9.2.2.2.2.2.2.2.2.2) (fun cA => rfl) hz hM hb (by omega) (by omega) dd (fun q cA H1 hK1 hP1 hD1 hS1 => ?_)
  have e1 : s.vm.findClass ("[" ++ FieldType.toString .int) = some cA := (hK1.2 7 _ rfl).2
  have e2 : s.vm.findClass ("[" ++ FieldType.toString .int) = some (en.2.2.2 0) := (hK.2 0 _ rfl).2
  obtain rfl : cA = en.2.2.2 0 := Option.some.inj (e1.symm.trans e2)
  exact h q (y_fresh a4.2 hcv hD1) R p e s m args below meth c H1 locs (cells + 1) (slots + M) lsA a1 a2 C9 ⟨y_cov_push hcv hP1 hD1, a4.2.up⟩ hS1 (by omega) (by omega) a8
theorem sd_newa_byte {z : Int32} {M : Nat} (dd : decode mi.2.1 pc = .ok (.newarray .byte, 2)) (hw : Cond.arrayClass (newarray.typeOf .byte) ∈ lw_all) (hz : ¬ z < 0) (hM : z.toNatClampNeg = M) (hb : M * componentBytes .byte ≤ 536870912)
    (h : newV σ (.inl (en.2.2.2 1, M, .inl (fun _ => 0))) (fun a σ' => Wx en d mi (pc + 2) ls (.ref a :: st) σ' k n K X)) : Wx en d mi pc ls (.int z :: st) σ (k + 1) (n + M) K X := by
  intro R p e s m args below meth c H locs cells slots lsA a1 a2 C9 a4 a5 a6 a7 a8
  obtain ⟨ws, hP, hD, hcv⟩ := a4.1
  have hts := C9.2.2.2.2.2.2.2.1
  have hK := y_K C9.2.2.2.2.2.2.2.2.2
  refine va_newa (atype := .byte) (ty := .byte) (a0 := (M, .inl (fun _ => 0))) C9.1 C9.2.1 (hts _ hw) rfl hK hP hD a5 (y_hA C9.2.2.2.2.2.2.2.2.2) (fun cA => rfl) hz hM hb (by omega) (by omega) dd (fun q cA H1 hK1 hP1 hD1 hS1 => ?_)
  have e1 : s.vm.findClass ("[" ++ FieldType.toString .byte) = some cA := (hK1.2 7 _ rfl).2
  have e2 : s.vm.findClass ("[" ++ FieldType.toString .byte) = some (en.2.2.2 1) := (hK.2 1 _ rfl).2
  obtain rfl : cA = en.2.2.2 1 := Option.some.inj (e1.symm.trans e2)
  exact h q (y_fresh a4.2 hcv hD1) R p e s m args below meth c H1 locs (cells + 1) (slots + M) lsA a1 a2 C9 ⟨y_cov_push hcv hP1 hD1, a4.2.up⟩ hS1 (by omega) (by omega) a8
theorem sd_newa_char {z : Int32} {M : Nat} (dd : decode mi.2.1 pc = .ok (.newarray .char, 2)) (hw : Cond.arrayClass (newarray.typeOf .char) ∈ lw_all) (hz : ¬ z < 0) (hM : z.toNatClampNeg = M) (hb : M * componentBytes .char ≤ 536870912)
    (h : newV σ (.inl (en.2.2.2 2, M, .inl (fun _ => 0))) (fun a σ' => Wx en d mi (pc + 2) ls (.ref a :: st) σ' k n K X)) : Wx en d mi pc ls (.int z :: st) σ (k + 1) (n + M) K X := by
  intro R p e s m args below meth c H locs cells slots lsA a1 a2 C9 a4 a5 a6 a7 a8
  obtain ⟨ws, hP, hD, hcv⟩ := a4.1
  have hts := C9.2.2.2.2.2.2.2.1
  have hK := y_K C9.2.2.2.2.2.2.2.2.2
  refine va_newa (atype := .char) (ty := .char) (a0 := (M, .inl (fun _ => 0))) C9.1 C9.2.1 (hts _ hw) rfl hK hP hD a5 (y_hA C9.2.2.2.2.2.2.2.2.2) (fun cA => rfl) hz hM hb (by omega) (by omega) dd (fun q cA H1 hK1 hP1 hD1 hS1 => ?_)
  have e1 : s.vm.findClass ("[" ++ FieldType.toString .char) = some cA := (hK1.2 7 _ rfl).2
  have e2 : s.vm.findClass ("[" ++ FieldType.toString .char) = some (en.2.2.2 2) := (hK.2 2 _ rfl).2
  obtain rfl : cA = en.2.2.2 2 := Option.some.inj (e1.symm.trans e2)
  exact h q (y_fresh a4.2 hcv hD1) R p e s m args below meth c H1 locs (cells + 1) (slots + M) lsA a1 a2 C9 ⟨y_cov_push hcv hP1 hD1, a4.2.up⟩ hS1 (by omega) (by omega) a8
theorem sd_newa_long {z : Int32} {M : Nat} (dd : decode mi.2.1 pc = .ok (.newarray .long, 2)) (hw : Cond.arrayClass (newarray.typeOf .long) ∈ lw_all) (hz : ¬ z < 0) (hM : z.toNatClampNeg = M) (hb : M * componentBytes .long ≤ 536870912)
    (h : newV σ (.inl (en.2.2.2 3, M, .inr (.inl (fun _ => 0)))) (fun a σ' => Wx en d mi (pc + 2) ls (.ref a :: st) σ' k n K X)) : Wx en d mi pc ls (.int z :: st) σ (k + 1) (n + M) K X := by
  intro R p e s m args below meth c H locs cells slots lsA a1 a2 C9 a4 a5 a6 a7 a8
  obtain ⟨ws, hP, hD, hcv⟩ := a4.1
  have hts := C9.2.2.2.2.2.2.2.1
  have hK := y_K C9.2.2.2.2.2.2.2.2.2
  refine va_newa (atype := .long) (ty := .long) (a0 := (M, .inr (.inl (fun _ => 0)))) C9.1 C9.2.1 (hts _ hw) rfl hK hP hD a5 (y_hA C9.2.2.2.2.2.2.2.2.2) (fun cA => rfl) hz hM hb (by omega) (by omega) dd (fun q cA H1 hK1 hP1 hD1 hS1 => ?_)
  have e1 : s.vm.findClass ("[" ++ FieldType.toString .long) = some cA := (hK1.2 7 _ rfl).2
  have e2 : s.vm.findClass ("[" ++ FieldType.toString .long) = some (en.2.2.2 3) := (hK.2 3 _ rfl).2
  obtain rfl : cA = en.2.2.2 3 := Option.some.inj (e1.symm.trans e2)
  exact h q (y_fresh a4.2 hcv hD1) R p e s m args below meth c H1 locs (cells + 1) (slots + M) lsA a1 a2 C9 ⟨y_cov_push hcv hP1 hD1, a4.2.up⟩ hS1 (by omega) (by omega) a8
theorem sd_newa_double {z : Int32} {M : Nat} (dd : decode mi.2.1 pc = .ok (.newarray .double, 2)) (hw : Cond.arrayClass (newarray.typeOf .double) ∈ lw_all) (hz : ¬ z < 0) (hM : z.toNatClampNeg = M) (hb : M * componentBytes .double ≤ 536870912)
    (h : newV σ (.inl (en.2.2.2 4, M, .inr (.inr (.inr (.inl (fun _ => 0)))))) (fun a σ' => Wx en d mi (pc + 2) ls (.ref a :: st) σ' k n K X)) : Wx en d mi pc ls (.int z :: st) σ (k + 1) (n + M) K X := by
  intro R p e s m args below meth c H locs cells slots lsA a1 a2 C9 a4 a5 a6 a7 a8
  obtain ⟨ws, hP, hD, hcv⟩ := a4.1
  have hts := C9.2.2.2.2.2.2.2.1
  have hK := y_K C9.2.2.2.2.2.2.2.2.2
  refine va_newa (atype := .double) (ty := .double) (a0 := (M, .inr (.inr (.inr (.inl (fun _ => 0)))))) C9.1 C9.2.1 (hts _ hw) rfl hK hP hD a5 (y_hA C9.2.2.2.2.2.2.2.2.2) (fun cA => rfl) hz hM hb (by omega) (by omega) dd (fun q cA H1 hK1 hP1 hD1 hS1 => ?_)
  have e1 : s.vm.findClass ("[" ++ FieldType.toString .double) = some cA := (hK1.2 7 _ rfl).2
  have e2 : s.vm.findClass ("[" ++ FieldType.toString .double) = some (en.2.2.2 4) := (hK.2 4 _ rfl).2
  obtain rfl : cA = en.2.2.2 4 := Option.some.inj (e1.symm.trans e2)
  exact h q (y_fresh a4.2 hcv hD1) R p e s m args below meth c H1 locs (cells + 1) (slots + M) lsA a1 a2 C9 ⟨y_cov_push hcv hP1 hD1, a4.2.up⟩ hS1 (by omega) (by omega) a8
theorem sd_newq {z : Int32} {M : Nat} (dd : decode mi.2.1 pc = .ok (.anewarray idx, 3)) (hl : Cond.classLink mi.1.cls idx "java/lang/Object" ∈ lw_all) (ho : Cond.arrayOver (.object "java/lang/Object") ∈ lw_tbl) (hz : ¬ z < 0) (hM : z.toNatClampNeg = M) (hb : M * 4 ≤ 536870912)
    (h : newV σ (.inl (en.2.2.2 5, M, .inr (.inr (.inr (.inr (fun _ => none)))))) (fun a σ' => Wx en d mi (pc + 3) ls (.ref a :: st) σ' k n K X)) : Wx en d mi pc ls (.int z :: st) σ (k + 1) (n + M) K X := by
  intro R p e s m args below meth c H locs cells slots lsA a1 a2 C9 a4 a5 a6 a7 a8
  obtain ⟨ws, hP, hD, hcv⟩ := a4.1
  have hts := C9.2.2.2.2.2.2.2.1
  have hK := y_K C9.2.2.2.2.2.2.2.2.2
  refine va_newq C9.1 C9.2.1 C9.2.2.2.2.2.1 (hts _ hl) (y_nO C9.2.2.2.2.2.2.2.2.2 ho) hK hP hD a5 (y_hA C9.2.2.2.2.2.2.2.2.2) hz hM hb (by omega) (by omega) dd (fun q cA H1 hK1 hP1 hD1 hS1 => ?_)
  obtain ⟨k1, c1, -, -, -, e1⟩ := (hK1.2 7 _ rfl).2
  obtain ⟨k2, c2, -, -, -, e2⟩ := (hK.2 5 _ rfl).2
  obtain rfl : cA = en.2.2.2 5 := Option.some.inj (e1.symm.trans e2)
  exact h q (y_fresh a4.2 hcv hD1) R p e s m args below meth c H1 locs (cells + 1) (slots + M) lsA a1 a2 C9 ⟨y_cov_push hcv hP1 hD1, a4.2.up⟩ hS1 (by omega) (by omega) a8
end YH
