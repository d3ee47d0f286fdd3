/-! THE MODEL'S CELLS: an overlay over the heap -/
set_option maxRecDepth 100000
abbrev yMS : Type := (Nat → Int32) × (Nat → Nat → Int32)
def mlen (j : Nat) : Nat := if j ≤ 12 then 130 else if j = 13 then 12 else if j = 14 then 120 else 60
def mtag (j : Nat) : Nat := if j ≤ 13 then 0 else 2
def mFs (mb : Nat → Nat) (s : Nat → Int32) : List Value := [.int (s 0), .ref (mb 1), .ref (mb 2), .ref (mb 3), .ref (mb 4), .ref (mb 16), .int (s 6), .int (s 7), .int (s 8), .int (s 9), .int (s 10), .int (s 11), .int (s 12), .ref (mb 13), .int (s 14), .int (s 15), .ref (mb 14), .int (s 17), .ref (mb 15), .int (s 19), .int (s 20), .int (s 21), .int (s 22), .int (s 23), .int (s 24), .int (s 25), .int (s 26)]
def mCell (en : yEn) (mb : Nat → Nat) (ρ : yMS) (j : Nat) : va_E := if j = 0 then .inr (2, mFs mb ρ.1) else if j = 16 then .inl (en.2.2.2 6, 8, .inr (.inr (.inr (.inr (fun i => some (mb (5 + i))))))) else .inl (en.2.2.2 (mtag j), mlen j, .inl (ρ.2 j))
def mIx (mb : Nat → Nat) (a : Nat) : Option Nat := (List.range 17).find? (fun j => mb j == a)
def mH (en : yEn) (mb : Nat → Nat) (ρ : yMS) (σ : yH) : yH := fun a => match mIx mb a with
  | some j => some (true, mCell en mb ρ j)
  | none => σ a
/-- the String constants of the classes -/
def yStrs : List (String × Nat × List Int32) := [("PeacockLawns", 47, []), ("PeacockLawns", 282, [32, 104]), ("PeacockLawns", 284, [32, 99]), ("PeacockLawns", 289, [43]), ("PeacockLawns", 295, [32, 102]), ("PeacockLawns", 297, [32, 102, 111, 120]), ("PeacockLawnsModel", 234, [58]), ("PeacockLawnsModel", 240, [32, 104]), ("PeacockLawnsModel", 242, [32, 99]), ("PeacockLawnsModel", 244, [43]), ("PeacockLawnsModel", 246, [32, 102]), ("PeacockLawnsModel", 248, [32, 102, 111, 120]), ("PeacockLawnsModel", 250, []), ("PeacockLawnsModel", 288, [119, 97, 108, 107]), ("PeacockLawnsModel", 290, [115, 104, 101, 97, 114]), ("PeacockLawnsModel", 292, [102, 105, 110, 100]), ("PeacockLawnsModel", 294, [115, 101, 108, 108]), ("PeacockLawnsModel", 296, [108, 97, 121]), ("PeacockLawnsModel", 298, [115, 101, 97, 116]), ("PeacockLawnsModel", 300, [100, 97, 121, 115]), ("PeacockLawns$Parser", 50, [32, 119, 97, 108, 107, 32, 115, 104, 101, 97, 114, 32, 102, 105, 110, 100, 32, 115, 101, 108, 108, 32, 108, 97, 121, 32, 115, 101, 97, 116, 32, 100, 97, 121, 115, 32]), ("PeacockLawns$Parser", 52, [32]), ("PeacockLawns$Parser", 79, [115, 101, 108, 108]), ("PeacockLawns$Parser", 85, [108, 97, 121]), ("PeacockLawns$Parser", 87, [100, 97, 121, 115]), ("PeacockLawns$Parser", 96, [102, 105, 110, 100]), ("PeacockLawns$Parser", 98, [115, 104, 101, 97, 114]), ("PeacockLawns$Parser", 110, [119, 97, 108, 107])]
/-- a String of the start, of Latin signs -/
def strAt (en : yEn) (σ : yH) (q : Nat) (tx : List Int32) : Prop := ∃ (b : Nat) (fs : List Value), σ q = some (false, .inr (15, fs)) ∧ fs[0]? = some (.ref b) ∧ fs[1]? = some (.int 0) ∧ σ b = some (false, .inl (en.2.2.2 1, tx.length, .inl (fun i => tx.getD i 0))) ∧ (∀ i, 0 ≤ (tx.getD i 0).toInt ∧ (tx.getD i 0).toInt < 128) ∧ tx.length < 65536
def sOK (en : yEn) (σ : yH) : Prop := ∀ (n : Nat) (t : String × Nat × List Int32), yStrs[n]? = some t → strAt en σ (y_str en t.1 t.2.1) t.2.2
def mOK (en : yEn) (mb : Nat → Nat) (σ : yH) : Prop := (∀ i j, i < 17 → j < 17 → mb i = mb j → i = j) ∧ (∀ j, j < 17 → σ (mb j) = none) ∧ sOK en σ
def sS (ρ : yMS) (k : Nat) (x : Int32) : yMS := (upd ρ.1 k x, ρ.2)
def sA (ρ : yMS) (j i : Nat) (x : Int32) : yMS := (ρ.1, fun q => if q = j then upd (ρ.2 j) i x else ρ.2 q)
theorem mIx_at {mb : Nat → Nat} (h : ∀ i j, i < 17 → j < 17 → mb i = mb j → i = j) {j : Nat} (hj : j < 17) : mIx mb (mb j) = some j := by
  unfold mIx
  cases hf : (List.range 17).find? (fun i => mb i == mb j) with
  | none =>
    have := List.find?_eq_none.mp hf j (List.mem_range.mpr hj)
    simp at this
  | some i =>
    have h1 := List.find?_some hf
    have h2 := List.mem_range.mp (List.mem_of_find?_eq_some hf)
    rw [h i j h2 hj (by simpa using h1)]
theorem str_isC {en : yEn} {σ : yH} {q : Nat} {tx : List Int32} (h : strAt en σ q tx) : isC σ q 15 := by
  obtain ⟨b, fs, h1, -⟩ := h
  exact ⟨_, _, h1⟩
theorem mIx_ge {mb : Nat → Nat} {a i : Nat} (h : mIx mb a = some i) : i < 17 ∧ mb i = a := ⟨List.mem_range.mp (List.mem_of_find?_eq_some h), by simpa using List.find?_some h⟩
section MB
variable {en : yEn} {mb : Nat → Nat} {ρ : yMS} {σ : yH}
theorem mH_at (h : mOK en mb σ) {j : Nat} (hj : j < 17) : mH en mb ρ σ (mb j) = some (true, mCell en mb ρ j) := by
  unfold mH
  rw [mIx_at h.1 hj]
theorem mH_off {a : Nat} (h : ∀ j, j < 17 → a ≠ mb j) : mH en mb ρ σ a = σ a := by
  unfold mH
  cases hf : mIx mb a with
  | none => rfl
  | some i => exact absurd (mIx_ge hf).2.symm (h i (mIx_ge hf).1)
theorem mH_ro (h : mOK en mb σ) {a : Nat} {x : yE} (hx : σ a = some x) : mH en mb ρ σ a = some x := by
  rw [mH_off (fun j hj z => by rw [z, h.2.1 j hj] at hx; cases hx)]
  exact hx
theorem mH_up (h : mOK en mb σ) {ρ' : yMS} {j : Nat} {e : va_E} (hj : j < 17) (h1 : mCell en mb ρ' j = e) (h2 : ∀ i, i < 17 → i ≠ j → mCell en mb ρ' i = mCell en mb ρ i) : yup (mH en mb ρ σ) (mb j) e = mH en mb ρ' σ := by
  funext a
  by_cases ha : a = mb j
  · subst ha
    rw [yup_s, mH_at h hj, h1]
  · rw [yup_n ha]
    unfold mH
    cases hf : mIx mb a with
    | none => rfl
    | some i =>
      have := mIx_ge hf
      show some (true, mCell en mb ρ i) = some (true, mCell en mb ρ' i)
      rw [h2 i this.1 (fun z => ha (by rw [← this.2, z]))]
theorem mCell_arr {j : Nat} (hj : 1 ≤ j ∧ j ≤ 15) : mCell en mb ρ j = .inl (en.2.2.2 (mtag j), mlen j, .inl (ρ.2 j)) := by
  unfold mCell
  rw [if_neg (by omega), if_neg (by omega)]
theorem mo_isC (h : mOK en mb σ) : isC (mH en mb ρ σ) (mb 0) 2 := ⟨true, mFs mb ρ.1, mH_at h (by decide)⟩
theorem mo_gI (h : mOK en mb σ) {k : Nat} {F : Int32 → Prop} (hk : (mFs mb ρ.1)[k]? = some (.int (ρ.1 k))) (hF : F (ρ.1 k)) : getI (mH en mb ρ σ) (mb 0) 2 k F := gI (mH_at h (by decide)) hk hF
theorem mo_gR (h : mOK en mb σ) {k j : Nat} {F : Nat → Prop} (hk : (mFs mb ρ.1)[k]? = some (.ref (mb j))) (hF : F (mb j)) : getR (mH en mb ρ σ) (mb 0) 2 k F := gR (mH_at h (by decide)) hk hF
theorem mo_pV (h : mOK en mb σ) {k : Nat} {x : Int32} {F : yH → Prop} (hk : k < 27) (hs : (mFs mb ρ.1).set k (.int x) = mFs mb (upd ρ.1 k x)) (hF : F (mH en mb (sS ρ k x) σ)) : putV (mH en mb ρ σ) (mb 0) 2 k (.int x) F := by
  refine pV (mH_at h (by decide)) (by simpa [mFs] using hk) ?_
  rw [mH_up h (ρ' := sS ρ k x) (by decide) (by show Sum.inr (2, mFs mb (upd ρ.1 k x)) = _; rw [hs]) (fun i hi hn => by
    unfold mCell
    rw [if_neg hn, if_neg hn]
    rfl)]
  exact hF
theorem mo_arr (h : mOK en mb σ) {j : Nat} (hj : 1 ≤ j ∧ j ≤ 15) : mH en mb ρ σ (mb j) = some (true, .inl (en.2.2.2 (mtag j), mlen j, .inl (ρ.2 j))) := by
  rw [mH_at h (by omega), mCell_arr hj]
theorem mo_upA (h : mOK en mb σ) {j i : Nat} {x : Int32} (hj : 1 ≤ j ∧ j ≤ 15) : yup (mH en mb ρ σ) (mb j) (.inl (en.2.2.2 (mtag j), mlen j, .inl (upd (ρ.2 j) i x))) = mH en mb (sA ρ j i x) σ := by
  refine mH_up h (by omega) ?_ ?_
  · rw [mCell_arr hj]
    show Sum.inl (_, _, Sum.inl (if j = j then _ else _)) = _
    rw [if_pos rfl]
  · intro q hq hn
    unfold mCell
    by_cases h0 : q = 0
    · rw [if_pos h0, if_pos h0]
      rfl
    · rw [if_neg h0, if_neg h0]
      by_cases h1 : q = 16
      · rw [if_pos h1, if_pos h1]
      · rw [if_neg h1, if_neg h1]
        show Sum.inl (_, _, Sum.inl (if q = j then _ else _)) = _
        rw [if_neg hn]
theorem mo_aI (h : mOK en mb σ) {j : Nat} {i : Int32} {F : Int32 → Prop} (hj : 1 ≤ j ∧ j ≤ 13) (hi : vp_in i (mlen j)) (hF : F (ρ.2 j i.toNatClampNeg)) : aldI (mH en mb ρ σ) (en.2.2.2 0) (mb j) i F := by
  have := mo_arr (en := en) (ρ := ρ) h (j := j) ⟨hj.1, by omega⟩
  rw [show mtag j = 0 by unfold mtag; rw [if_pos hj.2]] at this
  exact aI this hi hF
theorem mo_sI (h : mOK en mb σ) {j : Nat} {i x : Int32} {F : yH → Prop} (hj : 1 ≤ j ∧ j ≤ 13) (hi : vp_in i (mlen j)) (hF : F (mH en mb (sA ρ j i.toNatClampNeg x) σ)) : astI (mH en mb ρ σ) (en.2.2.2 0) (mb j) i x F := by
  have h1 := mo_arr (en := en) (ρ := ρ) h (j := j) ⟨hj.1, by omega⟩
  have h2 := mo_upA (en := en) (ρ := ρ) (i := i.toNatClampNeg) (x := x) h (j := j) ⟨hj.1, by omega⟩
  rw [show mtag j = 0 by unfold mtag; rw [if_pos hj.2]] at h1 h2
  refine sI h1 hi ?_
  rw [h2]
  exact hF
theorem mo_cI (h : mOK en mb σ) {j : Nat} {i : Int32} {F : Int32 → Prop} (hj : 14 ≤ j ∧ j ≤ 15) (hi : vp_in i (mlen j)) (hF : F (ρ.2 j i.toNatClampNeg)) : ∃ (N : Nat) (f : Nat → Int32), mH en mb ρ σ (mb j) = some (true, .inl (en.2.2.2 2, N, .inl f)) ∧ vp_in i N ∧ F (f i.toNatClampNeg) := by
  have := mo_arr (en := en) (ρ := ρ) h (j := j) ⟨by omega, hj.2⟩
  rw [show mtag j = 2 by unfold mtag; rw [if_neg (by omega)]] at this
  exact ⟨_, _, this, hi, hF⟩
theorem mo_sC (h : mOK en mb σ) {j : Nat} {i x : Int32} {F : yH → Prop} (hj : 14 ≤ j ∧ j ≤ 15) (hi : vp_in i (mlen j)) (hF : F (mH en mb (sA ρ j i.toNatClampNeg x) σ)) : astI (mH en mb ρ σ) (en.2.2.2 2) (mb j) i x F := by
  have h1 := mo_arr (en := en) (ρ := ρ) h (j := j) ⟨by omega, hj.2⟩
  have h2 := mo_upA (en := en) (ρ := ρ) (i := i.toNatClampNeg) (x := x) h (j := j) ⟨by omega, hj.2⟩
  rw [show mtag j = 2 by unfold mtag; rw [if_neg (by omega)]] at h1 h2
  refine sI h1 hi ?_
  rw [h2]
  exact hF
theorem strAt.mH (h : mOK en mb σ) {q : Nat} {tx : List Int32} (hq : strAt en σ q tx) : strAt en (mH en mb ρ σ) q tx := by
  obtain ⟨b, fs, h1, h2, h3, h4, h5⟩ := hq
  exact ⟨b, fs, mH_ro h h1, h2, h3, mH_ro h h4, h5⟩
theorem mo_hist (h : mOK en mb σ) {i : Int32} {F : Option Nat → Prop} (hi : vp_in i 8) (hF : F (some (mb (5 + i.toNatClampNeg)))) : ∃ (N : Nat) (f : Nat → Option Nat), mH en mb ρ σ (mb 16) = some (true, .inl (en.2.2.2 6, N, .inr (.inr (.inr (.inr f))))) ∧ vp_in i N ∧ F (f i.toNatClampNeg) := by
  have : mH en mb ρ σ (mb 16) = some (true, .inl (en.2.2.2 6, 8, .inr (.inr (.inr (.inr (fun i => some (mb (5 + i)))))))) := mH_at h (by decide)
  exact ⟨_, _, this, hi, hF⟩
/-! what the Model reads and writes -/
def mAld (ρ : yMS) (j : Nat) (i : Int32) (F : Int32 → Prop) : Prop := (1 ≤ j ∧ j ≤ 13) ∧ vp_in i (mlen j) ∧ F (ρ.2 j i.toNatClampNeg)
def mCld (ρ : yMS) (j : Nat) (i : Int32) (F : Int32 → Prop) : Prop := (14 ≤ j ∧ j ≤ 15) ∧ vp_in i (mlen j) ∧ F (ρ.2 j i.toNatClampNeg)
def mAst (ρ : yMS) (j : Nat) (i x : Int32) (F : yMS → Prop) : Prop := (1 ≤ j ∧ j ≤ 13) ∧ vp_in i (mlen j) ∧ F (sA ρ j i.toNatClampNeg x)
def mCst (ρ : yMS) (j : Nat) (i x : Int32) (F : yMS → Prop) : Prop := (14 ≤ j ∧ j ≤ 15) ∧ vp_in i (mlen j) ∧ F (sA ρ j i.toNatClampNeg x)
def mPut (ρ : yMS) (k : Nat) (x : Int32) (F : yMS → Prop) : Prop := F (sS ρ k x)
def mLet (x : Int32) (F : Int32 → Prop) : Prop := F x
def nfit (ty : FieldType) (x : Int32) : Prop := narrow ty (.int x) = .int x ∧ fits ty (.int x) = true
theorem mAld.to (h : mOK en mb σ) {j : Nat} {i : Int32} {F G : Int32 → Prop} (hh : mAld ρ j i G) (g : ∀ v, G v → F v) : aldI (mH en mb ρ σ) (en.2.2.2 0) (mb j) i F := mo_aI h hh.1 hh.2.1 (g _ hh.2.2)
theorem mCld.to (h : mOK en mb σ) {j : Nat} {i : Int32} {F G : Int32 → Prop} (hh : mCld ρ j i G) (g : ∀ v, G v → F v) : ∃ (N : Nat) (f : Nat → Int32), mH en mb ρ σ (mb j) = some (true, .inl (en.2.2.2 2, N, .inl f)) ∧ vp_in i N ∧ F (f i.toNatClampNeg) := mo_cI h hh.1 hh.2.1 (g _ hh.2.2)
theorem mAst.to (h : mOK en mb σ) {j : Nat} {i x : Int32} {F : yH → Prop} {G : yMS → Prop} (hh : mAst ρ j i x G) (g : ∀ ρ', G ρ' → F (mH en mb ρ' σ)) : astI (mH en mb ρ σ) (en.2.2.2 0) (mb j) i x F := mo_sI h hh.1 hh.2.1 (g _ hh.2.2)
theorem mCst.to (h : mOK en mb σ) {j : Nat} {i x : Int32} {F : yH → Prop} {G : yMS → Prop} (hh : mCst ρ j i x G) (g : ∀ ρ', G ρ' → F (mH en mb ρ' σ)) : astI (mH en mb ρ σ) (en.2.2.2 2) (mb j) i x F := mo_sC h hh.1 hh.2.1 (g _ hh.2.2)
theorem mPut.to (h : mOK en mb σ) {k : Nat} {x : Int32} {F : yH → Prop} {G : yMS → Prop} (hk : k < 27) (hs : (mFs mb ρ.1).set k (.int x) = mFs mb (upd ρ.1 k x)) (hh : mPut ρ k x G) (g : ∀ ρ', G ρ' → F (mH en mb ρ' σ)) : putV (mH en mb ρ σ) (mb 0) 2 k (.int x) F := mo_pV h hk hs (g _ hh)
/-- a loop that comes to its end -/
def lpN {S : Type} (F : (S → Prop) → S → Prop) : Nat → S → Prop
  | 0, _ => False
  | n+1, s => F (lpN F n) s
end MB
theorem vp_inLt {i : Int32} {n : Nat} (h : vp_in i n) : i.toNatClampNeg < n := Nat.not_le.mp fun q => h (Or.inr q)
/-! answers -/
def mI (F : Int32 → yMS → Prop) : Option Value → yMS → Prop := fun v ρ => ∃ x, v = some (.int x) ∧ F x ρ
def mF (F : UInt32 → yMS → Prop) : Option Value → yMS → Prop := fun v ρ => ∃ x, v = some (.float x) ∧ F x ρ
def mD (F : UInt64 → yMS → Prop) : Option Value → yMS → Prop := fun v ρ => ∃ x, v = some (.double x) ∧ F x ρ
def mSt (en : yEn) (σ : yH) (F : List Int32 → yMS → Prop) : Option Value → yMS → Prop := fun v ρ => ∃ q tx, v = some (.ref q) ∧ strAt en σ q tx ∧ F tx ρ
def mV (F : yMS → Prop) : Option Value → yMS → Prop := fun v ρ => v = none ∧ F ρ
def mQ (en : yEn) (mb : Nat → Nat) (σ : yH) (K : Option Value → yMS → Prop) : Option Value → yH → Prop := fun v σ' => ∃ ρ', σ' = mH en mb ρ' σ ∧ K v ρ'
section MQ
variable {en : yEn} {mb : Nat → Nat} {ρ : yMS} {σ : yH} {d : Nat} {mi : yM} {pc : Nat} {ls : List (Nat × Value)} {st : List Value} {k n : Nat} {K : Option Value → yH → Prop} {X : String → Addr → yH → Prop}
theorem mI.to {F : Int32 → yMS → Prop} (h : ∀ x ρ', F x ρ' → Wx en d mi pc ls (.int x :: st) (mH en mb ρ' σ) k n K X) : ∀ v σ', mQ en mb σ (mI F) v σ' → Wx en d mi pc ls (v.toList ++ st) σ' k n K X := by
  rintro v σ' ⟨ρ', rfl, x, rfl, hf⟩
  exact h x ρ' hf
theorem mV.to {F : yMS → Prop} (h : ∀ ρ', F ρ' → Wx en d mi pc ls st (mH en mb ρ' σ) k n K X) : ∀ v σ', mQ en mb σ (mV F) v σ' → Wx en d mi pc ls (v.toList ++ st) σ' k n K X := by
  rintro v σ' ⟨ρ', rfl, rfl, hf⟩
  exact h ρ' hf
theorem mSt.to {F : List Int32 → yMS → Prop} (h : ∀ (q : Nat) (tx : List Int32), strAt en σ q tx → ∀ ρ', F tx ρ' → Wx en d mi pc ls (.ref q :: st) (mH en mb ρ' σ) k n K X) : ∀ v σ', mQ en mb σ (mSt en σ F) v σ' → Wx en d mi pc ls (v.toList ++ st) σ' k n K X := by
  rintro v σ' ⟨ρ', rfl, q, tx, rfl, hq, hf⟩
  exact h q tx hq ρ' hf
theorem mSt.ok {F : List Int32 → yMS → Prop} {q : Nat} {tx : List Int32} (hq : strAt en σ q tx) (h : F tx ρ) : mQ en mb σ (mSt en σ F) (some (.ref q)) (mH en mb ρ σ) := ⟨ρ, rfl, q, tx, rfl, hq, h⟩
theorem mI.ok {F : Int32 → yMS → Prop} {x : Int32} (h : F x ρ) : mQ en mb σ (mI F) (some (.int x)) (mH en mb ρ σ) := ⟨ρ, rfl, x, rfl, h⟩
theorem mF.ok {F : UInt32 → yMS → Prop} {x : UInt32} (h : F x ρ) : mQ en mb σ (mF F) (some (.float x)) (mH en mb ρ σ) := ⟨ρ, rfl, x, rfl, h⟩
theorem mD.ok {F : UInt64 → yMS → Prop} {x : UInt64} (h : F x ρ) : mQ en mb σ (mD F) (some (.double x)) (mH en mb ρ σ) := ⟨ρ, rfl, x, rfl, h⟩
theorem mV.ok {F : yMS → Prop} (h : F ρ) : mQ en mb σ (mV F) none (mH en mb ρ σ) := ⟨ρ, rfl, rfl, h⟩
/-- aaload of an int[][] -/
theorem sd_aaload6 {a : Nat} {i : Int32} (dd : decode mi.2.1 pc = .ok (.aaload, 1)) (h : ∃ (N : Nat) (f : Nat → Option Nat), σ a = some (true, .inl (en.2.2.2 6, N, .inr (.inr (.inr (.inr f))))) ∧ vp_in i N ∧ Wx en d mi (pc + 1) ls (va_rf (f i.toNatClampNeg) :: st) σ k n K X) : Wx en d mi pc ls (.int i :: .ref a :: st) σ k n K X := by
  intro R p e s m args below meth c H locs cells slots lsA a1 a2 C9 a4 a5 a6 a7 a8
  obtain ⟨N, f, hs, hi, h⟩ := h
  obtain ⟨ws, q0, hP, hD, hq0, hcv⟩ := a4.1.get hs
  have hlt : i.toNatClampNeg < N := vp_inLt hi
  have hK := y_K C9.2.2.2.2.2.2.2.2.2
  exact W.aald (v := va_rf (f i.toNatClampNeg)) (ty := .array .int) C9.1 C9.2.1 (hP q0 _ hq0) ((hK.2 6 _ rfl).1 N (fun j => va_rf (f j))) rfl (fun q => by cases q) (by show ¬ (i < 0 ∨ (arrV _ _ _).slots.size ≤ _); rw [arrV_size]; exact hi) (by show (arrV _ _ _).slots[_]? = _; rw [arrV_read _ _ hlt]) rfl rfl dd (h R p e s m args below meth c H locs cells slots lsA a1 a2 C9 a4 a5 a6 a7 a8)
theorem sd_hist {i : Int32} (hM : mOK en mb σ) (dd : decode mi.2.1 pc = .ok (.aaload, 1)) (hi : vp_in i 8) (h : Wx en d mi (pc + 1) ls (.ref (mb (5 + i.toNatClampNeg)) :: st) (mH en mb ρ σ) k n K X) : Wx en d mi pc ls (.int i :: .ref (mb 16) :: st) (mH en mb ρ σ) k n K X := by
  have h1 : mH en mb ρ σ (mb 16) = some (true, .inl (en.2.2.2 6, 8, .inr (.inr (.inr (.inr (fun i => some (mb (5 + i)))))))) := mH_at hM (by decide)
  exact sd_aaload6 dd ⟨8, _, h1, hi, h⟩
theorem sd_cldM {i : Int32} {j : Nat} {G : Int32 → Prop} (hM : mOK en mb σ) (dd : decode mi.2.1 pc = .ok (.caload, 1)) (h : mCld ρ j i G) (g : ∀ v, G v → Wx en d mi (pc + 1) ls (.int v :: st) (mH en mb ρ σ) k n K X) : Wx en d mi pc ls (.int i :: .ref (mb j) :: st) (mH en mb ρ σ) k n K X :=
  sd_caload dd (mo_cI (F := fun v => Wx en d mi (pc + 1) ls (.int v :: st) (mH en mb ρ σ) k n K X) hM h.1 h.2.1 (g _ h.2.2))
end MQ
