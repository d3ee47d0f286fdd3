/-! STRINGS OF THE START: length(), charAt() -/
set_option maxRecDepth 100000
theorem ge1 {d n : Nat} (h : n + 1 ≤ d) : ∃ e, d = e + 1 ∧ n ≤ e := ⟨d - 1, by omega, by omega⟩
section CS
variable {en : yEn} {d : Nat} {σ : yH} {q : Nat} {tx : List Int32} {K : Option Value → yH → Prop} {X : String → Addr → yH → Prop}
theorem cs_length (hd : 12 ≤ d) (hq : strAt en σ q tx) (h : K (some (.int (nI tx.length))) σ) : Cx en d 0 0 mJ7_length [.ref q] σ K X := by
  obtain ⟨d, rfl, hd1⟩ := ge1 hd
  obtain ⟨b, fs, h1, h2, h3, h4, h5, h6⟩ := hq
  refine cx_J7_length ?_
  unfold wp_J7_length
  refine gR h1 h2 ?_
  refine ⟨false, 1, _, h4, by decide, ⟨⟨_, _, h1⟩, ?_⟩⟩
  obtain ⟨d, rfl, hd2⟩ := ge1 hd1
  refine cx_J7_coder ?_
  unfold wp_J7_coder
  refine ⟨fun h => absurd h (by decide), fun _ => ?_⟩
  refine gI h1 h3 ⟨rfl, ⟨_, rfl, ?_⟩⟩
  show K (some (.int (nI tx.length >>> ((0 : Int32) &&& 31)))) σ
  rw [sc_shr0 (by omega)]
  exact h
theorem tx_nI (h5 : ∀ i, 0 ≤ (tx.getD i 0).toInt ∧ (tx.getD i 0).toInt < 128) (i : Nat) : ∃ j, j < 128 ∧ tx.getD i 0 = nI j := by
  obtain ⟨a, b⟩ := h5 i
  have h : ¬ tx.getD i 0 < 0 := by
    rw [Int32.lt_iff_toInt_lt]
    show ¬ _ < (0 : Int)
    omega
  obtain ⟨j, hj, e⟩ := nI_of h
  rw [e, nI_toInt hj] at b
  exact ⟨j, by omega, e⟩
theorem cs_checkIndex (hd : 2 ≤ d) {i j : Nat} {r : Option Nat} (hi : i < j) (hj : j < 2 ^ 31) (h : K (some (.int (nI i))) σ) : Cx en d 0 0 mJ19_checkIndex [.int (nI i), .int (nI j), va_rf r] σ K X := by
  obtain ⟨d, rfl, hd1⟩ := ge1 hd
  refine cx_J19_checkIndex ?_
  unfold wp_J19_checkIndex
  exact ⟨fun h => absurd h (nI_pos (by omega)), fun _ => ⟨fun _ => h, fun h => absurd (nI_lt hi hj) h⟩⟩
theorem cs_charAt (hd : 12 ≤ d) (hq : strAt en σ q tx) {i : Int32} (hi : vp_in i tx.length) (h : K (some (.int (tx.getD i.toNatClampNeg 0))) σ) : Cx en d 0 0 mJ7_charAt [.ref q, .int i] σ K X := by
  obtain ⟨d, rfl, hd1⟩ := ge1 hd
  obtain ⟨b, fs, h1, h2, h3, h4, h5, h6⟩ := hq
  obtain ⟨m, hm, rfl⟩ := vp_in_of hi (by omega)
  rw [nI_clamp (by omega)] at h
  obtain ⟨j, hj, e⟩ := tx_nI h5 m
  rw [e] at h
  refine cx_J7_charAt (p21 := (0, 0)) (k := 0) (n := 0) ?_
  unfold wp_J7_charAt
  refine ⟨⟨_, _, h1⟩, ?_⟩
  obtain ⟨d, rfl, hd2⟩ := ge1 hd1
  refine cx_J7_isLatin1 ?_
  unfold wp_J7_isLatin1
  refine ⟨fun h => absurd h (by decide), fun _ => gI h1 h3 ⟨_, rfl, ⟨fun h => absurd h (by decide), fun _ => gR h1 h2 ?_⟩⟩⟩
  refine cx_J20_charAt ?_
  unfold wp_J20_charAt
  refine ⟨false, 1, _, h4, by decide, ?_⟩
  obtain ⟨d, rfl, hd3⟩ := ge1 hd2
  refine cx_J7_checkIndex ?_
  unfold wp_J7_checkIndex
  refine cs_checkIndex (by omega) hm (by omega) ⟨_, rfl, ⟨rfl, aI h4 hi ?_⟩⟩
  rw [nI_clamp (by omega), e]
  have e2 : ((nI j &&& (255 : Int32)).toUInt32 % 65536).toInt32 = nI j := by
    rw [pk_andN (by omega) 8 (by decide), Nat.mod_eq_of_lt (by omega), pk_char, pk_tn (by omega), Nat.mod_eq_of_lt (by omega)]
  rw [e2]
  exact ⟨_, rfl, (pk_charN (by omega)).1, h⟩
theorem cs_lengthM {mb : Nat → Nat} {ρ : yMS} (hM : mOK en mb σ) (hd : 12 ≤ d) (hq : strAt en σ q tx) {G : Int32 → Prop} (h : mLet (nI tx.length) G) : Cx en d 0 0 mJ7_length [.ref q] (mH en mb ρ σ) (kI (fun x σ9 => σ9 = mH en mb ρ σ ∧ G x)) X := cs_length hd (strAt.mH hM hq) ⟨_, rfl, rfl, h⟩
theorem cs_charAtM {mb : Nat → Nat} {ρ : yMS} (hM : mOK en mb σ) (hd : 12 ≤ d) (hq : strAt en σ q tx) {i : Int32} {G : Int32 → Prop} (h : vp_in i tx.length ∧ mLet (tx.getD i.toNatClampNeg 0) G) : Cx en d 0 0 mJ7_charAt [.ref q, .int i] (mH en mb ρ σ) (kI (fun x σ9 => σ9 = mH en mb ρ σ ∧ G x)) X := cs_charAt hd (strAt.mH hM hq) h.1 ⟨_, rfl, rfl, h.2⟩
end CS
