/-! NUMBERS: Int32 told by Int -/
set_option maxRecDepth 100000
def iI (z : Int) : Int32 := Int32.ofInt z
/-- of so many bits -/
def sm (z : Int) : Prop := -2147483648 ≤ z ∧ z < 2147483648
theorem iI_toInt {z : Int} (h : sm z) : (iI z).toInt = z := Int32.toInt_ofInt_of_le (by obtain ⟨a, b⟩ := h; simp; omega) (by obtain ⟨a, b⟩ := h; simp; omega)
theorem iI_of (x : Int32) : iI x.toInt = x := Int32.ofInt_toInt x
theorem sm_toInt (x : Int32) : sm x.toInt := ⟨by have := x.le_toInt; simpa using this, by have := x.toInt_lt; simpa using this⟩
theorem iI_ex (x : Int32) : ∃ z, sm z ∧ x = iI z := ⟨x.toInt, sm_toInt x, (iI_of x).symm⟩
theorem iI_add (a b : Int) : iI a + iI b = iI (a + b) := (Int32.ofInt_add a b).symm
theorem iI_sub (a b : Int) : iI a - iI b = iI (a - b) := (Int32.ofInt_sub a b).symm
theorem iI_mul (a b : Int) : iI a * iI b = iI (a * b) := (Int32.ofInt_mul a b).symm
theorem iI_neg (a : Int) : - iI a = iI (-a) := (Int32.ofInt_neg a).symm
theorem iI_lt {a b : Int} (ha : sm a) (hb : sm b) : iI a < iI b ↔ a < b := by rw [Int32.lt_iff_toInt_lt, iI_toInt ha, iI_toInt hb]
theorem iI_le {a b : Int} (ha : sm a) (hb : sm b) : iI a ≤ iI b ↔ a ≤ b := by rw [Int32.le_iff_toInt_le, iI_toInt ha, iI_toInt hb]
theorem iI_eq {a b : Int} (ha : sm a) (hb : sm b) : iI a = iI b ↔ a = b := ⟨fun h => by rw [← iI_toInt ha, ← iI_toInt hb, h], fun h => by rw [h]⟩
theorem nI_iI (n : Nat) : nI n = iI n := by
  unfold nI iI
  exact (Int32.ofInt_eq_ofNat).symm
theorem iI_nat {z : Int} (h : 0 ≤ z) : iI z = nI z.toNat := by rw [nI_iI, Int.toNat_of_nonneg h]
theorem iI_clamp {z : Int} (h : 0 ≤ z) (h2 : z < 2147483648) : (iI z).toNatClampNeg = z.toNat := by rw [iI_nat h, nI_clamp (by omega)]
theorem iI_in {z : Int} {n : Nat} (h : 0 ≤ z) (h2 : z < n) (hn : n < 2147483648) : vp_in (iI z) n := by rw [iI_nat h]; exact vp_in_nI (by omega) (by omega)
theorem iI_inI {z : Int} {n : Nat} (hz : sm z) : vp_in (iI z) n ↔ 0 ≤ z ∧ z < n := by rw [vp_in_iff, iI_toInt hz]
theorem iI_div {a d : Int} (ha : 0 ≤ a) (ha2 : a < 2147483648) (h0 : 0 < d) (hd : d < 2147483648) : iI a / iI d = iI (a / d) := by
  rw [iI_nat ha, iI_nat (Int.le_of_lt h0), pk_div (by omega) (by omega) (by omega), nI_iI]
  congr 1
  rw [Int.natCast_ediv, Int.toNat_of_nonneg ha, Int.toNat_of_nonneg (Int.le_of_lt h0)]
theorem iI_rem {a d : Int} (ha : 0 ≤ a) (ha2 : a < 2147483648) (h0 : 0 < d) (hd : d < 2147483648) : iI a - iI a / iI d * iI d = iI (a % d) := by
  rw [iI_div ha ha2 h0 hd, iI_mul, iI_sub]
  congr 1
  have := Int.emod_add_mul_ediv a d
  rw [Int.mul_comm] at this
  omega
/-- a truth as a number -/
def bI (p : Prop) [Decidable p] : Int32 := if p then 1 else 0
theorem bI_0 {p : Prop} [Decidable p] : bI p = 0 ↔ ¬ p := by
  unfold bI
  by_cases h : p
  · rw [if_pos h]; exact ⟨fun q => absurd q (by decide), fun q => absurd h q⟩
  · rw [if_neg h]; exact ⟨fun _ => h, fun _ => rfl⟩
theorem bI_nb {p : Prop} [Decidable p] : narrow .boolean (.int (bI p)) = .int (bI p) := by
  unfold bI
  by_cases h : p
  · rw [if_pos h]; rfl
  · rw [if_neg h]; rfl
theorem bI_ft {p : Prop} [Decidable p] : nfit .boolean (bI p) := by
  unfold bI
  by_cases h : p
  · rw [if_pos h]; exact ⟨rfl, rfl⟩
  · rw [if_neg h]; exact ⟨rfl, rfl⟩
theorem bI_not {p : Prop} [Decidable p] : (if bI p = 0 then (1 : Int32) else 0) = bI (¬ p) := by
  by_cases h : p
  · rw [if_neg (fun q => (bI_0.mp q) h)]; unfold bI; rw [if_neg (fun q => q h)]
  · rw [if_pos (bI_0.mpr h)]; unfold bI; rw [if_pos h]
theorem bI_congr {p q : Prop} [Decidable p] [Decidable q] (h : p ↔ q) : bI p = bI q := by
  unfold bI
  by_cases hp : p
  · rw [if_pos hp, if_pos (h.mp hp)]
  · rw [if_neg hp, if_neg (fun z => hp (h.mpr z))]
/-! rows of numbers -/
abbrev yG : Type := Nat → Int
def rI (g : yG) : Nat → Int32 := fun i => iI (g i)
def st (g : yG) (i : Nat) (v : Int) : yG := fun j => if j = i then v else g j
theorem st_s {g : yG} {i : Nat} {v : Int} : st g i v i = v := by unfold st; rw [if_pos rfl]
theorem st_n {g : yG} {i j : Nat} {v : Int} (h : j ≠ i) : st g i v j = g j := by unfold st; rw [if_neg h]
theorem upd_rI {g : yG} {i : Nat} {v : Int} : upd (rI g) i (iI v) = rI (st g i v) := by
  funext j
  unfold upd rI st
  by_cases h : j = i
  · rw [if_pos h, if_pos h]
  · rw [if_neg h, if_neg h]
