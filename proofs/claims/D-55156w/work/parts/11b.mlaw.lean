/-! THE MODEL's LAW, FIRST PART: rows, small methods -/
set_option maxRecDepth 100000
/-- the state with the row g as 'now' -/
def mr (ρ : yMS) (g : yG) : yMS := (ρ.1, fun j => if j = 1 then rI g else ρ.2 j)
theorem mr_1 {ρ : yMS} {g : yG} : (mr ρ g).2 1 = rI g := rfl
theorem mr_o {ρ : yMS} {g : yG} {j : Nat} (h : j ≠ 1) : (mr ρ g).2 j = ρ.2 j := if_neg h
theorem mr_of {ρ : yMS} {g : yG} (h : ρ.2 1 = rI g) : mr ρ g = ρ := by
  unfold mr
  have : (fun j => if j = 1 then rI g else ρ.2 j) = ρ.2 := by
    funext j
    by_cases hj : j = 1
    · subst hj; rw [if_pos rfl, h]
    · rw [if_neg hj]
  rw [this]
theorem lp_up {S : Type} {F : (S → Prop) → S → Prop} (N : Nat) (s : Nat → S) (hs : ∀ i, i < N → ∀ r : S → Prop, r (s (i + 1)) → F r (s i)) (hN : ∀ r : S → Prop, F r (s N)) : ∃ n, lpN F n (s 0) := by
  have key : ∀ k i, i + k = N → lpN F (k + 1) (s i) := by
    intro k
    induction k with
    | zero => intro i hi; have : i = N := by omega
              subst this; exact hN _
    | succ k ih => intro i hi; exact hs i (by omega) _ (ih (i + 1) (by omega))
  exact ⟨N + 1, key N 0 (by omega)⟩
section ML
variable {ρ : yMS} {g : yG}
theorem mr_ld {x : Int32} {F : Int32 → Prop} (i : Nat) (hx : x = nI i) (hi : i < 130) (h : F (iI (g i))) : mAld (mr ρ g) 1 x F := by
  subst hx
  refine ⟨by decide, vp_in_nI (N := 130) hi (by omega), ?_⟩
  rw [nI_clamp (by omega)]
  exact h
theorem mr_ast {x v : Int32} {F : yMS → Prop} (i : Nat) (z : Int) (hx : x = nI i) (hv : v = iI z) (hi : i < 130) (h : F (mr ρ (st g i z))) : mAst (mr ρ g) 1 x v F := by
  subst hx hv
  refine ⟨by decide, vp_in_nI (N := 130) hi (by omega), ?_⟩
  rw [nI_clamp (by omega)]
  have e : sA (mr ρ g) 1 i (iI z) = mr ρ (st g i z) := by
    unfold sA mr
    simp only [if_pos, upd_rI]
    congr 1
    funext j
    by_cases hj : j = 1
    · rw [if_pos hj, if_pos hj]
    · rw [if_neg hj, if_neg hj, if_neg hj]
  rw [e]
  exact h
theorem mr_put {k : Nat} {x : Int32} {F : yMS → Prop} (h : F (mr (sS ρ k x) g)) : mPut (mr ρ g) k x F := h
/-! small methods -/
theorem M_isBetween {x a b : Int32} {z lo hi : Int} {K : Int32 → yMS → Prop} (hx : x = iI z) (ha : a = iI lo) (hb : b = iI hi) (sz : sm z) (sl : sm lo) (sh : sm hi) (h : K (bI (lo ≤ z ∧ z ≤ hi)) ρ) : wpM_X3_isBetween ρ x a b K := by
  subst hx ha hb
  unfold wpM_X3_isBetween
  have e : (if iI z < iI lo then (0 : Int32) else if iI hi < iI z then 0 else 1) = bI (lo ≤ z ∧ z ≤ hi) := by
    unfold bI
    by_cases h1 : z < lo
    · rw [if_pos ((iI_lt sz sl).mpr h1), if_neg (by omega)]
    · rw [if_neg (fun q => h1 ((iI_lt sz sl).mp q))]
      by_cases h2 : hi < z
      · rw [if_pos ((iI_lt sh sz).mpr h2), if_neg (by omega)]
      · rw [if_neg (fun q => h2 ((iI_lt sh sz).mp q)), if_pos (by omega)]
  rw [e]
  exact h
theorem M_isLawn {x : Int32} {z : Int} {K : Int32 → yMS → Prop} (hx : x = iI z) (sz : sm z) (h : K (bI (0 ≤ z ∧ z ≤ 8)) ρ) : wpM_X3_isLawn ρ x K :=
  M_isBetween hx rfl rfl sz ⟨by omega, by omega⟩ ⟨by omega, by omega⟩ ⟨bI_nb, h⟩
theorem M_isHedge {x : Int32} {z : Int} {K : Int32 → yMS → Prop} (hx : x = iI z) (sz : sm z) (h : K (bI (0 ≤ z ∧ z ≤ 11)) ρ) : wpM_X3_isHedge ρ x K :=
  M_isBetween hx rfl rfl sz ⟨by omega, by omega⟩ ⟨by omega, by omega⟩ ⟨bI_nb, h⟩
/-- thrown := c if p, else 0 -/
theorem M_fails {c : Int32} {p : Prop} [Decidable p] {K : Int32 → yMS → Prop} (h : K (bI p) (mr (sS ρ 0 (if p then c else 0)) g)) : wpM_X3_fails (mr ρ g) c (bI p) K := by
  unfold wpM_X3_fails
  have e : (if bI p = 0 then (0 : Int32) else c) = if p then c else 0 := by
    by_cases hp : p
    · rw [if_neg (fun q => bI_0.mp q hp), if_pos hp]
    · rw [if_pos (bI_0.mpr hp), if_neg hp]
  refine mr_put ?_
  rw [e]
  exact ⟨bI_nb, h⟩
/-- reason, detail, cause := w, m, 0 if p -/
def sR (ρ : yMS) (p : Prop) [Decidable p] (w m : Int32) : yMS := if p then sS (sS (sS ρ 7 w) 8 m) 9 0 else ρ
theorem M_refuse {p : Prop} [Decidable p] {w m : Int32} {K : Int32 → yMS → Prop} (h : K (bI p) (mr (sR ρ p w m) g)) : wpM_X3_refuse (mr ρ g) (bI p) w m K := by
  unfold wpM_X3_refuse
  refine ⟨fun q => ⟨bI_nb, ?_⟩, fun q => mr_put (mr_put (mr_put ⟨bI_nb, ?_⟩))⟩
  · have hp := bI_0.mp q
    unfold sR at h
    rw [if_neg hp] at h
    exact h
  · have hp : p := Classical.byContradiction fun z => q (bI_0.mpr z)
    unfold sR at h
    rw [if_pos hp] at h
    exact h
/-! hedges -/
def h1 (k : Nat) : Nat := if k < 6 then 3 * (k / 2) + k % 2 else k - 6
def h2 (k : Nat) : Nat := h1 k + (if k < 6 then 1 else 3)
theorem h1_lt {k : Nat} (h : k < 12) : h1 k < 9 := by unfold h1; split <;> omega
theorem h2_lt {k : Nat} (h : k < 12) : h2 k < 9 ∧ h1 k < h2 k := by unfold h2 h1; split <;> omega
theorem M_firstLawn {x : Int32} {k : Nat} {K : Int32 → yMS → Prop} (hx : x = nI k) (hk : k < 12) (h : K (nI (h1 k)) ρ) : wpM_X3_firstLawn ρ x K := by
  subst hx
  unfold wpM_X3_firstLawn
  unfold h1 at h
  refine ⟨fun q => ?_, fun q => ?_⟩
  · have q' : 6 ≤ k := (nI_leI (by omega) (by omega)).mp (show nI 6 ≤ nI k from q)
    rw [if_neg (by omega)] at h
    rw [show nI k - (6 : Int32) = nI (k - 6) from pk_sub q']
    exact h
  · have q' : k < 6 := by
      apply Classical.byContradiction
      intro z
      exact q (show nI 6 ≤ nI k from (nI_leI (by omega) (by omega)).mpr (by omega))
    rw [if_pos q'] at h
    rw [show nI k / (2 : Int32) = nI (k / 2) from pk_div (d := 2) (by omega) (by omega) (by omega), show nI k - nI (k / 2) * (2 : Int32) = nI (k % 2) by
      rw [show nI (k / 2) * (2 : Int32) = nI (k / 2 * 2) from pk_mul _ 2, pk_sub (by omega)]
      congr 1
      omega, show (3 : Int32) * nI (k / 2) = nI (3 * (k / 2)) from pk_mul 3 _, nI_add]
    exact h
theorem M_secondLawn {x : Int32} {k : Nat} {K : Int32 → yMS → Prop} (hx : x = nI k) (hk : k < 12) (h : K (nI (h2 k)) ρ) : wpM_X3_secondLawn ρ x K := by
  unfold wpM_X3_secondLawn
  refine M_firstLawn hx hk ?_
  subst hx
  have e : (if (6 : Int32) ≤ nI k then (3 : Int32) else 1) = nI (if k < 6 then 1 else 3) := by
    show (if nI 6 ≤ nI k then (3 : Int32) else 1) = _
    by_cases q : k < 6
    · rw [if_pos q, if_neg (fun z => absurd ((nI_leI (a := 6) (by omega) (by omega)).mp z) (by omega))]; rfl
    · rw [if_neg q, if_pos (show nI 6 ≤ nI k from (nI_leI (by omega) (by omega)).mpr (by omega))]; rfl
  rw [e, nI_add]
  exact h
theorem M_isBeside {x y : Int32} {k l : Nat} {K : Int32 → yMS → Prop} (hx : x = nI k) (hy : y = nI l) (hk : k < 12) (hl : l < 9) (h : K (bI (h1 k = l ∨ h2 k = l)) ρ) : wpM_X3_isBeside ρ x y K := by
  unfold wpM_X3_isBeside
  refine M_firstLawn hx hk ?_
  subst hy
  have a := h1_lt hk
  have b := (h2_lt hk).1
  refine ⟨fun q => ?_, fun q => M_secondLawn hx hk ?_⟩
  · have q' := (nI_eq (by omega) (by omega)).mp q
    unfold bI at h
    rw [if_pos (Or.inl q')] at h
    exact h
  · have q' : h1 k ≠ l := fun z => q ((nI_eq (by omega) (by omega)).mpr z)
    have e : (if nI (h2 k) = nI l then (1 : Int32) else 0) = bI (h1 k = l ∨ h2 k = l) := by
      unfold bI
      by_cases z : h2 k = l
      · rw [if_pos ((nI_eq (by omega) (by omega)).mpr z), if_pos (Or.inr z)]
      · rw [if_neg (fun w => z ((nI_eq (by omega) (by omega)).mp w)), if_neg (by omega)]
    rw [e]
    exact h
theorem M_across {x y : Int32} {k l : Nat} {K : Int32 → yMS → Prop} (hx : x = nI k) (hy : y = nI l) (hk : k < 12) (hl : l ≤ h1 k + h2 k) (h : K (nI (h1 k + h2 k - l)) ρ) : wpM_X3_across ρ x y K := by
  unfold wpM_X3_across
  refine M_firstLawn hx hk (M_secondLawn hx hk ?_)
  subst hy
  rw [nI_add, pk_sub hl]
  exact h
/-! birds, keepers, benches -/
theorem ix6 (k j : Nat) : (34 : Int32) + (6 : Int32) * nI k + nI j = nI (34 + 6 * k + j) := by
  show nI 34 + nI 6 * nI k + nI j = _
  rw [pk_mul, nI_add, nI_add]
theorem ix4 (k j : Nat) : (106 : Int32) + (4 : Int32) * nI k + nI j = nI (106 + 4 * k + j) := by
  show nI 106 + nI 4 * nI k + nI j = _
  rw [pk_mul, nI_add, nI_add]
theorem ix3 (k j : Nat) : (118 : Int32) + (3 : Int32) * nI k + nI j = nI (118 + 3 * k + j) := by
  show nI 118 + nI 3 * nI k + nI j = _
  rw [pk_mul, nI_add, nI_add]
theorem M_of {x y : Int32} {K : Int32 → yMS → Prop} (k j : Nat) (hx : x = nI k) (hy : y = nI j) (hk : k < 12) (hj : j < 6) (h : K (iI (g (34 + 6 * k + j))) (mr ρ g)) : wpM_X3_of (mr ρ g) x y K := by
  subst hx hy
  exact mr_ld (34 + 6 * k + j) (ix6 k j) (by omega) h
theorem M_put {x y v : Int32} {K : yMS → Prop} (k j : Nat) (z : Int) (hx : x = nI k) (hy : y = nI j) (hv : v = iI z) (hk : k < 12) (hj : j < 6) (h : K (mr ρ (st g (34 + 6 * k + j) z))) : wpM_X3_put (mr ρ g) x y v K := by
  subst hx hy
  exact mr_ast (34 + 6 * k + j) z (ix6 k j) hv (by omega) h
theorem M_ofKeeper {x y : Int32} {K : Int32 → yMS → Prop} (k j : Nat) (hx : x = nI k) (hy : y = nI j) (hk : k < 3) (hj : j < 4) (h : K (iI (g (106 + 4 * k + j))) (mr ρ g)) : wpM_X3_ofKeeper (mr ρ g) x y K := by
  subst hx hy
  exact mr_ld (106 + 4 * k + j) (ix4 k j) (by omega) h
theorem M_addKeeper {x y v : Int32} {K : yMS → Prop} (k j : Nat) (z : Int) (hx : x = nI k) (hy : y = nI j) (hv : v = iI z) (hk : k < 3) (hj : j < 4) (h : K (mr ρ (st g (106 + 4 * k + j) (g (106 + 4 * k + j) + z)))) : wpM_X3_addKeeper (mr ρ g) x y v K := by
  subst hx hy hv
  exact mr_ld (106 + 4 * k + j) (ix4 k j) (by omega) (mr_ast (106 + 4 * k + j) _ (ix4 k j) (iI_add _ _) (by omega) h)
theorem M_ofBench {x y : Int32} {K : Int32 → yMS → Prop} (k j : Nat) (hx : x = nI k) (hy : y = nI j) (hk : k < 4) (hj : j < 3) (h : K (iI (g (118 + 3 * k + j))) (mr ρ g)) : wpM_X3_ofBench (mr ρ g) x y K := by
  subst hx hy
  exact mr_ld (118 + 3 * k + j) (ix3 k j) (by omega) h
theorem iI_eqb {a b : Int} {x y : Int32} (hx : x = iI a) (hy : y = iI b) (ha : sm a) (hb : sm b) : (if x = y then (1 : Int32) else 0) = bI (a = b) := by
  subst hx hy
  unfold bI
  by_cases h : a = b
  · rw [if_pos ((iI_eq ha hb).mpr h), if_pos h]
  · rw [if_neg (fun q => h ((iI_eq ha hb).mp q)), if_neg h]
theorem iI_leb {a b : Int} {x y : Int32} (hx : x = iI a) (hy : y = iI b) (ha : sm a) (hb : sm b) : (if x ≤ y then (0 : Int32) else 1) = bI (b < a) := by
  subst hx hy
  unfold bI
  by_cases h : a ≤ b
  · rw [if_pos ((iI_le ha hb).mpr h), if_neg (by omega)]
  · rw [if_neg (fun q => h ((iI_le ha hb).mp q)), if_pos (by omega)]
theorem M_isHen {x : Int32} {K : Int32 → yMS → Prop} (k : Nat) (hx : x = nI k) (hk : k < 12) (hs : sm (g (34 + 6 * k + 0))) (h : K (bI (g (34 + 6 * k + 0) = 1)) (mr ρ g)) : wpM_X3_isHen (mr ρ g) x K := by
  refine M_of k 0 hx rfl hk (by omega) ?_
  rw [show (if iI (g (34 + 6 * k + 0)) = (1 : Int32) then (1 : Int32) else 0) = bI (g (34 + 6 * k + 0) = 1) from iI_eqb rfl rfl hs (b := 1) ⟨by omega, by omega⟩]
  exact h
theorem M_hasEggs {x : Int32} {K : Int32 → yMS → Prop} (k : Nat) (hx : x = nI k) (hk : k < 12) (hs : sm (g (34 + 6 * k + 0))) (hs2 : sm (g (34 + 6 * k + 2))) (h : K (bI (g (34 + 6 * k + 0) = 1 ∧ 0 < g (34 + 6 * k + 2))) (mr ρ g)) : wpM_X3_hasEggs (mr ρ g) x K := by
  refine M_isHen k hx hk hs ⟨fun q => ?_, fun q => M_of k 2 hx rfl hk (by omega) ?_⟩
  · have q' := bI_0.mp q
    unfold bI at h
    rw [if_neg (fun z => q' z.1)] at h
    exact h
  · have q' : g (34 + 6 * k + 0) = 1 := Classical.byContradiction fun z => q (bI_0.mpr z)
    rw [show (if iI (g (34 + 6 * k + 2)) ≤ (0 : Int32) then (0 : Int32) else 1) = bI (0 < g (34 + 6 * k + 2)) from iI_leb rfl rfl hs2 (b := 0) ⟨by omega, by omega⟩, bI_congr (q := g (34 + 6 * k + 0) = 1 ∧ 0 < g (34 + 6 * k + 2)) ⟨fun z => ⟨q', z⟩, fun z => z.2⟩]
    exact h
theorem M_isBird {x : Int32} {z : Int} {K : Int32 → yMS → Prop} (hx : x = iI z) (sz : sm z) (hb : 0 ≤ g 10 ∧ g 10 ≤ 12) (h : K (bI (0 ≤ z ∧ z < g 10)) (mr ρ g)) : wpM_X3_isBird (mr ρ g) x K := by
  refine mr_ld 10 rfl (by omega) (M_isBetween (lo := 0) (hi := g 10 - 1) hx rfl (iI_sub _ 1) sz ⟨by omega, by omega⟩ ⟨by omega, by omega⟩ ?_)
  rw [bI_congr (p := 0 ≤ z ∧ z ≤ g 10 - 1) (q := 0 ≤ z ∧ z < g 10) (by omega)]
  exact ⟨bI_nb, h⟩
theorem M_isKeeper {x : Int32} {z : Int} {K : Int32 → yMS → Prop} (hx : x = iI z) (sz : sm z) (hb : 0 ≤ g 11 ∧ g 11 ≤ 3) (h : K (bI (0 ≤ z ∧ z < g 11)) (mr ρ g)) : wpM_X3_isKeeper (mr ρ g) x K := by
  refine mr_ld 11 rfl (by omega) (M_isBetween (lo := 0) (hi := g 11 - 1) hx rfl (iI_sub _ 1) sz ⟨by omega, by omega⟩ ⟨by omega, by omega⟩ ?_)
  rw [bI_congr (p := 0 ≤ z ∧ z ≤ g 11 - 1) (q := 0 ≤ z ∧ z < g 11) (by omega)]
  exact ⟨bI_nb, h⟩
theorem M_isBench {x : Int32} {z : Int} {K : Int32 → yMS → Prop} (hx : x = iI z) (sz : sm z) (hb : 0 ≤ g 12 ∧ g 12 ≤ 4) (h : K (bI (0 ≤ z ∧ z < g 12)) (mr ρ g)) : wpM_X3_isBench (mr ρ g) x K := by
  refine mr_ld 12 rfl (by omega) (M_isBetween (lo := 0) (hi := g 12 - 1) hx rfl (iI_sub _ 1) sz ⟨by omega, by omega⟩ ⟨by omega, by omega⟩ ?_)
  rw [bI_congr (p := 0 ≤ z ∧ z ≤ g 12 - 1) (q := 0 ≤ z ∧ z < g 12) (by omega)]
  exact ⟨bI_nb, h⟩
theorem M_month {K : Int32 → yMS → Prop} (h0 : 0 ≤ g 0) (h1 : g 0 < 2147483648) (h : K (iI (g 0 / 30 % 12)) (mr ρ g)) : wpM_X3_month (mr ρ g) K := by
  refine mr_ld 0 rfl (by omega) ?_
  rw [show iI (g 0) / (30 : Int32) = iI (g 0 / 30) from iI_div (d := 30) h0 h1 (by omega) (by omega), show iI (g 0 / 30) - iI (g 0 / 30) / (12 : Int32) * (12 : Int32) = iI (g 0 / 30 % 12) from iI_rem (d := 12) (by omega) (by omega) (by omega) (by omega)]
  exact h
/-! copies of rows -/
/-- the row i into the row j -/
def cpR (ρ : yMS) (i j : Nat) : yMS := (ρ.1, fun q => if q = j then (fun k => if k < 130 then ρ.2 i k else ρ.2 j k) else ρ.2 q)
theorem M_copyRow {i j : Nat} {K : yMS → Prop} (hi : 1 ≤ i ∧ i ≤ 12) (hj : 1 ≤ j ∧ j ≤ 12) (hij : i ≠ j) (h : K (cpR ρ i j)) : wpM_X3_copyRow ρ i j K := by
  unfold wpM_X3_copyRow wpM_X3_copyRow_2
  let sq : Nat → yMS := fun k => (ρ.1, fun q => if q = j then (fun m => if m < k then ρ.2 i m else ρ.2 j m) else ρ.2 q)
  have e0 : sq 0 = ρ := by
    show ((ρ.1, _) : yMS) = ρ
    have : (fun q => if q = j then (fun m => if m < 0 then ρ.2 i m else ρ.2 j m) else ρ.2 q) = ρ.2 := by
      funext q
      by_cases hq : q = j
      · rw [if_pos hq, hq]; funext m; rw [if_neg (by omega)]
      · rw [if_neg hq]
    rw [this]
  have hl : mlen i = 130 ∧ mlen j = 130 := by unfold mlen; rw [if_pos hi.2, if_pos hj.2]; exact ⟨rfl, rfl⟩
  have key := lp_up (F := fun r (s : Nat × Nat × Int32 × yMS) => stM_X3_copyRow_2 K (fun l0 l1 l2 ρ => r (l0, l1, l2, ρ)) s.1 s.2.1 s.2.2.1 s.2.2.2) 130 (fun k => (i, j, nI k, sq k)) (by
    intro k hk r hr
    refine ⟨fun q => absurd q (nI_ge (b := 130) hk (by omega)), fun _ => ⟨⟨hi.1, Nat.le_trans hi.2 (by decide)⟩, by rw [hl.1]; exact vp_in_nI hk (by omega), ⟨hj.1, Nat.le_trans hj.2 (by decide)⟩, by rw [hl.2]; exact vp_in_nI hk (by omega), ?_⟩⟩
    have e : sA (sq k) j (nI k).toNatClampNeg ((sq k).2 i (nI k).toNatClampNeg) = sq (k + 1) := by
      rw [nI_clamp (by omega)]
      show ((ρ.1, fun q => if q = j then upd ((sq k).2 j) k ((sq k).2 i k) else (sq k).2 q) : yMS) = (ρ.1, _)
      congr 1
      funext q
      by_cases hq : q = j
      · rw [if_pos hq, if_pos hq]
        funext m
        show (if m = k then (if i = j then _ else ρ.2 i) k else (if j = j then _ else ρ.2 j) m) = _
        rw [if_neg hij, if_pos rfl]
        by_cases hm : m = k
        · rw [if_pos hm, if_pos (by omega), hm]
        · rw [if_neg hm]
          by_cases h2 : m < k
          · rw [if_pos h2, if_pos (by omega)]
          · rw [if_neg h2, if_neg (by omega)]
      · rw [if_neg hq, if_neg hq]
        show (if q = j then _ else ρ.2 q) = _
        rw [if_neg hq]
    rw [e, nI_1]
    exact hr) (by
    intro r
    exact ⟨fun _ => h, fun q => absurd (show (130 : Int32) ≤ nI 130 from by decide) q⟩)
  have e1 : (i, j, (0 : Int32), ρ) = (i, j, nI 0, sq 0) := by rw [e0]; rfl
  rw [e1]
  exact key
end ML
