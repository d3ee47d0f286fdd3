/-! THE MODEL's LAW: a day, third part: hens sit, chicks hatch -/
set_option maxRecDepth 100000
section RI
variable {B : Int} {g : yG} {ρ : yMS}
theorem addB_b (g : yG) (hen lawn many more mother : Int) {k : Nat} (hk : (g 10).toNat = k) (hk2 : k < 12) (j : Nat) (hj : j < 6) : addB g hen lawn many more mother (34 + 6 * k + j) = (if j = 0 then hen else if j = 1 then lawn else if j = 2 then many else if j = 3 then more else if j = 4 then mother else 0) := by
  unfold addB
  simp only [hk]
  rcases (show j = 0 ∨ j = 1 ∨ j = 2 ∨ j = 3 ∨ j = 4 ∨ j = 5 by omega) with rfl | rfl | rfl | rfl | rfl | rfl
  · rw [st_n (by omega), st_n (by omega), st_n (by omega), st_n (by omega), st_n (by omega), st_s]; rfl
  · rw [st_n (by omega), st_n (by omega), st_n (by omega), st_n (by omega), st_s]; rfl
  · rw [st_n (by omega), st_n (by omega), st_n (by omega), st_s]; rfl
  · rw [st_n (by omega), st_n (by omega), st_s]; rfl
  · rw [st_n (by omega), st_s]; rfl
  · rw [st_s]; rfl
theorem addB_n (g : yG) (hen lawn many more mother : Int) {k : Nat} (hk : (g 10).toNat = k) {i : Nat} (h10 : i ≠ 10) (hi : i < 34 + 6 * k ∨ 34 + 6 * k + 6 ≤ i) : addB g hen lawn many more mother i = g i := by
  unfold addB
  simp only [hk]
  rw [st_n (by omega), st_n (by omega), st_n (by omega), st_n (by omega), st_n (by omega), st_n (by omega), st_n h10]
theorem addB_10 (g : yG) (hen lawn many more mother : Int) : addB g hen lawn many more mother 10 = g 10 + 1 := by
  unfold addB
  try simp only
  rw [st_n (by omega), st_n (by omega), st_n (by omega), st_n (by omega), st_n (by omega), st_n (by omega), st_s]
theorem addB_RI (h : RI B g) {hen lawn many more mother : Int} (hB : 0 ≤ B) (h10 : g 10 < 12) (a0 : 0 ≤ hen ∧ hen ≤ 1) (a1 : 0 ≤ lawn ∧ lawn ≤ 8) (a2 : 0 ≤ many ∧ many ≤ 150) (a3 : 0 ≤ more ∧ more ≤ 28) (a4 : -1 ≤ mother ∧ mother < g 10) (ah : hen = 1 → many ≤ 6 ∧ more ≤ 27) : RI B (addB g hen lawn many more mother) := by
  have hnb := h.1.nb
  obtain ⟨k, hk⟩ : ∃ k, (g 10).toNat = k := ⟨_, rfl⟩
  have hkI : g 10 = (k : Int) := by omega
  have hk2 : k < 12 := by omega
  refine ⟨fun i hi => ?_, fun k' hk' q => ?_, fun k' hk' q => ?_⟩
  · by_cases e10 : i = 10
    · subst e10
      rw [addB_10]
      exact ⟨by rw [lo_0 (by omega)]; omega, by show _ ≤ (12 : Int); omega⟩
    · by_cases e : i < 34 + 6 * k ∨ 34 + 6 * k + 6 ≤ i
      · rw [addB_n g _ _ _ _ _ hk e10 e]; exact h.1 i hi
      · obtain ⟨j, hj, rfl⟩ : ∃ j, j < 6 ∧ i = 34 + 6 * k + j := ⟨i - (34 + 6 * k), by omega, by omega⟩
        rw [addB_b g _ _ _ _ _ hk hk2 j hj, hi_b B k j hk2 hj]
        rcases (show j = 0 ∨ j = 1 ∨ j = 2 ∨ j = 3 ∨ j = 4 ∨ j = 5 by omega) with rfl | rfl | rfl | rfl | rfl | rfl
        · exact ⟨by rw [lo_b k 0 hk2 (by omega) (by omega)]; exact a0.1, a0.2⟩
        · exact ⟨by rw [lo_b k 1 hk2 (by omega) (by omega)]; exact a1.1, a1.2⟩
        · exact ⟨by rw [lo_b k 2 hk2 (by omega) (by omega)]; exact a2.1, a2.2⟩
        · exact ⟨by rw [lo_b k 3 hk2 (by omega) (by omega)]; exact a3.1, a3.2⟩
        · exact ⟨by rw [lo_b4 k hk2]; exact a4.1, by show mother ≤ (11 : Int); omega⟩
        · exact ⟨by rw [lo_b k 5 hk2 (by omega) (by omega)]; exact Int.le_refl _, hB⟩
  · by_cases e : k' = k
    · subst e
      rw [addB_b g _ _ _ _ _ hk hk2 0 (by omega)] at q
      rw [addB_b g _ _ _ _ _ hk hk2 2 (by omega), addB_b g _ _ _ _ _ hk hk2 3 (by omega)]
      exact ah q
    · rw [addB_n g _ _ _ _ _ hk (by omega) (by omega)] at q
      rw [addB_n g _ _ _ _ _ hk (by omega) (by omega), addB_n g _ _ _ _ _ hk (by omega) (by omega)]
      exact h.2.1 k' hk' q
  · rw [addB_10] at q
    by_cases e : k' = k
    · subst e
      rw [addB_b g _ _ _ _ _ hk hk2 4 (by omega)]
      show mother < (k' : Int)
      omega
    · rw [addB_n g _ _ _ _ _ hk (by omega) (by omega)]
      exact h.2.2 k' hk' (by omega)
theorem M_addBird {x1 x2 x3 x4 x5 : Int32} {hen lawn many more mother : Int} {K : Int32 → yMS → Prop} (e1 : x1 = iI hen) (e2 : x2 = iI lawn) (e3 : x3 = iI many) (e4 : x4 = iI more) (e5 : x5 = iI mother) (h0 : 0 ≤ g 10) (h1 : g 10 < 12) (h : K (iI (g 10)) (mr ρ (addB g hen lawn many more mother))) : wpM_X3_addBird (mr ρ g) x1 x2 x3 x4 x5 K := by
  have hk : (g 10).toNat < 12 := by omega
  unfold wpM_X3_addBird
  unfold addB at h
  try simp only at h
  exact mr_ld 10 rfl (by omega) (mr_ld 10 rfl (by omega) (mr_ast 10 _ rfl (iI_add _ 1) (by omega) (M_put _ 0 _ (iI_nat h0) rfl e1 hk (by omega) (M_put _ 1 _ (iI_nat h0) rfl e2 hk (by omega) (M_put _ 2 _ (iI_nat h0) rfl e3 hk (by omega) (M_put _ 3 _ (iI_nat h0) rfl e4 hk (by omega) (M_put _ 4 _ (iI_nat h0) rfl e5 hk (by omega) (M_put _ 5 0 (iI_nat h0) rfl rfl hk (by omega) h))))))))
/-! chicks -/
theorem haS_10 (h : Nat) (g : yG) (i : Nat) : haS h g i 10 = g 10 + 1 := by
  unfold haS
  try simp only
  rw [st_n (by omega), addB_10]
theorem haS_RI (hI : RI B g) {h : Nat} (hB : 0 ≤ B) (hh : (h : Int) < g 10) (h10 : g 10 < 12) (i : Nat) : RI (B + 1) (haS h g i) := by
  have hnb := hI.1.nb
  have a1 := hI.1.b1 h (by omega)
  have a7 := hI.1.s 7 (by omega) (by omega)
  have i1 := addB_RI (hen := if g 10 % 2 = 0 then 0 else 1) (lawn := g (34 + 6 * h + 1)) (many := 0) (more := if g 10 % 2 = 0 then 1 else 0) (mother := h) (hI.mono (C := B + 1) (by omega)) (by omega) h10 (by split <;> omega) a1 ⟨by omega, by omega⟩ (by split <;> omega) ⟨by omega, by omega⟩ (fun q => ⟨by omega, by split <;> omega⟩)
  unfold haS
  try simp only
  have e7 : addB g (if g 10 % 2 = 0 then 0 else 1) (g (34 + 6 * h + 1)) 0 (if g 10 % 2 = 0 then 1 else 0) h 7 = g 7 := addB_n g _ _ _ _ _ rfl (by omega) (by omega)
  rw [e7]
  exact i1.neu 7 (neu_lt (by omega) (by omega)) (by rw [lo_0 (by omega)]; omega) (by rw [hi_s _ 7 (by omega) (by omega)]; omega)
theorem haS_o (g : yG) (h : Nat) (j : Nat) {i : Nat} (hi : i = 0 ∨ i = 11 ∨ i = 12 ∨ (34 ≤ i ∧ (i : Int) < 34 + 6 * g 10)) (h0 : 0 ≤ g 10) : haS h g j i = g i := by
  unfold haS
  try simp only
  rw [st_n (by omega)]
  exact addB_n g _ _ _ _ _ rfl (by omega) (by omega)
theorem haN_in (g : yG) (h : Nat) (h0 : 0 ≤ g (34 + 6 * h + 2)) (hb : 0 ≤ g 10 ∧ g 10 ≤ 12) : (haN g h : Int) ≤ g (34 + 6 * h + 2) ∧ (haN g h : Int) ≤ 12 - g 10 ∧ ((haN g h : Int) = g (34 + 6 * h + 2) ∨ (haN g h : Int) = 12 - g 10) := by
  unfold haN
  split <;> omega
theorem haI (hI : RI B g) {h : Nat} (hB : 0 ≤ B) (hh : (h : Int) < g 10) {n : Nat} (hn : (n : Int) ≤ 12 - g 10) : ∀ i, i ≤ n → RI (B + i) (itN (haS h) g i) ∧ itN (haS h) g i 10 = g 10 + i ∧ ∀ j : Nat, (j = 0 ∨ j = 11 ∨ j = 12 ∨ (34 ≤ j ∧ (j : Int) < 34 + 6 * g 10)) → itN (haS h) g i j = g j := by
  have hnb := hI.1.nb
  refine itN_inv (g := g) (N := n) (P := fun i g' => RI (B + i) g' ∧ g' 10 = g 10 + i ∧ ∀ j : Nat, (j = 0 ∨ j = 11 ∨ j = 12 ∨ (34 ≤ j ∧ (j : Int) < 34 + 6 * g 10)) → g' j = g j) ⟨by simpa using hI, by simp, fun _ _ => rfl⟩ (fun i hi g' h' => ?_)
  obtain ⟨q1, q2, q3⟩ := h'
  refine ⟨(haS_RI q1 (by omega) (by omega) (by omega) i).mono (by omega), by rw [haS_10, q2]; omega, fun j hj => ?_⟩
  rw [haS_o g' h i (by omega) (by omega)]
  exact q3 j hj
theorem fHatch_RI (hI : RI B g) {h : Nat} (hB : 0 ≤ B) (hh : (h : Int) < g 10) : RI (B + 12) (fHatch g h) := by
  have hnb := hI.1.nb
  have hk : h < 12 := by omega
  have hn := haN_in g h (hI.1.b2 h hk).1 hnb
  obtain ⟨q1, q2, q3⟩ := haI hI hB hh hn.2.1 (haN g h) (Nat.le_refl _)
  unfold fHatch
  refine RI.b23 (RI.b23 (q1.mono (by omega)) h 2 hk (Or.inl rfl) (by omega) ?_ (fun _ => ⟨fun _ => by omega, fun z => by omega⟩)) h 3 hk (Or.inr rfl) (by omega) ?_ (fun _ => ⟨fun z => by omega, fun _ => by omega⟩)
  · rw [hi_b _ h 2 hk (by omega)]; show (0 : Int) ≤ 150; omega
  · rw [hi_b _ h 3 hk (by omega)]; show (0 : Int) ≤ 28; omega
end RI
theorem st_comm {g : yG} {i j : Nat} {v w : Int} (h : i ≠ j) : st (st g i v) j w = st (st g j w) i v := by
  funext q
  unfold st
  by_cases h1 : q = j
  · rw [if_pos h1, if_neg (by omega), if_pos h1]
  · rw [if_neg h1]
    by_cases h2 : q = i
    · rw [if_pos h2, if_pos h2]
    · rw [if_neg h2, if_neg h2, if_neg h1]
theorem st_st {g : yG} {i : Nat} {v w : Int} : st (st g i v) i w = st g i w := by
  funext q
  unfold st
  by_cases h : q = i
  · rw [if_pos h, if_pos h]
  · rw [if_neg h, if_neg h, if_neg h]
theorem haS_st (g : yG) (h j : Nat) (v : Int) (hh : (h : Int) < g 10) : haS h (st g (34 + 6 * h + 3) v) j = st (haS h g j) (34 + 6 * h + 3) v := by
  unfold haS addB
  have e10 : st g (34 + 6 * h + 3) v 10 = g 10 := st_n (by omega)
  have e1 : st g (34 + 6 * h + 3) v (34 + 6 * h + 1) = g (34 + 6 * h + 1) := st_n (by omega)
  simp only [e10, e1]
  obtain ⟨k, hk⟩ : ∃ k, (g 10).toNat = k := ⟨_, rfl⟩
  simp only [hk]
  have hne : k ≠ h := by omega
  have q : ∀ (f : yG) (i : Nat) (w : Int), i ≠ 34 + 6 * h + 3 → st (st f (34 + 6 * h + 3) v) i w = st (st f i w) (34 + 6 * h + 3) v := fun f i w hi => st_comm (Ne.symm hi)
  rw [q _ 10 _ (by omega), q _ (34 + 6 * k + 0) _ (by omega), q _ (34 + 6 * k + 1) _ (by omega), q _ (34 + 6 * k + 2) _ (by omega), q _ (34 + 6 * k + 3) _ (by omega), q _ (34 + 6 * k + 4) _ (by omega), q _ (34 + 6 * k + 5) _ (by omega), st_n (i := 34 + 6 * h + 3) (j := 7) (by omega), q _ 7 _ (by omega)]
theorem haN_st (g : yG) (h : Nat) (v : Int) : haN (st g (34 + 6 * h + 3) v) h = haN g h := by
  unfold haN
  rw [st_n (by omega), st_n (by omega)]
theorem fHatch_st (g : yG) (h : Nat) (v : Int) (hh : (h : Int) < g 10) : fHatch (st g (34 + 6 * h + 3) v) h = fHatch g h := by
  unfold fHatch
  rw [haN_st]
  have e : ∀ n, itN (haS h) (st g (34 + 6 * h + 3) v) n = st (itN (haS h) g n) (34 + 6 * h + 3) v ∧ g 10 ≤ itN (haS h) g n 10 := by
    intro n
    induction n with
    | zero => exact ⟨rfl, Int.le_refl _⟩
    | succ n ih =>
      refine ⟨?_, ?_⟩
      · show haS h (itN (haS h) (st g _ v) n) n = st (haS h (itN (haS h) g n) n) _ v
        rw [ih.1, haS_st _ _ _ _ (by omega)]
      · show g 10 ≤ haS h (itN (haS h) g n) n 10
        rw [haS_10]; omega
  rw [(e _).1, st_comm (i := 34 + 6 * h + 3) (j := 34 + 6 * h + 2) (by omega), st_st]
section RI
variable {B : Int} {g : yG} {ρ : yMS}
theorem par (z : Int) (h0 : 0 ≤ z) (h1 : z < 2147483648) : (if iI z - iI z / (2 : Int32) * (2 : Int32) = 0 then (1 : Int32) else 0) = bI (z % 2 = 0) := by
  rw [show iI z - iI z / (2 : Int32) * (2 : Int32) = iI (z % 2) from iI_rem (d := 2) h0 h1 (by omega) (by omega)]
  exact iI_eqb rfl rfl ⟨by omega, by omega⟩ (b := 0) ⟨by omega, by omega⟩
theorem M_hatch_19 {h : Nat} {v : Int} {K : yMS → Prop} (hI : RI B g) (hB : 0 ≤ B) (hh : (h : Int) < g 10) (hK : K (mr ρ (fHatch g h))) : wpM_X3_hatch_19 (nI h) (iI (g (34 + 6 * h + 2))) (mr ρ (st g (34 + 6 * h + 3) v)) K := by
  have hnb := hI.1.nb
  have hk : h < 12 := by omega
  have a2 := hI.1.b2 h hk
  have hn := haN_in g h a2.1 hnb
  unfold wpM_X3_hatch_19
  have e0 : iI (g (34 + 6 * h + 2)) = iI (g (34 + 6 * h + 2) - (0 : Nat)) := by simp
  rw [e0]
  have fin : wpM_X3_put (mr ρ (st (itN (haS h) g (haN g h)) (34 + 6 * h + 3) v)) (nI h) 2 0 (fun ρ4 => wpM_X3_put ρ4 (nI h) 3 0 (fun ρ5 => K ρ5)) := M_put h 2 0 rfl rfl rfl hk (by omega) (M_put h 3 0 rfl rfl rfl hk (by omega) (by
    rw [st_comm (i := 34 + 6 * h + 3) (j := 34 + 6 * h + 2) (by omega), st_st]
    exact hK))
  refine lp_up (F := fun r (s : Int32 × Int32 × yMS) => stM_X3_hatch_19 K (fun l1 l2 ρ => r (l1, l2, ρ)) s.1 s.2.1 s.2.2) (haN g h) (fun i => (nI h, iI (g (34 + 6 * h + 2) - (i : Nat)), mr ρ (st (itN (haS h) g i) (34 + 6 * h + 3) v))) (fun i hi r hr => ?_) (fun r => ?_)
  · obtain ⟨q1, q2, q3⟩ := haI hI hB hh hn.2.1 i (by omega)
    have hr : r (nI h, iI (g (34 + 6 * h + 2) - (i : Nat)) + (-1), mr ρ (haS h (st (itN (haS h) g i) (34 + 6 * h + 3) v) i)) := by
      rw [show iI (g (34 + 6 * h + 2) - (i : Nat)) + (-1) = iI (g (34 + 6 * h + 2) - ((i + 1 : Nat) : Int)) by
        rw [show (-1 : Int32) = iI (-1) from rfl, iI_add]; congr 1; omega, haS_st _ _ _ _ (by omega)]
      exact hr
    have f10 : st (itN (haS h) g i) (34 + 6 * h + 3) v 10 = itN (haS h) g i 10 := st_n (by omega)
    have f1 : st (itN (haS h) g i) (34 + 6 * h + 3) v (34 + 6 * h + 1) = itN (haS h) g i (34 + 6 * h + 1) := st_n (by omega)
    have a1 := q1.1.b1 h hk
    rw [q2] at f10
    generalize st (itN (haS h) g i) (34 + 6 * h + 3) v = gi at f10 f1 hr ⊢
    refine ⟨fun q => absurd ((iI_le (b := 0) ⟨by omega, by omega⟩ ⟨by omega, by omega⟩).mp q) (by omega), fun _ => mr_ld 10 rfl (by omega) ⟨fun q => absurd ((iI_le (a := 12) ⟨by omega, by omega⟩ ⟨by omega, by omega⟩).mp q) (by omega), fun _ => mr_ld 10 rfl (by omega) (M_of h 1 rfl rfl hk (by omega) (M_addBird (hen := if gi 10 % 2 = 0 then 0 else 1) (more := if gi 10 % 2 = 0 then 1 else 0) (many := 0) (mother := h) ?_ rfl rfl ?_ (nI_iI h) (by omega) (by omega) ?_))⟩⟩
    · rw [par _ (by omega) (by omega)]
      unfold bI
      by_cases z : gi 10 % 2 = 0
      · rw [if_pos z, if_pos z]; rfl
      · rw [if_neg z, if_neg z]; rfl
    · rw [par _ (by omega) (by omega)]
      unfold bI
      by_cases z : gi 10 % 2 = 0
      · rw [if_pos z, if_pos z]; rfl
      · rw [if_neg z, if_neg z]; rfl
    · exact mr_ld 7 rfl (by omega) (mr_ast 7 _ rfl (iI_add _ 1) (by omega) hr)
  · obtain ⟨q1, q2, q3⟩ := haI hI hB hh hn.2.1 (haN g h) (Nat.le_refl _)
    refine ⟨fun _ => fin, fun q => mr_ld 10 rfl (by omega) ⟨fun _ => fin, fun q2' => ?_⟩⟩
    exfalso
    have f10 : st (itN (haS h) g (haN g h)) (34 + 6 * h + 3) v 10 = itN (haS h) g (haN g h) 10 := st_n (by omega)
    have b1 : ¬ g (34 + 6 * h + 2) - ((haN g h : Nat) : Int) ≤ 0 := fun z => q ((iI_le (b := 0) ⟨by omega, by omega⟩ ⟨by omega, by omega⟩).mpr z)
    have b2 : ¬ 12 ≤ st (itN (haS h) g (haN g h)) (34 + 6 * h + 3) v 10 := fun z => q2' ((iI_le (a := 12) ⟨by omega, by omega⟩ ⟨by omega, by omega⟩).mpr z)
    omega
end RI
