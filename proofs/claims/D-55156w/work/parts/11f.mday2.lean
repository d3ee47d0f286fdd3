/-! THE MODEL's LAW: a day, second part -/
set_option maxRecDepth 100000
section RI
variable {B : Int} {g : yG} {ρ : yMS}
/-! the birds go -/
theorem gol_in (h : RB B g) {k : Nat} (hk : k < 12) : 0 ≤ gol g k ∧ gol g k ≤ 8 := by
  unfold gol
  have a := h.b1 k hk
  have := go_lt (g := g) (l := (g (34 + 6 * k + 1)).toNat) (most := 6) (by omega)
  split <;> omega
theorem mvS_RI (h : RI B g) {k : Nat} (hk : k < 12) : RI B (mvS g k) := by
  unfold mvS
  have a := gol_in h.1 hk
  exact h.neu _ (neu_1 k) (by rw [lo_b k 1 hk (by omega) (by omega)]; omega) (by rw [hi_b _ k 1 hk (by omega)]; show _ ≤ (8 : Int); omega)
theorem mvN_o (g : yG) {i : Nat} (h : i < 34 ∨ 106 ≤ i) : ∀ n, n ≤ 12 → itN mvS g n i = g i :=
  itN_inv (g := g) (P := fun _ g' => g' i = g i) rfl (fun k hk g' h' => by unfold mvS; rw [st_n (by omega)]; exact h')
theorem mvN_RI (h : RI B g) {n : Nat} (hn : n ≤ 12) : RI B (itN mvS g n) :=
  itN_inv (N := 12) (P := fun _ g => RI B g) h (fun i hi g' h' => mvS_RI h' hi) n hn
theorem fMove_RI (h : RI B g) : RI B (fMove g) := by
  have := h.1.nb
  exact mvN_RI h (by omega)
theorem fMove_o (h : RI B g) {i : Nat} (hi : i < 34 ∨ 106 ≤ i) : fMove g i = g i := by
  have := h.1.nb
  exact mvN_o g hi _ (by omega)
theorem M_move {K : yMS → Prop} (hB : RI B g) (h : wpM_X3_goDay_50 0 (mr ρ (fMove g)) K) : wpM_X3_goDay_20 0 (mr ρ g) K := by
  unfold wpM_X3_goDay_20
  have hnb := hB.1.nb
  refine lp_up (F := fun r (s : Int32 × yMS) => stM_X3_goDay_20 K (fun l1 ρ => r (l1, ρ)) s.1 s.2) (g 10).toNat (fun i => (nI i, mr ρ (itN mvS g i))) (fun i hi r hr => ?_) (fun r => ?_)
  · have hk : i < 12 := by omega
    have hI := mvN_RI hB (n := i) (by omega)
    have h10 : itN mvS g i 10 = g 10 := mvN_o g (by omega) i (by omega)
    have hr : r (nI i + 1, mr ρ (mvS (itN mvS g i) i)) := by rw [nI_1]; exact hr
    generalize itN mvS g i = gi at hI h10 hr
    refine mr_ld 10 rfl (by omega) ⟨fun q => absurd q ?_, fun _ => M_goal i rfl hk (hI.1.sm0 i hk) (hI.1.sm2 i hk) (hI.1.b1 i hk) hI.1.smh (M_put i 1 _ rfl rfl rfl hk (by omega) hr)⟩
    rw [h10, iI_nat hnb.1]
    exact nI_ge (by omega) (by omega)
  · have h10 : itN mvS g (g 10).toNat 10 = g 10 := mvN_o g (by omega) _ (by omega)
    refine mr_ld 10 rfl (by omega) ⟨fun _ => h, fun q => absurd ?_ q⟩
    rw [h10, iI_nat hnb.1]
    exact Int32.le_refl _
/-! visitors take feathers -/
theorem viS_RI (h : RI B g) {k : Nat} (hk : k < 4) : RI (B + 6) (viS g k) := by
  unfold viS
  have a0 := h.1.n k 0 hk (by omega)
  rw [if_pos rfl] at a0
  have a1 := h.1.n k 1 hk (by omega)
  rw [if_neg (by omega), if_pos rfl] at a1
  have al := h.1.l (g (118 + 3 * k + 0)).toNat (by omega)
  have a4 := h.1.s 4 (by omega) (by omega)
  have hv : 0 ≤ (if g (13 + (g (118 + 3 * k + 0)).toNat) ≤ g (118 + 3 * k + 1) then g (13 + (g (118 + 3 * k + 0)).toNat) else g (118 + 3 * k + 1)) ∧ (if g (13 + (g (118 + 3 * k + 0)).toNat) ≤ g (118 + 3 * k + 1) then g (13 + (g (118 + 3 * k + 0)).toNat) else g (118 + 3 * k + 1)) ≤ 6 ∧ (if g (13 + (g (118 + 3 * k + 0)).toNat) ≤ g (118 + 3 * k + 1) then g (13 + (g (118 + 3 * k + 0)).toNat) else g (118 + 3 * k + 1)) ≤ g (13 + (g (118 + 3 * k + 0)).toNat) := by
    split <;> omega
  try simp only
  generalize (if g (13 + (g (118 + 3 * k + 0)).toNat) ≤ g (118 + 3 * k + 1) then g (13 + (g (118 + 3 * k + 0)).toNat) else g (118 + 3 * k + 1)) = v at hv
  have e4 : st g (13 + (g (118 + 3 * k + 0)).toNat) (g (13 + (g (118 + 3 * k + 0)).toNat) - v) 4 = g 4 := st_n (by omega)
  rw [e4]
  refine RI.neu (RI.neu (RI.neu (h.mono (by omega)) _ (neu_lt (by omega) (by omega)) ?_ ?_) 4 (neu_lt (by omega) (by omega)) ?_ ?_) _ (neu_ge (by omega)) ?_ ?_
  · rw [lo_0 (by omega)]; omega
  · rw [hi_l _ _ (by omega)]; omega
  · rw [lo_0 (by omega)]; omega
  · rw [hi_s _ 4 (by omega) (by omega)]; omega
  · rw [lo_0 (by omega)]; omega
  · rw [hi_n _ k 1 hk (by omega)]; show (0 : Int) ≤ 6; omega
theorem viS_o (h : RI B g) {k : Nat} (hk : k < 4) {i : Nat} (hi : i = 0 ∨ i = 10 ∨ i = 11 ∨ i = 12) : viS g k i = g i := by
  have a0 := h.1.n k 0 hk (by omega)
  rw [if_pos rfl] at a0
  unfold viS
  try simp only
  rw [st_n (by omega), st_n (by omega), st_n (by omega)]
theorem viN_RI (h : RI B g) {n : Nat} (hn : n ≤ 4) : RI (B + 6 * n) (itN viS g n) ∧ ∀ i, (i = 0 ∨ i = 10 ∨ i = 11 ∨ i = 12) → itN viS g n i = g i :=
  itN_inv (g := g) (N := 4) (P := fun m g' => RI (B + 6 * m) g' ∧ ∀ i, (i = 0 ∨ i = 10 ∨ i = 11 ∨ i = 12) → g' i = g i) ⟨by simpa using h, fun _ _ => rfl⟩ (fun m hm g' h' => ⟨(viS_RI h'.1 hm).mono (by omega), fun i hi => (viS_o h'.1 hm hi).trans (h'.2 i hi)⟩) n hn
theorem fVisit_RI (h : RI B g) : RI (B + 24) (fVisit g) := by
  have := h.1.nn
  exact (viN_RI h (n := (g 12).toNat) (by omega)).1.mono (by omega)
theorem fVisit_o (h : RI B g) {i : Nat} (hi : i = 0 ∨ i = 10 ∨ i = 11 ∨ i = 12) : fVisit g i = g i := by
  have := h.1.nn
  exact (viN_RI h (n := (g 12).toNat) (by omega)).2 i hi
theorem M_visit {x : Int32} {k : Nat} {K : yMS → Prop} (hx : x = nI k) (hk : k < 4) (hB : RB B g) (hb : B ≤ 1000000000) (h : K (mr ρ (viS g k))) : wpM_X3_visit (mr ρ g) x K := by
  subst hx
  unfold wpM_X3_visit
  unfold viS at h
  try simp only at h
  have a0 := hB.n k 0 hk (by omega)
  rw [if_pos rfl] at a0
  have a1 := hB.n k 1 hk (by omega)
  rw [if_neg (by omega), if_pos rfl] at a1
  have al := hB.l (g (118 + 3 * k + 0)).toNat (by omega)
  have el : (13 : Int32) + iI (g (118 + 3 * k + 0)) = nI (13 + (g (118 + 3 * k + 0)).toNat) := by rw [iI_nat a0.1]; exact nI_add 13 _
  have hle := iI_le (a := g (13 + (g (118 + 3 * k + 0)).toNat)) (b := g (118 + 3 * k + 1)) ⟨by omega, by omega⟩ ⟨by omega, by omega⟩
  refine M_ofBench k 0 rfl rfl hk (by omega) (M_ofBench k 1 rfl rfl hk (by omega) (mr_ld _ el (by omega) ⟨fun q => ?_, fun q => ?_⟩))
  · rw [if_pos (hle.mp q)] at h
    exact mr_ld _ el (by omega) (mr_ld _ el (by omega) (mr_ast _ _ el (iI_sub _ _) (by omega) (mr_ld 4 rfl (by omega) (mr_ast 4 _ rfl (iI_add _ _) (by omega) (mr_ast (118 + 3 * k + 1) 0 (ix3 k 1) rfl (by omega) h)))))
  · rw [if_neg (fun z => q (hle.mpr z))] at h
    exact M_ofBench k 1 rfl rfl hk (by omega) (mr_ld _ el (by omega) (mr_ast _ _ el (iI_sub _ _) (by omega) (mr_ld 4 rfl (by omega) (mr_ast 4 _ rfl (iI_add _ _) (by omega) (mr_ast (118 + 3 * k + 1) 0 (ix3 k 1) rfl (by omega) h)))))
end RI
