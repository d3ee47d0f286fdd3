/-! THE MODEL's LAW: a day, fifth part: the fox, voices, fines, rest; the whole day -/
set_option maxRecDepth 100000
section RI
variable {B : Int} {g : yG} {ρ : yMS}
/-- the fox finds this hen -/
abbrev huP (g : yG) (k : Nat) : Prop := (g (34 + 6 * k + 0) = 1 ∧ 0 < g (34 + 6 * k + 2)) ∧ g (34 + 6 * k + 1) = g 1
theorem huN_ok (g : yG) : ∀ f k : Nat, (k : Int) ≤ g 10 → g 10 ≤ (k : Int) + f → (k ≤ huN g f k ∧ (huN g f k : Int) ≤ g 10 ∧ (∀ j : Nat, k ≤ j → j < huN g f k → ¬ huP g j) ∧ ((huN g f k : Int) < g 10 → huP g (huN g f k))) := by
  intro f
  induction f with
  | zero => intro k h1 h2; exact ⟨Nat.le_refl _, h1, fun j a b => absurd b (by show ¬ j < k; omega), fun z => absurd z (by show ¬ (k : Int) < _; omega)⟩
  | succ f ih =>
    intro k h1 h2
    unfold huN
    by_cases hk : (k : Int) < g 10
    · rw [if_pos hk]
      by_cases hp : huP g k
      · rw [if_pos (show _ ∧ _ from hp)]
        exact ⟨Nat.le_refl _, h1, fun j a b => absurd b (by omega), fun _ => hp⟩
      · rw [if_neg (show ¬ (_ ∧ _) from hp)]
        obtain ⟨a, b, c, d⟩ := ih (k + 1) (by omega) (by omega)
        refine ⟨by omega, b, fun j q1 q2 => ?_, d⟩
        by_cases e : j = k
        · rw [e]; exact hp
        · exact c j (by omega) q2
    · rw [if_neg hk]
      exact ⟨Nat.le_refl _, h1, fun j a b => absurd b (by omega), fun z => absurd z hk⟩
theorem M_foxGoes {C : yMS → Prop} (hI : RB B g) (h : C (mr ρ (st g 1 (go g (g 1).toNat 9 : Nat)))) : mAld (mr ρ g) 1 (1 : Int32) (fun v11 => wpM_X3_goes (mr ρ g) v11 (9 : Int32) (fun r13 ρ12 => mAst ρ12 1 (1 : Int32) r13 (fun ρ14 => C ρ14))) := by
  have hf := hI.fox
  exact mr_ld 1 rfl (by omega) (M_goes (iI_nat hf.1) rfl (by omega) ⟨by omega, by omega⟩ hI.smh (mr_ast 1 _ rfl (nI_iI _) (by omega) h))
theorem huE_RI (hI : RI B g) {k : Nat} (hk : k < 12) (hp : g (34 + 6 * k + 0) = 1 ∧ 0 < g (34 + 6 * k + 2)) : RI (B + 1) (huE g k) := by
  have a2 := hI.1.b2 k hk
  have a3 := hI.1.b3 k hk
  have a8 := hI.1.s 8 (by omega) (by omega)
  have r := hI.2.1 k hk hp.1
  unfold huE
  try simp only
  have i1 : RI (B + 1) (st g (34 + 6 * k + 2) (g (34 + 6 * k + 2) - 1)) := (hI.mono (by omega)).b23 k 2 hk (Or.inl rfl) (by omega) (by rw [hi_b _ k 2 hk (by omega)]; show _ ≤ (150 : Int); omega) (fun _ => ⟨fun _ => by omega, fun z => by omega⟩)
  rw [st_s, st_n (i := 34 + 6 * k + 2) (j := 34 + 6 * k + 3) (by omega)]
  have i2 := i1.b23 k 3 (v := if g (34 + 6 * k + 2) - 1 = 0 then 0 else g (34 + 6 * k + 3)) hk (Or.inr rfl) (by split <;> omega) (by rw [hi_b _ k 3 hk (by omega)]; show _ ≤ (28 : Int); split <;> omega) (fun _ => ⟨fun z => by omega, fun _ => by split <;> omega⟩)
  rw [st_n (by omega), st_n (by omega)]
  exact i2.neu 8 (neu_lt (by omega) (by omega)) (by rw [lo_0 (by omega)]; omega) (by rw [hi_s _ 8 (by omega) (by omega)]; omega)
theorem huE_o (g : yG) (k : Nat) {i : Nat} (hi : i = 0 ∨ i = 10 ∨ i = 11 ∨ i = 12) : huE g k i = g i := by
  unfold huE
  try simp only
  rw [st_n (by omega), st_n (by omega), st_n (by omega)]
theorem fox_RI (hI : RI B g) : RI B (st g 1 (go g (g 1).toNat 9 : Nat)) := by
  have hf := hI.1.fox
  have := go_lt (g := g) (l := (g 1).toNat) (most := 9) (by omega)
  exact hI.neu 1 (neu_lt (by omega) (by omega)) (by rw [lo_0 (by omega)]; omega) (by show _ ≤ (8 : Int); omega)
theorem fHunt_RI (hI : RI B g) : RI (B + 1) (fHunt g) := by
  have hnb := hI.1.nb
  obtain ⟨q1, q2, q3, q4⟩ := huN_ok g 12 0 (by omega) (by omega)
  unfold fHunt
  try simp only
  split
  · rename_i hk
    exact fox_RI (huE_RI hI (by omega) (q4 hk).1)
  · exact fox_RI (hI.mono (by omega))
theorem fHunt_o (g : yG) {i : Nat} (hi : i = 0 ∨ i = 10 ∨ i = 11 ∨ i = 12) : fHunt g i = g i := by
  unfold fHunt
  try simp only
  rw [st_n (by omega)]
  split
  · exact huE_o g _ hi
  · rfl
theorem M_prowl_42 {k : Nat} {K : yMS → Prop} (hI : RI B g) (hb : B ≤ 900000000) (hk : (k : Int) ≤ g 10) (hp : (k : Int) < g 10 → huP g k) (h : K (mr ρ (let g1 := if (k : Int) < g 10 then huE g k else g; st g1 1 (go g1 (g1 1).toNat 9 : Nat)))) : wpM_X3_prowl_42 (nI k) (mr ρ g) K := by
  have hnb := hI.1.nb
  unfold wpM_X3_prowl_42
  try simp only at h
  have hle := iI_le (a := g 10) (b := (k : Int)) ⟨by omega, by omega⟩ ⟨by omega, by omega⟩
  rw [← nI_iI] at hle
  refine mr_ld 10 rfl (by omega) ⟨fun q => ?_, fun q => ?_⟩
  · rw [if_neg (by have := hle.mp q; omega)] at h
    exact M_foxGoes hI.1 h
  · have hlt : (k : Int) < g 10 := by
      apply Classical.byContradiction
      intro z
      exact q (hle.mpr (by omega))
    rw [if_pos hlt] at h
    have hk12 : k < 12 := by omega
    have pp := hp hlt
    have hE := huE_RI hI hk12 pp.1
    have a2 := hI.1.b2 k hk12
    refine M_of k 2 rfl rfl hk12 (by omega) (M_put k 2 _ rfl rfl (iI_sub _ 1) hk12 (by omega) (M_of k 2 rfl rfl hk12 (by omega) ?_))
    rw [st_s]
    have heq := iI_eq (a := g (34 + 6 * k + 2) - 1) (b := 0) ⟨by omega, by omega⟩ ⟨by omega, by omega⟩
    refine ⟨fun q2 => ?_, fun q2 => ?_⟩
    · have z := fun w => q2 (heq.mpr w)
      have e : huE g k = (let g1 := st g (34 + 6 * k + 2) (g (34 + 6 * k + 2) - 1); let g2 := st g1 (34 + 6 * k + 3) (g1 (34 + 6 * k + 3)); st g2 8 (g2 8 + 1)) := by
        unfold huE
        try simp only
        rw [st_s, if_neg z]
      rw [e] at h hE
      try simp only at h hE
      exact M_of k 3 rfl rfl hk12 (by omega) (M_put k 3 _ rfl rfl rfl hk12 (by omega) (mr_ld 8 rfl (by omega) (mr_ast 8 _ rfl (iI_add _ 1) (by omega) (M_foxGoes hE.1 h))))
    · have z := heq.mp q2
      have e : huE g k = (let g1 := st g (34 + 6 * k + 2) (g (34 + 6 * k + 2) - 1); let g2 := st g1 (34 + 6 * k + 3) 0; st g2 8 (g2 8 + 1)) := by
        unfold huE
        try simp only
        rw [st_s, if_pos z]
      rw [e] at h hE
      try simp only at h hE
      exact M_put k 3 0 rfl rfl rfl hk12 (by omega) (mr_ld 8 rfl (by omega) (mr_ast 8 _ rfl (iI_add _ 1) (by omega) (M_foxGoes hE.1 h)))
theorem M_prowl {K : yMS → Prop} (hI : RI B g) (hb : B ≤ 900000000) (h : K (mr ρ (fHunt g))) : wpM_X3_prowl (mr ρ g) K := by
  have hnb := hI.1.nb
  obtain ⟨q1, q2, q3, q4⟩ := huN_ok g 12 0 (by omega) (by omega)
  unfold wpM_X3_prowl wpM_X3_prowl_2
  unfold fHunt at h
  refine lp_up (F := fun r (s : Int32 × yMS) => stM_X3_prowl_2 K (fun l1 ρ => r (l1, ρ)) s.1 s.2) (huN g 12 0) (fun i => (nI i, mr ρ g)) (fun i hi r hr => ?_) (fun r => ?_)
  · have hk : i < 12 := by omega
    have hnp := q3 i (by omega) hi
    have hr : r (nI i + 1, mr ρ g) := by rw [nI_1]; exact hr
    have a1 := hI.1.b1 i hk
    have hf := hI.1.fox
    refine mr_ld 10 rfl (by omega) ⟨fun q => absurd q ?_, fun _ => M_hasEggs i rfl hk (hI.1.sm0 i hk) (hI.1.sm2 i hk) ⟨fun _ => hr, fun q => M_of i 1 rfl rfl hk (by omega) (mr_ld 1 rfl (by omega) ⟨fun z => ?_, fun _ => hr⟩)⟩⟩
    · rw [iI_nat hnb.1]; exact nI_ge (by omega) (by omega)
    · exfalso
      have z' := (iI_eq ⟨by omega, by omega⟩ ⟨by omega, by omega⟩).mp z
      exact hnp ⟨Classical.byContradiction fun w => q (bI_0.mpr w), z'⟩
  · have fin := M_prowl_42 (ρ := ρ) (K := K) hI hb q2 q4 h
    have hle := iI_le (a := g 10) (b := ((huN g 12 0 : Nat) : Int)) ⟨by omega, by omega⟩ ⟨by omega, by omega⟩
    rw [← nI_iI] at hle
    refine mr_ld 10 rfl (by omega) ⟨fun _ => fin, fun q => ?_⟩
    have hlt : ((huN g 12 0 : Nat) : Int) < g 10 := by
      apply Classical.byContradiction
      intro z
      exact q (hle.mpr (by omega))
    have hk : huN g 12 0 < 12 := by omega
    have pp := q4 hlt
    refine M_hasEggs _ rfl hk (hI.1.sm0 _ hk) (hI.1.sm2 _ hk) ⟨fun z => absurd pp.1 (bI_0.mp z), fun _ => M_of _ 1 rfl rfl hk (by omega) (mr_ld 1 rfl (by omega) ⟨fun _ => fin, fun z => absurd (by rw [pp.2]) z⟩)⟩
/-! voices -/
theorem cor_b (z : Int) (h : 0 ≤ z ∧ z ≤ 8) : (if iI z = 0 then (1 : Int32) else if iI z = (2 : Int32) then 1 else if iI z = (6 : Int32) then 1 else if iI z = (8 : Int32) then 1 else 0) = bI (cor z) := by
  have e := fun (b : Int) (hb : 0 ≤ b ∧ b ≤ 8) => iI_eq (a := z) (b := b) ⟨by omega, by omega⟩ ⟨by omega, by omega⟩
  have e0 : iI z = (0 : Int32) ↔ z = 0 := e 0 (by omega)
  have e2 : iI z = (2 : Int32) ↔ z = 2 := e 2 (by omega)
  have e6 : iI z = (6 : Int32) ↔ z = 6 := e 6 (by omega)
  have e8 : iI z = (8 : Int32) ↔ z = 8 := e 8 (by omega)
  simp only [e0, e2, e6, e8]
  unfold bI cor
  by_cases h0 : z = 0
  · rw [if_pos h0, if_pos (Or.inl h0)]
  · rw [if_neg h0]
    by_cases h2 : z = 2
    · rw [if_pos h2, if_pos (by omega)]
    · rw [if_neg h2]
      by_cases h6 : z = 6
      · rw [if_pos h6, if_pos (by omega)]
      · rw [if_neg h6]
        by_cases h8 : z = 8
        · rw [if_pos h8, if_pos (by omega)]
        · rw [if_neg h8, if_neg (by omega)]
theorem voN_in (h : RB B g) : ∀ n, n ≤ 12 → 0 ≤ voN g n ∧ voN g n ≤ 28 * n := by
  intro n
  induction n with
  | zero => intro _; exact ⟨Int.le_refl _, Int.le_refl _⟩
  | succ n ih =>
    intro hn
    have a := ih (by omega)
    have b := h.b3 n (by omega)
    show 0 ≤ voN g n + _ ∧ voN g n + _ ≤ _
    split
    · omega
    · split <;> omega
theorem M_voices {K : Int32 → yMS → Prop} (hI : RB B g) (h : K (iI (voc g)) (mr ρ g)) : wpM_X3_voices (mr ρ g) K := by
  have hnb := hI.nb
  unfold wpM_X3_voices wpM_X3_voices_4
  refine lp_up (F := fun r (s : Int32 × Int32 × yMS) => stM_X3_voices_4 K (fun l1 l2 ρ => r (l1, l2, ρ)) s.1 s.2.1 s.2.2) (g 10).toNat (fun i => (iI (voN g i), nI i, mr ρ g)) (fun i hi r hr => ?_) (fun r => mr_ld 10 rfl (by omega) ⟨fun _ => h, fun q => absurd ?_ q⟩)
  · have hk : i < 12 := by omega
    have hr : r (iI (voN g i + (if g (34 + 6 * i + 0) = 1 then 0 else if cor (g (34 + 6 * i + 1)) then g (34 + 6 * i + 3) else 0)), nI i + 1, mr ρ g) := by rw [nI_1]; exact hr
    refine mr_ld 10 rfl (by omega) ⟨fun q => absurd q ?_, fun _ => M_of i 1 rfl rfl hk (by omega) (M_isHen i rfl hk (hI.sm0 i hk) ⟨fun q => ?_, fun q => ?_⟩)⟩
    · rw [iI_nat hnb.1]; exact nI_ge (by omega) (by omega)
    · rw [if_pos (Classical.byContradiction fun z => q (bI_0.mpr z)), ← iI_add] at hr
      exact hr
    · rw [if_neg (bI_0.mp q)] at hr
      rw [cor_b _ (hI.b1 i hk)]
      refine ⟨fun z => ?_, fun z => M_of i 3 rfl rfl hk (by omega) ?_⟩
      · rw [if_neg (bI_0.mp z), ← iI_add] at hr
        exact hr
      · rw [if_pos (Classical.byContradiction fun w => z (bI_0.mpr w)), ← iI_add] at hr
        exact hr
  · rw [iI_nat hnb.1]
    exact Int32.le_refl _
/-! rest -/
theorem reS_RI (h : RI B g) {k : Nat} (hk : k < 3) : RI B (reS g k) := by
  unfold reS
  exact h.neu _ (neu_ge (by omega)) (by rw [lo_0 (by omega)]; omega) (by rw [hi_k _ k 1 hk (by omega)]; show _ ≤ (6 : Int); omega)
theorem reN_RI (h : RI B g) {n : Nat} (hn : n ≤ 3) : RI B (itN reS g n) := itN_inv (N := 3) (P := fun _ g => RI B g) h (fun i hi g' h' => reS_RI h' hi) n hn
theorem reN_o (g : yG) {i : Nat} (hi : i < 106) : ∀ n, n ≤ 3 → itN reS g n i = g i := itN_inv (g := g) (P := fun _ g' => g' i = g i) rfl (fun k hk g' h' => by unfold reS; rw [st_n (by omega)]; exact h')
theorem fRest_RI (h : RI B g) : RI B (fRest g) := by
  have := h.1.nk
  exact reN_RI h (by omega)
theorem M_rest {K : yMS → Prop} (hI : RI B g) (h : K (mr ρ (fRest g))) : wpM_X3_goDay_137 0 (mr ρ g) K := by
  have hnk := hI.1.nk
  unfold wpM_X3_goDay_137
  refine lp_up (F := fun r (s : Int32 × yMS) => stM_X3_goDay_137 K (fun l1 ρ => r (l1, ρ)) s.1 s.2) (g 11).toNat (fun i => (nI i, mr ρ (itN reS g i))) (fun i hi r hr => ?_) (fun r => ?_)
  · have hk : i < 3 := by omega
    have h11 : itN reS g i 11 = g 11 := reN_o g (by omega) i (by omega)
    have hr : r (nI i + 1, mr ρ (reS (itN reS g i) i)) := by rw [nI_1]; exact hr
    refine mr_ld 11 rfl (by omega) ⟨fun q => absurd q ?_, fun _ => M_ofKeeper i 1 rfl rfl hk (by omega) (M_addKeeper i 1 _ rfl rfl (iI_sub 6 _) hk (by omega) hr)⟩
    rw [h11, iI_nat hnk.1]; exact nI_ge (by omega) (by omega)
  · have h11 : itN reS g (g 11).toNat 11 = g 11 := reN_o g (by omega) _ (by omega)
    refine mr_ld 11 rfl (by omega) ⟨fun _ => h, fun q => absurd ?_ q⟩
    rw [h11, iI_nat hnk.1]
    exact Int32.le_refl _
end RI
