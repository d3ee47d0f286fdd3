/-! THE MODEL's LAW: questions -/
set_option maxRecDepth 100000
/-- how a question ends: it throws, or answers -/
abbrev yQ : Type := Int ⊕ Int
def qRes (ρ : yMS) (r d c : Int32) (g : yG) (K : Int32 → yMS → Prop) : yQ → Prop
  | .inl e => K 0 (mr (sc ρ (iI e) r d c) g)
  | .inr v => K (iI v) (mr (sc ρ 0 r d c) g)
section OP
variable {B : Int} {g : yG} {ρ : yMS} {t r d c : Int32}
def qHeight (g : yG) (z : Int) : yQ := if ¬ (0 ≤ z ∧ z ≤ 11) then .inl 1 else .inr (g (22 + z.toNat))
theorem M_height {x : Int32} {z : Int} {K : Int32 → yMS → Prop} (hx : x = iI z) (sz : sm z) (h : qRes ρ r d c g K (qHeight g z)) : wpM_X3_height (mr (sc ρ t r d c) g) x K := by
  unfold wpM_X3_height
  unfold qHeight at h
  refine M_isHedge hx sz ?_
  rw [bI_not]
  refine O_fails (fun p => ⟨fun q => absurd q one0, fun _ => ?_⟩) (fun p => ⟨fun _ => ?_, fun q => absurd rfl q⟩)
  · rw [if_pos p] at h; exact h
  · rw [if_neg p] at h
    have p' : 0 ≤ z ∧ z ≤ 11 := Classical.byContradiction p
    exact mr_ld (22 + z.toNat) (by rw [hx, iI_nat p'.1]; exact nI_add 22 _) (by omega) h
theorem O_thr0 {K : yMS → Prop} (h : K (mr (sc ρ 0 r d c) g)) : mPut (mr (sc ρ t r d c) g) 0 0 K := by
  refine mr_put ?_
  rw [sc_0]
  exact h
theorem M_fox {K : Int32 → yMS → Prop} (h : qRes ρ r d c g K (.inr (g 1))) : wpM_X3_fox (mr (sc ρ t r d c) g) K := O_thr0 (mr_ld 1 rfl (by omega) h)
theorem M_noise {K : Int32 → yMS → Prop} (hI : RI B g) (h : qRes ρ r d c g K (.inr (voc g))) : wpM_X3_noise (mr (sc ρ t r d c) g) K := O_thr0 (M_voices hI.1 h)
def qGoes (g : yG) (z : Int) : yQ := if ¬ (0 ≤ z ∧ z < g 10) then .inl 1 else .inr (gol g z.toNat)
theorem M_goesTo {x : Int32} {z : Int} {K : Int32 → yMS → Prop} (hx : x = iI z) (sz : sm z) (hI : RI B g) (h : qRes ρ r d c g K (qGoes g z)) : wpM_X3_goesTo (mr (sc ρ t r d c) g) x K := by
  have hnb := hI.1.nb
  unfold wpM_X3_goesTo
  unfold qGoes at h
  refine M_isBird hx sz hnb ?_
  rw [bI_not]
  refine O_fails (fun p => ⟨fun q => absurd q one0, fun _ => ?_⟩) (fun p => ⟨fun _ => ?_, fun q => absurd rfl q⟩)
  · rw [if_pos p] at h; exact h
  · rw [if_neg p] at h
    have p' : 0 ≤ z ∧ z < g 10 := Classical.byContradiction p
    have hz : z.toNat < 12 := by omega
    exact M_goal z.toNat (by rw [hx, iI_nat p'.1]) hz (hI.1.sm0 _ hz) (hI.1.sm2 _ hz) (hI.1.b1 _ hz) hI.1.smh h
def qKeeper (g : yG) (z w : Int) : yQ := if ¬ (0 ≤ z ∧ z < g 11) then .inl 1 else if ¬ (0 ≤ w ∧ w ≤ 3) then .inl 2 else .inr (g (106 + 4 * z.toNat + w.toNat))
theorem M_keeperOf {x y : Int32} {z w : Int} {K : Int32 → yMS → Prop} (hx : x = iI z) (hy : y = iI w) (sz : sm z) (sw : sm w) (hI : RI B g) (h : qRes ρ r d c g K (qKeeper g z w)) : wpM_X3_keeperOf (mr (sc ρ t r d c) g) x y K := by
  have hnk := hI.1.nk
  unfold wpM_X3_keeperOf
  unfold qKeeper at h
  refine M_isKeeper hx sz hnk ?_
  rw [bI_not]
  refine O_fails (fun p => ⟨fun _ => ?_, fun q => absurd q one0⟩) (fun p => ⟨fun q => absurd rfl q, fun _ => M_isBetween (lo := 0) (hi := 3) hy rfl rfl sw ⟨by omega, by omega⟩ ⟨by omega, by omega⟩ ?_⟩)
  · rw [if_pos p] at h; exact h
  rw [if_neg p] at h
  have p' : 0 ≤ z ∧ z < g 11 := Classical.byContradiction p
  rw [bI_not]
  refine O_fails (fun p2 => ⟨fun q => absurd q one0, fun _ => ?_⟩) (fun p2 => ⟨fun _ => ?_, fun q => absurd rfl q⟩)
  · rw [if_pos p2] at h; exact h
  · rw [if_neg p2] at h
    have p2' : 0 ≤ w ∧ w ≤ 3 := Classical.byContradiction p2
    exact M_ofKeeper z.toNat w.toNat (by rw [hx, iI_nat p'.1]) (by rw [hy, iI_nat p2'.1]) (by omega) (by omega) h
def qBench (g : yG) (z w : Int) : yQ := if ¬ (0 ≤ z ∧ z < g 12) then .inl 1 else if ¬ (0 ≤ w ∧ w ≤ 2) then .inl 2 else .inr (g (118 + 3 * z.toNat + w.toNat))
theorem M_benchOf {x y : Int32} {z w : Int} {K : Int32 → yMS → Prop} (hx : x = iI z) (hy : y = iI w) (sz : sm z) (sw : sm w) (hI : RI B g) (h : qRes ρ r d c g K (qBench g z w)) : wpM_X3_benchOf (mr (sc ρ t r d c) g) x y K := by
  have hnn := hI.1.nn
  unfold wpM_X3_benchOf
  unfold qBench at h
  refine M_isBench hx sz hnn ?_
  rw [bI_not]
  refine O_fails (fun p => ⟨fun _ => ?_, fun q => absurd q one0⟩) (fun p => ⟨fun q => absurd rfl q, fun _ => M_isBetween (lo := 0) (hi := 2) hy rfl rfl sw ⟨by omega, by omega⟩ ⟨by omega, by omega⟩ ?_⟩)
  · rw [if_pos p] at h; exact h
  rw [if_neg p] at h
  have p' : 0 ≤ z ∧ z < g 12 := Classical.byContradiction p
  rw [bI_not]
  refine O_fails (fun p2 => ⟨fun q => absurd q one0, fun _ => ?_⟩) (fun p2 => ⟨fun _ => ?_, fun q => absurd rfl q⟩)
  · rw [if_pos p2] at h; exact h
  · rw [if_neg p2] at h
    have p2' : 0 ≤ w ∧ w ≤ 2 := Classical.byContradiction p2
    exact M_ofBench z.toNat w.toNat (by rw [hx, iI_nat p'.1]) (by rw [hy, iI_nat p2'.1]) (by omega) (by omega) h
end OP
