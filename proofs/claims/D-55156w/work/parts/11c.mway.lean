/-! THE MODEL's LAW: ways over hedges -/
set_option maxRecDepth 100000
def acr (k l : Nat) : Nat := h1 k + h2 k - l
abbrev bes (k l : Nat) : Prop := h1 k = l ∨ h2 k = l
/-- the better of two hedges -/
def woS (g : yG) (l k : Nat) (best : Int) : Int :=
  if bes k l then (if best < 0 then (k : Int) else if g (22 + k) < g (22 + best.toNat) then (k : Int) else if g (22 + k) = g (22 + best.toNat) ∧ acr k l < acr best.toNat l then (k : Int) else best) else best
def woN (g : yG) (l : Nat) : Nat → Int
  | 0 => -1
  | i+1 => woS g l i (woN g l i)
theorem woN_inv (g : yG) (l : Nat) : ∀ i, woN g l i = -1 ∨ ∃ b : Nat, b < i ∧ woN g l i = b ∧ bes b l := by
  intro i
  induction i with
  | zero => exact Or.inl rfl
  | succ i ih =>
    show woS g l i (woN g l i) = -1 ∨ _
    have hk : bes i l → ∃ b : Nat, b < i + 1 ∧ ((i : Int)) = b ∧ bes b l := fun h => ⟨i, by omega, rfl, h⟩
    have ho : woN g l i = -1 ∨ ∃ b : Nat, b < i + 1 ∧ woN g l i = b ∧ bes b l := ih.imp id (fun ⟨b, h1, h2, h3⟩ => ⟨b, by omega, h2, h3⟩)
    show _ ∨ ∃ b : Nat, b < i + 1 ∧ woS g l i (woN g l i) = b ∧ bes b l
    unfold woS
    by_cases h : bes i l
    · rw [if_pos h]
      by_cases h2 : woN g l i < 0
      · rw [if_pos h2]; exact Or.inr (hk h)
      · rw [if_neg h2]
        by_cases h3 : g (22 + i) < g (22 + (woN g l i).toNat)
        · rw [if_pos h3]; exact Or.inr (hk h)
        · rw [if_neg h3]
          by_cases h4 : g (22 + i) = g (22 + (woN g l i).toNat) ∧ acr i l < acr (woN g l i).toNat l
          · rw [if_pos h4]; exact Or.inr (hk h)
          · rw [if_neg h4]; exact ho
    · rw [if_neg h]; exact ho
theorem woN_pos (g : yG) (l : Nat) {k : Nat} (hk : bes k l) : ∀ i, k < i → 0 ≤ woN g l i := by
  intro i
  induction i with
  | zero => intro h; omega
  | succ i ih =>
    intro h
    show 0 ≤ woS g l i (woN g l i)
    unfold woS
    by_cases hki : k = i
    · subst hki
      rw [if_pos hk]
      by_cases h2 : woN g l k < 0
      · rw [if_pos h2]; omega
      · rw [if_neg h2]
        split
        · omega
        · split <;> omega
    · have := ih (by omega)
      split
      · split
        · omega
        · split
          · omega
          · split <;> omega
      · exact this
theorem bes_ex : ∀ l, l < 9 → ∃ k, k < 12 ∧ bes k l := by decide
def wo (g : yG) (l : Nat) : Nat := (woN g l 12).toNat
theorem wo_ok (g : yG) {l : Nat} (hl : l < 9) : wo g l < 12 ∧ bes (wo g l) l ∧ woN g l 12 = (wo g l : Int) := by
  obtain ⟨k, hk, hb⟩ := bes_ex l hl
  have h0 := woN_pos g l hb 12 hk
  rcases woN_inv g l 12 with h | ⟨b, h1, h2, h3⟩
  · omega
  · have e : wo g l = b := by unfold wo; rw [h2]; rfl
    rw [e]
    exact ⟨h1, h3, h2⟩
theorem bes_le : ∀ l, l < 9 → ∀ k, k < 12 → bes k l → l ≤ h1 k + h2 k ∧ acr k l < 9 ∧ acr k l ≠ l := by decide
section MW
variable {ρ : yMS} {g : yG}
theorem M_wayOut {x : Int32} {l : Nat} {K : Int32 → yMS → Prop} (hx : x = nI l) (hl : l < 9) (hg : ∀ k, k < 12 → sm (g (22 + k))) (h : K (nI (wo g l)) (mr ρ g)) : wpM_X3_wayOut (mr ρ g) x K := by
  subst hx
  unfold wpM_X3_wayOut wpM_X3_wayOut_4
  have key := lp_up (F := fun r (s : Int32 × Int32 × Int32 × yMS) => stM_X3_wayOut_4 K (fun l1 l2 l3 ρ => r (l1, l2, l3, ρ)) s.1 s.2.1 s.2.2.1 s.2.2.2) 12 (fun i => (nI l, iI (woN g l i), nI i, mr ρ g)) (by
    intro i hi r hr
    have hr : r (nI l, iI (woS g l i (woN g l i)), nI i + 1, mr ρ g) := by rw [nI_1]; exact hr
    refine ⟨fun q => absurd q (nI_ge (b := 12) hi (by omega)), fun _ => M_isBeside rfl rfl hi hl ?_⟩
    unfold woS at hr
    refine ⟨fun q => ?_, fun q => ?_⟩
    · rw [if_neg (bI_0.mp q)] at hr
      exact hr
    · have hp : bes i l := Classical.byContradiction fun z => q (bI_0.mpr z)
      rw [if_pos hp] at hr
      rcases woN_inv g l i with hw | ⟨b, hb1, hb2, hb3⟩
      · rw [hw] at hr ⊢
        rw [if_pos (by omega)] at hr
        refine ⟨fun _ => ⟨fun _ => ?_, fun q => absurd q (by decide)⟩, fun q => absurd (show iI (-1) < 0 by decide) q⟩
        rw [nI_iI]
        rw [nI_iI] at hr
        exact hr
      · rw [hb2] at hr ⊢
        rw [if_neg (by omega)] at hr
        rw [← nI_iI]
        have hbl := bes_le l hl b (by omega) hb3
        have hil := bes_le l hl i hi hp
        have ei : (22 : Int32) + nI i = nI (22 + i) := nI_add 22 i
        have eb : (22 : Int32) + nI b = nI (22 + b) := nI_add 22 b
        refine ⟨fun q => absurd q (nI_pos (by omega)), fun _ => mr_ld (22 + i) ei (by omega) (mr_ld (22 + b) eb (by omega) ?_)⟩
        rw [iI_leb rfl rfl (hg b (by omega)) (hg i hi)]
        rw [show ((b : Int)).toNat = b from rfl] at hr
        refine ⟨fun q => ?_, fun q => mr_ld (22 + i) ei (by omega) (mr_ld (22 + b) eb (by omega) ⟨fun q2 => ?_, fun q2 => ?_⟩)⟩
        · have hlt : g (22 + i) < g (22 + b) := Classical.byContradiction fun z => q (bI_0.mpr z)
          rw [if_pos hlt, ← nI_iI] at hr
          exact hr
        · have hlt := bI_0.mp q
          have hne : g (22 + i) ≠ g (22 + b) := fun z => q2 (by rw [z])
          rw [if_neg hlt, if_neg (fun z => hne z.1), ← nI_iI] at hr
          exact hr
        · have hlt := bI_0.mp q
          have heq : g (22 + i) = g (22 + b) := (iI_eq (hg i hi) (hg b (by omega))).mp q2
          refine M_across rfl rfl hi hil.1 (M_across rfl rfl (by omega) hbl.1 ?_)
          rw [if_neg hlt] at hr
          have e2 : (if nI (h1 b + h2 b - l) ≤ nI (h1 i + h2 i - l) then nI b else nI i) = iI (if g (22 + i) = g (22 + b) ∧ acr i l < acr b l then (i : Int) else (b : Int)) := by
            have a1 : h1 b + h2 b - l < 9 := hbl.2.1
            have a2 : h1 i + h2 i - l < 9 := hil.2.1
            unfold acr
            by_cases z : h1 b + h2 b - l ≤ h1 i + h2 i - l
            · rw [if_pos ((nI_leI (by omega) (by omega)).mpr z), if_neg (fun w => by omega), nI_iI]
            · rw [if_neg (fun w => z ((nI_leI (by omega) (by omega)).mp w)), if_pos ⟨heq, by omega⟩, nI_iI]
          show r (_, (if nI (h1 b + h2 b - l) ≤ nI (h1 i + h2 i - l) then nI b else nI i), _, _)
          rw [e2]
          exact hr) (by
    intro r
    refine ⟨fun _ => ?_, fun q => absurd (show (12 : Int32) ≤ nI 12 from by decide) q⟩
    show K (iI (woN g l 12)) _
    rw [(wo_ok g hl).2.2, ← nI_iI]
    exact h)
  exact key
/-- where one goes from a lawn -/
def go (g : yG) (l : Nat) (most : Int) : Nat := if most < g (22 + wo g l) then l else acr (wo g l) l
theorem go_lt {l : Nat} {most : Int} (hl : l < 9) : go g l most < 9 := by
  unfold go
  have := wo_ok g hl
  split
  · exact hl
  · exact (bes_le l hl _ this.1 this.2.1).2.1
theorem M_goes {x y : Int32} {l : Nat} {most : Int} {K : Int32 → yMS → Prop} (hx : x = nI l) (hy : y = iI most) (hl : l < 9) (hm : sm most) (hg : ∀ k, k < 12 → sm (g (22 + k))) (h : K (nI (go g l most)) (mr ρ g)) : wpM_X3_goes (mr ρ g) x y K := by
  unfold wpM_X3_goes
  have hw := wo_ok g hl
  refine M_wayOut hx hl hg (mr_ld (22 + wo g l) (nI_add 22 _) (by omega) ?_)
  subst hy
  unfold go at h
  refine ⟨fun q => ?_, fun q => ?_⟩
  · rw [if_pos ((iI_lt hm (hg _ hw.1)).mp q)] at h
    subst hx
    exact h
  · rw [if_neg (fun z => q ((iI_lt hm (hg _ hw.1)).mpr z))] at h
    exact M_across rfl hx hw.1 (bes_le l hl _ hw.1 hw.2.1).1 h
/-- the goal of a bird -/
def gol (g : yG) (k : Nat) : Int := if g (34 + 6 * k + 0) = 1 ∧ 0 < g (34 + 6 * k + 2) then g (34 + 6 * k + 1) else (go g (g (34 + 6 * k + 1)).toNat 6 : Nat)
theorem M_goal {x : Int32} {K : Int32 → yMS → Prop} (k : Nat) (hx : x = nI k) (hk : k < 12) (h0 : sm (g (34 + 6 * k + 0))) (h2 : sm (g (34 + 6 * k + 2))) (hl : 0 ≤ g (34 + 6 * k + 1) ∧ g (34 + 6 * k + 1) ≤ 8) (hg : ∀ k, k < 12 → sm (g (22 + k))) (h : K (iI (gol g k)) (mr ρ g)) : wpM_X3_goal (mr ρ g) x K := by
  unfold wpM_X3_goal
  refine M_of k 1 hx rfl hk (by omega) (M_hasEggs k hx hk h0 h2 ⟨fun q => ?_, fun q => ?_⟩)
  · unfold gol at h
    rw [if_neg (bI_0.mp q), ← nI_iI] at h
    exact M_goes (iI_nat hl.1) rfl (by omega) ⟨by omega, by omega⟩ hg h
  · unfold gol at h
    rw [if_pos (Classical.byContradiction fun z => q (bI_0.mpr z))] at h
    exact h
end MW
