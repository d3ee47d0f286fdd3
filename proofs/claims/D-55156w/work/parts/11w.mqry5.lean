/-! THE MODEL's LAW: numbers -/
set_option maxRecDepth 100000
section OP
variable {B : Int} {g : yG} {ρ : yMS} {t r d c : Int32}
theorem M_lying {K : Int32 → yMS → Prop} (h : K (iI (suN g 13 1 9)) (mr ρ g)) : wpM_X3_lying (mr ρ g) K := M_sum (f := 13) (s := 1) (n := 9) rfl rfl rfl (by omega) (fun i hi => by omega) h
theorem M_hens {K : Int32 → yMS → Prop} (hnb : 0 ≤ g 10 ∧ g 10 ≤ 12) (h : K (iI (suN g 34 6 (g 10).toNat)) (mr ρ g)) : wpM_X3_hens (mr ρ g) K := mr_ld 10 rfl (by omega) (M_sum (f := 34) (s := 6) rfl rfl (iI_nat hnb.1) (by omega) (fun i hi => by omega) h)
theorem M_shedAgain {K : Int32 → yMS → Prop} (h : qRes ρ r d c g K (.inr (suN g 13 1 9 + g 3 + g 4 + g 5))) : wpM_X3_shedAgain (mr (sc ρ t r d c) g) K := by
  refine O_thr0 (M_lying (mr_ld 3 rfl (by omega) (mr_ld 4 rfl (by omega) (mr_ld 5 rfl (by omega) ?_))))
  rw [iI_add, iI_add, iI_add]
  exact h
def egN (g : yG) : Nat → Int
  | 0 => 0
  | k+1 => egN g k + (if g (34 + 6 * k + 0) = 1 then g (34 + 6 * k + 2) else 0)
theorem M_eggs {K : Int32 → yMS → Prop} (hI : RB B g) (h : K (iI (egN g (g 10).toNat)) (mr ρ g)) : wpM_X3_eggs (mr ρ g) K := by
  have hnb := hI.nb
  unfold wpM_X3_eggs wpM_X3_eggs_4
  refine lp_up (F := fun r (s : Int32 × Int32 × yMS) => stM_X3_eggs_4 K (fun l1 l2 ρ => r (l1, l2, ρ)) s.1 s.2.1 s.2.2) (g 10).toNat (fun i => (iI (egN g i), nI i, mr ρ g)) (fun i hi r hr => ?_) (fun r => mr_ld 10 rfl (by omega) ⟨fun _ => h, fun q => absurd ?_ q⟩)
  · have hk : i < 12 := by omega
    have hr : r (iI (egN g i + (if g (34 + 6 * i + 0) = 1 then g (34 + 6 * i + 2) else 0)), nI i + 1, mr ρ g) := by rw [nI_1]; exact hr
    refine mr_ld 10 rfl (by omega) ⟨fun q => absurd q ?_, fun _ => M_isHen i rfl hk (hI.sm0 i hk) ⟨fun q => ?_, fun q => ?_⟩⟩
    · rw [iI_nat hnb.1]; exact nI_ge (by omega) (by omega)
    all_goals first
      | (rw [if_neg (bI_0.mp q), ← iI_add] at hr; exact hr)
      | (rw [if_pos (Classical.byContradiction fun z => q (bI_0.mpr z)), ← iI_add] at hr; exact M_of i 2 rfl rfl hk (by omega) hr)
  · rw [iI_nat hnb.1]
    exact Int32.le_refl _
end OP
