/-! THE MODEL's LAW: the richest lawn -/
set_option maxRecDepth 100000
section OP
variable {B : Int} {g : yG} {ρ : yMS} {t r d c : Int32}
def riN (g : yG) : Nat → Nat
  | 0 => 0
  | i+1 => if g (13 + (i + 1)) ≤ g (13 + riN g i) then riN g i else i + 1
theorem riN_lt (g : yG) : ∀ i, riN g i ≤ i := by
  intro i
  induction i with
  | zero => exact Nat.le_refl _
  | succ i ih =>
    unfold riN
    split <;> omega
def qRich (g : yG) : yQ := if g (13 + riN g 8) = 0 then .inl 1 else .inr (riN g 8 : Nat)
theorem M_richest {K : Int32 → yMS → Prop} (hI : RI B g) (hb : B ≤ 1000000000) (h : qRes ρ r d c g K (qRich g)) : wpM_X3_richest (mr (sc ρ t r d c) g) K := by
  unfold wpM_X3_richest wpM_X3_richest_4
  unfold qRich at h
  have sml : ∀ l, l < 9 → sm (g (13 + l)) := fun l hl => by have := hI.1.l l hl; exact ⟨by omega, by omega⟩
  refine lp_up (F := fun r' (s : Int32 × Int32 × yMS) => stM_X3_richest_4 K (fun l1 l2 ρ => r' (l1, l2, ρ)) s.1 s.2.1 s.2.2) 8 (fun i => (nI (riN g i), nI (i + 1), mr (sc ρ t r d c) g)) (fun i hi r' hr => ?_) (fun r' => ?_)
  · have a := riN_lt g i
    have hr : r' (nI (if g (13 + (i + 1)) ≤ g (13 + riN g i) then riN g i else i + 1), nI (i + 1) + 1, mr (sc ρ t r d c) g) := by rw [nI_1]; exact hr
    refine ⟨fun q => absurd q (nI_ge (b := 9) (by omega) (by omega)), fun _ => mr_ld (13 + (i + 1)) (nI_add 13 _) (by omega) (mr_ld (13 + riN g i) (nI_add 13 _) (by omega) ?_)⟩
    have hle := iI_le (sml (i + 1) (by omega)) (sml (riN g i) (by omega))
    by_cases z : g (13 + (i + 1)) ≤ g (13 + riN g i)
    · rw [if_pos z] at hr
      rw [if_pos (hle.mpr z)]
      exact hr
    · rw [if_neg z] at hr
      rw [if_neg (fun w => z (hle.mp w))]
      exact hr
  · have a := riN_lt g 8
    refine ⟨fun _ => mr_ld (13 + riN g 8) (nI_add 13 _) (by omega) ?_, fun q => absurd (show (9 : Int32) ≤ nI 9 from by decide) q⟩
    rw [show (if iI (g (13 + riN g 8)) = 0 then (1 : Int32) else 0) = bI (g (13 + riN g 8) = 0) from iI_eqb rfl rfl (sml _ (by omega)) (b := 0) ⟨by omega, by omega⟩]
    refine O_fails (fun p => ?_) (fun p => ?_)
    · rw [if_pos p] at h
      rw [if_neg one0]
      exact h
    · rw [if_neg p] at h
      rw [if_pos rfl]
      show K (nI (riN g 8)) _
      rw [nI_iI]
      exact h
end OP
