/-! THE MODEL's LAW: the whole day -/
set_option maxRecDepth 100000
/-- a day till the hens sit -/
def fPre (g : yG) : yG := fVisit (fMove (fMoult (fGrow (st g 0 (g 0 + 1)))))
def dayH (g : yG) : Int32 := siH (fPre g) (fPre g 10).toNat
section RI
variable {B : Int} {g : yG} {ρ : yMS}
theorem fFine_RI (hI : RI B g) : RI (B + 3) (fFine g) := by
  have a2 := hI.1.s 2 (by omega) (by omega)
  have a6 := hI.1.s 6 (by omega) (by omega)
  unfold fFine
  try simp only
  have hv : 0 ≤ (if 12 < voc g then (if 3 ≤ g 2 then (3 : Int) else g 2) else 0) ∧ (if 12 < voc g then (if 3 ≤ g 2 then (3 : Int) else g 2) else 0) ≤ 3 ∧ (if 12 < voc g then (if 3 ≤ g 2 then (3 : Int) else g 2) else 0) ≤ g 2 := by
    split
    · split <;> omega
    · omega
  generalize (if 12 < voc g then (if 3 ≤ g 2 then (3 : Int) else g 2) else 0) = v at hv
  rw [st_n (by omega)]
  refine RI.neu (RI.neu (hI.mono (by omega)) 2 (neu_lt (by omega) (by omega)) ?_ ?_) 6 (neu_lt (by omega) (by omega)) ?_ ?_
  · rw [lo_0 (by omega)]; omega
  · rw [hi_s _ 2 (by omega) (by omega)]; omega
  · rw [lo_0 (by omega)]; omega
  · rw [hi_s _ 6 (by omega) (by omega)]; omega
theorem fPre_RI (hI : RI B g) : RI (B + 85) (fPre g) := by
  have a0 := hI.1.s 0 (by omega) (by omega)
  have i0 : RI (B + 1) (st g 0 (g 0 + 1)) := (hI.mono (by omega)).neu 0 (neu_lt (by omega) (by omega)) (by rw [lo_0 (by omega)]; omega) (by rw [hi_s _ 0 (by omega) (by omega)]; omega)
  exact (fVisit_RI (fMove_RI (fMoult_RI (fGrow_RI i0)))).mono (by omega)
theorem fDay_RI (hI : RI B g) (hB : 0 ≤ B) : RI (B + 300) (fDay g) := by
  have i1 := fPre_RI hI
  exact (fRest_RI (fFine_RI (fHunt_RI (fSit_RI (g := fPre g) i1 (by omega))))).mono (by omega)
theorem M_fine {K : yMS → Prop} (hI : RI B g) (hb : B ≤ 900000000) (h : K (mr ρ (fRest (fFine g)))) :
    ((((12 : Int32) < iI (voc g)) → mAld (mr ρ g) 1 (2 : Int32) (fun v15 => ((((3 : Int32) ≤ v15) → mAld (mr ρ g) 1 (2 : Int32) (fun v16 => mAst (mr ρ g) 1 (2 : Int32) (v16 - (3 : Int32)) (fun ρ17 => mAld ρ17 1 (6 : Int32) (fun v18 => mAst ρ17 1 (6 : Int32) (v18 + (3 : Int32)) (fun ρ19 => wpM_X3_goDay_137 (0 : Int32) ρ19 K))))) ∧ (¬ ((3 : Int32) ≤ v15) → mAld (mr ρ g) 1 (2 : Int32) (fun v20 => mAld (mr ρ g) 1 (2 : Int32) (fun v21 => mAst (mr ρ g) 1 (2 : Int32) (v21 - v20) (fun ρ22 => mAld ρ22 1 (6 : Int32) (fun v23 => mAst ρ22 1 (6 : Int32) (v23 + v20) (fun ρ24 => wpM_X3_goDay_137 (0 : Int32) ρ24 K))))))))) ∧ (¬ ((12 : Int32) < iI (voc g)) → mAld (mr ρ g) 1 (2 : Int32) (fun v26 => mAst (mr ρ g) 1 (2 : Int32) (v26 - (0 : Int32)) (fun ρ27 => mAld ρ27 1 (6 : Int32) (fun v28 => mAst ρ27 1 (6 : Int32) (v28 + (0 : Int32)) (fun ρ29 => wpM_X3_goDay_137 (0 : Int32) ρ29 K)))))) := by
  have hF := fFine_RI hI
  have hnb := hI.1.nb
  have hv := voN_in hI.1 (g 10).toNat (by omega)
  have hs : sm (voc g) := ⟨by unfold voc; omega, by unfold voc; omega⟩
  have a2 := hI.1.s 2 (by omega) (by omega)
  have hlt := iI_lt (a := 12) (b := voc g) ⟨by omega, by omega⟩ hs
  have hle := iI_le (a := 3) (b := g 2) ⟨by omega, by omega⟩ ⟨by omega, by omega⟩
  unfold fFine at h hF
  try simp only at h hF
  refine ⟨fun q => mr_ld 2 rfl (by omega) ⟨fun q2 => ?_, fun q2 => ?_⟩, fun q => ?_⟩
  · rw [if_pos (hlt.mp q), if_pos (hle.mp q2)] at h hF
    exact mr_ld 2 rfl (by omega) (mr_ast 2 _ rfl (iI_sub _ 3) (by omega) (mr_ld 6 rfl (by omega) (mr_ast 6 _ rfl (iI_add _ 3) (by omega) (M_rest hF h))))
  · rw [if_pos (hlt.mp q), if_neg (fun z => q2 (hle.mpr z))] at h hF
    exact mr_ld 2 rfl (by omega) (mr_ld 2 rfl (by omega) (mr_ast 2 _ rfl (iI_sub _ _) (by omega) (mr_ld 6 rfl (by omega) (mr_ast 6 _ rfl (iI_add _ _) (by omega) (M_rest hF h)))))
  · rw [if_neg (fun z => q (hlt.mpr z))] at h hF
    exact mr_ld 2 rfl (by omega) (mr_ast 2 _ rfl (iI_sub _ 0) (by omega) (mr_ld 6 rfl (by omega) (mr_ast 6 _ rfl (iI_add _ 0) (by omega) (M_rest hF h))))
theorem M_goDay_50 {K : yMS → Prop} (hI : RI B g) (h0 : 27 ≤ B) (hb : B ≤ 800000000) (h : K (mr (sS ρ 15 (siH (fVisit g) (fVisit g 10).toNat)) (fRest (fFine (fHunt (fSit (fVisit g))))))) : wpM_X3_goDay_50 0 (mr ρ g) K := by
  have hnn := hI.1.nn
  unfold wpM_X3_goDay_50
  refine lp_up (F := fun r (s : Int32 × yMS) => stM_X3_goDay_50 K (fun l1 ρ => r (l1, ρ)) s.1 s.2) (g 12).toNat (fun i => (nI i, mr ρ (itN viS g i))) (fun i hi r hr => ?_) (fun r => ?_)
  · have hk : i < 4 := by omega
    obtain ⟨q1, q2⟩ := viN_RI hI (n := i) (by omega)
    have h12 := q2 12 (by omega)
    have hr : r (nI i + 1, mr ρ (viS (itN viS g i) i)) := by rw [nI_1]; exact hr
    refine mr_ld 12 rfl (by omega) ⟨fun q => absurd q ?_, fun _ => M_visit rfl hk q1.1 (by omega) hr⟩
    rw [h12, iI_nat hnn.1]; exact nI_ge (by omega) (by omega)
  · have hV := fVisit_RI hI
    obtain ⟨q1, q2⟩ := viN_RI hI (n := (g 12).toNat) (by omega)
    have h12 := q2 12 (by omega)
    have hS := fSit_RI hV (by omega)
    have hH := fHunt_RI hS
    refine mr_ld 12 rfl (by omega) ⟨fun _ => M_sitAll hV (by omega) (by omega) (M_prowl hS (by omega) (M_voices hH.1 (M_fine hH (by omega) h))), fun q => absurd ?_ q⟩
    rw [h12, iI_nat hnn.1]
    exact Int32.le_refl _
/-- a day -/
theorem M_goDay {K : yMS → Prop} (hI : RI B g) (h0 : 27 ≤ B) (hb : B ≤ 700000000) (h : K (mr (sS ρ 15 (dayH g)) (fDay g))) : wpM_X3_goDay (mr ρ g) K := by
  have a0 := hI.1.s 0 (by omega) (by omega)
  have i0 : RI (B + 1) (st g 0 (g 0 + 1)) := (hI.mono (by omega)).neu 0 (neu_lt (by omega) (by omega)) (by rw [lo_0 (by omega)]; omega) (by rw [hi_s _ 0 (by omega) (by omega)]; omega)
  have i1 := fGrow_RI i0
  have i2 := fMoult_RI i1
  have i3 := fMove_RI i2
  unfold wpM_X3_goDay
  exact mr_ld 0 rfl (by omega) (mr_ast 0 _ rfl (iI_add _ 1) (by omega) (M_grow i0 (by omega) (M_moult i1 (by omega) (M_move i2 (M_goDay_50 i3 (by omega) (by omega) h)))))
end RI
