/-! THE MODEL's LAW: number() -/
set_option maxRecDepth 100000
section OP
variable {B : Int} {g : yG} {ρ : yMS} {t r d c : Int32}
def qNumber (g : yG) (kp ln w : Int) : yQ :=
  if ¬ (0 ≤ w ∧ w ≤ 18) then .inl 1
  else .inr (if w = 0 then g 0 else if w = 1 then mon g else if w = 2 then g 10 else if w = 3 then g 10 - suN g 34 6 (g 10).toNat else if w = 4 then egN g (g 10).toNat else if w = 5 then g 7 else if w = 6 then g 8 else if w = 7 then g 9 else if w = 8 then suN g 13 1 9 else if w = 9 then g 3 else if w = 10 then g 4 else if w = 11 then g 5 else if w = 12 then g 11 else if w = 13 then g 12 else if w = 14 then suN g 119 3 (g 12).toNat else if w = 15 then g 2 else if w = 16 then g 6 else if w = 17 then kp else ln)
theorem M_number {x : Int32} {w kp ln : Int} {K : Int32 → yMS → Prop} (hx : x = iI w) (sw : sm w) (hI : RI B g) (hb : B ≤ 1000000000) (e6 : ρ.1 6 = iI kp) (e19 : ρ.1 19 = iI ln) (h : qRes ρ r d c g K (qNumber g kp ln w)) : wpM_X3_number (mr (sc ρ t r d c) g) x K := by
  have hnb := hI.1.nb
  have hnn := hI.1.nn
  have a0 := hI.1.s 0 (by omega) (by omega)
  unfold wpM_X3_number
  unfold qNumber at h
  refine M_isBetween (lo := 0) (hi := 18) hx rfl rfl sw ⟨by omega, by omega⟩ ⟨by omega, by omega⟩ ?_
  rw [bI_not]
  refine O_fails (fun p => ⟨fun q => absurd q one0, fun _ => ?_⟩) (fun p => ⟨fun _ => ?_, fun q => absurd rfl q⟩)
  · rw [if_pos p] at h; exact h
  rw [if_neg p] at h
  have p' : 0 ≤ w ∧ w ≤ 18 := Classical.byContradiction p
  have ew := fun (n : Int) (hn : 0 ≤ n ∧ n ≤ 18) (q : x = iI n) => (iI_eq (a := w) (b := n) ⟨by omega, by omega⟩ ⟨by omega, by omega⟩).mp (hx.symm.trans q)
  refine ⟨fun q => ?_, fun q => ?_, fun q => ?_, fun q => ?_, fun q => ?_, fun q => ?_, fun q => ?_, fun q => ?_, fun q => ?_, fun q => ?_⟩
  · have e := ew 0 (by omega) q; subst e; exact mr_ld 0 rfl (by omega) h
  · have e := ew 1 (by omega) q; subst e; exact M_month a0.1 (by omega) h
  · have e := ew 2 (by omega) q; subst e; exact mr_ld 10 rfl (by omega) h
  · have e := ew 3 (by omega) q; subst e; exact mr_ld 10 rfl (by omega) (M_hens hnb (by rw [iI_sub]; exact h))
  · have e := ew 4 (by omega) q; subst e; exact M_eggs hI.1 h
  · have e := ew 5 (by omega) q; subst e; exact mr_ld 7 rfl (by omega) h
  · have e := ew 6 (by omega) q; subst e; exact mr_ld 8 rfl (by omega) h
  · have e := ew 7 (by omega) q; subst e; exact mr_ld 9 rfl (by omega) h
  · have e := ew 8 (by omega) q; subst e; exact M_lying h
  · rw [hx, iI_toInt sw] at q
    unfold wpM_X3_otherNumber
    refine ⟨fun q => ?_, fun q => ?_, fun q => ?_, fun q => ?_, fun q => ?_, fun q => ?_, fun q => ?_, fun q => ?_, fun q => ?_, fun q => ?_⟩
    · have e := ew 9 (by omega) q; subst e; exact mr_ld 3 rfl (by omega) h
    · have e := ew 10 (by omega) q; subst e; exact mr_ld 4 rfl (by omega) h
    · have e := ew 11 (by omega) q; subst e; exact mr_ld 5 rfl (by omega) h
    · have e := ew 12 (by omega) q; subst e; exact mr_ld 11 rfl (by omega) h
    · have e := ew 13 (by omega) q; subst e; exact mr_ld 12 rfl (by omega) h
    · have e := ew 14 (by omega) q; subst e; exact mr_ld 12 rfl (by omega) (M_sum (f := 119) (s := 3) rfl rfl (iI_nat hnn.1) (by omega) (fun i hi => by omega) h)
    · have e := ew 15 (by omega) q; subst e; exact mr_ld 2 rfl (by omega) h
    · have e := ew 16 (by omega) q; subst e; exact mr_ld 6 rfl (by omega) h
    · have e := ew 17 (by omega) q; subst e
      show K (ρ.1 6) _
      rw [e6]; exact h
    · rw [hx, iI_toInt sw] at q
      have e : w = 18 := by omega
      subst e
      show K (ρ.1 19) _
      rw [e19]; exact h
end OP
