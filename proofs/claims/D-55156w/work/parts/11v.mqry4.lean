/-! THE MODEL's LAW: what is on a lawn -/
set_option maxRecDepth 100000
section OP
variable {B : Int} {g : yG} {ρ : yMS} {t r d c : Int32}
theorem hi_le (B : Int) (hB : 0 ≤ B) (i : Nat) : hi B i ≤ B + 150 := by
  unfold hi
  repeat' split
  all_goals omega
theorem lo_ge (i : Nat) : -1 ≤ lo i := by
  unfold lo
  split <;> omega
theorem RB.sm (h : RB B g) (h0 : 0 ≤ B) (hb : B ≤ 1000000000) (i : Nat) (hi' : i < 130) : sm (g i) := by
  have a := h i hi'
  have b := hi_le B h0 i
  have c := lo_ge i
  exact ⟨by omega, by omega⟩
def qLawn (g : yG) (l w : Int) : yQ :=
  if ¬ (0 ≤ l ∧ l ≤ 8) then .inl 1
  else if ¬ (0 ≤ w ∧ w ≤ 4) then .inl 2
  else .inr (if w = 0 then g (13 + l.toNat) else if w = 1 then (coN g l 35 6 (g 10).toNat : Nat) else if w = 2 then (coN g l 118 3 (g 12).toNat : Nat) else if w = 3 then (coN g l 106 4 (g 11).toNat : Nat) else g (22 + wo g l.toNat))
theorem M_lawnOf {x y : Int32} {l w : Int} {K : Int32 → yMS → Prop} (hx : x = iI l) (hy : y = iI w) (sl : sm l) (sw : sm w) (hI : RI B g) (h0 : 0 ≤ B) (hb : B ≤ 1000000000) (h : qRes ρ r d c g K (qLawn g l w)) : wpM_X3_lawnOf (mr (sc ρ t r d c) g) x y K := by
  have hnb := hI.1.nb
  have hnk := hI.1.nk
  have hnn := hI.1.nn
  unfold wpM_X3_lawnOf
  unfold qLawn at h
  refine M_isLawn hx sl ?_
  rw [bI_not]
  refine O_fails (fun p => ⟨fun _ => ?_, fun q => absurd q one0⟩) (fun p => ⟨fun q => absurd rfl q, fun _ => M_isBetween (lo := 0) (hi := 4) hy rfl rfl sw ⟨by omega, by omega⟩ ⟨by omega, by omega⟩ ?_⟩)
  · rw [if_pos p] at h; exact h
  rw [if_neg p] at h
  have p' : 0 ≤ l ∧ l ≤ 8 := Classical.byContradiction p
  have ex : x = nI l.toNat := by rw [hx, iI_nat p'.1]
  rw [bI_not]
  refine O_fails (fun p2 => ⟨fun q => absurd q one0, fun _ => ?_⟩) (fun p2 => ⟨fun _ => ?_, fun q => absurd rfl q⟩)
  · rw [if_pos p2] at h; exact h
  rw [if_neg p2] at h
  have p2' : 0 ≤ w ∧ w ≤ 4 := Classical.byContradiction p2
  have ew := fun (n : Int) (hn : 0 ≤ n ∧ n ≤ 4) (q : y = iI n) => (iI_eq (a := w) (b := n) ⟨by omega, by omega⟩ ⟨by omega, by omega⟩).mp (hy.symm.trans q)
  have S := fun i hi' => hI.1.sm h0 hb i hi'
  refine ⟨fun q => ?_, fun q => ?_, fun q => ?_, fun q => ?_, fun q => ?_⟩
  · rw [if_pos (ew 0 (by omega) q)] at h
    exact mr_ld (13 + l.toNat) (by rw [ex]; exact nI_add 13 _) (by omega) h
  · have e := ew 1 (by omega) q
    rw [if_neg (by omega), if_pos e] at h
    exact mr_ld 10 rfl (by omega) (M_countOn hx (f := 35) (s := 6) rfl rfl (iI_nat hnb.1) (by omega) sl (fun i hi' => ⟨by omega, S _ (by omega)⟩) (by rw [nI_iI]; exact h))
  · have e := ew 2 (by omega) q
    rw [if_neg (by omega), if_neg (by omega), if_pos e] at h
    exact mr_ld 12 rfl (by omega) (M_countOn hx (f := 118) (s := 3) rfl rfl (iI_nat hnn.1) (by omega) sl (fun i hi' => ⟨by omega, S _ (by omega)⟩) (by rw [nI_iI]; exact h))
  · have e := ew 3 (by omega) q
    rw [if_neg (by omega), if_neg (by omega), if_neg (by omega), if_pos e] at h
    exact mr_ld 11 rfl (by omega) (M_countOn hx (f := 106) (s := 4) rfl rfl (iI_nat hnk.1) (by omega) sl (fun i hi' => ⟨by omega, S _ (by omega)⟩) (by rw [nI_iI]; exact h))
  · rw [hy, iI_toInt sw] at q
    rw [if_neg (by omega), if_neg (by omega), if_neg (by omega), if_neg (by omega)] at h
    have hw := wo_ok g (l := l.toNat) (by omega)
    exact M_wayOut ex (by omega) hI.1.smh (mr_ld (22 + wo g l.toNat) (nI_add 22 _) (by omega) h)
end OP
