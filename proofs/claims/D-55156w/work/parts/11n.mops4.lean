/-! THE MODEL's LAW: days pass -/
set_option maxRecDepth 100000
def dyN (g : yG) : Nat → yG
  | 0 => g
  | n+1 => fDay (dyN g n)
section OP
variable {B : Int} {g : yG} {ρ : yMS} {t r d c : Int32}
theorem dyN_RI (hI : RI B g) (hB : 0 ≤ B) : ∀ n : Nat, RI (B + 300 * n) (dyN g n) := by
  intro n
  induction n with
  | zero => show RI (B + 300 * ((0 : Nat) : Int)) g; simpa using hI
  | succ n ih => exact (fDay_RI ih (by omega)).mono (by omega)
theorem sc_15 (v : Int32) : sS (sc ρ t r d c) 15 v = sc (sS ρ 15 v) t r d c := by
  unfold sS sc upd
  congr 1
  funext k
  by_cases h : k = 15
  · subst h; rfl
  · simp only [if_neg h]
def oPass (g : yG) (z : Int) : yO := if ¬ (1 ≤ z ∧ z ≤ 60) then oT 1 else oK (dyN g z.toNat 9 - g 9) (dyN g z.toNat)
/-- the hatching of the last of so many days -/
def hvN (g : yG) (v : Int32) : Nat → Int32
  | 0 => v
  | n+1 => dayH (dyN g n)
theorem M_pass_39 {x : Int32} {n : Nat} {a : Int} {K : Int32 → yMS → Prop} (hx : x = nI n) (hn : n ≤ 100) (hI : RI B g) (h0 : 27 ≤ B) (hb : B ≤ 600000000) (h : ∀ hv, K (iI (dyN g n 9 - a)) (mr (sc (sS ρ 15 hv) t r d c) (dyN g n))) : wpM_X3_pass_39 x (iI a) 0 (mr (sc ρ t r d c) g) K := by
  subst hx
  unfold wpM_X3_pass_39
  have e0 : mr (sc ρ t r d c) g = mr (sc (sS ρ 15 (hvN g (ρ.1 15) 0)) t r d c) (dyN g 0) := by
    show _ = mr (sc (sS ρ 15 (ρ.1 15)) t r d c) g
    rw [sS_eta]
  rw [e0]
  refine lp_up (F := fun r' (s : Int32 × Int32 × Int32 × yMS) => stM_X3_pass_39 K (fun l1 l2 l3 ρ => r' (l1, l2, l3, ρ)) s.1 s.2.1 s.2.2.1 s.2.2.2) n (fun i => (nI n, iI a, nI i, mr (sc (sS ρ 15 (hvN g (ρ.1 15) i)) t r d c) (dyN g i))) (fun i hi r' hr => ?_) (fun r' => ?_)
  · have hr : r' (nI n, iI a, nI i + 1, mr (sc (sS ρ 15 (dayH (dyN g i))) t r d c) (fDay (dyN g i))) := by rw [nI_1]; exact hr
    have hD := dyN_RI hI (by omega) i
    refine ⟨fun q => absurd q (nI_ge hi (by omega)), fun _ => M_goDay hD (by omega) (by omega) ?_⟩
    rw [sc_15, sS_sS]
    exact hr
  · refine ⟨fun _ => mr_ld 9 rfl (by omega) ?_, fun q => absurd (Int32.le_refl _) q⟩
    rw [iI_sub]
    exact h _
theorem M_pass {x : Int32} {z : Int} {K : Int32 → yMS → Prop} (hx : x = iI z) (sz : sm z) (hI : RI B g) (h0 : 27 ≤ B) (hb : B ≤ 600000000) (hk : vp_in (ρ.1 6) 9) (h : mRes ρ r d c g K (oPass g z)) : wpM_X3_pass (mr (sc ρ t r d c) g) x K := by
  unfold wpM_X3_pass
  unfold oPass at h
  refine M_isBetween (lo := 1) (hi := 60) hx rfl rfl sz ⟨by omega, by omega⟩ ⟨by omega, by omega⟩ ?_
  rw [bI_not]
  refine O_fails (fun p => ⟨fun q => absurd q one0, fun _ => ?_⟩) (fun p => ⟨fun _ => O_change hk (mr_ld 9 rfl (by omega) ?_), fun q => absurd rfl q⟩)
  · rw [if_pos p] at h; exact h
  · rw [if_neg p] at h
    have p' : 1 ≤ z ∧ z ≤ 60 := Classical.byContradiction p
    exact M_pass_39 (by rw [hx, iI_nat (by omega)]) (by omega) hI h0 hb h
end OP
