/-! THE MODEL's LAW: a day -/
set_option maxRecDepth 100000
def RI (B : Int) (g : yG) : Prop := RB B g ∧ RH g ∧ RM g
/-- a place that no rule on birds looks at -/
def neu (i : Nat) : Prop := i ≠ 10 ∧ ∀ k, k < 12 → i ≠ 34 + 6 * k + 0 ∧ i ≠ 34 + 6 * k + 2 ∧ i ≠ 34 + 6 * k + 3 ∧ i ≠ 34 + 6 * k + 4
section RI
variable {B : Int} {g : yG}
theorem RI.neu (h : RI B g) (i : Nat) {v : Int} (hn : neu i) (h1 : lo i ≤ v) (h2 : v ≤ hi B i) : RI B (st g i v) := by
  refine ⟨h.1.st i h1 h2, fun k hk hh => ?_, fun k hk hb => ?_⟩
  · have n := hn.2 k hk
    rw [st_n (Ne.symm n.1)] at hh
    rw [st_n (Ne.symm n.2.1), st_n (Ne.symm n.2.2.1)]
    exact h.2.1 k hk hh
  · have n := hn.2 k hk
    rw [st_n (Ne.symm hn.1)] at hb
    rw [st_n (Ne.symm n.2.2.2)]
    exact h.2.2 k hk hb
theorem RI.mono (h : RI B g) {C : Int} (hc : B ≤ C) : RI C g := ⟨h.1.mono hc, h.2⟩
theorem neu_lt {i : Nat} (h : i < 34) (h10 : i ≠ 10) : neu i := ⟨h10, fun k hk => by omega⟩
theorem neu_ge {i : Nat} (h : 106 ≤ i) : neu i := ⟨by omega, fun k hk => by omega⟩
theorem neu_1 (k : Nat) : neu (34 + 6 * k + 1) := ⟨by omega, fun k' hk => by omega⟩
theorem neu_5 (k : Nat) : neu (34 + 6 * k + 5) := ⟨by omega, fun k' hk => by omega⟩
/-- many or more of a bird -/
theorem RI.b23 (h : RI B g) (k j : Nat) {v : Int} (hk : k < 12) (hj : j = 2 ∨ j = 3) (h1 : 0 ≤ v) (h2 : v ≤ hi B (34 + 6 * k + j)) (hh : g (34 + 6 * k + 0) = 1 → (j = 2 → v ≤ 6) ∧ (j = 3 → v ≤ 27)) : RI B (st g (34 + 6 * k + j) v) := by
  refine ⟨h.1.st _ (by rw [lo_b k j hk (by omega) (by omega)]; exact h1) h2, fun k' hk' q => ?_, fun k' hk' q => ?_⟩
  · rw [st_n (by omega)] at q
    have := h.2.1 k' hk' q
    by_cases e : k' = k
    · subst e
      have := hh q
      rcases hj with rfl | rfl
      · rw [st_s, st_n (by omega)]; exact ⟨(hh q).1 rfl, (h.2.1 k' hk' q).2⟩
      · rw [st_s, st_n (by omega)]; exact ⟨(h.2.1 k' hk' q).1, (hh q).2 rfl⟩
    · rw [st_n (by omega), st_n (by omega)]
      exact this
  · rw [st_n (by omega)] at q
    rw [st_n (by omega)]
    exact h.2.2 k' hk' q
theorem itN_inv {f : yG → Nat → yG} {N : Nat} {P : Nat → yG → Prop} (h0 : P 0 g) (hs : ∀ i, i < N → ∀ g', P i g' → P (i + 1) (f g' i)) : ∀ i, i ≤ N → P i (itN f g i) := by
  intro i
  induction i with
  | zero => intro _; exact h0
  | succ i ih => intro hi; exact hs i (by omega) _ (ih (by omega))
/-! hedges grow -/
theorem grS_RI (h : RI B g) {k : Nat} (hk : k < 12) : RI B (grS g k) := by
  unfold grS
  have a := h.1.h k hk
  refine h.neu _ (neu_lt (by omega) (by omega)) ?_ ?_
  · rw [lo_0 (by omega)]; split <;> omega
  · rw [hi_h B k hk]; split <;> omega
theorem fGrow_RI (h : RI B g) : RI B (fGrow g) := by
  unfold fGrow
  split
  · exact itN_inv (P := fun _ g => RI B g) h (fun i hi g' h' => grS_RI h' hi) 12 (by omega)
  · exact h
theorem fGrow_o (g : yG) {i : Nat} (hi : i < 22 ∨ 34 ≤ i) : fGrow g i = g i := by
  unfold fGrow
  split
  · exact itN_inv (g := g) (N := 12) (P := fun _ g' => g' i = g i) rfl (fun k hk g' h' => by unfold grS; rw [st_n (by omega)]; exact h') 12 (by omega)
  · rfl
section MG
variable {ρ : yMS}
theorem M_grow0 {K : yMS → Prop} (h : K (mr ρ g)) : wpM_X3_grow_32 0 0 (mr ρ g) K := by
  unfold wpM_X3_grow_32
  exact lp_up (F := fun r (s : Int32 × Int32 × yMS) => stM_X3_grow_32 K (fun l1 l2 ρ => r (l1, l2, ρ)) s.1 s.2.1 s.2.2) 0 (fun _ => ((0 : Int32), (0 : Int32), mr ρ g)) (fun i hi => absurd hi (by omega)) (fun r => ⟨fun q => absurd (show (12 : Int32) ≤ 0 from q) (by decide), fun _ => ⟨fun _ => h, fun q => absurd rfl q⟩⟩)
theorem M_grow1 {K : yMS → Prop} (hB : RI B g) (h : K (mr ρ (itN grS g 12))) : wpM_X3_grow_32 1 0 (mr ρ g) K := by
  unfold wpM_X3_grow_32
  refine lp_up (F := fun r (s : Int32 × Int32 × yMS) => stM_X3_grow_32 K (fun l1 l2 ρ => r (l1, l2, ρ)) s.1 s.2.1 s.2.2) 12 (fun i => ((1 : Int32), nI i, mr ρ (itN grS g i))) (fun i hi r hr => ?_) (fun r => ⟨fun _ => h, fun q => absurd (show (12 : Int32) ≤ nI 12 from by decide) q⟩)
  have hI : RI B (itN grS g i) := itN_inv (N := 12) (P := fun _ g => RI B g) hB (fun i hi g' h' => grS_RI h' hi) i (by omega)
  have ei : (22 : Int32) + nI i = nI (22 + i) := nI_add 22 i
  have hr : r (1, nI i + 1, mr ρ (grS (itN grS g i) i)) := by rw [nI_1]; exact hr
  refine ⟨fun q => absurd q (nI_ge (b := 12) hi (by omega)), fun _ => ⟨fun q => absurd (show (1 : Int32) = 0 from q) (by decide), fun _ => mr_ld (22 + i) ei (by omega) (mr_ld (22 + i) ei (by omega) (mr_ast (22 + i) _ ei ?_ (by omega) hr))⟩⟩
  have hs := hI.1.smh i hi
  by_cases q : 20 ≤ itN grS g i (22 + i)
  · rw [if_pos q, if_pos (show (20 : Int32) ≤ iI _ from (iI_le (a := 20) ⟨by omega, by omega⟩ hs).mpr q)]
    exact iI_add _ 0
  · rw [if_neg q, if_neg (show ¬ (20 : Int32) ≤ iI (itN grS g i (22 + i)) from fun z => q ((iI_le (a := 20) ⟨by omega, by omega⟩ hs).mp z))]
    exact iI_add _ 1
theorem M_grow {K : yMS → Prop} (hB : RI B g) (hb : B ≤ 1000000000) (h : K (mr ρ (fGrow g))) : wpM_X3_grow (mr ρ g) K := by
  unfold wpM_X3_grow
  have hd := hB.1.s 0 (by omega) (by omega)
  refine M_month hd.1 (by omega) (M_isBetween (lo := 2) (hi := 8) rfl rfl rfl ⟨by omega, by omega⟩ ⟨by omega, by omega⟩ ⟨by omega, by omega⟩ ⟨fun q => ?_, fun q => mr_ld 0 rfl (by omega) ?_⟩)
  · unfold fGrow mon at h
    rw [if_neg (fun z => bI_0.mp q z.1)] at h
    exact M_grow0 h
  · have hp : 2 ≤ g 0 / 30 % 12 ∧ g 0 / 30 % 12 ≤ 8 := Classical.byContradiction fun z => q (bI_0.mpr z)
    have e : iI (g 0) - iI (g 0) / (3 : Int32) * (3 : Int32) = iI (g 0 % 3) := iI_rem (d := 3) hd.1 (by omega) (by omega) (by omega)
    rw [e]
    unfold fGrow mon at h
    by_cases z : g 0 % 3 = 0
    · rw [if_pos ⟨hp, z⟩] at h
      rw [if_pos (show iI (g 0 % 3) = 0 by rw [z]; rfl)]
      exact M_grow1 hB h
    · rw [if_neg (fun w => z w.2)] at h
      rw [if_neg (show ¬ iI (g 0 % 3) = (0 : Int32) from fun w => z ((iI_eq (b := 0) ⟨by omega, by omega⟩ ⟨by omega, by omega⟩).mp w))]
      exact M_grow0 h
end MG
end RI
/-! moult -/
section RI
variable {B : Int} {g : yG}
theorem shB_RI (h : RI B g) {k : Nat} {v : Int} (hk : k < 12) (hc : g (34 + 6 * k + 0) ≠ 1) (h0 : 0 ≤ v) (h5 : v ≤ 5) (hv : v ≤ g (34 + 6 * k + 2)) : RI (B + 5) (shB g k v) := by
  unfold shB
  have a2 := h.1.b2 k hk
  have a1 := h.1.b1 k hk
  have a5 := h.1.b5 k hk
  have i1 : RI (B + 5) (st g (34 + 6 * k + 2) (g (34 + 6 * k + 2) - v)) := (h.mono (by omega)).b23 k 2 hk (Or.inl rfl) (by omega) (by rw [hi_b _ k 2 hk (by omega)]; show _ ≤ (150 : Int); omega) (fun q => absurd q hc)
  have i2 := i1.neu (34 + 6 * k + 5) (v := g (34 + 6 * k + 5) + v) (neu_5 k) (by rw [lo_b k 5 hk (by omega) (by omega)]; omega) (by rw [hi_b _ k 5 hk (by omega)]; show _ ≤ B + 5; omega)
  have al := h.1.l (g (34 + 6 * k + 1)).toNat (by omega)
  have i3 := i2.neu (13 + (g (34 + 6 * k + 1)).toNat) (v := g (13 + (g (34 + 6 * k + 1)).toNat) + v) (neu_lt (by omega) (by omega)) (by rw [lo_0 (by omega)]; omega) (by rw [hi_l _ _ (by omega)]; omega)
  have a9 := h.1.s 9 (by omega) (by omega)
  have i4 := i3.neu 9 (v := g 9 + v) (neu_lt (by omega) (by omega)) (by rw [lo_0 (by omega)]; omega) (by rw [hi_s _ 9 (by omega) (by omega)]; omega)
  have e5 : st g (34 + 6 * k + 2) (g (34 + 6 * k + 2) - v) (34 + 6 * k + 5) = g (34 + 6 * k + 5) := st_n (by omega)
  have e1 : st (st g (34 + 6 * k + 2) (g (34 + 6 * k + 2) - v)) (34 + 6 * k + 5) (g (34 + 6 * k + 5) + v) (34 + 6 * k + 1) = g (34 + 6 * k + 1) := by rw [st_n (by omega), st_n (by omega)]
  have el : st (st g (34 + 6 * k + 2) (g (34 + 6 * k + 2) - v)) (34 + 6 * k + 5) (g (34 + 6 * k + 5) + v) (13 + (g (34 + 6 * k + 1)).toNat) = g (13 + (g (34 + 6 * k + 1)).toNat) := by rw [st_n (by omega), st_n (by omega)]
  have e9 : st (st (st g (34 + 6 * k + 2) (g (34 + 6 * k + 2) - v)) (34 + 6 * k + 5) (g (34 + 6 * k + 5) + v)) (13 + (g (34 + 6 * k + 1)).toNat) (g (13 + (g (34 + 6 * k + 1)).toNat) + v) 9 = g 9 := by rw [st_n (by omega), st_n (by omega), st_n (by omega)]
  simp only [e5, e1, el, e9]
  exact i4
theorem shB_o (g : yG) (k : Nat) (v : Int) {i : Nat} (h : i = 0 ∨ i = 10 ∨ i = 11 ∨ i = 12) : shB g k v i = g i := by
  unfold shB
  rw [st_n (by omega), st_n (by omega), st_n (by omega), st_n (by omega)]
theorem moS_RI (h : RI B g) {k : Nat} (hk : k < 12) : RI (B + 5) (moS g k) := by
  unfold moS
  have a2 := h.1.b2 k hk
  split
  · exact h.mono (by omega)
  · rename_i hc
    split
    · refine shB_RI h hk hc ?_ ?_ ?_ <;> split <;> omega
    · split
      · exact (h.mono (by omega)).b23 k 2 hk (Or.inl rfl) (by split <;> omega) (by rw [hi_b _ k 2 hk (by omega)]; show _ ≤ (150 : Int); split <;> omega) (fun q => absurd q hc)
      · exact h.mono (by omega)
theorem moS_o (g : yG) (k : Nat) {i : Nat} (h : i = 0 ∨ i = 10 ∨ i = 11 ∨ i = 12) : moS g k i = g i := by
  unfold moS
  split
  · rfl
  · split
    · exact shB_o g k _ h
    · split
      · rw [st_n (by omega)]
      · rfl
theorem moN_o (g : yG) {i : Nat} (h : i = 0 ∨ i = 10 ∨ i = 11 ∨ i = 12) : ∀ n, itN moS g n i = g i := by
  intro n
  induction n with
  | zero => rfl
  | succ n ih => exact (moS_o _ n h).trans ih
theorem moN_RI (h : RI B g) {n : Nat} (hn : n ≤ 12) : RI (B + 5 * n) (itN moS g n) :=
  itN_inv (N := 12) (P := fun i g => RI (B + 5 * i) g) (by simpa using h) (fun i hi g' h' => (moS_RI h' hi).mono (by omega)) n hn
theorem fMoult_RI (h : RI B g) : RI (B + 60) (fMoult g) := by
  have := h.1.nb
  exact (moN_RI h (n := (g 10).toNat) (by omega)).mono (by omega)
theorem fMoult_o (g : yG) {i : Nat} (h : i = 0 ∨ i = 10 ∨ i = 11 ∨ i = 12) : fMoult g i = g i := moN_o g h _
section MG
variable {ρ : yMS}
theorem M_shedOf_20 {x t : Int32} {k : Nat} {v : Int} {K : yMS → Prop} (hx : x = nI k) (ht : t = iI v) (hk : k < 12) (hl : 0 ≤ g (34 + 6 * k + 1) ∧ g (34 + 6 * k + 1) ≤ 8) (h : K (mr ρ (shB g k v))) : wpM_X3_shedOf_20 x t (mr ρ g) K := by
  subst ht
  unfold wpM_X3_shedOf_20
  unfold shB at h
  simp only at h
  have e1 : st (st g (34 + 6 * k + 2) (g (34 + 6 * k + 2) - v)) (34 + 6 * k + 5) (st g (34 + 6 * k + 2) (g (34 + 6 * k + 2) - v) (34 + 6 * k + 5) + v) (34 + 6 * k + 1) = g (34 + 6 * k + 1) := by rw [st_n (by omega), st_n (by omega)]
  rw [e1] at h
  refine M_of k 2 hx rfl hk (by omega) (M_put k 2 _ hx rfl (iI_sub _ _) hk (by omega) (M_of k 5 hx rfl hk (by omega) (M_put k 5 _ hx rfl (iI_add _ _) hk (by omega) (M_of k 1 hx rfl hk (by omega) ?_))))
  rw [e1]
  have el : (13 : Int32) + iI (g (34 + 6 * k + 1)) = nI (13 + (g (34 + 6 * k + 1)).toNat) := by rw [iI_nat hl.1]; exact nI_add 13 _
  exact mr_ld _ el (by omega) (mr_ast _ _ el (iI_add _ _) (by omega) (mr_ld 9 rfl (by omega) (mr_ast 9 _ rfl (iI_add _ _) (by omega) h)))
theorem M_shedOf {x : Int32} {k : Nat} {K : yMS → Prop} (hx : x = nI k) (hk : k < 12) (hB : RB B g) (h : K (mr ρ (shB g k (if 5 ≤ g (34 + 6 * k + 2) then 5 else g (34 + 6 * k + 2))))) : wpM_X3_shedOf (mr ρ g) x K := by
  unfold wpM_X3_shedOf
  refine M_of k 2 hx rfl hk (by omega) ⟨fun q => ?_, fun q => M_of k 2 hx rfl hk (by omega) ?_⟩
  · have q' := (iI_le (a := 5) ⟨by omega, by omega⟩ (hB.sm2 k hk)).mp q
    rw [if_pos q'] at h
    exact M_shedOf_20 hx rfl hk (hB.b1 k hk) h
  · have q' := fun z => q ((iI_le (a := 5) ⟨by omega, by omega⟩ (hB.sm2 k hk)).mpr z)
    rw [if_neg q'] at h
    exact M_shedOf_20 hx rfl hk (hB.b1 k hk) h
end MG
end RI
section RI
variable {B : Int} {g : yG} {ρ : yMS}
theorem M_gro {k : Nat} {C : yMS → Prop} (hk : k < 12) (hB : RB B g) (h : C (mr ρ (st g (34 + 6 * k + 2) (if g (34 + 6 * k + 2) + 2 ≤ 150 then g (34 + 6 * k + 2) + 2 else 150)))) :
    wpM_X3_of (mr ρ g) (nI k) 2 (fun r9 ρ8 => (((r9 + (2 : Int32)) ≤ (150 : Int32)) → wpM_X3_of ρ8 (nI k) 2 (fun r11 ρ10 => wpM_X3_put ρ10 (nI k) 2 (r11 + (2 : Int32)) (fun ρ12 => C ρ12))) ∧ (¬ ((r9 + (2 : Int32)) ≤ (150 : Int32)) → wpM_X3_put ρ8 (nI k) 2 150 (fun ρ13 => C ρ13))) := by
  have a2 := hB.b2 k hk
  refine M_of k 2 rfl rfl hk (by omega) ?_
  rw [show iI (g (34 + 6 * k + 2)) + (2 : Int32) = iI (g (34 + 6 * k + 2) + 2) from iI_add _ 2]
  have hle := iI_le (a := g (34 + 6 * k + 2) + 2) (b := 150) ⟨by omega, by omega⟩ ⟨by omega, by omega⟩
  refine ⟨fun q => ?_, fun q => ?_⟩
  · rw [if_pos (hle.mp q)] at h
    exact M_of k 2 rfl rfl hk (by omega) (M_put k 2 _ rfl rfl (iI_add _ 2) hk (by omega) h)
  · rw [if_neg (fun z => q (hle.mpr z))] at h
    exact M_put k 2 150 rfl rfl rfl hk (by omega) h
theorem M_moult {K : yMS → Prop} (hB : RI B g) (hb : B ≤ 900000000) (h : K (mr ρ (fMoult g))) : wpM_X3_moult (mr ρ g) K := by
  unfold wpM_X3_moult wpM_X3_moult_2
  have hnb := hB.1.nb
  have hd := hB.1.s 0 (by omega) (by omega)
  refine lp_up (F := fun r (s : Int32 × yMS) => stM_X3_moult_2 K (fun l1 ρ => r (l1, ρ)) s.1 s.2) (g 10).toNat (fun i => (nI i, mr ρ (itN moS g i))) (fun i hi r hr => ?_) (fun r => ?_)
  · have hI : RI (B + 5 * i) (itN moS g i) := moN_RI hB (by omega)
    have h10 : itN moS g i 10 = g 10 := moN_o g (by omega) i
    have h0 : itN moS g i 0 = g 0 := moN_o g (by omega) i
    have hr : r (nI i + 1, mr ρ (moS (itN moS g i) i)) := by rw [nI_1]; exact hr
    generalize itN moS g i = gi at hI h10 h0 hr
    have hm : 0 ≤ gi 0 / 30 % 12 ∧ gi 0 / 30 % 12 < 12 := ⟨by omega, by omega⟩
    have hk : i < 12 := by omega
    unfold moS mon at hr
    refine mr_ld 10 rfl (by omega) ⟨fun q => absurd q ?_, fun _ => M_isHen i rfl hk (hI.1.sm0 i hk) ⟨fun q => ?_, fun q => ?_⟩⟩
    · rw [h10, iI_nat hnb.1]
      exact nI_ge (by omega) (by omega)
    · have hh : gi (34 + 6 * i + 0) = 1 := Classical.byContradiction fun z => q (bI_0.mpr z)
      rw [if_pos hh] at hr
      exact M_isHen i rfl hk (hI.1.sm0 i hk) ⟨fun _ => hr, fun q2 => absurd hh (bI_0.mp q2)⟩
    · have hh := bI_0.mp q
      rw [if_neg hh] at hr
      refine M_month (by omega) (by omega) (M_isBetween (lo := 6) (hi := 8) rfl rfl rfl ⟨by omega, by omega⟩ ⟨by omega, by omega⟩ ⟨by omega, by omega⟩ ⟨fun q2 => ?_, fun q2 => ?_⟩)
      · rw [if_neg (bI_0.mp q2)] at hr
        refine M_isHen i rfl hk (hI.1.sm0 i hk) ⟨fun q3 => absurd (bI_0.mpr hh) q3, fun _ => M_month (by omega) (by omega) ⟨fun q4 => ?_, fun q4 => M_month (by omega) (by omega) ⟨fun q5 => ?_, fun q5 => ?_⟩⟩⟩
        · have q4' := (iI_le (a := 10) ⟨by omega, by omega⟩ ⟨by omega, by omega⟩).mp q4
          rw [if_pos (Or.inl q4')] at hr
          exact M_gro (C := fun ρ => r (nI i + 1, ρ)) hk hI.1 hr
        · have q4' : ¬ 10 ≤ gi 0 / 30 % 12 := fun z => q4 ((iI_le (a := 10) ⟨by omega, by omega⟩ ⟨by omega, by omega⟩).mpr z)
          have q5' := (iI_lt (a := 1) ⟨by omega, by omega⟩ ⟨by omega, by omega⟩).mp q5
          rw [if_neg (by omega)] at hr
          exact hr
        · have q5' : ¬ 1 < gi 0 / 30 % 12 := fun z => q5 ((iI_lt (a := 1) ⟨by omega, by omega⟩ ⟨by omega, by omega⟩).mpr z)
          rw [if_pos (Or.inr (by omega))] at hr
          exact M_gro (C := fun ρ => r (nI i + 1, ρ)) hk hI.1 hr
      · have q2' := Classical.byContradiction fun z => q2 (bI_0.mpr z)
        rw [if_pos q2'] at hr
        exact M_shedOf rfl hk hI.1 hr
  · have h10 : itN moS g (g 10).toNat 10 = g 10 := moN_o g (by omega) _
    refine mr_ld 10 rfl (by omega) ⟨fun _ => h, fun q => absurd ?_ q⟩
    rw [h10, iI_nat hnb.1]
    exact Int32.le_refl _
end RI
