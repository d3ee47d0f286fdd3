/-! THE MODEL's LAW: seats, finds -/
set_option maxRecDepth 100000
section OP
variable {B : Int} {g : yG} {ρ : yMS} {t r d c : Int32}
theorem O_lacks {x y : Int32} {k : Nat} {z : Int} {K : Int32 → yMS → Prop} (hx : x = nI k) (hy : y = iI z) (hkk : k < 3) (hz : 0 ≤ z ∧ z ≤ 1000) (hI : RI B g) (h1 : g (106 + 4 * k + 1) < z → K 1 (mr (sc ρ t 6 (iI (z - g (106 + 4 * k + 1))) 0) g)) (h2 : ¬ g (106 + 4 * k + 1) < z → K 0 (mr (sc ρ t r d c) g)) : wpM_X3_lacksHours (mr (sc ρ t r d c) g) x y K := by
  have a1 := hI.1.k k 1 hkk (by omega)
  rw [if_neg (by omega), if_pos rfl] at a1
  subst hy
  unfold wpM_X3_lacksHours
  refine M_ofKeeper k 1 hx rfl hkk (by omega) (M_ofKeeper k 1 hx rfl hkk (by omega) ?_)
  rw [iI_leb rfl rfl ⟨by omega, by omega⟩ ⟨by omega, by omega⟩, iI_sub]
  exact O_refuse (fun q => ⟨rfl, h1 q⟩) (fun q => ⟨rfl, h2 q⟩)
def oSeat (g : yG) (z m : Int) : yO :=
  if ¬ (0 ≤ z ∧ z < g 12) then oT 1
  else if ¬ (1 ≤ m ∧ m ≤ 6) then oT 2
  else if 6 - g (118 + 3 * z.toNat + 1) < m then oR 3 9 (6 - g (118 + 3 * z.toNat + 1))
  else
    (let g1 := st g (118 + 3 * z.toNat + 1) (g (118 + 3 * z.toNat + 1) + m)
     let g2 := st g1 (118 + 3 * z.toNat + 2) (g1 (118 + 3 * z.toNat + 2) + m)
     let g3 := st g2 2 (g2 2 + 2 * m)
     oK (g3 (118 + 3 * z.toNat + 1)) g3)
theorem M_seat {x y : Int32} {z m : Int} {K : Int32 → yMS → Prop} (hx : x = iI z) (hy : y = iI m) (sz : sm z) (sm' : sm m) (hI : RI B g) (hb : B ≤ 1000000000) (hk : vp_in (ρ.1 6) 9) (h : mRes ρ r d c g K (oSeat g z m)) : wpM_X3_seat (mr (sc ρ t r d c) g) x y K := by
  have hnn := hI.1.nn
  unfold wpM_X3_seat
  unfold oSeat at h
  try simp only at h
  refine M_isBench hx sz hnn ?_
  rw [bI_not]
  refine O_fails (fun p => ⟨fun _ => ?_, fun q => absurd q one0⟩) (fun p => ⟨fun q => absurd rfl q, fun _ => M_isBetween (lo := 1) (hi := 6) hy rfl rfl sm' ⟨by omega, by omega⟩ ⟨by omega, by omega⟩ ?_⟩)
  · rw [if_pos p] at h; exact h
  rw [if_neg p] at h
  have p' : 0 ≤ z ∧ z < g 12 := Classical.byContradiction p
  have hz : z.toNat < 4 := by omega
  have ex : x = nI z.toNat := by rw [hx, iI_nat p'.1]
  have a1 := hI.1.n z.toNat 1 hz (by omega)
  rw [if_neg (by omega), if_pos rfl] at a1
  rw [bI_not]
  refine O_fails (fun p2 => ⟨fun q => absurd q one0, fun _ => ?_⟩) (fun p2 => ⟨fun _ => M_ofBench _ 1 ex rfl hz (by omega) ?_, fun q => absurd rfl q⟩)
  · rw [if_pos p2] at h; exact h
  rw [if_neg p2] at h
  have p2' : 1 ≤ m ∧ m ≤ 6 := Classical.byContradiction p2
  rw [show (6 : Int32) - iI (g (118 + 3 * z.toNat + 1)) = iI (6 - g (118 + 3 * z.toNat + 1)) from iI_sub 6 _, iI_leb hy rfl ⟨by omega, by omega⟩ ⟨by omega, by omega⟩]
  have i1 : (118 : Int32) + (3 : Int32) * x + (1 : Int32) = nI (118 + 3 * z.toNat + 1) := by rw [ex]; exact ix3 z.toNat 1
  have i2 : (118 : Int32) + (3 : Int32) * x + (2 : Int32) = nI (118 + 3 * z.toNat + 2) := by rw [ex]; exact ix3 z.toNat 2
  refine O_refuse (fun q => ?_) (fun q => ?_)
  · rw [if_pos q] at h
    exact O_fails (p := True) (fun _ => ⟨fun w => absurd w one0, fun _ => h⟩) (fun w => absurd trivial w)
  · rw [if_neg q] at h
    exact O_fails (p := False) (fun w => w.elim) (fun _ => ⟨fun _ => O_change hk (mr_ld _ i1 (by omega) (mr_ast _ _ i1 (by rw [hy]; exact iI_add _ _) (by omega) (mr_ld _ i2 (by omega) (mr_ast _ _ i2 (by rw [hy]; exact iI_add _ _) (by omega) (mr_ld 2 rfl (by omega) (mr_ast 2 _ rfl (by rw [hy, show (2 : Int32) * iI m = iI (2 * m) from iI_mul 2 m]; exact iI_add _ _) (by omega) (M_ofBench _ 1 ex rfl hz (by omega) (okv h)))))))), fun w => absurd rfl w⟩)
def oFind (g : yG) (z : Int) : yO :=
  if ¬ (0 ≤ z ∧ z < g 11) then oT 1
  else
    (let k := z.toNat
     let l := 13 + (g (106 + 4 * k + 0)).toNat
     if g l = 0 then oR 2 7 (g (106 + 4 * k + 0))
     else if g (106 + 4 * k + 1) < 1 then oR 2 6 (1 - g (106 + 4 * k + 1))
     else
       (let v := if 15 ≤ g l then 15 else g l
        let g1 := st g l (g l - v)
        let g2 := st g1 3 (g1 3 + v)
        let g3 := st g2 (106 + 4 * k + 1) (g2 (106 + 4 * k + 1) + -1)
        oK v (st g3 (106 + 4 * k + 2) (g3 (106 + 4 * k + 2) + v))))
theorem M_find {x : Int32} {z : Int} {K : Int32 → yMS → Prop} (hx : x = iI z) (sz : sm z) (hI : RI B g) (hb : B ≤ 1000000000) (hk : vp_in (ρ.1 6) 9) (h : mRes ρ r d c g K (oFind g z)) : wpM_X3_find (mr (sc ρ t r d c) g) x K := by
  have hnk := hI.1.nk
  unfold wpM_X3_find
  unfold oFind at h
  try simp only at h
  refine M_isKeeper hx sz hnk ?_
  rw [bI_not]
  refine O_fails (fun p => ⟨fun _ => ?_, fun q => absurd q one0⟩) (fun p => ⟨fun q => absurd rfl q, fun _ => ?_⟩)
  · rw [if_pos p] at h; exact h
  rw [if_neg p] at h
  have p' : 0 ≤ z ∧ z < g 11 := Classical.byContradiction p
  have hz : z.toNat < 3 := by omega
  have ex : x = nI z.toNat := by rw [hx, iI_nat p'.1]
  generalize z.toNat = k at h hz ex
  have a0 := hI.1.k k 0 hz (by omega)
  rw [if_pos rfl] at a0
  have al := hI.1.l (g (106 + 4 * k + 0)).toNat (by omega)
  have el : (13 : Int32) + iI (g (106 + 4 * k + 0)) = nI (13 + (g (106 + 4 * k + 0)).toNat) := by rw [iI_nat a0.1]; exact nI_add 13 _
  unfold wpM_X3_isFindRefused
  refine M_ofKeeper k 0 ex rfl hz (by omega) (mr_ld _ el (by omega) ?_)
  rw [show (if iI (g (13 + (g (106 + 4 * k + 0)).toNat)) = 0 then (1 : Int32) else 0) = bI (g (13 + (g (106 + 4 * k + 0)).toNat) = 0) from iI_eqb rfl rfl ⟨by omega, by omega⟩ (b := 0) ⟨by omega, by omega⟩]
  refine O_refuse (fun q => ⟨fun _ => ?_, fun w => absurd w one0⟩) (fun q => ⟨fun w => absurd rfl w, fun _ => O_lacks (z := 1) ex rfl hz (by omega) hI (fun q2 => ?_) (fun q2 => ?_)⟩)
  · rw [if_pos q] at h
    exact O_fails (p := True) (fun _ => ⟨fun w => absurd w one0, fun _ => h⟩) (fun w => absurd trivial w)
  · rw [if_neg q, if_pos q2] at h
    exact O_fails (p := True) (fun _ => ⟨fun w => absurd w one0, fun _ => h⟩) (fun w => absurd trivial w)
  · rw [if_neg q, if_neg q2] at h
    have hle := iI_le (a := 15) (b := g (13 + (g (106 + 4 * k + 0)).toNat)) ⟨by omega, by omega⟩ ⟨by omega, by omega⟩
    refine O_fails (p := False) (fun w => w.elim) (fun _ => ⟨fun _ => O_change hk (M_ofKeeper k 0 ex rfl hz (by omega) (mr_ld _ el (by omega) ⟨fun q3 => ?_, fun q3 => ?_⟩)), fun w => absurd rfl w⟩)
    · rw [if_pos (hle.mp q3)] at h
      exact mr_ld _ el (by omega) (mr_ast _ _ el (iI_sub _ 15) (by omega) (mr_ld 3 rfl (by omega) (mr_ast 3 _ rfl (iI_add _ 15) (by omega) (M_addKeeper k 1 (-1) ex rfl rfl hz (by omega) (M_addKeeper k 2 15 ex rfl rfl hz (by omega) (okv h))))))
    · rw [if_neg (fun w => q3 (hle.mpr w))] at h
      exact mr_ld _ el (by omega) (mr_ld _ el (by omega) (mr_ast _ _ el (iI_sub _ _) (by omega) (mr_ld 3 rfl (by omega) (mr_ast 3 _ rfl (iI_add _ _) (by omega) (M_addKeeper k 1 (-1) ex rfl rfl hz (by omega) (M_addKeeper k 2 _ ex rfl rfl hz (by omega) (okv h)))))))
end OP
