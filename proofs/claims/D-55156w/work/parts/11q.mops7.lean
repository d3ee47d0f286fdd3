/-! THE MODEL's LAW: walks -/
set_option maxRecDepth 100000
section OP
variable {B : Int} {g : yG} {ρ : yMS} {t r d c : Int32}
/-- how far apart -/
def apt (a b : Int) : Int := if b ≤ a then a - b else b - a
theorem M_apart {x y : Int32} {a b : Int} {K : Int32 → yMS → Prop} (hx : x = iI a) (hy : y = iI b) (ha : sm a) (hb : sm b) (h : K (iI (apt a b)) ρ) : wpM_X3_apart ρ x y K := by
  subst hx hy
  unfold wpM_X3_apart
  unfold apt at h
  by_cases q : b ≤ a
  · rw [if_pos q] at h
    rw [if_pos ((iI_le hb ha).mpr q), iI_sub]
    exact h
  · rw [if_neg q] at h
    rw [if_neg (fun z => q ((iI_le hb ha).mp z)), iI_sub]
    exact h
/-- hours for a way between lawns -/
def far (a l : Int) : Int := apt (a / 3) (l / 3) + apt (a % 3) (l % 3)
theorem far_in {a l : Int} (ha : 0 ≤ a ∧ a ≤ 8) (hl : 0 ≤ l ∧ l ≤ 8) : 0 ≤ far a l ∧ far a l ≤ 4 := by
  unfold far apt
  split <;> split <;> omega
def oWalk (g : yG) (z l : Int) : yO :=
  if ¬ ((0 ≤ z ∧ z < g 11) ∧ 0 ≤ l ∧ l ≤ 8) then oT 1
  else if g (106 + 4 * z.toNat + 1) < far (g (106 + 4 * z.toNat + 0)) l then oR 2 6 (far (g (106 + 4 * z.toNat + 0)) l - g (106 + 4 * z.toNat + 1))
  else
    (let g1 := st g (106 + 4 * z.toNat + 1) (g (106 + 4 * z.toNat + 1) + - far (g (106 + 4 * z.toNat + 0)) l)
     let g2 := st g1 (106 + 4 * z.toNat + 0) (g1 (106 + 4 * z.toNat + 0) + (l - g (106 + 4 * z.toNat + 0)))
     oK (g2 (106 + 4 * z.toNat + 1)) g2)
theorem M_walk {x y : Int32} {z l : Int} {K : Int32 → yMS → Prop} (hx : x = iI z) (hy : y = iI l) (sz : sm z) (sl : sm l) (hI : RI B g) (hk : vp_in (ρ.1 6) 9) (h : mRes ρ r d c g K (oWalk g z l)) : wpM_X3_walk (mr (sc ρ t r d c) g) x y K := by
  have hnk := hI.1.nk
  unfold wpM_X3_walk
  unfold oWalk at h
  try simp only at h
  refine M_isKeeper hx sz hnk ⟨fun p => ?_, fun p => M_isLawn hy sl ?_⟩
  · rw [if_pos (fun q => bI_0.mp p q.1)] at h
    exact O_fails (p := True) (fun _ => ⟨fun q => absurd q one0, fun _ => h⟩) (fun q => absurd trivial q)
  have p' : 0 ≤ z ∧ z < g 11 := Classical.byContradiction fun q => p (bI_0.mpr q)
  rw [bI_not]
  refine O_fails (fun p2 => ⟨fun q => absurd q one0, fun _ => ?_⟩) (fun p2 => ⟨fun _ => ?_, fun q => absurd rfl q⟩)
  · rw [if_pos (fun q => p2 q.2)] at h; exact h
  have p2' : 0 ≤ l ∧ l ≤ 8 := Classical.byContradiction p2
  rw [if_neg (fun q => q ⟨p', p2'⟩)] at h
  have hz : z.toNat < 3 := by omega
  have ex : x = nI z.toNat := by rw [hx, iI_nat p'.1]
  generalize z.toNat = k at h hz ex
  have a0 := hI.1.k k 0 hz (by omega)
  rw [if_pos rfl] at a0
  have fi := far_in a0 p2'
  have d3 := fun (w : Int) (hw : 0 ≤ w ∧ w ≤ 8) => show iI w / (3 : Int32) = iI (w / 3) from iI_div (d := 3) hw.1 (by omega) (by omega) (by omega)
  have r3 := fun (w : Int) (hw : 0 ≤ w ∧ w ≤ 8) => show iI w - iI w / (3 : Int32) * (3 : Int32) = iI (w % 3) from iI_rem (d := 3) hw.1 (by omega) (by omega) (by omega)
  refine M_ofKeeper k 0 ex rfl hz (by omega) (M_apart (d3 _ a0) (by rw [hy]; exact d3 _ p2') ⟨by omega, by omega⟩ ⟨by omega, by omega⟩ (M_apart (r3 _ a0) (by rw [hy]; exact r3 _ p2') ⟨by omega, by omega⟩ ⟨by omega, by omega⟩ ?_))
  rw [iI_add, show apt (g (106 + 4 * k + 0) / 3) (l / 3) + apt (g (106 + 4 * k + 0) % 3) (l % 3) = far (g (106 + 4 * k + 0)) l from rfl]
  refine O_lacks ex rfl hz (by omega) hI (fun q => ?_) (fun q => ?_)
  · rw [if_pos q] at h
    exact O_fails (p := True) (fun _ => ⟨fun w => absurd w one0, fun _ => h⟩) (fun w => absurd trivial w)
  · rw [if_neg q] at h
    exact O_fails (p := False) (fun w => w.elim) (fun _ => ⟨fun _ => O_change hk (M_addKeeper k 1 _ ex rfl (iI_neg _) hz (by omega) (M_addKeeper k 0 _ ex rfl (by rw [hy]; exact iI_sub _ _) hz (by omega) (M_ofKeeper k 1 ex rfl hz (by omega) (okv h)))), fun w => absurd rfl w⟩)
end OP
