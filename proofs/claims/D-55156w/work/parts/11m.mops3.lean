/-! THE MODEL's LAW: more operations -/
set_option maxRecDepth 100000
section OP
variable {B : Int} {g : yG} {ρ : yMS} {t r d c : Int32}
/-- buying -/
theorem O_buy {x : Int32} {z : Int} {K : Int32 → yMS → Prop} (hx : x = iI z) (hz : 0 ≤ z ∧ z ≤ 100) (hI : RI B g) (hb : B ≤ 1000000000) (h1 : g 10 = 12 → K 1 (mr (sc ρ t 1 12 0) g)) (h2 : ¬ g 10 = 12 → g 2 < z → K 1 (mr (sc ρ t 10 (iI (z - g 2)) 0) g)) (h3 : ¬ g 10 = 12 → ¬ g 2 < z → K 0 (mr (sc ρ t r d c) g)) : wpM_X3_isBuyRefused (mr (sc ρ t r d c) g) x K := by
  have hnb := hI.1.nb
  have a2 := hI.1.s 2 (by omega) (by omega)
  unfold wpM_X3_isBuyRefused
  refine mr_ld 10 rfl (by omega) ?_
  rw [show (if iI (g 10) = (12 : Int32) then (1 : Int32) else 0) = bI (g 10 = 12) from iI_eqb rfl rfl ⟨by omega, by omega⟩ (b := 12) ⟨by omega, by omega⟩]
  refine O_refuse (fun p => ⟨fun _ => h1 p, fun w => absurd w one0⟩) (fun p => ⟨fun w => absurd rfl w, fun _ => mr_ld 2 rfl (by omega) (mr_ld 2 rfl (by omega) ?_)⟩)
  rw [iI_leb hx rfl ⟨by omega, by omega⟩ ⟨by omega, by omega⟩, hx, iI_sub]
  refine O_refuse (fun q => ?_) (fun q => ?_)
  · show K (if (1 : Int32) = 0 then 0 else 1) _
    rw [if_neg one0]
    exact h2 p q
  · show K (if (0 : Int32) = 0 then 0 else 1) _
    rw [if_pos rfl]
    exact h3 p q
def oHen (g : yG) (z : Int) : yO :=
  if ¬ (0 ≤ z ∧ z ≤ 8) then oT 1
  else if g 10 = 12 then oR 2 1 12
  else if g 2 < 5 then oR 2 10 (5 - g 2)
  else oK (g 10) (addB (st g 2 (g 2 - 5)) 1 z 0 0 (-1))
theorem M_hen {x : Int32} {z : Int} {K : Int32 → yMS → Prop} (hx : x = iI z) (sz : sm z) (hI : RI B g) (hb : B ≤ 1000000000) (hk : vp_in (ρ.1 6) 9) (h : mRes ρ r d c g K (oHen g z)) : wpM_X3_hen (mr (sc ρ t r d c) g) x K := by
  have hnb := hI.1.nb
  unfold wpM_X3_hen
  unfold oHen at h
  refine M_isLawn hx sz ?_
  rw [bI_not]
  refine O_fails (fun p => ⟨fun _ => ?_, fun q => absurd q one0⟩) (fun p => ⟨fun q => absurd rfl q, fun _ => ?_⟩)
  · rw [if_pos p] at h; exact h
  rw [if_neg p] at h
  refine O_buy (z := 5) rfl (by omega) hI hb (fun q => ?_) (fun q q2 => ?_) (fun q q2 => ?_)
  · rw [if_pos q] at h
    exact O_fails (p := True) (fun _ => ⟨fun w => absurd w one0, fun _ => h⟩) (fun w => absurd trivial w)
  · rw [if_neg q, if_pos q2] at h
    exact O_fails (p := True) (fun _ => ⟨fun w => absurd w one0, fun _ => h⟩) (fun w => absurd trivial w)
  · rw [if_neg q, if_neg q2] at h
    have e10 : st g 2 (g 2 - 5) 10 = g 10 := st_n (by omega)
    refine O_fails (p := False) (fun w => w.elim) (fun _ => ⟨fun _ => O_change hk (mr_ld 2 rfl (by omega) (mr_ast 2 _ rfl (iI_sub _ 5) (by omega) (M_addBird (hen := 1) (many := 0) (more := 0) (mother := -1) rfl hx rfl rfl rfl (by omega) (by omega) ?_))), fun w => absurd rfl w⟩)
    rw [e10]
    exact okv h
def oSell (g : yG) (z : Int) : yO :=
  if ¬ (1 ≤ z ∧ z ≤ 20) then oT 1
  else if g 3 < 10 * z then oR 2 8 (10 * z - g 3)
  else
    (let g1 := st g 3 (g 3 - 10 * z)
     let g2 := st g1 5 (g1 5 + 10 * z)
     let g3 := st g2 2 (g2 2 + 4 * z)
     oK (g3 2) g3)
theorem M_sell {x : Int32} {z : Int} {K : Int32 → yMS → Prop} (hx : x = iI z) (sz : sm z) (hI : RI B g) (hb : B ≤ 1000000000) (hk : vp_in (ρ.1 6) 9) (h : mRes ρ r d c g K (oSell g z)) : wpM_X3_sell (mr (sc ρ t r d c) g) x K := by
  have a3 := hI.1.s 3 (by omega) (by omega)
  unfold wpM_X3_sell
  unfold oSell at h
  try simp only at h
  refine M_isBetween (lo := 1) (hi := 20) hx rfl rfl sz ⟨by omega, by omega⟩ ⟨by omega, by omega⟩ ?_
  rw [bI_not]
  refine O_fails (fun p => ⟨fun q => absurd q one0, fun _ => ?_⟩) (fun p => ⟨fun _ => ?_, fun q => absurd rfl q⟩)
  · rw [if_pos p] at h; exact h
  rw [if_neg p] at h
  have e10 : (10 : Int32) * x = iI (10 * z) := by rw [hx]; exact iI_mul 10 z
  have e4 : (4 : Int32) * x = iI (4 * z) := by rw [hx]; exact iI_mul 4 z
  refine mr_ld 3 rfl (by omega) (mr_ld 3 rfl (by omega) ?_)
  rw [e10, e4, iI_leb rfl rfl ⟨by omega, by omega⟩ ⟨by omega, by omega⟩, iI_sub]
  refine O_refuse (fun q => ?_) (fun q => ?_)
  · rw [if_pos q] at h
    exact O_fails (p := True) (fun _ => ⟨fun w => absurd w one0, fun _ => h⟩) (fun w => absurd trivial w)
  · rw [if_neg q] at h
    exact O_fails (p := False) (fun w => w.elim) (fun _ => ⟨fun _ => O_change hk (mr_ld 3 rfl (by omega) (mr_ast 3 _ rfl (iI_sub _ _) (by omega) (mr_ld 5 rfl (by omega) (mr_ast 5 _ rfl (iI_add _ _) (by omega) (mr_ld 2 rfl (by omega) (mr_ast 2 _ rfl (iI_add _ _) (by omega) (mr_ld 2 rfl (by omega) (okv h)))))))), fun w => absurd rfl w⟩)
end OP
