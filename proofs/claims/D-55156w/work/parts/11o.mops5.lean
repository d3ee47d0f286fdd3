/-! THE MODEL's LAW: keepers, benches, cocks -/
set_option maxRecDepth 100000
section OP
variable {B : Int} {g : yG} {ρ : yMS} {t r d c : Int32}
def addK (g : yG) : yG :=
  let k := (g 11).toNat
  st (st (st (st (st g (106 + 4 * k + 0) 4) (106 + 4 * k + 1) 6) (106 + 4 * k + 2) 0) (106 + 4 * k + 3) 0) 11 (g 11 + 1)
def oKeeper (g : yG) : yO := if g 11 = 3 then oR 1 1 3 else oK (g 11) (addK g)
theorem M_keeper {K : Int32 → yMS → Prop} (hI : RI B g) (hk : vp_in (ρ.1 6) 9) (h : mRes ρ r d c g K (oKeeper g)) : wpM_X3_keeper (mr (sc ρ t r d c) g) K := by
  have hnk := hI.1.nk
  unfold wpM_X3_keeper
  unfold oKeeper addK at h
  try simp only at h
  refine mr_ld 11 rfl (by omega) ?_
  rw [show (if iI (g 11) = (3 : Int32) then (1 : Int32) else 0) = bI (g 11 = 3) from iI_eqb rfl rfl ⟨by omega, by omega⟩ (b := 3) ⟨by omega, by omega⟩]
  refine O_refuse (fun q => ?_) (fun q => ?_)
  · rw [if_pos q] at h
    exact O_fails (p := True) (fun _ => ⟨fun w => absurd w one0, fun _ => h⟩) (fun w => absurd trivial w)
  · rw [if_neg q] at h
    have hkk : (g 11).toNat < 3 := by omega
    have ix := fun j => ix4 (g 11).toNat j
    refine O_fails (p := False) (fun w => w.elim) (fun _ => ⟨fun _ => O_change hk (mr_ld 11 rfl (by omega) ?_), fun w => absurd rfl w⟩)
    rw [iI_nat hnk.1]
    refine mr_ast (106 + 4 * (g 11).toNat + 0) 4 (ix 0) rfl (by omega) (mr_ast (106 + 4 * (g 11).toNat + 1) 6 (ix 1) rfl (by omega) (mr_ast (106 + 4 * (g 11).toNat + 2) 0 (ix 2) rfl (by omega) (mr_ast (106 + 4 * (g 11).toNat + 3) 0 (ix 3) rfl (by omega) (mr_ld 11 rfl (by omega) (mr_ast 11 (g 11 + 1) rfl ?_ (by omega) (mr_ld 11 rfl (by omega) ?_))))))
    · rw [st_n (by omega), st_n (by omega), st_n (by omega), st_n (by omega)]
      exact iI_add _ 1
    · rw [st_s, show iI (g 11 + 1) - (1 : Int32) = iI (g 11) by rw [show (1 : Int32) = iI 1 from rfl, iI_sub]; congr 1; omega]
      exact okv h
def addN (g : yG) (z : Int) : yG :=
  let k := (g 12).toNat
  st (st (st (st g (118 + 3 * k + 0) z) (118 + 3 * k + 1) 0) (118 + 3 * k + 2) 0) 12 (g 12 + 1)
def oBench (g : yG) (z : Int) : yO := if ¬ (0 ≤ z ∧ z ≤ 8) then oT 1 else if g 12 = 4 then oR 2 1 4 else oK (g 12) (addN g z)
theorem M_bench {x : Int32} {z : Int} {K : Int32 → yMS → Prop} (hx : x = iI z) (sz : sm z) (hI : RI B g) (hk : vp_in (ρ.1 6) 9) (h : mRes ρ r d c g K (oBench g z)) : wpM_X3_bench (mr (sc ρ t r d c) g) x K := by
  have hnn := hI.1.nn
  unfold wpM_X3_bench
  unfold oBench addN at h
  try simp only at h
  refine M_isLawn hx sz ?_
  rw [bI_not]
  refine O_fails (fun p => ⟨fun _ => ?_, fun q => absurd q one0⟩) (fun p => ⟨fun q => absurd rfl q, fun _ => mr_ld 12 rfl (by omega) ?_⟩)
  · rw [if_pos p] at h; exact h
  rw [if_neg p] at h
  rw [show (if iI (g 12) = (4 : Int32) then (1 : Int32) else 0) = bI (g 12 = 4) from iI_eqb rfl rfl ⟨by omega, by omega⟩ (b := 4) ⟨by omega, by omega⟩]
  refine O_refuse (fun q => ?_) (fun q => ?_)
  · rw [if_pos q] at h
    exact O_fails (p := True) (fun _ => ⟨fun w => absurd w one0, fun _ => h⟩) (fun w => absurd trivial w)
  · rw [if_neg q] at h
    have hkk : (g 12).toNat < 4 := by omega
    have ix := fun j => ix3 (g 12).toNat j
    refine O_fails (p := False) (fun w => w.elim) (fun _ => ⟨fun _ => O_change hk (mr_ld 12 rfl (by omega) ?_), fun w => absurd rfl w⟩)
    rw [iI_nat hnn.1]
    refine mr_ast (118 + 3 * (g 12).toNat + 0) z (ix 0) hx (by omega) (mr_ast (118 + 3 * (g 12).toNat + 1) 0 (ix 1) rfl (by omega) (mr_ast (118 + 3 * (g 12).toNat + 2) 0 (ix 2) rfl (by omega) (mr_ld 12 rfl (by omega) (mr_ast 12 (g 12 + 1) rfl ?_ (by omega) (mr_ld 12 rfl (by omega) ?_)))))
    · rw [st_n (by omega), st_n (by omega), st_n (by omega)]
      exact iI_add _ 1
    · rw [st_s, show iI (g 12 + 1) - (1 : Int32) = iI (g 12) by rw [show (1 : Int32) = iI 1 from rfl, iI_sub]; congr 1; omega]
      exact okv h
def oCock (g : yG) (z f v : Int) : yO :=
  if ¬ (0 ≤ z ∧ z ≤ 8) then oT 1
  else if ¬ ((0 ≤ f ∧ f ≤ 150) ∧ 1 ≤ v ∧ v ≤ 9) then oT 2
  else if g 10 = 12 then oR 3 1 12
  else if g 2 < 8 then oR 3 10 (8 - g 2)
  else oK (g 10) (addB (st g 2 (g 2 - 8)) 0 z f v (-1))
theorem M_cock {x y w : Int32} {z f v : Int} {K : Int32 → yMS → Prop} (hx : x = iI z) (hy : y = iI f) (hw : w = iI v) (sz : sm z) (sf : sm f) (sv : sm v) (hI : RI B g) (hb : B ≤ 1000000000) (hk : vp_in (ρ.1 6) 9) (h : mRes ρ r d c g K (oCock g z f v)) : wpM_X3_cock (mr (sc ρ t r d c) g) x y w K := by
  have hnb := hI.1.nb
  unfold wpM_X3_cock
  unfold oCock at h
  refine M_isLawn hx sz ?_
  rw [bI_not]
  refine O_fails (fun p => ⟨fun _ => ?_, fun q => absurd q one0⟩) (fun p => ⟨fun q => absurd rfl q, fun _ => M_isBetween (lo := 0) (hi := 150) hy rfl rfl sf ⟨by omega, by omega⟩ ⟨by omega, by omega⟩ ⟨fun p2 => ?_, fun p2 => M_isBetween (lo := 1) (hi := 9) hw rfl rfl sv ⟨by omega, by omega⟩ ⟨by omega, by omega⟩ ?_⟩⟩)
  · rw [if_pos p] at h; exact h
  · rw [if_neg p, if_pos (fun q => bI_0.mp p2 q.1)] at h
    exact O_fails (p := True) (fun _ => ⟨fun _ => h, fun q => absurd q one0⟩) (fun q => absurd trivial q)
  have p2' := Classical.byContradiction fun q => p2 (bI_0.mpr q)
  rw [if_neg p] at h
  rw [bI_not]
  refine O_fails (fun p3 => ⟨fun _ => ?_, fun q => absurd q one0⟩) (fun p3 => ⟨fun q => absurd rfl q, fun _ => O_buy (z := 8) rfl (by omega) hI hb (fun q => ?_) (fun q q2 => ?_) (fun q q2 => ?_)⟩)
  · rw [if_pos (fun q => p3 q.2)] at h; exact h
  · rw [if_neg (fun q3 => q3 ⟨p2', Classical.byContradiction p3⟩), if_pos q] at h
    exact O_fails (p := True) (fun _ => ⟨fun w => absurd w one0, fun _ => h⟩) (fun w => absurd trivial w)
  · rw [if_neg (fun q3 => q3 ⟨p2', Classical.byContradiction p3⟩), if_neg q, if_pos q2] at h
    exact O_fails (p := True) (fun _ => ⟨fun w => absurd w one0, fun _ => h⟩) (fun w => absurd trivial w)
  · rw [if_neg (fun q3 => q3 ⟨p2', Classical.byContradiction p3⟩), if_neg q, if_neg q2] at h
    have e10 : st g 2 (g 2 - 8) 10 = g 10 := st_n (by omega)
    refine O_fails (p := False) (fun w => w.elim) (fun _ => ⟨fun _ => O_change hk (mr_ld 2 rfl (by omega) (mr_ast 2 _ rfl (iI_sub _ 8) (by omega) (M_addBird (hen := 0) (mother := -1) rfl hx hy hw rfl (by omega) (by omega) ?_))), fun w => absurd rfl w⟩)
    rw [e10]
    exact okv h
end OP
