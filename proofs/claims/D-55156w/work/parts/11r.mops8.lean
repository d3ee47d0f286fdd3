/-! THE MODEL's LAW: shears -/
set_option maxRecDepth 100000
section OP
variable {B : Int} {g : yG} {ρ : yMS} {t r d c : Int32}
theorem iI_ltb {a b : Int} {x y : Int32} (hx : x = iI a) (hy : y = iI b) (ha : sm a) (hb : sm b) : (if x < y then (0 : Int32) else 1) = bI (b ≤ a) := by
  subst hx hy
  unfold bI
  by_cases h : a < b
  · rw [if_pos ((iI_lt ha hb).mpr h), if_neg (by omega)]
  · rw [if_neg (fun q => h ((iI_lt ha hb).mp q)), if_pos (by omega)]
def oShear (g : yG) (z e y : Int) : yO :=
  if ¬ ((0 ≤ z ∧ z < g 11) ∧ 0 ≤ e ∧ e ≤ 11) then oT 1
  else if ¬ (0 ≤ y ∧ y ≤ 20) then oT 2
  else
    (let k := z.toNat
     let hi := g (22 + e.toNat)
     let tm := (hi - y + 3) / 4
     if ¬ bes e.toNat (g (106 + 4 * k + 0)).toNat then oR 3 4 e
     else if hi ≤ y then oR 3 5 hi
     else if g (106 + 4 * k + 1) < tm then oR 3 6 (tm - g (106 + 4 * k + 1))
     else
       (let g1 := st g (106 + 4 * k + 1) (g (106 + 4 * k + 1) + - tm)
        let g2 := st g1 (106 + 4 * k + 3) (g1 (106 + 4 * k + 3) + (hi - y))
        oK (hi - y) (st g2 (22 + e.toNat) y)))
theorem M_shear {x1 x2 x3 : Int32} {z e y : Int} {K : Int32 → yMS → Prop} (hx : x1 = iI z) (he : x2 = iI e) (hy : x3 = iI y) (sz : sm z) (se : sm e) (sy : sm y) (hI : RI B g) (hk : vp_in (ρ.1 6) 9) (h : mRes ρ r d c g K (oShear g z e y)) : wpM_X3_shear (mr (sc ρ t r d c) g) x1 x2 x3 K := by
  have hnk := hI.1.nk
  unfold wpM_X3_shear
  unfold oShear at h
  try simp only at h
  refine M_isKeeper hx sz hnk ⟨fun p => ?_, fun p => M_isHedge he se ?_⟩
  · rw [if_pos (fun q => bI_0.mp p q.1)] at h
    exact O_fails (p := True) (fun _ => ⟨fun _ => h, fun q => absurd q one0⟩) (fun q => absurd trivial q)
  have p' : 0 ≤ z ∧ z < g 11 := Classical.byContradiction fun q => p (bI_0.mpr q)
  rw [bI_not]
  refine O_fails (fun p2 => ⟨fun _ => ?_, fun q => absurd q one0⟩) (fun p2 => ⟨fun q => absurd rfl q, fun _ => M_isBetween (lo := 0) (hi := 20) hy rfl rfl sy ⟨by omega, by omega⟩ ⟨by omega, by omega⟩ ?_⟩)
  · rw [if_pos (fun q => p2 q.2)] at h; exact h
  have p2' : 0 ≤ e ∧ e ≤ 11 := Classical.byContradiction p2
  rw [if_neg (fun q => q ⟨p', p2'⟩)] at h
  rw [bI_not]
  refine O_fails (fun p3 => ⟨fun _ => ?_, fun q => absurd q one0⟩) (fun p3 => ⟨fun q => absurd rfl q, fun _ => ?_⟩)
  · rw [if_pos p3] at h; exact h
  rw [if_neg p3] at h
  have p3' : 0 ≤ y ∧ y ≤ 20 := Classical.byContradiction p3
  have hz : z.toNat < 3 := by omega
  have hz2 : e.toNat < 12 := by omega
  have ex : x1 = nI z.toNat := by rw [hx, iI_nat p'.1]
  have ee : x2 = nI e.toNat := by rw [he, iI_nat p2'.1]
  generalize z.toNat = k at h hz ex
  generalize hen : e.toNat = n at h hz2 ee
  have a0 := hI.1.k k 0 hz (by omega)
  rw [if_pos rfl] at a0
  have ah := hI.1.h n hz2
  have ix : (22 : Int32) + x2 = nI (22 + n) := by rw [ee]; exact nI_add 22 n
  have etm : (iI (g (22 + n)) - x3 + (3 : Int32)) = iI (g (22 + n) - y + 3) := by rw [hy, iI_sub]; exact iI_add _ 3
  unfold wpM_X3_isShearRefused
  refine mr_ld (22 + n) ix (by omega) (M_ofKeeper k 0 ex rfl hz (by omega) (M_isBeside ee (iI_nat a0.1) hz2 (by omega) ?_))
  rw [bI_not]
  refine O_refuse (fun q => ⟨fun _ => ?_, fun w => absurd w one0⟩) (fun q => ⟨fun w => absurd rfl w, fun _ => ?_⟩)
  · rw [if_pos q] at h
    rw [he]
    exact O_fails (p := True) (fun _ => ⟨fun w => absurd w one0, fun _ => h⟩) (fun w => absurd trivial w)
  rw [if_neg q] at h
  rw [iI_ltb hy rfl ⟨by omega, by omega⟩ ⟨by omega, by omega⟩]
  refine O_refuse (fun q2 => ⟨fun w => absurd w one0, fun _ => ?_⟩) (fun q2 => ⟨fun _ => ?_, fun w => absurd rfl w⟩)
  · rw [if_pos q2] at h
    exact O_fails (p := True) (fun _ => ⟨fun w => absurd w one0, fun _ => h⟩) (fun w => absurd trivial w)
  rw [if_neg q2] at h
  have etd : iI (g (22 + n) - y + 3) / (4 : Int32) = iI ((g (22 + n) - y + 3) / 4) := iI_div (d := 4) (by omega) (by omega) (by omega) (by omega)
  rw [etm, etd]
  refine O_lacks ex rfl hz (by omega) hI (fun q3 => ⟨rfl, ?_⟩) (fun q3 => ⟨rfl, ?_⟩)
  · rw [if_pos q3] at h
    exact O_fails (p := True) (fun _ => ⟨fun w => absurd w one0, fun _ => h⟩) (fun w => absurd trivial w)
  · rw [if_neg q3] at h
    refine O_fails (p := False) (fun w => w.elim) (fun _ => ⟨fun _ => O_change hk (mr_ld (22 + n) ix (by omega) ?_), fun w => absurd rfl w⟩)
    rw [etm, etd]
    have ec : iI (g (22 + n)) - x3 = iI (g (22 + n) - y) := by rw [hy, iI_sub]
    rw [ec]
    exact M_addKeeper k 1 _ ex rfl (iI_neg _) hz (by omega) (M_addKeeper k 3 _ ex rfl rfl hz (by omega) (mr_ast (22 + n) y ix hy (by omega) (okv h)))
end OP
