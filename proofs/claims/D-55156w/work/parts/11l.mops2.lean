/-! THE MODEL's LAW: operations that change the row -/
set_option maxRecDepth 100000
/-- thrown, reason, detail, cause -/
def sc (ρ : yMS) (t r d c : Int32) : yMS := (fun k => if k = 0 then t else if k = 7 then r else if k = 8 then d else if k = 9 then c else ρ.1 k, ρ.2)
/-- how a changing operation ends: it throws, it is refused (with reason and detail), it is done -/
abbrev yO : Type := Int ⊕ (Int × Int × Int) ⊕ (Int × yG)
abbrev oT (e : Int) : yO := .inl e
abbrev oR (e w m : Int) : yO := .inr (.inl (e, w, m))
abbrev oK (v : Int) (g : yG) : yO := .inr (.inr (v, g))
/-- what the Model is then -/
def mRes (ρ : yMS) (r d c : Int32) (g : yG) (K : Int32 → yMS → Prop) : yO → Prop
  | .inl e => K 0 (mr (sc ρ (iI e) r d c) g)
  | .inr (.inl (e, w, m)) => K 0 (mr (sc ρ (iI e) (iI w) (iI m) 0) g)
  | .inr (.inr (v, g')) => ∀ hv : Int32, K (iI v) (mr (sc (sS (chg ρ g) 15 hv) 0 r d c) g')
theorem sc_eta (ρ : yMS) : sc ρ (ρ.1 0) (ρ.1 7) (ρ.1 8) (ρ.1 9) = ρ := by
  unfold sc
  have : (fun k => if k = 0 then ρ.1 0 else if k = 7 then ρ.1 7 else if k = 8 then ρ.1 8 else if k = 9 then ρ.1 9 else ρ.1 k) = ρ.1 := by
    funext k
    by_cases h0 : k = 0
    · rw [if_pos h0, h0]
    · rw [if_neg h0]
      by_cases h7 : k = 7
      · rw [if_pos h7, h7]
      · rw [if_neg h7]
        by_cases h8 : k = 8
        · rw [if_pos h8, h8]
        · rw [if_neg h8]
          by_cases h9 : k = 9
          · rw [if_pos h9, h9]
          · rw [if_neg h9]
  rw [this]
section OP
variable {B : Int} {g : yG} {ρ : yMS} {t r d c : Int32}
theorem sc_0 (v : Int32) : sS (sc ρ t r d c) 0 v = sc ρ v r d c := by
  unfold sS sc upd
  congr 1
  funext k
  by_cases h0 : k = 0
  · rw [if_pos h0, if_pos h0]
  · rw [if_neg h0, if_neg h0]
    show (if k = 0 then _ else _) = _
    rw [if_neg h0]
theorem sc_R {p : Prop} [Decidable p] (w m : Int32) : sR (sc ρ t r d c) p w m = if p then sc ρ t w m 0 else sc ρ t r d c := by
  unfold sR
  by_cases h : p
  · rw [if_pos h, if_pos h]
    unfold sS sc upd
    congr 1
    funext k
    by_cases h9 : k = 9
    · subst h9; rfl
    · by_cases h8 : k = 8
      · subst h8; rfl
      · by_cases h7 : k = 7
        · subst h7; rfl
        · simp only [h9, h8, h7, if_false]
  · rw [if_neg h, if_neg h]
theorem chg_sc : chg (sc ρ t r d c) g = sc (chg ρ g) t r d c := by
  unfold chg
  show (if ρ.1 12 = 0 then (if ρ.1 6 = 8 then _ else _) else _) = _
  by_cases h1 : ρ.1 12 = 0
  · rw [if_pos h1, if_pos h1]
    by_cases h2 : ρ.1 6 = 8
    · rw [if_pos h2, if_pos h2]
      unfold sS sc cpG shR upd
      congr 1
      funext k
      by_cases h6 : k = 6
      · subst h6; rfl
      · simp only [if_neg h6]
    · rw [if_neg h2, if_neg h2]
      unfold sS sc cpG upd
      congr 1
      funext k
      by_cases h6 : k = 6
      · subst h6; rfl
      · simp only [if_neg h6]
  · rw [if_neg h1, if_neg h1]
/-- fails() -/
theorem O_fails {e : Int32} {p : Prop} [Decidable p] {K : Int32 → yMS → Prop} (h1 : p → K 1 (mr (sc ρ e r d c) g)) (h2 : ¬ p → K 0 (mr (sc ρ 0 r d c) g)) : wpM_X3_fails (mr (sc ρ t r d c) g) e (bI p) K := by
  refine M_fails ?_
  rw [sc_0]
  unfold bI
  by_cases h : p
  · rw [if_pos h, if_pos h]; exact h1 h
  · rw [if_neg h, if_neg h]; exact h2 h
/-- refuse() -/
theorem O_refuse {p : Prop} [Decidable p] {w m : Int32} {K : Int32 → yMS → Prop} (h1 : p → K 1 (mr (sc ρ t w m 0) g)) (h2 : ¬ p → K 0 (mr (sc ρ t r d c) g)) : wpM_X3_refuse (mr (sc ρ t r d c) g) (bI p) w m K := by
  refine M_refuse ?_
  rw [sc_R]
  unfold bI
  by_cases h : p
  · rw [if_pos h, if_pos h]; exact h1 h
  · rw [if_neg h, if_neg h]; exact h2 h
theorem O_change {K : yMS → Prop} (hk : vp_in (ρ.1 6) 9) (h : K (mr (sc (chg ρ g) t r d c) g)) : wpM_X3_change (mr (sc ρ t r d c) g) K := by
  refine M_change hk ?_
  rw [chg_sc]
  exact h
theorem sS_eta (ρ : yMS) (k : Nat) : sS ρ k (ρ.1 k) = ρ := by
  unfold sS
  have : upd ρ.1 k (ρ.1 k) = ρ.1 := by
    funext j
    unfold upd
    by_cases h : j = k
    · rw [if_pos h, h]
    · rw [if_neg h]
  rw [this]
theorem okv {ρ' : yMS} {v : Int32} {g' : yG} {K : Int32 → yMS → Prop} (h : ∀ hv : Int32, K v (mr (sc (sS ρ' 15 hv) t r d c) g')) : K v (mr (sc ρ' t r d c) g') := by
  have := h (ρ'.1 15)
  rw [sS_eta] at this
  exact this
theorem one0 : ¬ (1 : Int32) = 0 := by decide
/-! a hen lays -/
def oLay (g : yG) (z : Int) : yO :=
  if ¬ (0 ≤ z ∧ z < g 10) then oT 1
  else if ¬ g (34 + 6 * z.toNat + 0) = 1 then oR 2 2 z
  else if g (34 + 6 * z.toNat + 2) = 6 then oR 2 3 6
  else oK (g (34 + 6 * z.toNat + 2) + 1) (st g (34 + 6 * z.toNat + 2) (g (34 + 6 * z.toNat + 2) + 1))
theorem M_lay {x : Int32} {z : Int} {K : Int32 → yMS → Prop} (hx : x = iI z) (sz : sm z) (hI : RI B g) (hk : vp_in (ρ.1 6) 9) (h : mRes ρ r d c g K (oLay g z)) : wpM_X3_lay (mr (sc ρ t r d c) g) x K := by
  have hnb := hI.1.nb
  unfold wpM_X3_lay
  unfold oLay at h
  refine M_isBird hx sz hnb ?_
  rw [bI_not]
  refine O_fails (fun p => ⟨fun _ => ?_, fun q => absurd q one0⟩) (fun p => ⟨fun q => absurd rfl q, fun _ => ?_⟩)
  · rw [if_pos p] at h; exact h
  rw [if_neg p] at h
  have p' : 0 ≤ z ∧ z < g 10 := Classical.byContradiction p
  have hz : z.toNat < 12 := by omega
  have ex : x = nI z.toNat := by rw [hx, iI_nat p'.1]
  unfold wpM_X3_isLayRefused
  refine M_isHen _ ex hz (hI.1.sm0 _ hz) ?_
  rw [bI_not]
  refine O_refuse (fun q => ⟨fun _ => ?_, fun w => absurd w one0⟩) (fun q => ⟨fun w => absurd rfl w, fun _ => M_of _ 2 ex rfl hz (by omega) ?_⟩)
  · rw [if_pos q] at h
    rw [hx]
    exact O_fails (p := True) (fun _ => ⟨fun w => absurd w one0, fun _ => h⟩) (fun w => absurd trivial w)
  rw [if_neg q] at h
  rw [show (if iI (g (34 + 6 * z.toNat + 2)) = (6 : Int32) then (1 : Int32) else 0) = bI (g (34 + 6 * z.toNat + 2) = 6) from iI_eqb rfl rfl (hI.1.sm2 _ hz) (b := 6) ⟨by omega, by omega⟩]
  refine O_refuse (fun q2 => ?_) (fun q2 => ?_)
  · rw [if_pos q2] at h
    exact O_fails (p := True) (fun _ => ⟨fun w => absurd w one0, fun _ => h⟩) (fun w => absurd trivial w)
  · rw [if_neg q2] at h
    refine O_fails (p := False) (fun w => w.elim) (fun _ => ⟨fun _ => O_change hk (M_of _ 2 ex rfl hz (by omega) (M_put _ 2 _ ex rfl (iI_add _ 1) hz (by omega) (M_of _ 2 ex rfl hz (by omega) ?_))), fun w => absurd rfl w⟩)
    rw [st_s]
    exact okv h
end OP
