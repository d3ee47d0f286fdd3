/-! THE MODEL's LAW: what can be undone; the operations -/
set_option maxRecDepth 100000
def cpG (ρ : yMS) (g : yG) (q : Nat) : yMS := (ρ.1, fun p => if p = q then (fun k => if k < 130 then iI (g k) else ρ.2 q k) else ρ.2 p)
def shR (ρ : yMS) : yMS := (ρ.1, fun q => if 5 ≤ q ∧ q < 12 then (fun k => if k < 130 then ρ.2 (q + 1) k else ρ.2 q k) else ρ.2 q)
/-- the history with the row g behind it -/
def chg (ρ : yMS) (g : yG) : yMS := if ρ.1 12 = 0 then (if ρ.1 6 = 8 then sS (cpG (shR (sS ρ 6 7)) g 12) 6 8 else sS (cpG ρ g (5 + (ρ.1 6).toNatClampNeg)) 6 (ρ.1 6 + 1)) else ρ
section OP
variable {B : Int} {g : yG} {ρ : yMS}
theorem cpR_mr {q : Nat} (hq : q ≠ 1) : cpR (mr ρ g) 1 q = mr (cpG ρ g q) g := by
  unfold cpR mr cpG
  congr 1
  funext p
  by_cases h1 : p = q
  · subst h1
    simp only [if_pos, if_neg hq]
    rfl
  · simp only [if_neg h1]
theorem M_remember {K : yMS → Prop} (hk : vp_in (ρ.1 6) 9) (h : K (mr (if ρ.1 6 = 8 then sS (cpG (shR (sS ρ 6 7)) g 12) 6 8 else sS (cpG ρ g (5 + (ρ.1 6).toNatClampNeg)) 6 (ρ.1 6 + 1)) g)) : wpM_X3_remember (mr ρ g) 1 K := by
  obtain ⟨n, hn, e⟩ := vp_in_of hk (by omega)
  have e' : (mr ρ g).1 6 = nI n := e
  unfold wpM_X3_remember
  refine ⟨fun q => ?_, fun q => mr_put ?_⟩
  · rw [e'] at q ⊢
    have hn8 : n ≠ 8 := fun z => q (by rw [z]; rfl)
    rw [if_neg (fun z => q (by rw [← e]; exact z)), e, nI_clamp (by omega)] at h
    refine ⟨vp_in_nI (by omega) (by omega), M_copyRow ⟨by omega, by omega⟩ (by rw [nI_clamp (by omega)]; omega) (by rw [nI_clamp (by omega)]; omega) ?_⟩
    rw [nI_clamp (by omega), cpR_mr (by omega)]
    refine mr_put ?_
    have e2 : (mr (cpG ρ g (5 + n)) g).1 6 = nI n := e
    rw [e2]
    exact h
  · have q' : ρ.1 6 = 8 := q
    rw [if_pos q'] at h
    have e7 : (mr ρ g).1 6 - 1 = 7 := by rw [show (mr ρ g).1 6 = 8 from q]; rfl
    rw [e7]
    unfold wpM_X3_remember_21
    let sq : Nat → yMS := fun i => (upd ρ.1 6 7, fun q => if 5 ≤ q ∧ q < 5 + i then (fun k => if k < 130 then ρ.2 (q + 1) k else ρ.2 q k) else ρ.2 q)
    have e0 : mr (sS ρ 6 7) g = mr (sq 0) g := by
      show mr (upd ρ.1 6 7, ρ.2) g = mr (upd ρ.1 6 7, _) g
      congr 2
      funext q
      show ρ.2 q = if 5 ≤ q ∧ q < 5 + 0 then _ else ρ.2 q
      rw [if_neg (by omega)]
    have key := lp_up (F := fun r (s : Nat × Int32 × yMS) => stM_X3_remember_21 K (fun l1 l2 ρ => r (l1, l2, ρ)) s.1 s.2.1 s.2.2) 7 (fun i => (1, nI i, mr (sq i) g)) (by
      intro i hi r hr
      have e6 : (mr (sq i) g).1 6 = nI 7 := rfl
      refine ⟨fun q => absurd (show nI 7 ≤ nI i from q) (nI_ge hi (by omega)), fun _ => ⟨by show vp_in (nI i + 1) 8; rw [nI_1]; exact vp_in_nI (by omega) (by omega), vp_in_nI (N := 8) (by omega) (by omega), ?_⟩⟩
      show wpM_X3_copyRow (mr (sq i) g) (5 + (nI i + (1 : Int32)).toNatClampNeg) (5 + (nI i).toNatClampNeg) (fun ρ7 => r (1, nI i + 1, ρ7))
      rw [nI_1, nI_clamp (by omega), nI_clamp (by omega)]
      refine M_copyRow ⟨by omega, by omega⟩ ⟨by omega, by omega⟩ (by omega) ?_
      have e9 : cpR (mr (sq i) g) (5 + (i + 1)) (5 + i) = mr (sq (i + 1)) g := by
        unfold cpR mr
        show ((upd ρ.1 6 7, _) : yMS) = (upd ρ.1 6 7, _)
        congr 1
        funext q
        show (if q = 5 + i then (fun k => if k < 130 then (if 5 + (i + 1) = 1 then rI g else (sq i).2 (5 + (i + 1))) k else (if 5 + i = 1 then rI g else (sq i).2 (5 + i)) k) else (if q = 1 then rI g else (sq i).2 q)) = if q = 1 then rI g else (sq (i + 1)).2 q
        have a1 : (sq i).2 (5 + (i + 1)) = ρ.2 (5 + (i + 1)) := if_neg (by omega)
        have a2 : (sq i).2 (5 + i) = ρ.2 (5 + i) := if_neg (by omega)
        rw [if_neg (show ¬ 5 + (i + 1) = 1 by omega), if_neg (show ¬ 5 + i = 1 by omega), a1, a2]
        by_cases z : q = 5 + i
        · rw [if_pos z, if_neg (by omega)]
          show _ = if 5 ≤ q ∧ q < 5 + (i + 1) then _ else _
          rw [if_pos (by omega), z]
          rfl
        · rw [if_neg z]
          by_cases z1 : q = 1
          · rw [if_pos z1, if_pos z1]
          · rw [if_neg z1, if_neg z1]
            show (if 5 ≤ q ∧ q < 5 + i then _ else _) = if 5 ≤ q ∧ q < 5 + (i + 1) then _ else _
            by_cases z2 : 5 ≤ q ∧ q < 5 + i
            · rw [if_pos z2, if_pos (by omega)]
            · rw [if_neg z2, if_neg (by omega)]
      rw [e9]
      exact hr) (by
      intro r
      refine ⟨fun _ => ⟨by show vp_in (nI 7) 8; exact vp_in_nI (by omega) (by omega), ?_⟩, fun q => absurd (show (7 : Int32) ≤ nI 7 from by decide) q⟩
      show wpM_X3_copyRow (mr (sq 7) g) 1 (5 + (nI 7).toNatClampNeg) _
      rw [nI_clamp (by omega)]
      refine M_copyRow ⟨by omega, by omega⟩ ⟨by omega, by omega⟩ (by omega) ?_
      rw [cpR_mr (by omega)]
      have e8 : sq 7 = shR (sS ρ 6 7) := rfl
      refine mr_put ?_
      have e2 : (mr (cpG (sq 7) g (5 + 7)) g).1 6 + 1 = 8 := rfl
      rw [e2, e8]
      exact h)
    rw [e0]
    exact key
theorem M_change {K : yMS → Prop} (hk : vp_in (ρ.1 6) 9) (h : K (mr (chg ρ g) g)) : wpM_X3_change (mr ρ g) K := by
  unfold wpM_X3_change
  unfold chg at h
  refine ⟨fun q => ?_, fun q => ?_⟩
  · rw [if_neg (show ¬ ρ.1 12 = 0 from q)] at h
    exact h
  · rw [if_pos (show ρ.1 12 = 0 from q)] at h
    exact M_remember hk h
end OP
