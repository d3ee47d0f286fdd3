/-! THE MODEL's LAW: a day, fourth part -/
set_option maxRecDepth 100000
theorem sS_sS {ρ : yMS} {k : Nat} {a b : Int32} : sS (sS ρ k a) k b = sS ρ k b := by
  unfold sS
  congr 1
  funext j
  unfold upd
  by_cases h : j = k
  · rw [if_pos h, if_pos h]
  · rw [if_neg h, if_neg h]
    exact if_neg h
theorem sS_at {ρ : yMS} {k : Nat} {a : Int32} : (sS ρ k a).1 k = a := if_pos rfl
/-- the hens of which chicks hatched -/
def siV (g : yG) (k : Nat) (v : Int32) : Int32 := if (g (34 + 6 * k + 0) = 1 ∧ 0 < g (34 + 6 * k + 2)) ∧ g (34 + 6 * k + 3) + 1 = 28 then v ||| ((1 : Int32) <<< (nI k &&& 31)) else v
def siH (g : yG) : Nat → Int32
  | 0 => 0
  | k+1 => siV (itN siS g k) k (siH g k)
section RI
variable {B : Int} {g : yG} {ρ : yMS}
theorem M_hatch {h : Nat} {v : Int} {K : yMS → Prop} (hI : RI B g) (hB : 0 ≤ B) (hh : (h : Int) < g 10) (hK : K (mr (sS ρ 15 (ρ.1 15 ||| ((1 : Int32) <<< (nI h &&& 31)))) (fHatch g h))) : wpM_X3_hatch (mr ρ (st g (34 + 6 * h + 3) v)) (nI h) K := by
  have hnb := hI.1.nb
  unfold wpM_X3_hatch
  refine mr_put (M_of h 2 rfl rfl (by omega) (by omega) ?_)
  rw [st_n (by omega)]
  exact M_hatch_19 hI hB hh hK
theorem siS_RI (hI : RI B g) (hB : 27 ≤ B) {k : Nat} (hk : (k : Int) < g 10) : RI (B + 12) (siS g k) := by
  have hnb := hI.1.nb
  have a3 := hI.1.b3 k (by omega)
  unfold siS
  split
  · rename_i q
    have h27 := (hI.2.1 k (by omega) q.1).2
    split
    · exact fHatch_RI hI (by omega) hk
    · exact (hI.mono (by omega)).b23 k 3 (by omega) (Or.inr rfl) (by omega) (by rw [hi_b _ k 3 (by omega) (by omega)]; show _ ≤ (28 : Int); omega) (fun _ => ⟨fun z => by omega, fun _ => by omega⟩)
  · exact hI.mono (by omega)
theorem fHatch_o (hI : RI B g) (hB : 0 ≤ B) {h : Nat} (hh : (h : Int) < g 10) : g 10 ≤ fHatch g h 10 ∧ fHatch g h 0 = g 0 ∧ fHatch g h 11 = g 11 ∧ fHatch g h 12 = g 12 := by
  have hnb := hI.1.nb
  have hn := haN_in g h (hI.1.b2 h (by omega)).1 hnb
  obtain ⟨q1, q2, q3⟩ := haI hI hB hh hn.2.1 (haN g h) (Nat.le_refl _)
  unfold fHatch
  refine ⟨?_, ?_, ?_, ?_⟩
  · rw [st_n (by omega), st_n (by omega), q2]; omega
  · rw [st_n (by omega), st_n (by omega), q3 0 (by omega)]
  · rw [st_n (by omega), st_n (by omega), q3 11 (by omega)]
  · rw [st_n (by omega), st_n (by omega), q3 12 (by omega)]
theorem siS_o (hI : RI B g) (hB : 0 ≤ B) {k : Nat} (hk : (k : Int) < g 10) : g 10 ≤ siS g k 10 ∧ siS g k 0 = g 0 ∧ siS g k 11 = g 11 ∧ siS g k 12 = g 12 := by
  unfold siS
  split
  · split
    · exact fHatch_o hI hB hk
    · refine ⟨?_, ?_, ?_, ?_⟩
      · rw [st_n (by omega)]; exact Int.le_refl _
      · rw [st_n (by omega)]
      · rw [st_n (by omega)]
      · rw [st_n (by omega)]
  · exact ⟨Int.le_refl _, rfl, rfl, rfl⟩
theorem siN (hI : RI B g) (hB : 27 ≤ B) : ∀ n : Nat, (n : Int) ≤ g 10 → RI (B + 12 * n) (itN siS g n) ∧ g 10 ≤ itN siS g n 10 ∧ itN siS g n 0 = g 0 ∧ itN siS g n 11 = g 11 ∧ itN siS g n 12 = g 12 := by
  intro n
  induction n with
  | zero => intro _; exact ⟨by show RI (B + 12 * ((0 : Nat) : Int)) g; simpa using hI, Int.le_refl _, rfl, rfl, rfl⟩
  | succ n ih =>
    intro hn
    obtain ⟨q1, q2, q3, q4, q5⟩ := ih (by omega)
    have o := siS_o q1 (by omega) (k := n) (by omega)
    refine ⟨(siS_RI q1 (by omega) (k := n) (by omega)).mono (by omega), ?_, ?_, ?_, ?_⟩
    · show g 10 ≤ siS (itN siS g n) n 10; omega
    · show siS (itN siS g n) n 0 = g 0; rw [o.2.1, q3]
    · show siS (itN siS g n) n 11 = g 11; rw [o.2.2.1, q4]
    · show siS (itN siS g n) n 12 = g 12; rw [o.2.2.2, q5]
theorem fSit_RI (hI : RI B g) (hB : 27 ≤ B) : RI (B + 144) (fSit g) := by
  have hnb := hI.1.nb
  exact (siN hI hB (g 10).toNat (by omega)).1.mono (by omega)
theorem M_sitAll {K : yMS → Prop} (hI : RI B g) (hB : 27 ≤ B) (hb : B ≤ 900000000) (hK : K (mr (sS ρ 15 (siH g (g 10).toNat)) (fSit g))) : wpM_X3_sitAll (mr ρ g) K := by
  have hnb := hI.1.nb
  unfold wpM_X3_sitAll
  refine mr_ld 10 rfl (by omega) (mr_put ?_)
  unfold wpM_X3_sitAll_15
  refine lp_up (F := fun r (s : Int32 × Int32 × yMS) => stM_X3_sitAll_15 K (fun l1 l2 ρ => r (l1, l2, ρ)) s.1 s.2.1 s.2.2) (g 10).toNat (fun i => (iI (g 10), nI i, mr (sS ρ 15 (siH g i)) (itN siS g i))) (fun i hi r hr => ?_) (fun r => ⟨fun _ => hK, fun q => absurd ?_ q⟩)
  · obtain ⟨q1, q2, q3, q4, q5⟩ := siN hI hB i (by omega)
    have hr : r (iI (g 10), nI i + 1, mr (sS ρ 15 (siV (itN siS g i) i (siH g i))) (siS (itN siS g i) i)) := by rw [nI_1]; exact hr
    generalize itN siS g i = gi at q1 q2 q3 q4 q5 hr
    generalize siH g i = v at hr
    have hk : i < 12 := by omega
    have a3 := q1.1.b3 i hk
    unfold siV siS at hr
    refine ⟨fun q => absurd q ?_, fun _ => M_hasEggs i rfl hk (q1.1.sm0 i hk) (q1.1.sm2 i hk) ⟨fun q => ?_, fun q => M_of i 3 rfl rfl hk (by omega) (M_put i 3 _ rfl rfl (iI_add _ 1) hk (by omega) (M_of i 3 rfl rfl hk (by omega) ?_))⟩⟩
    · rw [iI_nat hnb.1]; exact nI_ge (by omega) (by omega)
    · have q' := bI_0.mp q
      rw [if_neg q', if_neg (fun z => q' z.1)] at hr
      exact hr
    · have q' := Classical.byContradiction fun z => q (bI_0.mpr z)
      rw [if_pos q'] at hr
      rw [st_s]
      have heq := iI_eq (a := gi (34 + 6 * i + 3) + 1) (b := 28) ⟨by omega, by omega⟩ ⟨by omega, by omega⟩
      refine ⟨fun z => ?_, fun z => ?_⟩
      · have z' := fun w => z (heq.mpr w)
        rw [if_neg z', if_neg (fun w => z' w.2)] at hr
        exact hr
      · have z' := heq.mp z
        rw [if_pos z', if_pos ⟨q', z'⟩] at hr
        refine M_hatch q1 (by omega) (by omega) ?_
        rw [sS_at, sS_sS]
        exact hr
  · rw [iI_nat hnb.1]
    exact Int32.le_refl _
end RI
