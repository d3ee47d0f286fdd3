/-! THE MODEL's LAW: sums and counts -/
set_option maxRecDepth 100000
section OP
variable {B : Int} {g : yG} {ρ : yMS} {t r d c : Int32}
def suN (g : yG) (f s : Nat) : Nat → Int
  | 0 => 0
  | i+1 => suN g f s i + g (f + s * i)
theorem M_sum {x y w : Int32} {f s n : Nat} {K : Int32 → yMS → Prop} (hx : x = nI f) (hy : y = nI s) (hw : w = nI n) (hn : n ≤ 130) (hb : ∀ i, i < n → f + s * i < 130) (h : K (iI (suN g f s n)) (mr ρ g)) : wpM_X3_sum (mr ρ g) x y w K := by
  subst hx hy hw
  unfold wpM_X3_sum wpM_X3_sum_6
  refine lp_up (F := fun r' (q : Int32 × Int32 × Int32 × Int32 × Int32 × yMS) => stM_X3_sum_6 K (fun l1 l2 l3 l4 l5 ρ => r' (l1, l2, l3, l4, l5, ρ)) q.1 q.2.1 q.2.2.1 q.2.2.2.1 q.2.2.2.2.1 q.2.2.2.2.2) n (fun i => (nI f, nI s, nI n, iI (suN g f s i), nI i, mr ρ g)) (fun i hi r' hr => ?_) (fun r' => ⟨fun _ => h, fun q => absurd (Int32.le_refl _) q⟩)
  have hr : r' (nI f, nI s, nI n, iI (suN g f s i) + iI (g (f + s * i)), nI i + 1, mr ρ g) := by rw [nI_1, iI_add]; exact hr
  exact ⟨fun q => absurd q (nI_ge hi (by omega)), fun _ => mr_ld (f + s * i) (by rw [show nI s * nI i = nI (s * i) from pk_mul _ _, nI_add]) (hb i hi) hr⟩
def coN (g : yG) (v : Int) (f s : Nat) : Nat → Nat
  | 0 => 0
  | i+1 => coN g v f s i + (if g (f + s * i) = v then 1 else 0)
theorem M_countOn {x0 x y w : Int32} {v : Int} {f s n : Nat} {K : Int32 → yMS → Prop} (h0 : x0 = iI v) (hx : x = nI f) (hy : y = nI s) (hw : w = nI n) (hn : n ≤ 130) (hv : sm v) (hb : ∀ i, i < n → f + s * i < 130 ∧ sm (g (f + s * i))) (h : K (nI (coN g v f s n)) (mr ρ g)) : wpM_X3_countOn (mr ρ g) x0 x y w K := by
  subst h0 hx hy hw
  unfold wpM_X3_countOn wpM_X3_countOn_6
  refine lp_up (F := fun r' (q : Int32 × Int32 × Int32 × Int32 × Int32 × Int32 × yMS) => stM_X3_countOn_6 K (fun l1 l2 l3 l4 l5 l6 ρ => r' (l1, l2, l3, l4, l5, l6, ρ)) q.1 q.2.1 q.2.2.1 q.2.2.2.1 q.2.2.2.2.1 q.2.2.2.2.2.1 q.2.2.2.2.2.2) n (fun i => (iI v, nI f, nI s, nI n, nI (coN g v f s i), nI i, mr ρ g)) (fun i hi r' hr => ?_) (fun r' => ⟨fun _ => h, fun q => absurd (Int32.le_refl _) q⟩)
  have hr : r' (iI v, nI f, nI s, nI n, nI (coN g v f s i + (if g (f + s * i) = v then 1 else 0)), nI i + 1, mr ρ g) := by rw [nI_1]; exact hr
  refine ⟨fun q => absurd q (nI_ge hi (by omega)), fun _ => mr_ld (f + s * i) (by rw [show nI s * nI i = nI (s * i) from pk_mul _ _, nI_add]) (hb i hi).1 ?_⟩
  have heq := iI_eq (hb i hi).2 hv
  by_cases z : g (f + s * i) = v
  · rw [if_pos z, ← nI_add] at hr
    rw [if_pos (heq.mpr z)]
    exact hr
  · rw [if_neg z, ← nI_add] at hr
    rw [if_neg (fun w => z (heq.mp w))]
    exact hr
end OP
