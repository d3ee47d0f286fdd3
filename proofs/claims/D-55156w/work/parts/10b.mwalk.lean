/-! THE MODEL: walks of its methods as predicate transformers -/
set_option maxRecDepth 100000
/-! secondLawn(I)I -/
def wpM_X3_secondLawn (ρ : yMS) (x1 : Int32) (K : Int32 → yMS → Prop) : Prop :=
  wpM_X3_firstLawn ρ x1 (fun r2 ρ1 => K (r2 + (if ((6 : Int32) ≤ x1) then (3 : Int32) else (1 : Int32))) ρ1)
theorem okM_X3_secondLawn {en : yEn} {mb : Nat → Nat} {σ : yH} (hM : mOK en mb σ) {d : Nat} (hd : 2 ≤ d + 1) {ρ : yMS} {x1 : Int32} {K : Int32 → yMS → Prop} {X : String → Addr → yH → Prop} {k n : Nat}  (h : wpM_X3_secondLawn ρ x1 K) : Wx en (d + 1) mX3_secondLawn 0 [(0, .int x1)] [] (mH en mb ρ σ) k n (mQ en mb σ (mI K)) X := by
  unfold wpM_X3_secondLawn at h
  refine sd_iload_n (pc := 0) dX3_secondLawn_0 rfl 0 rfl ?_
  refine sd_callS (k := k) (n := n) (d0 := d) (k0 := 0) (n0 := 0) (As := [.int x1]) (st := []) (pc := 1) dX3_secondLawn_1 q2263 q2264 q91 q2265 1 (by decide +kernel) rfl (Nat.le_refl _) (by decide) (Nat.le_of_ble_eq_true rfl) (Cx.mono (cm_X3_firstLawn hM (by omega)  h) (mI.to (fun r2 ρ1 h => ?_)) (xo rfl))
  refine sd_iload_n (pc := 4) dX3_secondLawn_4 rfl 0 rfl ?_
  refine sd_bipush (pc := 5) dX3_secondLawn_5 (v := 6) (by decide) ?_
  have h4 : Wx en (d + 1) mX3_secondLawn 15 [(0, .int x1)] (.int (if ((6 : Int32) ≤ x1) then (3 : Int32) else (1 : Int32)) :: .int r2 :: []) (mH en mb ρ1 σ) k n (mQ en mb σ (mI K)) X := by
    refine sd_iadd (pc := 15) dX3_secondLawn_15 ?_
    exact sd_ireturn (pc := 16) dX3_secondLawn_16 (ty0 := .int) rfl rfl (mI.ok h)
  have e5 := sd_iteI h4
  refine sd_icmpge (pc := 7) dX3_secondLawn_7 (tgt := 14) (by decide) ⟨fun c3 => ?_, fun c3 => ?_⟩
  · refine sd_iconst (pc := 14) dX3_secondLawn_14 (v := 3) (by decide) ?_
    exact (e5.1 c3)
  · refine sd_iconst (pc := 10) dX3_secondLawn_10 (v := 1) (by decide) ?_
    refine sd_goto (pc := 11) dX3_secondLawn_11 (tgt := 15) (by decide) ?_
    exact (e5.2 c3)
theorem cm_X3_secondLawn {en : yEn} {mb : Nat → Nat} {σ : yH} (hM : mOK en mb σ) {d : Nat} (hd : 2 ≤ d) {ρ : yMS} {x1 : Int32} {K : Int32 → yMS → Prop} {X : String → Addr → yH → Prop}  (h : wpM_X3_secondLawn ρ x1 K) : Cx en d 0 0 mX3_secondLawn [.int x1] (mH en mb ρ σ) (mQ en mb σ (mI K)) X := by
  obtain ⟨d, rfl⟩ : ∃ e, d = e + 1 := ⟨d - 1, by omega⟩
  exact Cx.body (by decide +kernel) rfl (Nat.le_of_ble_eq_true rfl) (okM_X3_secondLawn hM (by omega)  h)
/-! across(II)I -/
def wpM_X3_across (ρ : yMS) (x1 : Int32) (x2 : Int32) (K : Int32 → yMS → Prop) : Prop :=
  wpM_X3_firstLawn ρ x1 (fun r2 ρ1 => wpM_X3_secondLawn ρ1 x1 (fun r4 ρ3 => K ((r2 + r4) - x2) ρ3))
theorem okM_X3_across {en : yEn} {mb : Nat → Nat} {σ : yH} (hM : mOK en mb σ) {d : Nat} (hd : 3 ≤ d + 1) {ρ : yMS} {x1 : Int32} {x2 : Int32} {K : Int32 → yMS → Prop} {X : String → Addr → yH → Prop} {k n : Nat}  (h : wpM_X3_across ρ x1 x2 K) : Wx en (d + 1) mX3_across 0 [(0, .int x1), (1, .int x2)] [] (mH en mb ρ σ) k n (mQ en mb σ (mI K)) X := by
  unfold wpM_X3_across at h
  refine sd_iload_n (pc := 0) dX3_across_0 rfl 0 rfl ?_
  refine sd_callS (k := k) (n := n) (d0 := d) (k0 := 0) (n0 := 0) (As := [.int x1]) (st := []) (pc := 1) dX3_across_1 q2263 q2264 q91 q2265 1 (by decide +kernel) rfl (Nat.le_refl _) (by decide) (Nat.le_of_ble_eq_true rfl) (Cx.mono (cm_X3_firstLawn hM (by omega)  h) (mI.to (fun r2 ρ1 h => ?_)) (xo rfl))
  refine sd_iload_n (pc := 4) dX3_across_4 rfl 0 rfl ?_
  refine sd_callS (k := k) (n := n) (d0 := d) (k0 := 0) (n0 := 0) (As := [.int x1]) (st := [.int r2]) (pc := 5) dX3_across_5 q2266 q2267 q91 q2268 1 (by decide +kernel) rfl (Nat.le_refl _) (by decide) (Nat.le_of_ble_eq_true rfl) (Cx.mono (cm_X3_secondLawn hM (by omega)  h) (mI.to (fun r4 ρ3 h => ?_)) (xo rfl))
  refine sd_iadd (pc := 8) dX3_across_8 ?_
  refine sd_iload_n (pc := 9) dX3_across_9 rfl 1 rfl ?_
  refine sd_isub (pc := 10) dX3_across_10 ?_
  exact sd_ireturn (pc := 11) dX3_across_11 (ty0 := .int) rfl rfl (mI.ok h)
theorem cm_X3_across {en : yEn} {mb : Nat → Nat} {σ : yH} (hM : mOK en mb σ) {d : Nat} (hd : 3 ≤ d) {ρ : yMS} {x1 : Int32} {x2 : Int32} {K : Int32 → yMS → Prop} {X : String → Addr → yH → Prop}  (h : wpM_X3_across ρ x1 x2 K) : Cx en d 0 0 mX3_across [.int x1, .int x2] (mH en mb ρ σ) (mQ en mb σ (mI K)) X := by
  obtain ⟨d, rfl⟩ : ∃ e, d = e + 1 := ⟨d - 1, by omega⟩
  exact Cx.body (by decide +kernel) rfl (Nat.le_of_ble_eq_true rfl) (okM_X3_across hM (by omega)  h)
/-! isBeside(II)Z -/
def wpM_X3_isBeside (ρ : yMS) (x1 : Int32) (x2 : Int32) (K : Int32 → yMS → Prop) : Prop :=
  wpM_X3_firstLawn ρ x1 (fun r2 ρ1 => (((r2 = x2) → K (1 : Int32) ρ1) ∧ (¬ (r2 = x2) → wpM_X3_secondLawn ρ1 x1 (fun r4 ρ3 => K (if (r4 = x2) then (1 : Int32) else (0 : Int32)) ρ3))))
theorem okM_X3_isBeside {en : yEn} {mb : Nat → Nat} {σ : yH} (hM : mOK en mb σ) {d : Nat} (hd : 3 ≤ d + 1) {ρ : yMS} {x1 : Int32} {x2 : Int32} {K : Int32 → yMS → Prop} {X : String → Addr → yH → Prop} {k n : Nat}  (h : wpM_X3_isBeside ρ x1 x2 K) : Wx en (d + 1) mX3_isBeside 0 [(0, .int x1), (1, .int x2)] [] (mH en mb ρ σ) k n (mQ en mb σ (mI K)) X := by
  unfold wpM_X3_isBeside at h
  refine sd_iload_n (pc := 0) dX3_isBeside_0 rfl 0 rfl ?_
  refine sd_callS (k := k) (n := n) (d0 := d) (k0 := 0) (n0 := 0) (As := [.int x1]) (st := []) (pc := 1) dX3_isBeside_1 q2263 q2264 q91 q2265 1 (by decide +kernel) rfl (Nat.le_refl _) (by decide) (Nat.le_of_ble_eq_true rfl) (Cx.mono (cm_X3_firstLawn hM (by omega)  h) (mI.to (fun r2 ρ1 h => ?_)) (xo rfl))
  refine sd_iload_n (pc := 4) dX3_isBeside_4 rfl 1 rfl ?_
  refine sd_icmpeq (pc := 5) dX3_isBeside_5 (tgt := 16) (by decide) ⟨fun c6 => ?_, fun c6 => ?_⟩
  · have h := h.1 c6
    refine sd_iconst (pc := 16) dX3_isBeside_16 (v := 1) (by decide) ?_
    refine sd_goto (pc := 17) dX3_isBeside_17 (tgt := 21) (by decide) ?_
    exact sd_ireturn (pc := 21) dX3_isBeside_21 (ty0 := .boolean) rfl rfl (mI.ok h)
  · have h := h.2 c6
    refine sd_iload_n (pc := 8) dX3_isBeside_8 rfl 0 rfl ?_
    refine sd_callS (k := k) (n := n) (d0 := d) (k0 := 0) (n0 := 0) (As := [.int x1]) (st := []) (pc := 9) dX3_isBeside_9 q2266 q2267 q91 q2268 1 (by decide +kernel) rfl (Nat.le_refl _) (by decide) (Nat.le_of_ble_eq_true rfl) (Cx.mono (cm_X3_secondLawn hM (by omega)  h) (mI.to (fun r4 ρ3 h => ?_)) (xo rfl))
    refine sd_iload_n (pc := 12) dX3_isBeside_12 rfl 1 rfl ?_
    have h7 : Wx en (d + 1) mX3_isBeside 21 [(0, .int x1), (1, .int x2)] (.int (if (r4 = x2) then (1 : Int32) else (0 : Int32)) :: []) (mH en mb ρ3 σ) k n (mQ en mb σ (mI K)) X := by
      exact sd_ireturn (pc := 21) dX3_isBeside_21 (ty0 := .boolean) rfl (nb_ite rfl rfl) (mI.ok h)
    have e8 := sd_iteIN h7
    refine sd_icmpne (pc := 13) dX3_isBeside_13 (tgt := 20) (by decide) ⟨fun c5 => ?_, fun c5 => ?_⟩
    · refine sd_iconst (pc := 20) dX3_isBeside_20 (v := 0) (by decide) ?_
      exact (e8.1 c5)
    · refine sd_iconst (pc := 16) dX3_isBeside_16 (v := 1) (by decide) ?_
      refine sd_goto (pc := 17) dX3_isBeside_17 (tgt := 21) (by decide) ?_
      exact (e8.2 c5)
theorem cm_X3_isBeside {en : yEn} {mb : Nat → Nat} {σ : yH} (hM : mOK en mb σ) {d : Nat} (hd : 3 ≤ d) {ρ : yMS} {x1 : Int32} {x2 : Int32} {K : Int32 → yMS → Prop} {X : String → Addr → yH → Prop}  (h : wpM_X3_isBeside ρ x1 x2 K) : Cx en d 0 0 mX3_isBeside [.int x1, .int x2] (mH en mb ρ σ) (mQ en mb σ (mI K)) X := by
  obtain ⟨d, rfl⟩ : ∃ e, d = e + 1 := ⟨d - 1, by omega⟩
  exact Cx.body (by decide +kernel) rfl (Nat.le_of_ble_eq_true rfl) (okM_X3_isBeside hM (by omega)  h)
/-! wayOut(I)I -/
def stM_X3_wayOut_4 (K : Int32 → yMS → Prop) (rec : Int32 → Int32 → Int32 → yMS → Prop) (l1 : Int32) (l2 : Int32) (l3 : Int32) (ρ : yMS) : Prop :=
  ((((12 : Int32) ≤ l3) → K l2 ρ) ∧ (¬ ((12 : Int32) ≤ l3) → wpM_X3_isBeside ρ l3 l1 (fun r2 ρ1 => (((r2 = 0) → rec l1 l2 (l3 + (1 : Int32)) ρ1) ∧ (¬ (r2 = 0) → (((l2 < 0) → ((¬ ((1 : Int32) = 0) → rec l1 l3 (l3 + (1 : Int32)) ρ1) ∧ (((1 : Int32) = 0) → mAld ρ1 1 ((22 : Int32) + l3) (fun v3 => mAld ρ1 1 ((22 : Int32) + l2) (fun v4 => ((¬ (v3 = v4) → rec l1 l2 (l3 + (1 : Int32)) ρ1) ∧ ((v3 = v4) → wpM_X3_across ρ1 l3 l1 (fun r6 ρ5 => wpM_X3_across ρ5 l2 l1 (fun r8 ρ7 => rec l1 (if (r8 ≤ r6) then l2 else l3) (l3 + (1 : Int32)) ρ7))))))))) ∧ (¬ (l2 < 0) → mAld ρ1 1 ((22 : Int32) + l3) (fun v12 => mAld ρ1 1 ((22 : Int32) + l2) (fun v13 => ((¬ ((if (v13 ≤ v12) then (0 : Int32) else (1 : Int32)) = 0) → rec l1 l3 (l3 + (1 : Int32)) ρ1) ∧ (((if (v13 ≤ v12) then (0 : Int32) else (1 : Int32)) = 0) → mAld ρ1 1 ((22 : Int32) + l3) (fun v15 => mAld ρ1 1 ((22 : Int32) + l2) (fun v16 => ((¬ (v15 = v16) → rec l1 l2 (l3 + (1 : Int32)) ρ1) ∧ ((v15 = v16) → wpM_X3_across ρ1 l3 l1 (fun r18 ρ17 => wpM_X3_across ρ17 l2 l1 (fun r20 ρ19 => rec l1 (if (r20 ≤ r18) then l2 else l3) (l3 + (1 : Int32)) ρ19)))))))))))))))))
def lpM_X3_wayOut_4 (K : Int32 → yMS → Prop) : Nat → Int32 × Int32 × Int32 × yMS → Prop := lpN (fun r s => stM_X3_wayOut_4  K (fun l1 l2 l3 ρ => r (l1, l2, l3, ρ)) s.1 s.2.1 s.2.2.1 s.2.2.2)
def wpM_X3_wayOut_4 (l1 : Int32) (l2 : Int32) (l3 : Int32) (ρ : yMS) (K : Int32 → yMS → Prop) : Prop := ∃ nn, lpM_X3_wayOut_4  K nn (l1, l2, l3, ρ)
theorem olM_X3_wayOut_4 {en : yEn} {mb : Nat → Nat} {σ : yH} (hM : mOK en mb σ) {d : Nat} (hd : 4 ≤ d + 1) {K : Int32 → yMS → Prop} {X : String → Addr → yH → Prop} {k n : Nat} : ∀ (nn : Nat) (l1 : Int32) (l2 : Int32) (l3 : Int32) (ρ : yMS), lpM_X3_wayOut_4  K nn (l1, l2, l3, ρ) → Wx en (d + 1) mX3_wayOut 4 [(0, .ref (mb 0)), (1, .int l1), (2, .int l2), (3, .int l3)] [] (mH en mb ρ σ) k n (mQ en mb σ (mI K)) X := by
  intro nn
  induction nn with
  | zero => intros; rename_i h; exact h.elim
  | succ nn ih =>
    intro l1 l2 l3 ρ h
    replace h : stM_X3_wayOut_4  K (fun l1 l2 l3 ρ => lpM_X3_wayOut_4  K nn (l1, l2, l3, ρ)) l1 l2 l3 ρ := h
    unfold stM_X3_wayOut_4 at h
    refine sd_iload_n (pc := 4) dX3_wayOut_4 rfl 3 rfl ?_
    refine sd_bipush (pc := 5) dX3_wayOut_5 (v := 12) (by decide) ?_
    refine sd_icmpge (pc := 7) dX3_wayOut_7 (tgt := 101) (by decide) ⟨fun c26 => ?_, fun c26 => ?_⟩
    · have h := h.1 c26
      refine sd_iload_n (pc := 101) dX3_wayOut_101 rfl 2 rfl ?_
      exact sd_ireturn (pc := 102) dX3_wayOut_102 (ty0 := .int) rfl rfl (mI.ok h)
    · have h := h.2 c26
      refine sd_iload_n (pc := 10) dX3_wayOut_10 rfl 3 rfl ?_
      refine sd_iload_n (pc := 11) dX3_wayOut_11 rfl 1 rfl ?_
      refine sd_callS (k := k) (n := n) (d0 := d) (k0 := 0) (n0 := 0) (As := [.int l3, .int l1]) (st := []) (pc := 12) dX3_wayOut_12 q2260 q2261 q91 q2262 2 (by decide +kernel) rfl (Nat.le_refl _) (by decide) (Nat.le_of_ble_eq_true rfl) (Cx.mono (cm_X3_isBeside hM (by omega)  h) (mI.to (fun r2 ρ1 h => ?_)) (xo rfl))
      refine sd_ifeq (pc := 15) dX3_wayOut_15 (tgt := 95) (by decide) ⟨fun c25 => ?_, fun c25 => ?_⟩
      · have h := h.1 c25
        refine sd_iinc (pc := 95) dX3_wayOut_95 3 rfl (v := (l3 + (1 : Int32))) rfl (by decide) (ls' := [(3, .int (l3 + (1 : Int32))), (0, .ref (mb 0)), (1, .int l1), (2, .int l2)]) rfl ?_
        refine sd_goto (pc := 98) dX3_wayOut_98 (tgt := 4) (by decide) ?_
        exact sd_loc [1, 2, 3, 0] rfl (ih _ _ _ _ h)
      · have h := h.2 c25
        refine sd_iload_n (pc := 18) dX3_wayOut_18 rfl 2 rfl ?_
        refine sd_iflt (pc := 19) dX3_wayOut_19 (tgt := 43) (by decide) ⟨fun c24 => ?_, fun c24 => ?_⟩
        · have h := h.1 c24
          refine sd_iconst (pc := 43) dX3_wayOut_43 (v := 1) (by decide) ?_
          refine sd_goto (pc := 44) dX3_wayOut_44 (tgt := 48) (by decide) ?_
          refine sd_istore (pc := 48) dX3_wayOut_48 (by decide) (ls' := [(4, .int (1 : Int32)), (0, .ref (mb 0)), (1, .int l1), (2, .int l2), (3, .int l3)]) rfl ?_
          refine sd_iload (pc := 50) dX3_wayOut_50 0 rfl ?_
          refine sd_ifne (pc := 52) dX3_wayOut_52 (tgt := 89) (by decide) ⟨fun c11 => ?_, fun c11 => ?_⟩
          · have h := h.1 c11
            refine sd_iload_n (pc := 89) dX3_wayOut_89 rfl 4 rfl ?_
            refine sd_goto (pc := 90) dX3_wayOut_90 (tgt := 94) (by decide) ?_
            refine sd_istore_n (pc := 94) dX3_wayOut_94 rfl (by decide) (ls' := [(2, .int l3), (4, .int (1 : Int32)), (0, .ref (mb 0)), (1, .int l1), (3, .int l3)]) rfl ?_
            refine sd_iinc (pc := 95) dX3_wayOut_95 4 rfl (v := (l3 + (1 : Int32))) rfl (by decide) (ls' := [(3, .int (l3 + (1 : Int32))), (2, .int l3), (4, .int (1 : Int32)), (0, .ref (mb 0)), (1, .int l1)]) rfl ?_
            refine sd_goto (pc := 98) dX3_wayOut_98 (tgt := 4) (by decide) ?_
            exact sd_loc [3, 4, 1, 0] rfl (ih _ _ _ _ h)
          · have h := h.2 c11
            refine sd_aload_n (pc := 55) dX3_wayOut_55 rfl 1 rfl ?_
            refine sd_getR (pc := 56) dX3_wayOut_56 (ci := 2) rfl in_X3 (kf := 1) (by decide) q2074 (mo_gR hM (j := 1) rfl ?_)
            refine sd_bipush (pc := 59) dX3_wayOut_59 (v := 22) (by decide) ?_
            refine sd_iload_n (pc := 61) dX3_wayOut_61 rfl 4 rfl ?_
            refine sd_iadd (pc := 62) dX3_wayOut_62 ?_
            refine sd_iaload (pc := 63) dX3_wayOut_63 (mAld.to hM h (fun v3 h => ?_))
            refine sd_aload_n (pc := 64) dX3_wayOut_64 rfl 1 rfl ?_
            refine sd_getR (pc := 65) dX3_wayOut_65 (ci := 2) rfl in_X3 (kf := 1) (by decide) q2074 (mo_gR hM (j := 1) rfl ?_)
            refine sd_bipush (pc := 68) dX3_wayOut_68 (v := 22) (by decide) ?_
            refine sd_iload_n (pc := 70) dX3_wayOut_70 rfl 3 rfl ?_
            refine sd_iadd (pc := 71) dX3_wayOut_71 ?_
            refine sd_iaload (pc := 72) dX3_wayOut_72 (mAld.to hM h (fun v4 h => ?_))
            refine sd_icmpne (pc := 73) dX3_wayOut_73 (tgt := 93) (by decide) ⟨fun c10 => ?_, fun c10 => ?_⟩
            · have h := h.1 c10
              refine sd_iload_n (pc := 93) dX3_wayOut_93 rfl 3 rfl ?_
              refine sd_istore_n (pc := 94) dX3_wayOut_94 rfl (by decide) (ls' := [(2, .int l2), (4, .int (1 : Int32)), (0, .ref (mb 0)), (1, .int l1), (3, .int l3)]) rfl ?_
              refine sd_iinc (pc := 95) dX3_wayOut_95 4 rfl (v := (l3 + (1 : Int32))) rfl (by decide) (ls' := [(3, .int (l3 + (1 : Int32))), (2, .int l2), (4, .int (1 : Int32)), (0, .ref (mb 0)), (1, .int l1)]) rfl ?_
              refine sd_goto (pc := 98) dX3_wayOut_98 (tgt := 4) (by decide) ?_
              exact sd_loc [3, 4, 1, 0] rfl (ih _ _ _ _ h)
            · have h := h.2 c10
              refine sd_iload_n (pc := 76) dX3_wayOut_76 rfl 4 rfl ?_
              refine sd_iload_n (pc := 77) dX3_wayOut_77 rfl 2 rfl ?_
              refine sd_callS (k := k) (n := n) (d0 := d) (k0 := 0) (n0 := 0) (As := [.int l3, .int l1]) (st := []) (pc := 78) dX3_wayOut_78 q2269 q2270 q91 q2271 2 (by decide +kernel) rfl (Nat.le_refl _) (by decide) (Nat.le_of_ble_eq_true rfl) (Cx.mono (cm_X3_across hM (by omega)  h) (mI.to (fun r6 ρ5 h => ?_)) (xo rfl))
              refine sd_iload_n (pc := 81) dX3_wayOut_81 rfl 3 rfl ?_
              refine sd_iload_n (pc := 82) dX3_wayOut_82 rfl 2 rfl ?_
              refine sd_callS (k := k) (n := n) (d0 := d) (k0 := 0) (n0 := 0) (As := [.int l2, .int l1]) (st := [.int r6]) (pc := 83) dX3_wayOut_83 q2269 q2270 q91 q2271 2 (by decide +kernel) rfl (Nat.le_refl _) (by decide) (Nat.le_of_ble_eq_true rfl) (Cx.mono (cm_X3_across hM (by omega)  h) (mI.to (fun r8 ρ7 h => ?_)) (xo rfl))
              have h27 : Wx en (d + 1) mX3_wayOut 94 [(4, .int (1 : Int32)), (0, .ref (mb 0)), (1, .int l1), (2, .int l2), (3, .int l3)] (.int (if (r8 ≤ r6) then l2 else l3) :: []) (mH en mb ρ7 σ) k n (mQ en mb σ (mI K)) X := by
                refine sd_istore_n (pc := 94) dX3_wayOut_94 rfl (by decide) (ls' := [(2, .int (if (r8 ≤ r6) then l2 else l3)), (4, .int (1 : Int32)), (0, .ref (mb 0)), (1, .int l1), (3, .int l3)]) rfl ?_
                refine sd_iinc (pc := 95) dX3_wayOut_95 4 rfl (v := (l3 + (1 : Int32))) rfl (by decide) (ls' := [(3, .int (l3 + (1 : Int32))), (2, .int (if (r8 ≤ r6) then l2 else l3)), (4, .int (1 : Int32)), (0, .ref (mb 0)), (1, .int l1)]) rfl ?_
                refine sd_goto (pc := 98) dX3_wayOut_98 (tgt := 4) (by decide) ?_
                exact sd_loc [3, 4, 1, 0] rfl (ih _ _ _ _ h)
              have e28 := sd_iteI h27
              refine sd_icmpge (pc := 86) dX3_wayOut_86 (tgt := 93) (by decide) ⟨fun c9 => ?_, fun c9 => ?_⟩
              · refine sd_iload_n (pc := 93) dX3_wayOut_93 rfl 3 rfl ?_
                exact (e28.1 c9)
              · refine sd_iload_n (pc := 89) dX3_wayOut_89 rfl 4 rfl ?_
                refine sd_goto (pc := 90) dX3_wayOut_90 (tgt := 94) (by decide) ?_
                exact (e28.2 c9)
        · have h := h.2 c24
          refine sd_aload_n (pc := 22) dX3_wayOut_22 rfl 0 rfl ?_
          refine sd_getR (pc := 23) dX3_wayOut_23 (ci := 2) rfl in_X3 (kf := 1) (by decide) q2074 (mo_gR hM (j := 1) rfl ?_)
          refine sd_bipush (pc := 26) dX3_wayOut_26 (v := 22) (by decide) ?_
          refine sd_iload_n (pc := 28) dX3_wayOut_28 rfl 3 rfl ?_
          refine sd_iadd (pc := 29) dX3_wayOut_29 ?_
          refine sd_iaload (pc := 30) dX3_wayOut_30 (mAld.to hM h (fun v12 h => ?_))
          refine sd_aload_n (pc := 31) dX3_wayOut_31 rfl 0 rfl ?_
          refine sd_getR (pc := 32) dX3_wayOut_32 (ci := 2) rfl in_X3 (kf := 1) (by decide) q2074 (mo_gR hM (j := 1) rfl ?_)
          refine sd_bipush (pc := 35) dX3_wayOut_35 (v := 22) (by decide) ?_
          refine sd_iload_n (pc := 37) dX3_wayOut_37 rfl 2 rfl ?_
          refine sd_iadd (pc := 38) dX3_wayOut_38 ?_
          refine sd_iaload (pc := 39) dX3_wayOut_39 (mAld.to hM h (fun v13 h => ?_))
          have h29 : Wx en (d + 1) mX3_wayOut 48 [(0, .ref (mb 0)), (1, .int l1), (2, .int l2), (3, .int l3)] (.int (if (v13 ≤ v12) then (0 : Int32) else (1 : Int32)) :: []) (mH en mb ρ1 σ) k n (mQ en mb σ (mI K)) X := by
            refine sd_istore (pc := 48) dX3_wayOut_48 (by decide) (ls' := [(4, .int (if (v13 ≤ v12) then (0 : Int32) else (1 : Int32))), (0, .ref (mb 0)), (1, .int l1), (2, .int l2), (3, .int l3)]) rfl ?_
            refine sd_iload (pc := 50) dX3_wayOut_50 0 rfl ?_
            refine sd_ifne (pc := 52) dX3_wayOut_52 (tgt := 89) (by decide) ⟨fun c23 => ?_, fun c23 => ?_⟩
            · have h := h.1 c23
              refine sd_iload_n (pc := 89) dX3_wayOut_89 rfl 4 rfl ?_
              refine sd_goto (pc := 90) dX3_wayOut_90 (tgt := 94) (by decide) ?_
              refine sd_istore_n (pc := 94) dX3_wayOut_94 rfl (by decide) (ls' := [(2, .int l3), (4, .int (if (v13 ≤ v12) then (0 : Int32) else (1 : Int32))), (0, .ref (mb 0)), (1, .int l1), (3, .int l3)]) rfl ?_
              refine sd_iinc (pc := 95) dX3_wayOut_95 4 rfl (v := (l3 + (1 : Int32))) rfl (by decide) (ls' := [(3, .int (l3 + (1 : Int32))), (2, .int l3), (4, .int (if (v13 ≤ v12) then (0 : Int32) else (1 : Int32))), (0, .ref (mb 0)), (1, .int l1)]) rfl ?_
              refine sd_goto (pc := 98) dX3_wayOut_98 (tgt := 4) (by decide) ?_
              exact sd_loc [3, 4, 1, 0] rfl (ih _ _ _ _ h)
            · have h := h.2 c23
              refine sd_aload_n (pc := 55) dX3_wayOut_55 rfl 1 rfl ?_
              refine sd_getR (pc := 56) dX3_wayOut_56 (ci := 2) rfl in_X3 (kf := 1) (by decide) q2074 (mo_gR hM (j := 1) rfl ?_)
              refine sd_bipush (pc := 59) dX3_wayOut_59 (v := 22) (by decide) ?_
              refine sd_iload_n (pc := 61) dX3_wayOut_61 rfl 4 rfl ?_
              refine sd_iadd (pc := 62) dX3_wayOut_62 ?_
              refine sd_iaload (pc := 63) dX3_wayOut_63 (mAld.to hM h (fun v15 h => ?_))
              refine sd_aload_n (pc := 64) dX3_wayOut_64 rfl 1 rfl ?_
              refine sd_getR (pc := 65) dX3_wayOut_65 (ci := 2) rfl in_X3 (kf := 1) (by decide) q2074 (mo_gR hM (j := 1) rfl ?_)
              refine sd_bipush (pc := 68) dX3_wayOut_68 (v := 22) (by decide) ?_
              refine sd_iload_n (pc := 70) dX3_wayOut_70 rfl 3 rfl ?_
              refine sd_iadd (pc := 71) dX3_wayOut_71 ?_
              refine sd_iaload (pc := 72) dX3_wayOut_72 (mAld.to hM h (fun v16 h => ?_))
              refine sd_icmpne (pc := 73) dX3_wayOut_73 (tgt := 93) (by decide) ⟨fun c22 => ?_, fun c22 => ?_⟩
              · have h := h.1 c22
                refine sd_iload_n (pc := 93) dX3_wayOut_93 rfl 3 rfl ?_
                refine sd_istore_n (pc := 94) dX3_wayOut_94 rfl (by decide) (ls' := [(2, .int l2), (4, .int (if (v13 ≤ v12) then (0 : Int32) else (1 : Int32))), (0, .ref (mb 0)), (1, .int l1), (3, .int l3)]) rfl ?_
                refine sd_iinc (pc := 95) dX3_wayOut_95 4 rfl (v := (l3 + (1 : Int32))) rfl (by decide) (ls' := [(3, .int (l3 + (1 : Int32))), (2, .int l2), (4, .int (if (v13 ≤ v12) then (0 : Int32) else (1 : Int32))), (0, .ref (mb 0)), (1, .int l1)]) rfl ?_
                refine sd_goto (pc := 98) dX3_wayOut_98 (tgt := 4) (by decide) ?_
                exact sd_loc [3, 4, 1, 0] rfl (ih _ _ _ _ h)
              · have h := h.2 c22
                refine sd_iload_n (pc := 76) dX3_wayOut_76 rfl 4 rfl ?_
                refine sd_iload_n (pc := 77) dX3_wayOut_77 rfl 2 rfl ?_
                refine sd_callS (k := k) (n := n) (d0 := d) (k0 := 0) (n0 := 0) (As := [.int l3, .int l1]) (st := []) (pc := 78) dX3_wayOut_78 q2269 q2270 q91 q2271 2 (by decide +kernel) rfl (Nat.le_refl _) (by decide) (Nat.le_of_ble_eq_true rfl) (Cx.mono (cm_X3_across hM (by omega)  h) (mI.to (fun r18 ρ17 h => ?_)) (xo rfl))
                refine sd_iload_n (pc := 81) dX3_wayOut_81 rfl 3 rfl ?_
                refine sd_iload_n (pc := 82) dX3_wayOut_82 rfl 2 rfl ?_
                refine sd_callS (k := k) (n := n) (d0 := d) (k0 := 0) (n0 := 0) (As := [.int l2, .int l1]) (st := [.int r18]) (pc := 83) dX3_wayOut_83 q2269 q2270 q91 q2271 2 (by decide +kernel) rfl (Nat.le_refl _) (by decide) (Nat.le_of_ble_eq_true rfl) (Cx.mono (cm_X3_across hM (by omega)  h) (mI.to (fun r20 ρ19 h => ?_)) (xo rfl))
                have h30 : Wx en (d + 1) mX3_wayOut 94 [(4, .int (if (v13 ≤ v12) then (0 : Int32) else (1 : Int32))), (0, .ref (mb 0)), (1, .int l1), (2, .int l2), (3, .int l3)] (.int (if (r20 ≤ r18) then l2 else l3) :: []) (mH en mb ρ19 σ) k n (mQ en mb σ (mI K)) X := by
                  refine sd_istore_n (pc := 94) dX3_wayOut_94 rfl (by decide) (ls' := [(2, .int (if (r20 ≤ r18) then l2 else l3)), (4, .int (if (v13 ≤ v12) then (0 : Int32) else (1 : Int32))), (0, .ref (mb 0)), (1, .int l1), (3, .int l3)]) rfl ?_
                  refine sd_iinc (pc := 95) dX3_wayOut_95 4 rfl (v := (l3 + (1 : Int32))) rfl (by decide) (ls' := [(3, .int (l3 + (1 : Int32))), (2, .int (if (r20 ≤ r18) then l2 else l3)), (4, .int (if (v13 ≤ v12) then (0 : Int32) else (1 : Int32))), (0, .ref (mb 0)), (1, .int l1)]) rfl ?_
                  refine sd_goto (pc := 98) dX3_wayOut_98 (tgt := 4) (by decide) ?_
                  exact sd_loc [3, 4, 1, 0] rfl (ih _ _ _ _ h)
                have e31 := sd_iteI h30
                refine sd_icmpge (pc := 86) dX3_wayOut_86 (tgt := 93) (by decide) ⟨fun c21 => ?_, fun c21 => ?_⟩
                · refine sd_iload_n (pc := 93) dX3_wayOut_93 rfl 3 rfl ?_
                  exact (e31.1 c21)
                · refine sd_iload_n (pc := 89) dX3_wayOut_89 rfl 4 rfl ?_
                  refine sd_goto (pc := 90) dX3_wayOut_90 (tgt := 94) (by decide) ?_
                  exact (e31.2 c21)
          have e32 := sd_iteI h29
          refine sd_icmpge (pc := 40) dX3_wayOut_40 (tgt := 47) (by decide) ⟨fun c14 => ?_, fun c14 => ?_⟩
          · refine sd_iconst (pc := 47) dX3_wayOut_47 (v := 0) (by decide) ?_
            exact (e32.1 c14)
          · refine sd_iconst (pc := 43) dX3_wayOut_43 (v := 1) (by decide) ?_
            refine sd_goto (pc := 44) dX3_wayOut_44 (tgt := 48) (by decide) ?_
            exact (e32.2 c14)
theorem okM_X3_wayOut_4 {en : yEn} {mb : Nat → Nat} {σ : yH} (hM : mOK en mb σ) {d : Nat} (hd : 4 ≤ d + 1) {K : Int32 → yMS → Prop} {X : String → Addr → yH → Prop} {k n : Nat} (l1 : Int32) (l2 : Int32) (l3 : Int32) (ρ : yMS) (h : wpM_X3_wayOut_4  l1 l2 l3 ρ K) : Wx en (d + 1) mX3_wayOut 4 [(0, .ref (mb 0)), (1, .int l1), (2, .int l2), (3, .int l3)] [] (mH en mb ρ σ) k n (mQ en mb σ (mI K)) X := by
  obtain ⟨nn, h⟩ := h
  exact olM_X3_wayOut_4 hM hd  nn _ _ _ _ h
def wpM_X3_wayOut (ρ : yMS) (x1 : Int32) (K : Int32 → yMS → Prop) : Prop :=
  wpM_X3_wayOut_4  x1 (-1 : Int32) (0 : Int32) ρ K
theorem okM_X3_wayOut {en : yEn} {mb : Nat → Nat} {σ : yH} (hM : mOK en mb σ) {d : Nat} (hd : 4 ≤ d + 1) {ρ : yMS} {x1 : Int32} {K : Int32 → yMS → Prop} {X : String → Addr → yH → Prop} {k n : Nat}  (h : wpM_X3_wayOut ρ x1 K) : Wx en (d + 1) mX3_wayOut 0 [(0, .ref (mb 0)), (1, .int x1)] [] (mH en mb ρ σ) k n (mQ en mb σ (mI K)) X := by
  unfold wpM_X3_wayOut at h
  refine sd_iconst (pc := 0) dX3_wayOut_0 (v := -1) (by decide) ?_
  refine sd_istore_n (pc := 1) dX3_wayOut_1 rfl (by decide) (ls' := [(2, .int (-1 : Int32)), (0, .ref (mb 0)), (1, .int x1)]) rfl ?_
  refine sd_iconst (pc := 2) dX3_wayOut_2 (v := 0) (by decide) ?_
  refine sd_istore_n (pc := 3) dX3_wayOut_3 rfl (by decide) (ls' := [(3, .int (0 : Int32)), (2, .int (-1 : Int32)), (0, .ref (mb 0)), (1, .int x1)]) rfl ?_
  exact sd_loc [2, 3, 1, 0] rfl (okM_X3_wayOut_4 hM (by omega)  _ _ _ _ h)
theorem cm_X3_wayOut {en : yEn} {mb : Nat → Nat} {σ : yH} (hM : mOK en mb σ) {d : Nat} (hd : 4 ≤ d) {ρ : yMS} {x1 : Int32} {K : Int32 → yMS → Prop} {X : String → Addr → yH → Prop}  (h : wpM_X3_wayOut ρ x1 K) : Cx en d 0 0 mX3_wayOut [.ref (mb 0), .int x1] (mH en mb ρ σ) (mQ en mb σ (mI K)) X := by
  obtain ⟨d, rfl⟩ : ∃ e, d = e + 1 := ⟨d - 1, by omega⟩
  exact Cx.body (by decide +kernel) rfl (Nat.le_of_ble_eq_true rfl) (okM_X3_wayOut hM (by omega)  h)
/-! goes(II)I -/
def wpM_X3_goes (ρ : yMS) (x1 : Int32) (x2 : Int32) (K : Int32 → yMS → Prop) : Prop :=
  wpM_X3_wayOut ρ x1 (fun r2 ρ1 => mAld ρ1 1 ((22 : Int32) + r2) (fun v3 => (((x2 < v3) → K x1 ρ1) ∧ (¬ (x2 < v3) → wpM_X3_across ρ1 r2 x1 (fun r5 ρ4 => K r5 ρ4)))))
theorem okM_X3_goes {en : yEn} {mb : Nat → Nat} {σ : yH} (hM : mOK en mb σ) {d : Nat} (hd : 5 ≤ d + 1) {ρ : yMS} {x1 : Int32} {x2 : Int32} {K : Int32 → yMS → Prop} {X : String → Addr → yH → Prop} {k n : Nat}  (h : wpM_X3_goes ρ x1 x2 K) : Wx en (d + 1) mX3_goes 0 [(0, .ref (mb 0)), (1, .int x1), (2, .int x2)] [] (mH en mb ρ σ) k n (mQ en mb σ (mI K)) X := by
  unfold wpM_X3_goes at h
  refine sd_aload_n (pc := 0) dX3_goes_0 rfl 0 rfl ?_
  refine sd_iload_n (pc := 1) dX3_goes_1 rfl 1 rfl ?_
  refine sd_callV (k := k) (n := n) (d0 := d) (k0 := 0) (n0 := 0) (As := [.int x1]) (st := []) (pc := 2) dX3_goes_2 (ci := 2) rfl (mo_isC hM) rfl q2256 q2258 qs41 q91 q2259 1 (by decide +kernel) rfl (Nat.le_refl _) (by decide) (Nat.le_of_ble_eq_true rfl) (Cx.mono (cm_X3_wayOut hM (by omega)  h) (mI.to (fun r2 ρ1 h => ?_)) (xo rfl))
  refine sd_istore_n (pc := 5) dX3_goes_5 rfl (by decide) (ls' := [(3, .int r2), (0, .ref (mb 0)), (1, .int x1), (2, .int x2)]) rfl ?_
  refine sd_aload_n (pc := 6) dX3_goes_6 rfl 1 rfl ?_
  refine sd_getR (pc := 7) dX3_goes_7 (ci := 2) rfl in_X3 (kf := 1) (by decide) q2074 (mo_gR hM (j := 1) rfl ?_)
  refine sd_bipush (pc := 10) dX3_goes_10 (v := 22) (by decide) ?_
  refine sd_iload_n (pc := 12) dX3_goes_12 rfl 0 rfl ?_
  refine sd_iadd (pc := 13) dX3_goes_13 ?_
  refine sd_iaload (pc := 14) dX3_goes_14 (mAld.to hM h (fun v3 h => ?_))
  refine sd_iload_n (pc := 15) dX3_goes_15 rfl 3 rfl ?_
  refine sd_icmpgt (pc := 16) dX3_goes_16 (tgt := 27) (by decide) ⟨fun c6 => ?_, fun c6 => ?_⟩
  · have h := h.1 c6
    refine sd_iload_n (pc := 27) dX3_goes_27 rfl 2 rfl ?_
    exact sd_ireturn (pc := 28) dX3_goes_28 (ty0 := .int) rfl rfl (mI.ok h)
  · have h := h.2 c6
    refine sd_iload_n (pc := 19) dX3_goes_19 rfl 0 rfl ?_
    refine sd_iload_n (pc := 20) dX3_goes_20 rfl 2 rfl ?_
    refine sd_callS (k := k) (n := n) (d0 := d) (k0 := 0) (n0 := 0) (As := [.int r2, .int x1]) (st := []) (pc := 21) dX3_goes_21 q2269 q2270 q91 q2271 2 (by decide +kernel) rfl (Nat.le_refl _) (by decide) (Nat.le_of_ble_eq_true rfl) (Cx.mono (cm_X3_across hM (by omega)  h) (mI.to (fun r5 ρ4 h => ?_)) (xo rfl))
    refine sd_goto (pc := 24) dX3_goes_24 (tgt := 28) (by decide) ?_
    exact sd_ireturn (pc := 28) dX3_goes_28 (ty0 := .int) rfl rfl (mI.ok h)
theorem cm_X3_goes {en : yEn} {mb : Nat → Nat} {σ : yH} (hM : mOK en mb σ) {d : Nat} (hd : 5 ≤ d) {ρ : yMS} {x1 : Int32} {x2 : Int32} {K : Int32 → yMS → Prop} {X : String → Addr → yH → Prop}  (h : wpM_X3_goes ρ x1 x2 K) : Cx en d 0 0 mX3_goes [.ref (mb 0), .int x1, .int x2] (mH en mb ρ σ) (mQ en mb σ (mI K)) X := by
  obtain ⟨d, rfl⟩ : ∃ e, d = e + 1 := ⟨d - 1, by omega⟩
  exact Cx.body (by decide +kernel) rfl (Nat.le_of_ble_eq_true rfl) (okM_X3_goes hM (by omega)  h)
/-! hasEggs(I)Z -/
def wpM_X3_hasEggs (ρ : yMS) (x1 : Int32) (K : Int32 → yMS → Prop) : Prop :=
  wpM_X3_isHen ρ x1 (fun r2 ρ1 => (((r2 = 0) → K (0 : Int32) ρ1) ∧ (¬ (r2 = 0) → wpM_X3_of ρ1 x1 (2 : Int32) (fun r4 ρ3 => K (if (r4 ≤ 0) then (0 : Int32) else (1 : Int32)) ρ3))))
theorem okM_X3_hasEggs {en : yEn} {mb : Nat → Nat} {σ : yH} (hM : mOK en mb σ) {d : Nat} (hd : 3 ≤ d + 1) {ρ : yMS} {x1 : Int32} {K : Int32 → yMS → Prop} {X : String → Addr → yH → Prop} {k n : Nat}  (h : wpM_X3_hasEggs ρ x1 K) : Wx en (d + 1) mX3_hasEggs 0 [(0, .ref (mb 0)), (1, .int x1)] [] (mH en mb ρ σ) k n (mQ en mb σ (mI K)) X := by
  unfold wpM_X3_hasEggs at h
  refine sd_aload_n (pc := 0) dX3_hasEggs_0 rfl 0 rfl ?_
  refine sd_iload_n (pc := 1) dX3_hasEggs_1 rfl 1 rfl ?_
  refine sd_callV (k := k) (n := n) (d0 := d) (k0 := 0) (n0 := 0) (As := [.int x1]) (st := []) (pc := 2) dX3_hasEggs_2 (ci := 2) rfl (mo_isC hM) rfl q2224 q2226 qs35 q91 q2227 1 (by decide +kernel) rfl (Nat.le_refl _) (by decide) (Nat.le_of_ble_eq_true rfl) (Cx.mono (cm_X3_isHen hM (by omega)  h) (mI.to (fun r2 ρ1 h => ?_)) (xo rfl))
  refine sd_ifeq (pc := 5) dX3_hasEggs_5 (tgt := 21) (by decide) ⟨fun c6 => ?_, fun c6 => ?_⟩
  · have h := h.1 c6
    refine sd_iconst (pc := 21) dX3_hasEggs_21 (v := 0) (by decide) ?_
    exact sd_ireturn (pc := 22) dX3_hasEggs_22 (ty0 := .boolean) rfl rfl (mI.ok h)
  · have h := h.2 c6
    refine sd_aload_n (pc := 8) dX3_hasEggs_8 rfl 0 rfl ?_
    refine sd_iload_n (pc := 9) dX3_hasEggs_9 rfl 1 rfl ?_
    refine sd_iconst (pc := 10) dX3_hasEggs_10 (v := 2) (by decide) ?_
    refine sd_callV (k := k) (n := n) (d0 := d) (k0 := 0) (n0 := 0) (As := [.int x1, .int (2 : Int32)]) (st := []) (pc := 11) dX3_hasEggs_11 (ci := 2) rfl (mo_isC hM) rfl q2228 q2230 qs36 q91 q2231 2 (by decide +kernel) rfl (Nat.le_refl _) (by decide) (Nat.le_of_ble_eq_true rfl) (Cx.mono (cm_X3_of hM (by omega)  h) (mI.to (fun r4 ρ3 h => ?_)) (xo rfl))
    have h7 : Wx en (d + 1) mX3_hasEggs 22 [(0, .ref (mb 0)), (1, .int x1)] (.int (if (r4 ≤ 0) then (0 : Int32) else (1 : Int32)) :: []) (mH en mb ρ3 σ) k n (mQ en mb σ (mI K)) X := by
      exact sd_ireturn (pc := 22) dX3_hasEggs_22 (ty0 := .boolean) rfl (nb_ite rfl rfl) (mI.ok h)
    have e8 := sd_iteI h7
    refine sd_ifle (pc := 14) dX3_hasEggs_14 (tgt := 21) (by decide) ⟨fun c5 => ?_, fun c5 => ?_⟩
    · refine sd_iconst (pc := 21) dX3_hasEggs_21 (v := 0) (by decide) ?_
      exact (e8.1 c5)
    · refine sd_iconst (pc := 17) dX3_hasEggs_17 (v := 1) (by decide) ?_
      refine sd_goto (pc := 18) dX3_hasEggs_18 (tgt := 22) (by decide) ?_
      exact (e8.2 c5)
theorem cm_X3_hasEggs {en : yEn} {mb : Nat → Nat} {σ : yH} (hM : mOK en mb σ) {d : Nat} (hd : 3 ≤ d) {ρ : yMS} {x1 : Int32} {K : Int32 → yMS → Prop} {X : String → Addr → yH → Prop}  (h : wpM_X3_hasEggs ρ x1 K) : Cx en d 0 0 mX3_hasEggs [.ref (mb 0), .int x1] (mH en mb ρ σ) (mQ en mb σ (mI K)) X := by
  obtain ⟨d, rfl⟩ : ∃ e, d = e + 1 := ⟨d - 1, by omega⟩
  exact Cx.body (by decide +kernel) rfl (Nat.le_of_ble_eq_true rfl) (okM_X3_hasEggs hM (by omega)  h)
/-! goal(I)I -/
def wpM_X3_goal (ρ : yMS) (x1 : Int32) (K : Int32 → yMS → Prop) : Prop :=
  wpM_X3_of ρ x1 (1 : Int32) (fun r2 ρ1 => wpM_X3_hasEggs ρ1 x1 (fun r4 ρ3 => (((r4 = 0) → wpM_X3_goes ρ3 r2 (6 : Int32) (fun r6 ρ5 => K r6 ρ5)) ∧ (¬ (r4 = 0) → K r2 ρ3))))
theorem okM_X3_goal {en : yEn} {mb : Nat → Nat} {σ : yH} (hM : mOK en mb σ) {d : Nat} (hd : 6 ≤ d + 1) {ρ : yMS} {x1 : Int32} {K : Int32 → yMS → Prop} {X : String → Addr → yH → Prop} {k n : Nat}  (h : wpM_X3_goal ρ x1 K) : Wx en (d + 1) mX3_goal 0 [(0, .ref (mb 0)), (1, .int x1)] [] (mH en mb ρ σ) k n (mQ en mb σ (mI K)) X := by
  unfold wpM_X3_goal at h
  refine sd_aload_n (pc := 0) dX3_goal_0 rfl 0 rfl ?_
  refine sd_iload_n (pc := 1) dX3_goal_1 rfl 1 rfl ?_
  refine sd_iconst (pc := 2) dX3_goal_2 (v := 1) (by decide) ?_
  refine sd_callV (k := k) (n := n) (d0 := d) (k0 := 0) (n0 := 0) (As := [.int x1, .int (1 : Int32)]) (st := []) (pc := 3) dX3_goal_3 (ci := 2) rfl (mo_isC hM) rfl q2228 q2230 qs36 q91 q2231 2 (by decide +kernel) rfl (Nat.le_refl _) (by decide) (Nat.le_of_ble_eq_true rfl) (Cx.mono (cm_X3_of hM (by omega)  h) (mI.to (fun r2 ρ1 h => ?_)) (xo rfl))
  refine sd_istore_n (pc := 6) dX3_goal_6 rfl (by decide) (ls' := [(2, .int r2), (0, .ref (mb 0)), (1, .int x1)]) rfl ?_
  refine sd_aload_n (pc := 7) dX3_goal_7 rfl 1 rfl ?_
  refine sd_iload_n (pc := 8) dX3_goal_8 rfl 2 rfl ?_
  refine sd_callV (k := k) (n := n) (d0 := d) (k0 := 0) (n0 := 0) (As := [.int x1]) (st := []) (pc := 9) dX3_goal_9 (ci := 2) rfl (mo_isC hM) rfl q2248 q2250 qs39 q91 q2251 1 (by decide +kernel) rfl (Nat.le_refl _) (by decide) (Nat.le_of_ble_eq_true rfl) (Cx.mono (cm_X3_hasEggs hM (by omega)  h) (mI.to (fun r4 ρ3 h => ?_)) (xo rfl))
  refine sd_ifeq (pc := 12) dX3_goal_12 (tgt := 19) (by decide) ⟨fun c7 => ?_, fun c7 => ?_⟩
  · have h := h.1 c7
    refine sd_aload_n (pc := 19) dX3_goal_19 rfl 1 rfl ?_
    refine sd_iload_n (pc := 20) dX3_goal_20 rfl 0 rfl ?_
    refine sd_bipush (pc := 21) dX3_goal_21 (v := 6) (by decide) ?_
    refine sd_callV (k := k) (n := n) (d0 := d) (k0 := 0) (n0 := 0) (As := [.int r2, .int (6 : Int32)]) (st := []) (pc := 23) dX3_goal_23 (ci := 2) rfl (mo_isC hM) rfl q2252 q2254 qs40 q91 q2255 2 (by decide +kernel) rfl (Nat.le_refl _) (by decide) (Nat.le_of_ble_eq_true rfl) (Cx.mono (cm_X3_goes hM (by omega)  h) (mI.to (fun r6 ρ5 h => ?_)) (xo rfl))
    exact sd_ireturn (pc := 26) dX3_goal_26 (ty0 := .int) rfl rfl (mI.ok h)
  · have h := h.2 c7
    refine sd_iload_n (pc := 15) dX3_goal_15 rfl 0 rfl ?_
    refine sd_goto (pc := 16) dX3_goal_16 (tgt := 26) (by decide) ?_
    exact sd_ireturn (pc := 26) dX3_goal_26 (ty0 := .int) rfl rfl (mI.ok h)
theorem cm_X3_goal {en : yEn} {mb : Nat → Nat} {σ : yH} (hM : mOK en mb σ) {d : Nat} (hd : 6 ≤ d) {ρ : yMS} {x1 : Int32} {K : Int32 → yMS → Prop} {X : String → Addr → yH → Prop}  (h : wpM_X3_goal ρ x1 K) : Cx en d 0 0 mX3_goal [.ref (mb 0), .int x1] (mH en mb ρ σ) (mQ en mb σ (mI K)) X := by
  obtain ⟨d, rfl⟩ : ∃ e, d = e + 1 := ⟨d - 1, by omega⟩
  exact Cx.body (by decide +kernel) rfl (Nat.le_of_ble_eq_true rfl) (okM_X3_goal hM (by omega)  h)
/-! goesTo(I)I -/
def wpM_X3_goesTo (ρ : yMS) (x1 : Int32) (K : Int32 → yMS → Prop) : Prop :=
  wpM_X3_isBird ρ x1 (fun r2 ρ1 => wpM_X3_fails ρ1 (1 : Int32) (if (r2 = 0) then (1 : Int32) else (0 : Int32)) (fun r5 ρ4 => (((r5 = 0) → wpM_X3_goal ρ4 x1 (fun r7 ρ6 => K r7 ρ6)) ∧ (¬ (r5 = 0) → K (0 : Int32) ρ4))))
theorem okM_X3_goesTo {en : yEn} {mb : Nat → Nat} {σ : yH} (hM : mOK en mb σ) {d : Nat} (hd : 7 ≤ d + 1) {ρ : yMS} {x1 : Int32} {K : Int32 → yMS → Prop} {X : String → Addr → yH → Prop} {k n : Nat}  (h : wpM_X3_goesTo ρ x1 K) : Wx en (d + 1) mX3_goesTo 0 [(0, .ref (mb 0)), (1, .int x1)] [] (mH en mb ρ σ) k n (mQ en mb σ (mI K)) X := by
  unfold wpM_X3_goesTo at h
  refine sd_aload_n (pc := 0) dX3_goesTo_0 rfl 0 rfl ?_
  refine sd_iconst (pc := 1) dX3_goesTo_1 (v := 1) (by decide) ?_
  refine sd_aload_n (pc := 2) dX3_goesTo_2 rfl 0 rfl ?_
  refine sd_iload_n (pc := 3) dX3_goesTo_3 rfl 1 rfl ?_
  refine sd_callV (k := k) (n := n) (d0 := d) (k0 := 0) (n0 := 0) (As := [.int x1]) (st := [.int (1 : Int32), .ref (mb 0)]) (pc := 4) dX3_goesTo_4 (ci := 2) rfl (mo_isC hM) rfl q2216 q2218 qs33 q91 q2219 1 (by decide +kernel) rfl (Nat.le_refl _) (by decide) (Nat.le_of_ble_eq_true rfl) (Cx.mono (cm_X3_isBird hM (by omega)  h) (mI.to (fun r2 ρ1 h => ?_)) (xo rfl))
  have h9 : Wx en (d + 1) mX3_goesTo 15 [(0, .ref (mb 0)), (1, .int x1)] (.int (if (r2 = 0) then (1 : Int32) else (0 : Int32)) :: .int (1 : Int32) :: .ref (mb 0) :: []) (mH en mb ρ1 σ) k n (mQ en mb σ (mI K)) X := by
    refine sd_callV (k := k) (n := n) (d0 := d) (k0 := 0) (n0 := 0) (As := [.int (1 : Int32), .int (if (r2 = 0) then (1 : Int32) else (0 : Int32))]) (st := []) (pc := 15) dX3_goesTo_15 (ci := 2) rfl (mo_isC hM) rfl q2170 q2172 qs26 q91 q2173 2 (by decide +kernel) rfl (Nat.le_refl _) (by decide) (Nat.le_of_ble_eq_true rfl) (Cx.mono (cm_X3_fails hM (by omega)  h) (mI.to (fun r5 ρ4 h => ?_)) (xo rfl))
    refine sd_ifeq (pc := 18) dX3_goesTo_18 (tgt := 25) (by decide) ⟨fun c8 => ?_, fun c8 => ?_⟩
    · have h := h.1 c8
      refine sd_aload_n (pc := 25) dX3_goesTo_25 rfl 0 rfl ?_
      refine sd_iload_n (pc := 26) dX3_goesTo_26 rfl 1 rfl ?_
      refine sd_callV (k := k) (n := n) (d0 := d) (k0 := 0) (n0 := 0) (As := [.int x1]) (st := []) (pc := 27) dX3_goesTo_27 (ci := 2) rfl (mo_isC hM) rfl q2244 q2246 qs38 q91 q2247 1 (by decide +kernel) rfl (Nat.le_refl _) (by decide) (Nat.le_of_ble_eq_true rfl) (Cx.mono (cm_X3_goal hM (by omega)  h) (mI.to (fun r7 ρ6 h => ?_)) (xo rfl))
      exact sd_ireturn (pc := 30) dX3_goesTo_30 (ty0 := .int) rfl rfl (mI.ok h)
    · have h := h.2 c8
      refine sd_iconst (pc := 21) dX3_goesTo_21 (v := 0) (by decide) ?_
      refine sd_goto (pc := 22) dX3_goesTo_22 (tgt := 30) (by decide) ?_
      exact sd_ireturn (pc := 30) dX3_goesTo_30 (ty0 := .int) rfl rfl (mI.ok h)
  have e10 := sd_iteIN h9
  refine sd_ifne (pc := 7) dX3_goesTo_7 (tgt := 14) (by decide) ⟨fun c3 => ?_, fun c3 => ?_⟩
  · refine sd_iconst (pc := 14) dX3_goesTo_14 (v := 0) (by decide) ?_
    exact (e10.1 c3)
  · refine sd_iconst (pc := 10) dX3_goesTo_10 (v := 1) (by decide) ?_
    refine sd_goto (pc := 11) dX3_goesTo_11 (tgt := 15) (by decide) ?_
    exact (e10.2 c3)
theorem cm_X3_goesTo {en : yEn} {mb : Nat → Nat} {σ : yH} (hM : mOK en mb σ) {d : Nat} (hd : 7 ≤ d) {ρ : yMS} {x1 : Int32} {K : Int32 → yMS → Prop} {X : String → Addr → yH → Prop}  (h : wpM_X3_goesTo ρ x1 K) : Cx en d 0 0 mX3_goesTo [.ref (mb 0), .int x1] (mH en mb ρ σ) (mQ en mb σ (mI K)) X := by
  obtain ⟨d, rfl⟩ : ∃ e, d = e + 1 := ⟨d - 1, by omega⟩
  exact Cx.body (by decide +kernel) rfl (Nat.le_of_ble_eq_true rfl) (okM_X3_goesTo hM (by omega)  h)
/-! follow(I)V -/
def stM_X3_follow_2 (R : yMS → Int32 → (yMS → Prop) → Prop) (K : yMS → Prop) (rec : Int32 → Int32 → yMS → Prop) (l1 : Int32) (l2 : Int32) (ρ : yMS) : Prop :=
  mAld ρ 1 (10 : Int32) (fun v1 => (((v1 ≤ l2) → K ρ) ∧ (¬ (v1 ≤ l2) → wpM_X3_of ρ l2 (4 : Int32) (fun r3 ρ2 => ((¬ (r3 = l1) → rec l1 (l2 + (1 : Int32)) ρ2) ∧ ((r3 = l1) → mAst ρ2 13 (ρ2.1 14) l2 (fun ρ4 => (mPut ρ4 14 ((ρ4.1 14) + (1 : Int32)) (fun ρ5 => R ρ5 l2 (fun ρ6 => rec l1 (l2 + (1 : Int32)) ρ6))))))))))
def lpM_X3_follow_2 (R : yMS → Int32 → (yMS → Prop) → Prop) (K : yMS → Prop) : Nat → Int32 × Int32 × yMS → Prop := lpN (fun r s => stM_X3_follow_2 R  K (fun l1 l2 ρ => r (l1, l2, ρ)) s.1 s.2.1 s.2.2)
def wpM_X3_follow_2 (R : yMS → Int32 → (yMS → Prop) → Prop) (l1 : Int32) (l2 : Int32) (ρ : yMS) (K : yMS → Prop) : Prop := ∃ nn, lpM_X3_follow_2 R  K nn (l1, l2, ρ)
theorem olM_X3_follow_2 {en : yEn} {mb : Nat → Nat} {σ : yH} (hM : mOK en mb σ) {d : Nat} (hd : 2 ≤ d + 1) {K : yMS → Prop} {X : String → Addr → yH → Prop} {k n : Nat} {R : yMS → Int32 → (yMS → Prop) → Prop} (hR : ∀ (ρ : yMS) (x1 : Int32) (K : yMS → Prop) (X : String → Addr → yH → Prop), R ρ x1 K → Cx en d 0 0 mX3_follow [.ref (mb 0), .int x1] (mH en mb ρ σ) (mQ en mb σ (mV K)) X) : ∀ (nn : Nat) (l1 : Int32) (l2 : Int32) (ρ : yMS), lpM_X3_follow_2 R  K nn (l1, l2, ρ) → Wx en (d + 1) mX3_follow 2 [(0, .ref (mb 0)), (1, .int l1), (2, .int l2)] [] (mH en mb ρ σ) k n (mQ en mb σ (mV K)) X := by
  intro nn
  induction nn with
  | zero => intros; rename_i h; exact h.elim
  | succ nn ih =>
    intro l1 l2 ρ h
    replace h : stM_X3_follow_2 R  K (fun l1 l2 ρ => lpM_X3_follow_2 R  K nn (l1, l2, ρ)) l1 l2 ρ := h
    unfold stM_X3_follow_2 at h
    refine sd_iload_n (pc := 2) dX3_follow_2 rfl 2 rfl ?_
    refine sd_aload_n (pc := 3) dX3_follow_3 rfl 0 rfl ?_
    refine sd_getR (pc := 4) dX3_follow_4 (ci := 2) rfl in_X3 (kf := 1) (by decide) q2074 (mo_gR hM (j := 1) rfl ?_)
    refine sd_bipush (pc := 7) dX3_follow_7 (v := 10) (by decide) ?_
    refine sd_iaload (pc := 9) dX3_follow_9 (mAld.to hM h (fun v1 h => ?_))
    refine sd_icmpge (pc := 10) dX3_follow_10 (tgt := 54) (by decide) ⟨fun c8 => ?_, fun c8 => ?_⟩
    · have h := h.1 c8
      exact sd_return (pc := 54) dX3_follow_54 rfl (mV.ok h)
    · have h := h.2 c8
      refine sd_aload_n (pc := 13) dX3_follow_13 rfl 0 rfl ?_
      refine sd_iload_n (pc := 14) dX3_follow_14 rfl 2 rfl ?_
      refine sd_iconst (pc := 15) dX3_follow_15 (v := 4) (by decide) ?_
      refine sd_callV (k := k) (n := n) (d0 := d) (k0 := 0) (n0 := 0) (As := [.int l2, .int (4 : Int32)]) (st := []) (pc := 16) dX3_follow_16 (ci := 2) rfl (mo_isC hM) rfl q2228 q2230 qs36 q91 q2231 2 (by decide +kernel) rfl (Nat.le_refl _) (by decide) (Nat.le_of_ble_eq_true rfl) (Cx.mono (cm_X3_of hM (by omega)  h) (mI.to (fun r3 ρ2 h => ?_)) (xo rfl))
      refine sd_iload_n (pc := 19) dX3_follow_19 rfl 1 rfl ?_
      refine sd_icmpne (pc := 20) dX3_follow_20 (tgt := 48) (by decide) ⟨fun c7 => ?_, fun c7 => ?_⟩
      · have h := h.1 c7
        refine sd_iinc (pc := 48) dX3_follow_48 2 rfl (v := (l2 + (1 : Int32))) rfl (by decide) (ls' := [(2, .int (l2 + (1 : Int32))), (0, .ref (mb 0)), (1, .int l1)]) rfl ?_
        refine sd_goto (pc := 51) dX3_follow_51 (tgt := 2) (by decide) ?_
        exact sd_loc [1, 2, 0] rfl (ih _ _ _ h)
      · have h := h.2 c7
        refine sd_aload_n (pc := 23) dX3_follow_23 rfl 0 rfl ?_
        refine sd_getR (pc := 24) dX3_follow_24 (ci := 2) rfl in_X3 (kf := 13) (by decide) q2086 (mo_gR hM (j := 13) rfl ?_)
        refine sd_aload_n (pc := 27) dX3_follow_27 rfl 0 rfl ?_
        refine sd_getI (pc := 28) dX3_follow_28 (ci := 2) rfl in_X3 (kf := 14) (by decide) q2087 (mo_gI hM rfl ?_)
        refine sd_iload_n (pc := 31) dX3_follow_31 rfl 2 rfl ?_
        refine sd_iastore (pc := 32) dX3_follow_32 (mAst.to hM h (fun ρ4 h => ?_))
        refine sd_aload_n (pc := 33) dX3_follow_33 rfl 0 rfl ?_
        refine sd_dup (pc := 34) dX3_follow_34 rfl ?_
        refine sd_getI (pc := 35) dX3_follow_35 (ci := 2) rfl in_X3 (kf := 14) (by decide) q2087 (mo_gI hM rfl ?_)
        refine sd_iconst (pc := 38) dX3_follow_38 (v := 1) (by decide) ?_
        refine sd_iadd (pc := 39) dX3_follow_39 ?_
        refine sd_putf (pc := 40) dX3_follow_40 (ci := 2) rfl in_X3 tyX3 tyX3_ok nmX3 (kf := 14) (by decide) q2087 rfl (ty := .int) rfl rfl rfl (mPut.to hM (by decide) rfl h (fun ρ5 h => ?_))
        refine sd_aload_n (pc := 43) dX3_follow_43 rfl 0 rfl ?_
        refine sd_iload_n (pc := 44) dX3_follow_44 rfl 2 rfl ?_
        refine sd_callV (k := k) (n := n) (d0 := d) (k0 := 0) (n0 := 0) (As := [.int l2]) (st := []) (pc := 45) dX3_follow_45 (ci := 2) rfl (mo_isC hM) rfl q2276 q2278 qs42 q91 q2279 1 (by decide +kernel) rfl (Nat.le_refl _) (by decide) (Nat.le_of_ble_eq_true rfl) (Cx.mono (hR _ _ _ _ h) (mV.to (fun ρ6 h => ?_)) (xo rfl))
        refine sd_iinc (pc := 48) dX3_follow_48 2 rfl (v := (l2 + (1 : Int32))) rfl (by decide) (ls' := [(2, .int (l2 + (1 : Int32))), (0, .ref (mb 0)), (1, .int l1)]) rfl ?_
        refine sd_goto (pc := 51) dX3_follow_51 (tgt := 2) (by decide) ?_
        exact sd_loc [1, 2, 0] rfl (ih _ _ _ h)
theorem okM_X3_follow_2 {en : yEn} {mb : Nat → Nat} {σ : yH} (hM : mOK en mb σ) {d : Nat} (hd : 2 ≤ d + 1) {K : yMS → Prop} {X : String → Addr → yH → Prop} {k n : Nat} {R : yMS → Int32 → (yMS → Prop) → Prop} (hR : ∀ (ρ : yMS) (x1 : Int32) (K : yMS → Prop) (X : String → Addr → yH → Prop), R ρ x1 K → Cx en d 0 0 mX3_follow [.ref (mb 0), .int x1] (mH en mb ρ σ) (mQ en mb σ (mV K)) X) (l1 : Int32) (l2 : Int32) (ρ : yMS) (h : wpM_X3_follow_2 R  l1 l2 ρ K) : Wx en (d + 1) mX3_follow 2 [(0, .ref (mb 0)), (1, .int l1), (2, .int l2)] [] (mH en mb ρ σ) k n (mQ en mb σ (mV K)) X := by
  obtain ⟨nn, h⟩ := h
  exact olM_X3_follow_2 hM hd hR  nn _ _ _ h
def bdM_X3_follow (R : yMS → Int32 → (yMS → Prop) → Prop) (ρ : yMS) (x1 : Int32) (K : yMS → Prop) : Prop :=
  wpM_X3_follow_2 R x1 (0 : Int32) ρ K
def wpM_X3_follow : Nat → yMS → Int32 → (yMS → Prop) → Prop
  | 0, _ , _ , _ => False
  | f+1, ρ, x1, K => bdM_X3_follow (fun ρ x1 K => wpM_X3_follow f ρ x1 K) ρ x1 K
theorem okM_X3_follow {en : yEn} {mb : Nat → Nat} {σ : yH} (hM : mOK en mb σ) {d : Nat} (hd : 2 ≤ d + 1) {K : yMS → Prop} {X : String → Addr → yH → Prop} {k n : Nat} {R : yMS → Int32 → (yMS → Prop) → Prop} (hR : ∀ (ρ : yMS) (x1 : Int32) (K : yMS → Prop) (X : String → Addr → yH → Prop), R ρ x1 K → Cx en d 0 0 mX3_follow [.ref (mb 0), .int x1] (mH en mb ρ σ) (mQ en mb σ (mV K)) X) {ρ : yMS} {x1 : Int32}  (h : bdM_X3_follow R ρ x1 K) : Wx en (d + 1) mX3_follow 0 [(0, .ref (mb 0)), (1, .int x1)] [] (mH en mb ρ σ) k n (mQ en mb σ (mV K)) X := by
  unfold bdM_X3_follow at h
  refine sd_iconst (pc := 0) dX3_follow_0 (v := 0) (by decide) ?_
  refine sd_istore_n (pc := 1) dX3_follow_1 rfl (by decide) (ls' := [(2, .int (0 : Int32)), (0, .ref (mb 0)), (1, .int x1)]) rfl ?_
  exact sd_loc [1, 2, 0] rfl (okM_X3_follow_2 hM (by omega) hR  _ _ _ h)
theorem cm_X3_follow {en : yEn} {mb : Nat → Nat} {σ : yH} (hM : mOK en mb σ) : ∀ {f d : Nat} (_ : 2 + f ≤ d) {ρ : yMS} {x1 : Int32} {K : yMS → Prop} {X : String → Addr → yH → Prop} (_ : wpM_X3_follow f ρ x1 K), Cx en d 0 0 mX3_follow [.ref (mb 0), .int x1] (mH en mb ρ σ) (mQ en mb σ (mV K)) X := by
  intro f
  induction f with
  | zero => intros; rename_i h; exact h.elim
  | succ f ih =>
    intro d hd ρ x1 K X h
    obtain ⟨d, rfl⟩ : ∃ e, d = e + 1 := ⟨d - 1, by omega⟩
    exact Cx.body (by decide +kernel) rfl (Nat.le_of_ble_eq_true rfl) (okM_X3_follow hM (by omega) (fun ρ x1 K X h => ih (by omega) h) h)
/-! ordered(I)I -/
def wpM_X3_ordered (ρ : yMS) (x1 : Int32) (K : Int32 → yMS → Prop) : Prop :=
  mAld ρ 1 (10 : Int32) (fun v1 => wpM_X3_isBetween ρ x1 (0 : Int32) (v1 - (1 : Int32)) (fun r3 ρ2 => wpM_X3_fails ρ2 (1 : Int32) (if (r3 = 0) then (1 : Int32) else (0 : Int32)) (fun r6 ρ5 => (((r6 = 0) → (mPut ρ5 14 (0 : Int32) (fun ρ7 => wpM_X3_follow 14 ρ7 (-1 : Int32) (fun ρ8 => mAld ρ8 13 x1 (fun v9 => K v9 ρ8))))) ∧ (¬ (r6 = 0) → K (0 : Int32) ρ5)))))
theorem okM_X3_ordered {en : yEn} {mb : Nat → Nat} {σ : yH} (hM : mOK en mb σ) {d : Nat} (hd : 17 ≤ d + 1) {ρ : yMS} {x1 : Int32} {K : Int32 → yMS → Prop} {X : String → Addr → yH → Prop} {k n : Nat}  (h : wpM_X3_ordered ρ x1 K) : Wx en (d + 1) mX3_ordered 0 [(0, .ref (mb 0)), (1, .int x1)] [] (mH en mb ρ σ) k n (mQ en mb σ (mI K)) X := by
  unfold wpM_X3_ordered at h
  refine sd_aload_n (pc := 0) dX3_ordered_0 rfl 0 rfl ?_
  refine sd_iconst (pc := 1) dX3_ordered_1 (v := 1) (by decide) ?_
  refine sd_iload_n (pc := 2) dX3_ordered_2 rfl 1 rfl ?_
  refine sd_iconst (pc := 3) dX3_ordered_3 (v := 0) (by decide) ?_
  refine sd_aload_n (pc := 4) dX3_ordered_4 rfl 0 rfl ?_
  refine sd_getR (pc := 5) dX3_ordered_5 (ci := 2) rfl in_X3 (kf := 1) (by decide) q2074 (mo_gR hM (j := 1) rfl ?_)
  refine sd_bipush (pc := 8) dX3_ordered_8 (v := 10) (by decide) ?_
  refine sd_iaload (pc := 10) dX3_ordered_10 (mAld.to hM h (fun v1 h => ?_))
  refine sd_iconst (pc := 11) dX3_ordered_11 (v := 1) (by decide) ?_
  refine sd_isub (pc := 12) dX3_ordered_12 ?_
  refine sd_callS (k := k) (n := n) (d0 := d) (k0 := 0) (n0 := 0) (As := [.int x1, .int (0 : Int32), .int (v1 - (1 : Int32))]) (st := [.int (1 : Int32), .ref (mb 0)]) (pc := 13) dX3_ordered_13 q2167 q2168 q91 q2169 3 (by decide +kernel) rfl (Nat.le_refl _) (by decide) (Nat.le_of_ble_eq_true rfl) (Cx.mono (cm_X3_isBetween hM (by omega)  h) (mI.to (fun r3 ρ2 h => ?_)) (xo rfl))
  have h11 : Wx en (d + 1) mX3_ordered 24 [(0, .ref (mb 0)), (1, .int x1)] (.int (if (r3 = 0) then (1 : Int32) else (0 : Int32)) :: .int (1 : Int32) :: .ref (mb 0) :: []) (mH en mb ρ2 σ) k n (mQ en mb σ (mI K)) X := by
    refine sd_callV (k := k) (n := n) (d0 := d) (k0 := 0) (n0 := 0) (As := [.int (1 : Int32), .int (if (r3 = 0) then (1 : Int32) else (0 : Int32))]) (st := []) (pc := 24) dX3_ordered_24 (ci := 2) rfl (mo_isC hM) rfl q2170 q2172 qs26 q91 q2173 2 (by decide +kernel) rfl (Nat.le_refl _) (by decide) (Nat.le_of_ble_eq_true rfl) (Cx.mono (cm_X3_fails hM (by omega)  h) (mI.to (fun r6 ρ5 h => ?_)) (xo rfl))
    refine sd_ifeq (pc := 27) dX3_ordered_27 (tgt := 32) (by decide) ⟨fun c10 => ?_, fun c10 => ?_⟩
    · have h := h.1 c10
      refine sd_aload_n (pc := 32) dX3_ordered_32 rfl 0 rfl ?_
      refine sd_iconst (pc := 33) dX3_ordered_33 (v := 0) (by decide) ?_
      refine sd_putf (pc := 34) dX3_ordered_34 (ci := 2) rfl in_X3 tyX3 tyX3_ok nmX3 (kf := 14) (by decide) q2087 rfl (ty := .int) rfl rfl rfl (mPut.to hM (by decide) rfl h (fun ρ7 h => ?_))
      refine sd_aload_n (pc := 37) dX3_ordered_37 rfl 0 rfl ?_
      refine sd_iconst (pc := 38) dX3_ordered_38 (v := -1) (by decide) ?_
      refine sd_callV (k := k) (n := n) (d0 := d) (k0 := 0) (n0 := 0) (As := [.int (-1 : Int32)]) (st := []) (pc := 39) dX3_ordered_39 (ci := 2) rfl (mo_isC hM) rfl q2276 q2278 qs42 q91 q2279 1 (by decide +kernel) rfl (Nat.le_refl _) (by decide) (Nat.le_of_ble_eq_true rfl) (Cx.mono (cm_X3_follow hM (by omega)  h) (mV.to (fun ρ8 h => ?_)) (xo rfl))
      refine sd_aload_n (pc := 42) dX3_ordered_42 rfl 0 rfl ?_
      refine sd_getR (pc := 43) dX3_ordered_43 (ci := 2) rfl in_X3 (kf := 13) (by decide) q2086 (mo_gR hM (j := 13) rfl ?_)
      refine sd_iload_n (pc := 46) dX3_ordered_46 rfl 1 rfl ?_
      refine sd_iaload (pc := 47) dX3_ordered_47 (mAld.to hM h (fun v9 h => ?_))
      exact sd_ireturn (pc := 48) dX3_ordered_48 (ty0 := .int) rfl rfl (mI.ok h)
    · have h := h.2 c10
      refine sd_iconst (pc := 30) dX3_ordered_30 (v := 0) (by decide) ?_
      exact sd_ireturn (pc := 31) dX3_ordered_31 (ty0 := .int) rfl rfl (mI.ok h)
  have e12 := sd_iteIN h11
  refine sd_ifne (pc := 16) dX3_ordered_16 (tgt := 23) (by decide) ⟨fun c4 => ?_, fun c4 => ?_⟩
  · refine sd_iconst (pc := 23) dX3_ordered_23 (v := 0) (by decide) ?_
    exact (e12.1 c4)
  · refine sd_iconst (pc := 19) dX3_ordered_19 (v := 1) (by decide) ?_
    refine sd_goto (pc := 20) dX3_ordered_20 (tgt := 24) (by decide) ?_
    exact (e12.2 c4)
theorem cm_X3_ordered {en : yEn} {mb : Nat → Nat} {σ : yH} (hM : mOK en mb σ) {d : Nat} (hd : 17 ≤ d) {ρ : yMS} {x1 : Int32} {K : Int32 → yMS → Prop} {X : String → Addr → yH → Prop}  (h : wpM_X3_ordered ρ x1 K) : Cx en d 0 0 mX3_ordered [.ref (mb 0), .int x1] (mH en mb ρ σ) (mQ en mb σ (mI K)) X := by
  obtain ⟨d, rfl⟩ : ∃ e, d = e + 1 := ⟨d - 1, by omega⟩
  exact Cx.body (by decide +kernel) rfl (Nat.le_of_ble_eq_true rfl) (okM_X3_ordered hM (by omega)  h)
/-! fox()I -/
def wpM_X3_fox (ρ : yMS)  (K : Int32 → yMS → Prop) : Prop :=
  (mPut ρ 0 (0 : Int32) (fun ρ1 => mAld ρ1 1 (1 : Int32) (fun v2 => K v2 ρ1)))
theorem okM_X3_fox {en : yEn} {mb : Nat → Nat} {σ : yH} (hM : mOK en mb σ) {d : Nat} (hd : 1 ≤ d + 1) {ρ : yMS}  {K : Int32 → yMS → Prop} {X : String → Addr → yH → Prop} {k n : Nat}  (h : wpM_X3_fox ρ  K) : Wx en (d + 1) mX3_fox 0 [(0, .ref (mb 0))] [] (mH en mb ρ σ) k n (mQ en mb σ (mI K)) X := by
  unfold wpM_X3_fox at h
  refine sd_aload_n (pc := 0) dX3_fox_0 rfl 0 rfl ?_
  refine sd_iconst (pc := 1) dX3_fox_1 (v := 0) (by decide) ?_
  refine sd_putf (pc := 2) dX3_fox_2 (ci := 2) rfl in_X3 tyX3 tyX3_ok nmX3 (kf := 0) (by decide) q2073 rfl (ty := .int) rfl rfl rfl (mPut.to hM (by decide) rfl h (fun ρ1 h => ?_))
  refine sd_aload_n (pc := 5) dX3_fox_5 rfl 0 rfl ?_
  refine sd_getR (pc := 6) dX3_fox_6 (ci := 2) rfl in_X3 (kf := 1) (by decide) q2074 (mo_gR hM (j := 1) rfl ?_)
  refine sd_iconst (pc := 9) dX3_fox_9 (v := 1) (by decide) ?_
  refine sd_iaload (pc := 10) dX3_fox_10 (mAld.to hM h (fun v2 h => ?_))
  exact sd_ireturn (pc := 11) dX3_fox_11 (ty0 := .int) rfl rfl (mI.ok h)
theorem cm_X3_fox {en : yEn} {mb : Nat → Nat} {σ : yH} (hM : mOK en mb σ) {d : Nat} (hd : 1 ≤ d) {ρ : yMS}  {K : Int32 → yMS → Prop} {X : String → Addr → yH → Prop}  (h : wpM_X3_fox ρ  K) : Cx en d 0 0 mX3_fox [.ref (mb 0)] (mH en mb ρ σ) (mQ en mb σ (mI K)) X := by
  obtain ⟨d, rfl⟩ : ∃ e, d = e + 1 := ⟨d - 1, by omega⟩
  exact Cx.body (by decide +kernel) rfl (Nat.le_of_ble_eq_true rfl) (okM_X3_fox hM (by omega)  h)
/-! countOn(IIII)I -/
def stM_X3_countOn_6 (K : Int32 → yMS → Prop) (rec : Int32 → Int32 → Int32 → Int32 → Int32 → Int32 → yMS → Prop) (l1 : Int32) (l2 : Int32) (l3 : Int32) (l4 : Int32) (l5 : Int32) (l6 : Int32) (ρ : yMS) : Prop :=
  (((l4 ≤ l6) → K l5 ρ) ∧ (¬ (l4 ≤ l6) → mAld ρ 1 (l2 + (l3 * l6)) (fun v1 => rec l1 l2 l3 l4 (l5 + (if (v1 = l1) then (1 : Int32) else (0 : Int32))) (l6 + (1 : Int32)) ρ)))
def lpM_X3_countOn_6 (K : Int32 → yMS → Prop) : Nat → Int32 × Int32 × Int32 × Int32 × Int32 × Int32 × yMS → Prop := lpN (fun r s => stM_X3_countOn_6  K (fun l1 l2 l3 l4 l5 l6 ρ => r (l1, l2, l3, l4, l5, l6, ρ)) s.1 s.2.1 s.2.2.1 s.2.2.2.1 s.2.2.2.2.1 s.2.2.2.2.2.1 s.2.2.2.2.2.2)
def wpM_X3_countOn_6 (l1 : Int32) (l2 : Int32) (l3 : Int32) (l4 : Int32) (l5 : Int32) (l6 : Int32) (ρ : yMS) (K : Int32 → yMS → Prop) : Prop := ∃ nn, lpM_X3_countOn_6  K nn (l1, l2, l3, l4, l5, l6, ρ)
theorem olM_X3_countOn_6 {en : yEn} {mb : Nat → Nat} {σ : yH} (hM : mOK en mb σ) {d : Nat} (hd : 1 ≤ d + 1) {K : Int32 → yMS → Prop} {X : String → Addr → yH → Prop} {k n : Nat} : ∀ (nn : Nat) (l1 : Int32) (l2 : Int32) (l3 : Int32) (l4 : Int32) (l5 : Int32) (l6 : Int32) (ρ : yMS), lpM_X3_countOn_6  K nn (l1, l2, l3, l4, l5, l6, ρ) → Wx en (d + 1) mX3_countOn 6 [(0, .ref (mb 0)), (1, .int l1), (2, .int l2), (3, .int l3), (4, .int l4), (5, .int l5), (6, .int l6)] [] (mH en mb ρ σ) k n (mQ en mb σ (mI K)) X := by
  intro nn
  induction nn with
  | zero => intros; rename_i h; exact h.elim
  | succ nn ih =>
    intro l1 l2 l3 l4 l5 l6 ρ h
    replace h : stM_X3_countOn_6  K (fun l1 l2 l3 l4 l5 l6 ρ => lpM_X3_countOn_6  K nn (l1, l2, l3, l4, l5, l6, ρ)) l1 l2 l3 l4 l5 l6 ρ := h
    unfold stM_X3_countOn_6 at h
    refine sd_iload (pc := 6) dX3_countOn_6 6 rfl ?_
    refine sd_iload (pc := 8) dX3_countOn_8 4 rfl ?_
    refine sd_icmpge (pc := 10) dX3_countOn_10 (tgt := 44) (by decide) ⟨fun c3 => ?_, fun c3 => ?_⟩
    · have h := h.1 c3
      refine sd_iload (pc := 44) dX3_countOn_44 5 rfl ?_
      exact sd_ireturn (pc := 46) dX3_countOn_46 (ty0 := .int) rfl rfl (mI.ok h)
    · have h := h.2 c3
      refine sd_iload (pc := 13) dX3_countOn_13 5 rfl ?_
      refine sd_aload_n (pc := 15) dX3_countOn_15 rfl 0 rfl ?_
      refine sd_getR (pc := 16) dX3_countOn_16 (ci := 2) rfl in_X3 (kf := 1) (by decide) q2074 (mo_gR hM (j := 1) rfl ?_)
      refine sd_iload_n (pc := 19) dX3_countOn_19 rfl 2 rfl ?_
      refine sd_iload_n (pc := 20) dX3_countOn_20 rfl 3 rfl ?_
      refine sd_iload (pc := 21) dX3_countOn_21 6 rfl ?_
      refine sd_imul (pc := 23) dX3_countOn_23 ?_
      refine sd_iadd (pc := 24) dX3_countOn_24 ?_
      refine sd_iaload (pc := 25) dX3_countOn_25 (mAld.to hM h (fun v1 h => ?_))
      refine sd_iload_n (pc := 26) dX3_countOn_26 rfl 1 rfl ?_
      have h4 : Wx en (d + 1) mX3_countOn 35 [(0, .ref (mb 0)), (1, .int l1), (2, .int l2), (3, .int l3), (4, .int l4), (5, .int l5), (6, .int l6)] (.int (if (v1 = l1) then (1 : Int32) else (0 : Int32)) :: .int l5 :: []) (mH en mb ρ σ) k n (mQ en mb σ (mI K)) X := by
        refine sd_iadd (pc := 35) dX3_countOn_35 ?_
        refine sd_istore (pc := 36) dX3_countOn_36 (by decide) (ls' := [(5, .int (l5 + (if (v1 = l1) then (1 : Int32) else (0 : Int32)))), (0, .ref (mb 0)), (1, .int l1), (2, .int l2), (3, .int l3), (4, .int l4), (6, .int l6)]) rfl ?_
        refine sd_iinc (pc := 38) dX3_countOn_38 6 rfl (v := (l6 + (1 : Int32))) rfl (by decide) (ls' := [(6, .int (l6 + (1 : Int32))), (5, .int (l5 + (if (v1 = l1) then (1 : Int32) else (0 : Int32)))), (0, .ref (mb 0)), (1, .int l1), (2, .int l2), (3, .int l3), (4, .int l4)]) rfl ?_
        refine sd_goto (pc := 41) dX3_countOn_41 (tgt := 6) (by decide) ?_
        exact sd_loc [2, 3, 4, 5, 6, 1, 0] rfl (ih _ _ _ _ _ _ _ h)
      have e5 := sd_iteIN h4
      refine sd_icmpne (pc := 27) dX3_countOn_27 (tgt := 34) (by decide) ⟨fun c2 => ?_, fun c2 => ?_⟩
      · refine sd_iconst (pc := 34) dX3_countOn_34 (v := 0) (by decide) ?_
        exact (e5.1 c2)
      · refine sd_iconst (pc := 30) dX3_countOn_30 (v := 1) (by decide) ?_
        refine sd_goto (pc := 31) dX3_countOn_31 (tgt := 35) (by decide) ?_
        exact (e5.2 c2)
theorem okM_X3_countOn_6 {en : yEn} {mb : Nat → Nat} {σ : yH} (hM : mOK en mb σ) {d : Nat} (hd : 1 ≤ d + 1) {K : Int32 → yMS → Prop} {X : String → Addr → yH → Prop} {k n : Nat} (l1 : Int32) (l2 : Int32) (l3 : Int32) (l4 : Int32) (l5 : Int32) (l6 : Int32) (ρ : yMS) (h : wpM_X3_countOn_6  l1 l2 l3 l4 l5 l6 ρ K) : Wx en (d + 1) mX3_countOn 6 [(0, .ref (mb 0)), (1, .int l1), (2, .int l2), (3, .int l3), (4, .int l4), (5, .int l5), (6, .int l6)] [] (mH en mb ρ σ) k n (mQ en mb σ (mI K)) X := by
  obtain ⟨nn, h⟩ := h
  exact olM_X3_countOn_6 hM hd  nn _ _ _ _ _ _ _ h
def wpM_X3_countOn (ρ : yMS) (x1 : Int32) (x2 : Int32) (x3 : Int32) (x4 : Int32) (K : Int32 → yMS → Prop) : Prop :=
  wpM_X3_countOn_6  x1 x2 x3 x4 (0 : Int32) (0 : Int32) ρ K
theorem okM_X3_countOn {en : yEn} {mb : Nat → Nat} {σ : yH} (hM : mOK en mb σ) {d : Nat} (hd : 1 ≤ d + 1) {ρ : yMS} {x1 : Int32} {x2 : Int32} {x3 : Int32} {x4 : Int32} {K : Int32 → yMS → Prop} {X : String → Addr → yH → Prop} {k n : Nat}  (h : wpM_X3_countOn ρ x1 x2 x3 x4 K) : Wx en (d + 1) mX3_countOn 0 [(0, .ref (mb 0)), (1, .int x1), (2, .int x2), (3, .int x3), (4, .int x4)] [] (mH en mb ρ σ) k n (mQ en mb σ (mI K)) X := by
  unfold wpM_X3_countOn at h
  refine sd_iconst (pc := 0) dX3_countOn_0 (v := 0) (by decide) ?_
  refine sd_istore (pc := 1) dX3_countOn_1 (by decide) (ls' := [(5, .int (0 : Int32)), (0, .ref (mb 0)), (1, .int x1), (2, .int x2), (3, .int x3), (4, .int x4)]) rfl ?_
  refine sd_iconst (pc := 3) dX3_countOn_3 (v := 0) (by decide) ?_
  refine sd_istore (pc := 4) dX3_countOn_4 (by decide) (ls' := [(6, .int (0 : Int32)), (5, .int (0 : Int32)), (0, .ref (mb 0)), (1, .int x1), (2, .int x2), (3, .int x3), (4, .int x4)]) rfl ?_
  exact sd_loc [2, 3, 4, 5, 6, 1, 0] rfl (okM_X3_countOn_6 hM (by omega)  _ _ _ _ _ _ _ h)
theorem cm_X3_countOn {en : yEn} {mb : Nat → Nat} {σ : yH} (hM : mOK en mb σ) {d : Nat} (hd : 1 ≤ d) {ρ : yMS} {x1 : Int32} {x2 : Int32} {x3 : Int32} {x4 : Int32} {K : Int32 → yMS → Prop} {X : String → Addr → yH → Prop}  (h : wpM_X3_countOn ρ x1 x2 x3 x4 K) : Cx en d 0 0 mX3_countOn [.ref (mb 0), .int x1, .int x2, .int x3, .int x4] (mH en mb ρ σ) (mQ en mb σ (mI K)) X := by
  obtain ⟨d, rfl⟩ : ∃ e, d = e + 1 := ⟨d - 1, by omega⟩
  exact Cx.body (by decide +kernel) rfl (Nat.le_of_ble_eq_true rfl) (okM_X3_countOn hM (by omega)  h)
/-! lawnOf(II)I -/
def wpM_X3_lawnOf (ρ : yMS) (x1 : Int32) (x2 : Int32) (K : Int32 → yMS → Prop) : Prop :=
  wpM_X3_isLawn ρ x1 (fun r2 ρ1 => wpM_X3_fails ρ1 (1 : Int32) (if (r2 = 0) then (1 : Int32) else (0 : Int32)) (fun r5 ρ4 => ((¬ (r5 = 0) → K (0 : Int32) ρ4) ∧ ((r5 = 0) → wpM_X3_isBetween ρ4 x2 (0 : Int32) (4 : Int32) (fun r7 ρ6 => wpM_X3_fails ρ6 (2 : Int32) (if (r7 = 0) then (1 : Int32) else (0 : Int32)) (fun r10 ρ9 => (((r10 = 0) → ((x2 = (0 : Int32) → mAld ρ9 1 ((13 : Int32) + x1) (fun v11 => K v11 ρ9)) ∧ (x2 = (1 : Int32) → mAld ρ9 1 (10 : Int32) (fun v12 => wpM_X3_countOn ρ9 x1 (35 : Int32) (6 : Int32) v12 (fun r14 ρ13 => K r14 ρ13))) ∧ (x2 = (2 : Int32) → mAld ρ9 1 (12 : Int32) (fun v15 => wpM_X3_countOn ρ9 x1 (118 : Int32) (3 : Int32) v15 (fun r17 ρ16 => K r17 ρ16))) ∧ (x2 = (3 : Int32) → mAld ρ9 1 (11 : Int32) (fun v18 => wpM_X3_countOn ρ9 x1 (106 : Int32) (4 : Int32) v18 (fun r20 ρ19 => K r20 ρ19))) ∧ (x2.toInt < 0 ∨ 3 < x2.toInt → wpM_X3_wayOut ρ9 x1 (fun r22 ρ21 => mAld ρ21 1 ((22 : Int32) + r22) (fun v23 => K v23 ρ21))))) ∧ (¬ (r10 = 0) → K (0 : Int32) ρ9))))))))
theorem okM_X3_lawnOf {en : yEn} {mb : Nat → Nat} {σ : yH} (hM : mOK en mb σ) {d : Nat} (hd : 5 ≤ d + 1) {ρ : yMS} {x1 : Int32} {x2 : Int32} {K : Int32 → yMS → Prop} {X : String → Addr → yH → Prop} {k n : Nat}  (h : wpM_X3_lawnOf ρ x1 x2 K) : Wx en (d + 1) mX3_lawnOf 0 [(0, .ref (mb 0)), (1, .int x1), (2, .int x2)] [] (mH en mb ρ σ) k n (mQ en mb σ (mI K)) X := by
  unfold wpM_X3_lawnOf at h
  refine sd_aload_n (pc := 0) dX3_lawnOf_0 rfl 0 rfl ?_
  refine sd_iconst (pc := 1) dX3_lawnOf_1 (v := 1) (by decide) ?_
  refine sd_iload_n (pc := 2) dX3_lawnOf_2 rfl 1 rfl ?_
  refine sd_callS (k := k) (n := n) (d0 := d) (k0 := 0) (n0 := 0) (As := [.int x1]) (st := [.int (1 : Int32), .ref (mb 0)]) (pc := 3) dX3_lawnOf_3 q2178 q2179 q91 q2180 1 (by decide +kernel) rfl (Nat.le_refl _) (by decide) (Nat.le_of_ble_eq_true rfl) (Cx.mono (cm_X3_isLawn hM (by omega)  h) (mI.to (fun r2 ρ1 h => ?_)) (xo rfl))
  have h26 : Wx en (d + 1) mX3_lawnOf 14 [(0, .ref (mb 0)), (1, .int x1), (2, .int x2)] (.int (if (r2 = 0) then (1 : Int32) else (0 : Int32)) :: .int (1 : Int32) :: .ref (mb 0) :: []) (mH en mb ρ1 σ) k n (mQ en mb σ (mI K)) X := by
    refine sd_callV (k := k) (n := n) (d0 := d) (k0 := 0) (n0 := 0) (As := [.int (1 : Int32), .int (if (r2 = 0) then (1 : Int32) else (0 : Int32))]) (st := []) (pc := 14) dX3_lawnOf_14 (ci := 2) rfl (mo_isC hM) rfl q2170 q2172 qs26 q91 q2173 2 (by decide +kernel) rfl (Nat.le_refl _) (by decide) (Nat.le_of_ble_eq_true rfl) (Cx.mono (cm_X3_fails hM (by omega)  h) (mI.to (fun r5 ρ4 h => ?_)) (xo rfl))
    refine sd_ifne (pc := 17) dX3_lawnOf_17 (tgt := 42) (by decide) ⟨fun c25 => ?_, fun c25 => ?_⟩
    · have h := h.1 c25
      refine sd_iconst (pc := 42) dX3_lawnOf_42 (v := 0) (by decide) ?_
      exact sd_ireturn (pc := 43) dX3_lawnOf_43 (ty0 := .int) rfl rfl (mI.ok h)
    · have h := h.2 c25
      refine sd_aload_n (pc := 20) dX3_lawnOf_20 rfl 0 rfl ?_
      refine sd_iconst (pc := 21) dX3_lawnOf_21 (v := 2) (by decide) ?_
      refine sd_iload_n (pc := 22) dX3_lawnOf_22 rfl 2 rfl ?_
      refine sd_iconst (pc := 23) dX3_lawnOf_23 (v := 0) (by decide) ?_
      refine sd_iconst (pc := 24) dX3_lawnOf_24 (v := 4) (by decide) ?_
      refine sd_callS (k := k) (n := n) (d0 := d) (k0 := 0) (n0 := 0) (As := [.int x2, .int (0 : Int32), .int (4 : Int32)]) (st := [.int (2 : Int32), .ref (mb 0)]) (pc := 25) dX3_lawnOf_25 q2167 q2168 q91 q2169 3 (by decide +kernel) rfl (Nat.le_refl _) (by decide) (Nat.le_of_ble_eq_true rfl) (Cx.mono (cm_X3_isBetween hM (by omega)  h) (mI.to (fun r7 ρ6 h => ?_)) (xo rfl))
      have h27 : Wx en (d + 1) mX3_lawnOf 36 [(0, .ref (mb 0)), (1, .int x1), (2, .int x2)] (.int (if (r7 = 0) then (1 : Int32) else (0 : Int32)) :: .int (2 : Int32) :: .ref (mb 0) :: []) (mH en mb ρ6 σ) k n (mQ en mb σ (mI K)) X := by
        refine sd_callV (k := k) (n := n) (d0 := d) (k0 := 0) (n0 := 0) (As := [.int (2 : Int32), .int (if (r7 = 0) then (1 : Int32) else (0 : Int32))]) (st := []) (pc := 36) dX3_lawnOf_36 (ci := 2) rfl (mo_isC hM) rfl q2170 q2172 qs26 q91 q2173 2 (by decide +kernel) rfl (Nat.le_refl _) (by decide) (Nat.le_of_ble_eq_true rfl) (Cx.mono (cm_X3_fails hM (by omega)  h) (mI.to (fun r10 ρ9 h => ?_)) (xo rfl))
        refine sd_ifeq (pc := 39) dX3_lawnOf_39 (tgt := 44) (by decide) ⟨fun c24 => ?_, fun c24 => ?_⟩
        · have h := h.1 c24
          refine sd_iload_n (pc := 44) dX3_lawnOf_44 rfl 2 rfl ?_
          by_cases g0 : x2.toInt < 0 ∨ 3 < x2.toInt
          · have h := h.2.2.2.2 g0
            refine sd_tableOut (pc := 45) dX3_lawnOf_45 g0 (tgt := 135) (by decide) ?_
            refine sd_aload_n (pc := 135) dX3_lawnOf_135 rfl 0 rfl ?_
            refine sd_getR (pc := 136) dX3_lawnOf_136 (ci := 2) rfl in_X3 (kf := 1) (by decide) q2074 (mo_gR hM (j := 1) rfl ?_)
            refine sd_bipush (pc := 139) dX3_lawnOf_139 (v := 22) (by decide) ?_
            refine sd_aload_n (pc := 141) dX3_lawnOf_141 rfl 0 rfl ?_
            refine sd_iload_n (pc := 142) dX3_lawnOf_142 rfl 1 rfl ?_
            refine sd_callV (k := k) (n := n) (d0 := d) (k0 := 0) (n0 := 0) (As := [.int x1]) (st := [.int (22 : Int32), .ref (mb 1)]) (pc := 143) dX3_lawnOf_143 (ci := 2) rfl (mo_isC hM) rfl q2256 q2258 qs41 q91 q2259 1 (by decide +kernel) rfl (Nat.le_refl _) (by decide) (Nat.le_of_ble_eq_true rfl) (Cx.mono (cm_X3_wayOut hM (by omega)  h) (mI.to (fun r22 ρ21 h => ?_)) (xo rfl))
            refine sd_iadd (pc := 146) dX3_lawnOf_146 ?_
            refine sd_iaload (pc := 147) dX3_lawnOf_147 (mAld.to hM h (fun v23 h => ?_))
            exact sd_ireturn (pc := 148) dX3_lawnOf_148 (ty0 := .int) rfl rfl (mI.ok h)
          · have g1 : ∃ j : Nat, j < 4 ∧ x2 = Int32.ofInt (0 + j) := tsw 4 g0 (by omega)
            obtain ⟨j, gj, g2⟩ := g1
            rcases (show j = 0 ∨ j = 1 ∨ j = 2 ∨ j = 3 by omega) with rfl | rfl | rfl | rfl
            · have h := h.1 g2
              refine sd_tableIn (pc := 45) dX3_lawnOf_45 (by rw [g2]; decide) (by rw [g2]; decide) (off := 31) (by rw [g2]; rfl) (tgt := 76) (by decide) ?_
              refine sd_aload_n (pc := 76) dX3_lawnOf_76 rfl 0 rfl ?_
              refine sd_getR (pc := 77) dX3_lawnOf_77 (ci := 2) rfl in_X3 (kf := 1) (by decide) q2074 (mo_gR hM (j := 1) rfl ?_)
              refine sd_bipush (pc := 80) dX3_lawnOf_80 (v := 13) (by decide) ?_
              refine sd_iload_n (pc := 82) dX3_lawnOf_82 rfl 1 rfl ?_
              refine sd_iadd (pc := 83) dX3_lawnOf_83 ?_
              refine sd_iaload (pc := 84) dX3_lawnOf_84 (mAld.to hM h (fun v11 h => ?_))
              exact sd_ireturn (pc := 85) dX3_lawnOf_85 (ty0 := .int) rfl rfl (mI.ok h)
            · have h := h.2.1 g2
              refine sd_tableIn (pc := 45) dX3_lawnOf_45 (by rw [g2]; decide) (by rw [g2]; decide) (off := 41) (by rw [g2]; rfl) (tgt := 86) (by decide) ?_
              refine sd_aload_n (pc := 86) dX3_lawnOf_86 rfl 0 rfl ?_
              refine sd_iload_n (pc := 87) dX3_lawnOf_87 rfl 1 rfl ?_
              refine sd_bipush (pc := 88) dX3_lawnOf_88 (v := 35) (by decide) ?_
              refine sd_bipush (pc := 90) dX3_lawnOf_90 (v := 6) (by decide) ?_
              refine sd_aload_n (pc := 92) dX3_lawnOf_92 rfl 0 rfl ?_
              refine sd_getR (pc := 93) dX3_lawnOf_93 (ci := 2) rfl in_X3 (kf := 1) (by decide) q2074 (mo_gR hM (j := 1) rfl ?_)
              refine sd_bipush (pc := 96) dX3_lawnOf_96 (v := 10) (by decide) ?_
              refine sd_iaload (pc := 98) dX3_lawnOf_98 (mAld.to hM h (fun v12 h => ?_))
              refine sd_callV (k := k) (n := n) (d0 := d) (k0 := 0) (n0 := 0) (As := [.int x1, .int (35 : Int32), .int (6 : Int32), .int v12]) (st := []) (pc := 99) dX3_lawnOf_99 (ci := 2) rfl (mo_isC hM) rfl q2288 q2290 qs43 q91 q2291 4 (by decide +kernel) rfl (Nat.le_refl _) (by decide) (Nat.le_of_ble_eq_true rfl) (Cx.mono (cm_X3_countOn hM (by omega)  h) (mI.to (fun r14 ρ13 h => ?_)) (xo rfl))
              exact sd_ireturn (pc := 102) dX3_lawnOf_102 (ty0 := .int) rfl rfl (mI.ok h)
            · have h := h.2.2.1 g2
              refine sd_tableIn (pc := 45) dX3_lawnOf_45 (by rw [g2]; decide) (by rw [g2]; decide) (off := 58) (by rw [g2]; rfl) (tgt := 103) (by decide) ?_
              refine sd_aload_n (pc := 103) dX3_lawnOf_103 rfl 0 rfl ?_
              refine sd_iload_n (pc := 104) dX3_lawnOf_104 rfl 1 rfl ?_
              refine sd_bipush (pc := 105) dX3_lawnOf_105 (v := 118) (by decide) ?_
              refine sd_iconst (pc := 107) dX3_lawnOf_107 (v := 3) (by decide) ?_
              refine sd_aload_n (pc := 108) dX3_lawnOf_108 rfl 0 rfl ?_
              refine sd_getR (pc := 109) dX3_lawnOf_109 (ci := 2) rfl in_X3 (kf := 1) (by decide) q2074 (mo_gR hM (j := 1) rfl ?_)
              refine sd_bipush (pc := 112) dX3_lawnOf_112 (v := 12) (by decide) ?_
              refine sd_iaload (pc := 114) dX3_lawnOf_114 (mAld.to hM h (fun v15 h => ?_))
              refine sd_callV (k := k) (n := n) (d0 := d) (k0 := 0) (n0 := 0) (As := [.int x1, .int (118 : Int32), .int (3 : Int32), .int v15]) (st := []) (pc := 115) dX3_lawnOf_115 (ci := 2) rfl (mo_isC hM) rfl q2288 q2290 qs43 q91 q2291 4 (by decide +kernel) rfl (Nat.le_refl _) (by decide) (Nat.le_of_ble_eq_true rfl) (Cx.mono (cm_X3_countOn hM (by omega)  h) (mI.to (fun r17 ρ16 h => ?_)) (xo rfl))
              exact sd_ireturn (pc := 118) dX3_lawnOf_118 (ty0 := .int) rfl rfl (mI.ok h)
            · have h := h.2.2.2.1 g2
              refine sd_tableIn (pc := 45) dX3_lawnOf_45 (by rw [g2]; decide) (by rw [g2]; decide) (off := 74) (by rw [g2]; rfl) (tgt := 119) (by decide) ?_
              refine sd_aload_n (pc := 119) dX3_lawnOf_119 rfl 0 rfl ?_
              refine sd_iload_n (pc := 120) dX3_lawnOf_120 rfl 1 rfl ?_
              refine sd_bipush (pc := 121) dX3_lawnOf_121 (v := 106) (by decide) ?_
              refine sd_iconst (pc := 123) dX3_lawnOf_123 (v := 4) (by decide) ?_
              refine sd_aload_n (pc := 124) dX3_lawnOf_124 rfl 0 rfl ?_
              refine sd_getR (pc := 125) dX3_lawnOf_125 (ci := 2) rfl in_X3 (kf := 1) (by decide) q2074 (mo_gR hM (j := 1) rfl ?_)
              refine sd_bipush (pc := 128) dX3_lawnOf_128 (v := 11) (by decide) ?_
              refine sd_iaload (pc := 130) dX3_lawnOf_130 (mAld.to hM h (fun v18 h => ?_))
              refine sd_callV (k := k) (n := n) (d0 := d) (k0 := 0) (n0 := 0) (As := [.int x1, .int (106 : Int32), .int (4 : Int32), .int v18]) (st := []) (pc := 131) dX3_lawnOf_131 (ci := 2) rfl (mo_isC hM) rfl q2288 q2290 qs43 q91 q2291 4 (by decide +kernel) rfl (Nat.le_refl _) (by decide) (Nat.le_of_ble_eq_true rfl) (Cx.mono (cm_X3_countOn hM (by omega)  h) (mI.to (fun r20 ρ19 h => ?_)) (xo rfl))
              exact sd_ireturn (pc := 134) dX3_lawnOf_134 (ty0 := .int) rfl rfl (mI.ok h)
        · have h := h.2 c24
          refine sd_iconst (pc := 42) dX3_lawnOf_42 (v := 0) (by decide) ?_
          exact sd_ireturn (pc := 43) dX3_lawnOf_43 (ty0 := .int) rfl rfl (mI.ok h)
      have e28 := sd_iteIN h27
      refine sd_ifne (pc := 28) dX3_lawnOf_28 (tgt := 35) (by decide) ⟨fun c8 => ?_, fun c8 => ?_⟩
      · refine sd_iconst (pc := 35) dX3_lawnOf_35 (v := 0) (by decide) ?_
        exact (e28.1 c8)
      · refine sd_iconst (pc := 31) dX3_lawnOf_31 (v := 1) (by decide) ?_
        refine sd_goto (pc := 32) dX3_lawnOf_32 (tgt := 36) (by decide) ?_
        exact (e28.2 c8)
  have e29 := sd_iteIN h26
  refine sd_ifne (pc := 6) dX3_lawnOf_6 (tgt := 13) (by decide) ⟨fun c3 => ?_, fun c3 => ?_⟩
  · refine sd_iconst (pc := 13) dX3_lawnOf_13 (v := 0) (by decide) ?_
    exact (e29.1 c3)
  · refine sd_iconst (pc := 9) dX3_lawnOf_9 (v := 1) (by decide) ?_
    refine sd_goto (pc := 10) dX3_lawnOf_10 (tgt := 14) (by decide) ?_
    exact (e29.2 c3)
theorem cm_X3_lawnOf {en : yEn} {mb : Nat → Nat} {σ : yH} (hM : mOK en mb σ) {d : Nat} (hd : 5 ≤ d) {ρ : yMS} {x1 : Int32} {x2 : Int32} {K : Int32 → yMS → Prop} {X : String → Addr → yH → Prop}  (h : wpM_X3_lawnOf ρ x1 x2 K) : Cx en d 0 0 mX3_lawnOf [.ref (mb 0), .int x1, .int x2] (mH en mb ρ σ) (mQ en mb σ (mI K)) X := by
  obtain ⟨d, rfl⟩ : ∃ e, d = e + 1 := ⟨d - 1, by omega⟩
  exact Cx.body (by decide +kernel) rfl (Nat.le_of_ble_eq_true rfl) (okM_X3_lawnOf hM (by omega)  h)
/-! walkOn(III)I -/
def stM_X3_walkOn_10 (R : yMS → Int32 → Int32 → Int32 → (Int32 → yMS → Prop) → Prop) (K : Int32 → yMS → Prop) (rec : Int32 → Int32 → Int32 → Int32 → yMS → Prop) (l1 : Int32) (l2 : Int32) (l4 : Int32) (l5 : Int32) (ρ : yMS) : Prop :=
  ((((12 : Int32) ≤ l5) → K l4 ρ) ∧ (¬ ((12 : Int32) ≤ l5) → wpM_X3_isBeside ρ l5 l1 (fun r2 ρ1 => (((r2 = 0) → rec l1 l2 l4 (l5 + (1 : Int32)) ρ1) ∧ (¬ (r2 = 0) → mAld ρ1 1 ((22 : Int32) + l5) (fun v3 => (((l2 < v3) → rec l1 l2 l4 (l5 + (1 : Int32)) ρ1) ∧ (¬ (l2 < v3) → wpM_X3_across ρ1 l5 l1 (fun r5 ρ4 => ((¬ (((l4 >>> (r5 &&& 31)) &&& (1 : Int32)) = 0) → rec l1 l2 l4 (l5 + (1 : Int32)) ρ4) ∧ ((((l4 >>> (r5 &&& 31)) &&& (1 : Int32)) = 0) → wpM_X3_across ρ4 l5 l1 (fun r7 ρ6 => R ρ6 r7 l2 l4 (fun r9 ρ8 => rec l1 l2 r9 (l5 + (1 : Int32)) ρ8)))))))))))))
def lpM_X3_walkOn_10 (R : yMS → Int32 → Int32 → Int32 → (Int32 → yMS → Prop) → Prop) (K : Int32 → yMS → Prop) : Nat → Int32 × Int32 × Int32 × Int32 × yMS → Prop := lpN (fun r s => stM_X3_walkOn_10 R  K (fun l1 l2 l4 l5 ρ => r (l1, l2, l4, l5, ρ)) s.1 s.2.1 s.2.2.1 s.2.2.2.1 s.2.2.2.2)
def wpM_X3_walkOn_10 (R : yMS → Int32 → Int32 → Int32 → (Int32 → yMS → Prop) → Prop) (l1 : Int32) (l2 : Int32) (l4 : Int32) (l5 : Int32) (ρ : yMS) (K : Int32 → yMS → Prop) : Prop := ∃ nn, lpM_X3_walkOn_10 R  K nn (l1, l2, l4, l5, ρ)
theorem olM_X3_walkOn_10 {en : yEn} {mb : Nat → Nat} {σ : yH} (hM : mOK en mb σ) {d : Nat} (hd : 4 ≤ d + 1) {K : Int32 → yMS → Prop} {X : String → Addr → yH → Prop} {k n : Nat} {R : yMS → Int32 → Int32 → Int32 → (Int32 → yMS → Prop) → Prop} (hR : ∀ (ρ : yMS) (x1 : Int32) (x2 : Int32) (x3 : Int32) (K : Int32 → yMS → Prop) (X : String → Addr → yH → Prop), R ρ x1 x2 x3 K → Cx en d 0 0 mX3_walkOn [.ref (mb 0), .int x1, .int x2, .int x3] (mH en mb ρ σ) (mQ en mb σ (mI K)) X) : ∀ (nn : Nat) (l1 : Int32) (l2 : Int32) (l4 : Int32) (l5 : Int32) (ρ : yMS), lpM_X3_walkOn_10 R  K nn (l1, l2, l4, l5, ρ) → Wx en (d + 1) mX3_walkOn 10 [(0, .ref (mb 0)), (1, .int l1), (2, .int l2), (4, .int l4), (5, .int l5)] [] (mH en mb ρ σ) k n (mQ en mb σ (mI K)) X := by
  intro nn
  induction nn with
  | zero => intros; rename_i h; exact h.elim
  | succ nn ih =>
    intro l1 l2 l4 l5 ρ h
    replace h : stM_X3_walkOn_10 R  K (fun l1 l2 l4 l5 ρ => lpM_X3_walkOn_10 R  K nn (l1, l2, l4, l5, ρ)) l1 l2 l4 l5 ρ := h
    unfold stM_X3_walkOn_10 at h
    refine sd_iload (pc := 10) dX3_walkOn_10 4 rfl ?_
    refine sd_bipush (pc := 12) dX3_walkOn_12 (v := 12) (by decide) ?_
    refine sd_icmpge (pc := 14) dX3_walkOn_14 (tgt := 75) (by decide) ⟨fun c13 => ?_, fun c13 => ?_⟩
    · have h := h.1 c13
      refine sd_iload (pc := 75) dX3_walkOn_75 3 rfl ?_
      exact sd_ireturn (pc := 77) dX3_walkOn_77 (ty0 := .int) rfl rfl (mI.ok h)
    · have h := h.2 c13
      refine sd_iload (pc := 17) dX3_walkOn_17 4 rfl ?_
      refine sd_iload_n (pc := 19) dX3_walkOn_19 rfl 1 rfl ?_
      refine sd_callS (k := k) (n := n) (d0 := d) (k0 := 0) (n0 := 0) (As := [.int l5, .int l1]) (st := []) (pc := 20) dX3_walkOn_20 q2260 q2261 q91 q2262 2 (by decide +kernel) rfl (Nat.le_refl _) (by decide) (Nat.le_of_ble_eq_true rfl) (Cx.mono (cm_X3_isBeside hM (by omega)  h) (mI.to (fun r2 ρ1 h => ?_)) (xo rfl))
      refine sd_ifeq (pc := 23) dX3_walkOn_23 (tgt := 69) (by decide) ⟨fun c12 => ?_, fun c12 => ?_⟩
      · have h := h.1 c12
        refine sd_iinc (pc := 69) dX3_walkOn_69 4 rfl (v := (l5 + (1 : Int32))) rfl (by decide) (ls' := [(5, .int (l5 + (1 : Int32))), (0, .ref (mb 0)), (1, .int l1), (2, .int l2), (4, .int l4)]) rfl ?_
        refine sd_goto (pc := 72) dX3_walkOn_72 (tgt := 10) (by decide) ?_
        exact sd_loc [1, 2, 3, 4, 0] rfl (ih _ _ _ _ _ h)
      · have h := h.2 c12
        refine sd_aload_n (pc := 26) dX3_walkOn_26 rfl 0 rfl ?_
        refine sd_getR (pc := 27) dX3_walkOn_27 (ci := 2) rfl in_X3 (kf := 1) (by decide) q2074 (mo_gR hM (j := 1) rfl ?_)
        refine sd_bipush (pc := 30) dX3_walkOn_30 (v := 22) (by decide) ?_
        refine sd_iload (pc := 32) dX3_walkOn_32 4 rfl ?_
        refine sd_iadd (pc := 34) dX3_walkOn_34 ?_
        refine sd_iaload (pc := 35) dX3_walkOn_35 (mAld.to hM h (fun v3 h => ?_))
        refine sd_iload_n (pc := 36) dX3_walkOn_36 rfl 2 rfl ?_
        refine sd_icmpgt (pc := 37) dX3_walkOn_37 (tgt := 69) (by decide) ⟨fun c11 => ?_, fun c11 => ?_⟩
        · have h := h.1 c11
          refine sd_iinc (pc := 69) dX3_walkOn_69 4 rfl (v := (l5 + (1 : Int32))) rfl (by decide) (ls' := [(5, .int (l5 + (1 : Int32))), (0, .ref (mb 0)), (1, .int l1), (2, .int l2), (4, .int l4)]) rfl ?_
          refine sd_goto (pc := 72) dX3_walkOn_72 (tgt := 10) (by decide) ?_
          exact sd_loc [1, 2, 3, 4, 0] rfl (ih _ _ _ _ _ h)
        · have h := h.2 c11
          refine sd_iload (pc := 40) dX3_walkOn_40 3 rfl ?_
          refine sd_iload (pc := 42) dX3_walkOn_42 4 rfl ?_
          refine sd_iload_n (pc := 44) dX3_walkOn_44 rfl 1 rfl ?_
          refine sd_callS (k := k) (n := n) (d0 := d) (k0 := 0) (n0 := 0) (As := [.int l5, .int l1]) (st := [.int l4]) (pc := 45) dX3_walkOn_45 q2269 q2270 q91 q2271 2 (by decide +kernel) rfl (Nat.le_refl _) (by decide) (Nat.le_of_ble_eq_true rfl) (Cx.mono (cm_X3_across hM (by omega)  h) (mI.to (fun r5 ρ4 h => ?_)) (xo rfl))
          refine sd_ishr (pc := 48) dX3_walkOn_48 ?_
          refine sd_iconst (pc := 49) dX3_walkOn_49 (v := 1) (by decide) ?_
          refine sd_iand (pc := 50) dX3_walkOn_50 ?_
          refine sd_ifne (pc := 51) dX3_walkOn_51 (tgt := 69) (by decide) ⟨fun c10 => ?_, fun c10 => ?_⟩
          · have h := h.1 c10
            refine sd_iinc (pc := 69) dX3_walkOn_69 4 rfl (v := (l5 + (1 : Int32))) rfl (by decide) (ls' := [(5, .int (l5 + (1 : Int32))), (0, .ref (mb 0)), (1, .int l1), (2, .int l2), (4, .int l4)]) rfl ?_
            refine sd_goto (pc := 72) dX3_walkOn_72 (tgt := 10) (by decide) ?_
            exact sd_loc [1, 2, 3, 4, 0] rfl (ih _ _ _ _ _ h)
          · have h := h.2 c10
            refine sd_aload_n (pc := 54) dX3_walkOn_54 rfl 0 rfl ?_
            refine sd_iload (pc := 55) dX3_walkOn_55 4 rfl ?_
            refine sd_iload_n (pc := 57) dX3_walkOn_57 rfl 1 rfl ?_
            refine sd_callS (k := k) (n := n) (d0 := d) (k0 := 0) (n0 := 0) (As := [.int l5, .int l1]) (st := [.ref (mb 0)]) (pc := 58) dX3_walkOn_58 q2269 q2270 q91 q2271 2 (by decide +kernel) rfl (Nat.le_refl _) (by decide) (Nat.le_of_ble_eq_true rfl) (Cx.mono (cm_X3_across hM (by omega)  h) (mI.to (fun r7 ρ6 h => ?_)) (xo rfl))
            refine sd_iload_n (pc := 61) dX3_walkOn_61 rfl 2 rfl ?_
            refine sd_iload (pc := 62) dX3_walkOn_62 3 rfl ?_
            refine sd_callV (k := k) (n := n) (d0 := d) (k0 := 0) (n0 := 0) (As := [.int r7, .int l2, .int l4]) (st := []) (pc := 64) dX3_walkOn_64 (ci := 2) rfl (mo_isC hM) rfl q2296 q2298 qs44 q91 q2299 3 (by decide +kernel) rfl (Nat.le_refl _) (by decide) (Nat.le_of_ble_eq_true rfl) (Cx.mono (hR _ _ _ _ _ _ h) (mI.to (fun r9 ρ8 h => ?_)) (xo rfl))
            refine sd_istore (pc := 67) dX3_walkOn_67 (by decide) (ls' := [(4, .int r9), (0, .ref (mb 0)), (1, .int l1), (2, .int l2), (5, .int l5)]) rfl ?_
            refine sd_iinc (pc := 69) dX3_walkOn_69 4 rfl (v := (l5 + (1 : Int32))) rfl (by decide) (ls' := [(5, .int (l5 + (1 : Int32))), (4, .int r9), (0, .ref (mb 0)), (1, .int l1), (2, .int l2)]) rfl ?_
            refine sd_goto (pc := 72) dX3_walkOn_72 (tgt := 10) (by decide) ?_
            exact sd_loc [2, 3, 4, 1, 0] rfl (ih _ _ _ _ _ h)
theorem okM_X3_walkOn_10 {en : yEn} {mb : Nat → Nat} {σ : yH} (hM : mOK en mb σ) {d : Nat} (hd : 4 ≤ d + 1) {K : Int32 → yMS → Prop} {X : String → Addr → yH → Prop} {k n : Nat} {R : yMS → Int32 → Int32 → Int32 → (Int32 → yMS → Prop) → Prop} (hR : ∀ (ρ : yMS) (x1 : Int32) (x2 : Int32) (x3 : Int32) (K : Int32 → yMS → Prop) (X : String → Addr → yH → Prop), R ρ x1 x2 x3 K → Cx en d 0 0 mX3_walkOn [.ref (mb 0), .int x1, .int x2, .int x3] (mH en mb ρ σ) (mQ en mb σ (mI K)) X) (l1 : Int32) (l2 : Int32) (l4 : Int32) (l5 : Int32) (ρ : yMS) (h : wpM_X3_walkOn_10 R  l1 l2 l4 l5 ρ K) : Wx en (d + 1) mX3_walkOn 10 [(0, .ref (mb 0)), (1, .int l1), (2, .int l2), (4, .int l4), (5, .int l5)] [] (mH en mb ρ σ) k n (mQ en mb σ (mI K)) X := by
  obtain ⟨nn, h⟩ := h
  exact olM_X3_walkOn_10 hM hd hR  nn _ _ _ _ _ h
def bdM_X3_walkOn (R : yMS → Int32 → Int32 → Int32 → (Int32 → yMS → Prop) → Prop) (ρ : yMS) (x1 : Int32) (x2 : Int32) (x3 : Int32) (K : Int32 → yMS → Prop) : Prop :=
  wpM_X3_walkOn_10 R x1 x2 (x3 ||| ((1 : Int32) <<< (x1 &&& 31))) (0 : Int32) ρ K
def wpM_X3_walkOn : Nat → yMS → Int32 → Int32 → Int32 → (Int32 → yMS → Prop) → Prop
  | 0, _ , _ , _ , _ , _ => False
  | f+1, ρ, x1, x2, x3, K => bdM_X3_walkOn (fun ρ x1 x2 x3 K => wpM_X3_walkOn f ρ x1 x2 x3 K) ρ x1 x2 x3 K
theorem okM_X3_walkOn {en : yEn} {mb : Nat → Nat} {σ : yH} (hM : mOK en mb σ) {d : Nat} (hd : 4 ≤ d + 1) {K : Int32 → yMS → Prop} {X : String → Addr → yH → Prop} {k n : Nat} {R : yMS → Int32 → Int32 → Int32 → (Int32 → yMS → Prop) → Prop} (hR : ∀ (ρ : yMS) (x1 : Int32) (x2 : Int32) (x3 : Int32) (K : Int32 → yMS → Prop) (X : String → Addr → yH → Prop), R ρ x1 x2 x3 K → Cx en d 0 0 mX3_walkOn [.ref (mb 0), .int x1, .int x2, .int x3] (mH en mb ρ σ) (mQ en mb σ (mI K)) X) {ρ : yMS} {x1 : Int32} {x2 : Int32} {x3 : Int32}  (h : bdM_X3_walkOn R ρ x1 x2 x3 K) : Wx en (d + 1) mX3_walkOn 0 [(0, .ref (mb 0)), (1, .int x1), (2, .int x2), (3, .int x3)] [] (mH en mb ρ σ) k n (mQ en mb σ (mI K)) X := by
  unfold bdM_X3_walkOn at h
  refine sd_iload_n (pc := 0) dX3_walkOn_0 rfl 3 rfl ?_
  refine sd_iconst (pc := 1) dX3_walkOn_1 (v := 1) (by decide) ?_
  refine sd_iload_n (pc := 2) dX3_walkOn_2 rfl 1 rfl ?_
  refine sd_ishl (pc := 3) dX3_walkOn_3 ?_
  refine sd_ior (pc := 4) dX3_walkOn_4 ?_
  refine sd_istore (pc := 5) dX3_walkOn_5 (by decide) (ls' := [(4, .int (x3 ||| ((1 : Int32) <<< (x1 &&& 31)))), (0, .ref (mb 0)), (1, .int x1), (2, .int x2), (3, .int x3)]) rfl ?_
  refine sd_iconst (pc := 7) dX3_walkOn_7 (v := 0) (by decide) ?_
  refine sd_istore (pc := 8) dX3_walkOn_8 (by decide) (ls' := [(5, .int (0 : Int32)), (4, .int (x3 ||| ((1 : Int32) <<< (x1 &&& 31)))), (0, .ref (mb 0)), (1, .int x1), (2, .int x2), (3, .int x3)]) rfl ?_
  exact sd_loc [2, 3, 4, 1, 0] rfl (okM_X3_walkOn_10 hM (by omega) hR  _ _ _ _ _ h)
theorem cm_X3_walkOn {en : yEn} {mb : Nat → Nat} {σ : yH} (hM : mOK en mb σ) : ∀ {f d : Nat} (_ : 4 + f ≤ d) {ρ : yMS} {x1 : Int32} {x2 : Int32} {x3 : Int32} {K : Int32 → yMS → Prop} {X : String → Addr → yH → Prop} (_ : wpM_X3_walkOn f ρ x1 x2 x3 K), Cx en d 0 0 mX3_walkOn [.ref (mb 0), .int x1, .int x2, .int x3] (mH en mb ρ σ) (mQ en mb σ (mI K)) X := by
  intro f
  induction f with
  | zero => intros; rename_i h; exact h.elim
  | succ f ih =>
    intro d hd ρ x1 x2 x3 K X h
    obtain ⟨d, rfl⟩ : ∃ e, d = e + 1 := ⟨d - 1, by omega⟩
    exact Cx.body (by decide +kernel) rfl (Nat.le_of_ble_eq_true rfl) (okM_X3_walkOn hM (by omega) (fun ρ x1 x2 x3 K X h => ih (by omega) h) h)
/-! reached(II)I -/
def wpM_X3_reached (ρ : yMS) (x1 : Int32) (x2 : Int32) (K : Int32 → yMS → Prop) : Prop :=
  wpM_X3_isLawn ρ x1 (fun r2 ρ1 => wpM_X3_fails ρ1 (1 : Int32) (if (r2 = 0) then (1 : Int32) else (0 : Int32)) (fun r5 ρ4 => ((¬ (r5 = 0) → K (0 : Int32) ρ4) ∧ ((r5 = 0) → wpM_X3_isBetween ρ4 x2 (0 : Int32) (20 : Int32) (fun r7 ρ6 => wpM_X3_fails ρ6 (2 : Int32) (if (r7 = 0) then (1 : Int32) else (0 : Int32)) (fun r10 ρ9 => (((r10 = 0) → wpM_X3_walkOn 12 ρ9 x1 x2 (0 : Int32) (fun r12 ρ11 => K r12 ρ11)) ∧ (¬ (r10 = 0) → K (0 : Int32) ρ9))))))))
theorem okM_X3_reached {en : yEn} {mb : Nat → Nat} {σ : yH} (hM : mOK en mb σ) {d : Nat} (hd : 17 ≤ d + 1) {ρ : yMS} {x1 : Int32} {x2 : Int32} {K : Int32 → yMS → Prop} {X : String → Addr → yH → Prop} {k n : Nat}  (h : wpM_X3_reached ρ x1 x2 K) : Wx en (d + 1) mX3_reached 0 [(0, .ref (mb 0)), (1, .int x1), (2, .int x2)] [] (mH en mb ρ σ) k n (mQ en mb σ (mI K)) X := by
  unfold wpM_X3_reached at h
  refine sd_aload_n (pc := 0) dX3_reached_0 rfl 0 rfl ?_
  refine sd_iconst (pc := 1) dX3_reached_1 (v := 1) (by decide) ?_
  refine sd_iload_n (pc := 2) dX3_reached_2 rfl 1 rfl ?_
  refine sd_callS (k := k) (n := n) (d0 := d) (k0 := 0) (n0 := 0) (As := [.int x1]) (st := [.int (1 : Int32), .ref (mb 0)]) (pc := 3) dX3_reached_3 q2178 q2179 q91 q2180 1 (by decide +kernel) rfl (Nat.le_refl _) (by decide) (Nat.le_of_ble_eq_true rfl) (Cx.mono (cm_X3_isLawn hM (by omega)  h) (mI.to (fun r2 ρ1 h => ?_)) (xo rfl))
  have h15 : Wx en (d + 1) mX3_reached 14 [(0, .ref (mb 0)), (1, .int x1), (2, .int x2)] (.int (if (r2 = 0) then (1 : Int32) else (0 : Int32)) :: .int (1 : Int32) :: .ref (mb 0) :: []) (mH en mb ρ1 σ) k n (mQ en mb σ (mI K)) X := by
    refine sd_callV (k := k) (n := n) (d0 := d) (k0 := 0) (n0 := 0) (As := [.int (1 : Int32), .int (if (r2 = 0) then (1 : Int32) else (0 : Int32))]) (st := []) (pc := 14) dX3_reached_14 (ci := 2) rfl (mo_isC hM) rfl q2170 q2172 qs26 q91 q2173 2 (by decide +kernel) rfl (Nat.le_refl _) (by decide) (Nat.le_of_ble_eq_true rfl) (Cx.mono (cm_X3_fails hM (by omega)  h) (mI.to (fun r5 ρ4 h => ?_)) (xo rfl))
    refine sd_ifne (pc := 17) dX3_reached_17 (tgt := 43) (by decide) ⟨fun c14 => ?_, fun c14 => ?_⟩
    · have h := h.1 c14
      refine sd_iconst (pc := 43) dX3_reached_43 (v := 0) (by decide) ?_
      exact sd_ireturn (pc := 44) dX3_reached_44 (ty0 := .int) rfl rfl (mI.ok h)
    · have h := h.2 c14
      refine sd_aload_n (pc := 20) dX3_reached_20 rfl 0 rfl ?_
      refine sd_iconst (pc := 21) dX3_reached_21 (v := 2) (by decide) ?_
      refine sd_iload_n (pc := 22) dX3_reached_22 rfl 2 rfl ?_
      refine sd_iconst (pc := 23) dX3_reached_23 (v := 0) (by decide) ?_
      refine sd_bipush (pc := 24) dX3_reached_24 (v := 20) (by decide) ?_
      refine sd_callS (k := k) (n := n) (d0 := d) (k0 := 0) (n0 := 0) (As := [.int x2, .int (0 : Int32), .int (20 : Int32)]) (st := [.int (2 : Int32), .ref (mb 0)]) (pc := 26) dX3_reached_26 q2167 q2168 q91 q2169 3 (by decide +kernel) rfl (Nat.le_refl _) (by decide) (Nat.le_of_ble_eq_true rfl) (Cx.mono (cm_X3_isBetween hM (by omega)  h) (mI.to (fun r7 ρ6 h => ?_)) (xo rfl))
      have h16 : Wx en (d + 1) mX3_reached 37 [(0, .ref (mb 0)), (1, .int x1), (2, .int x2)] (.int (if (r7 = 0) then (1 : Int32) else (0 : Int32)) :: .int (2 : Int32) :: .ref (mb 0) :: []) (mH en mb ρ6 σ) k n (mQ en mb σ (mI K)) X := by
        refine sd_callV (k := k) (n := n) (d0 := d) (k0 := 0) (n0 := 0) (As := [.int (2 : Int32), .int (if (r7 = 0) then (1 : Int32) else (0 : Int32))]) (st := []) (pc := 37) dX3_reached_37 (ci := 2) rfl (mo_isC hM) rfl q2170 q2172 qs26 q91 q2173 2 (by decide +kernel) rfl (Nat.le_refl _) (by decide) (Nat.le_of_ble_eq_true rfl) (Cx.mono (cm_X3_fails hM (by omega)  h) (mI.to (fun r10 ρ9 h => ?_)) (xo rfl))
        refine sd_ifeq (pc := 40) dX3_reached_40 (tgt := 45) (by decide) ⟨fun c13 => ?_, fun c13 => ?_⟩
        · have h := h.1 c13
          refine sd_aload_n (pc := 45) dX3_reached_45 rfl 0 rfl ?_
          refine sd_iload_n (pc := 46) dX3_reached_46 rfl 1 rfl ?_
          refine sd_iload_n (pc := 47) dX3_reached_47 rfl 2 rfl ?_
          refine sd_iconst (pc := 48) dX3_reached_48 (v := 0) (by decide) ?_
          refine sd_callV (k := k) (n := n) (d0 := d) (k0 := 0) (n0 := 0) (As := [.int x1, .int x2, .int (0 : Int32)]) (st := []) (pc := 49) dX3_reached_49 (ci := 2) rfl (mo_isC hM) rfl q2296 q2298 qs44 q91 q2299 3 (by decide +kernel) rfl (Nat.le_refl _) (by decide) (Nat.le_of_ble_eq_true rfl) (Cx.mono (cm_X3_walkOn hM (by omega)  h) (mI.to (fun r12 ρ11 h => ?_)) (xo rfl))
          exact sd_ireturn (pc := 52) dX3_reached_52 (ty0 := .int) rfl rfl (mI.ok h)
        · have h := h.2 c13
          refine sd_iconst (pc := 43) dX3_reached_43 (v := 0) (by decide) ?_
          exact sd_ireturn (pc := 44) dX3_reached_44 (ty0 := .int) rfl rfl (mI.ok h)
      have e17 := sd_iteIN h16
      refine sd_ifne (pc := 29) dX3_reached_29 (tgt := 36) (by decide) ⟨fun c8 => ?_, fun c8 => ?_⟩
      · refine sd_iconst (pc := 36) dX3_reached_36 (v := 0) (by decide) ?_
        exact (e17.1 c8)
      · refine sd_iconst (pc := 32) dX3_reached_32 (v := 1) (by decide) ?_
        refine sd_goto (pc := 33) dX3_reached_33 (tgt := 37) (by decide) ?_
        exact (e17.2 c8)
  have e18 := sd_iteIN h15
  refine sd_ifne (pc := 6) dX3_reached_6 (tgt := 13) (by decide) ⟨fun c3 => ?_, fun c3 => ?_⟩
  · refine sd_iconst (pc := 13) dX3_reached_13 (v := 0) (by decide) ?_
    exact (e18.1 c3)
  · refine sd_iconst (pc := 9) dX3_reached_9 (v := 1) (by decide) ?_
    refine sd_goto (pc := 10) dX3_reached_10 (tgt := 14) (by decide) ?_
    exact (e18.2 c3)
theorem cm_X3_reached {en : yEn} {mb : Nat → Nat} {σ : yH} (hM : mOK en mb σ) {d : Nat} (hd : 17 ≤ d) {ρ : yMS} {x1 : Int32} {x2 : Int32} {K : Int32 → yMS → Prop} {X : String → Addr → yH → Prop}  (h : wpM_X3_reached ρ x1 x2 K) : Cx en d 0 0 mX3_reached [.ref (mb 0), .int x1, .int x2] (mH en mb ρ σ) (mQ en mb σ (mI K)) X := by
  obtain ⟨d, rfl⟩ : ∃ e, d = e + 1 := ⟨d - 1, by omega⟩
  exact Cx.body (by decide +kernel) rfl (Nat.le_of_ble_eq_true rfl) (okM_X3_reached hM (by omega)  h)
/-! reachedAgain(II)I -/
def stM_X3_reachedAgain_64 (C52 : Int32 → Int32 → Int32 → yMS → Prop) (K : Int32 → yMS → Prop) (rec : Int32 → Int32 → Int32 → Int32 → yMS → Prop) (l2 : Int32) (l3 : Int32) (l4 : Int32) (l5 : Int32) (ρ : yMS) : Prop :=
  ((((12 : Int32) ≤ l5) → C52 l2 l3 l4 ρ) ∧ (¬ ((12 : Int32) ≤ l5) → wpM_X3_firstLawn ρ l5 (fun r19 ρ18 => wpM_X3_secondLawn ρ18 l5 (fun r21 ρ20 => mAld ρ20 1 ((22 : Int32) + l5) (fun v22 => rec l2 l3 (l4 ||| (if (l2 < v22) then (0 : Int32) else (if ((l4 &&& (((1 : Int32) <<< (r19 &&& 31)) ||| ((1 : Int32) <<< (r21 &&& 31)))) = 0) then (0 : Int32) else (((1 : Int32) <<< (r19 &&& 31)) ||| ((1 : Int32) <<< (r21 &&& 31)))))) (l5 + (1 : Int32)) ρ20)))))
def lpM_X3_reachedAgain_64 (C52 : Int32 → Int32 → Int32 → yMS → Prop) (K : Int32 → yMS → Prop) : Nat → Int32 × Int32 × Int32 × Int32 × yMS → Prop := lpN (fun r s => stM_X3_reachedAgain_64 C52 K (fun l2 l3 l4 l5 ρ => r (l2, l3, l4, l5, ρ)) s.1 s.2.1 s.2.2.1 s.2.2.2.1 s.2.2.2.2)
def wpM_X3_reachedAgain_64 (C52 : Int32 → Int32 → Int32 → yMS → Prop) (l2 : Int32) (l3 : Int32) (l4 : Int32) (l5 : Int32) (ρ : yMS) (K : Int32 → yMS → Prop) : Prop := ∃ nn, lpM_X3_reachedAgain_64 C52 K nn (l2, l3, l4, l5, ρ)
theorem olM_X3_reachedAgain_64 {en : yEn} {mb : Nat → Nat} {σ : yH} (hM : mOK en mb σ) {d : Nat} (hd : 3 ≤ d + 1) {K : Int32 → yMS → Prop} {X : String → Addr → yH → Prop} {k n : Nat} {C52 : Int32 → Int32 → Int32 → yMS → Prop} (hC52 : ∀ (l2 : Int32) (l3 : Int32) (l4 : Int32) (ρ : yMS), C52 l2 l3 l4 ρ → Wx en (d + 1) mX3_reachedAgain 52 [(0, .ref (mb 0)), (2, .int l2), (3, .int l3), (4, .int l4)] [] (mH en mb ρ σ) k n (mQ en mb σ (mI K)) X) : ∀ (nn : Nat) (l2 : Int32) (l3 : Int32) (l4 : Int32) (l5 : Int32) (ρ : yMS), lpM_X3_reachedAgain_64 C52 K nn (l2, l3, l4, l5, ρ) → Wx en (d + 1) mX3_reachedAgain 64 [(0, .ref (mb 0)), (2, .int l2), (3, .int l3), (4, .int l4), (5, .int l5)] [] (mH en mb ρ σ) k n (mQ en mb σ (mI K)) X := by
  intro nn
  induction nn with
  | zero => intros; rename_i h; exact h.elim
  | succ nn ih =>
    intro l2 l3 l4 l5 ρ h
    replace h : stM_X3_reachedAgain_64 C52 K (fun l2 l3 l4 l5 ρ => lpM_X3_reachedAgain_64 C52 K nn (l2, l3, l4, l5, ρ)) l2 l3 l4 l5 ρ := h
    unfold stM_X3_reachedAgain_64 at h
    refine sd_iload (pc := 64) dX3_reachedAgain_64 4 rfl ?_
    refine sd_bipush (pc := 66) dX3_reachedAgain_66 (v := 12) (by decide) ?_
    refine sd_icmpge (pc := 68) dX3_reachedAgain_68 (tgt := 127) (by decide) ⟨fun c25 => ?_, fun c25 => ?_⟩
    · have h := h.1 c25
      refine sd_goto (pc := 127) dX3_reachedAgain_127 (tgt := 52) (by decide) ?_
      exact sd_loc [0, 1, 2, 3] rfl (hC52 _ _ _ _ h)
    · have h := h.2 c25
      refine sd_iconst (pc := 71) dX3_reachedAgain_71 (v := 1) (by decide) ?_
      refine sd_iload (pc := 72) dX3_reachedAgain_72 4 rfl ?_
      refine sd_callS (k := k) (n := n) (d0 := d) (k0 := 0) (n0 := 0) (As := [.int l5]) (st := [.int (1 : Int32)]) (pc := 74) dX3_reachedAgain_74 q2263 q2264 q91 q2265 1 (by decide +kernel) rfl (Nat.le_refl _) (by decide) (Nat.le_of_ble_eq_true rfl) (Cx.mono (cm_X3_firstLawn hM (by omega)  h) (mI.to (fun r19 ρ18 h => ?_)) (xo rfl))
      refine sd_ishl (pc := 77) dX3_reachedAgain_77 ?_
      refine sd_iconst (pc := 78) dX3_reachedAgain_78 (v := 1) (by decide) ?_
      refine sd_iload (pc := 79) dX3_reachedAgain_79 4 rfl ?_
      refine sd_callS (k := k) (n := n) (d0 := d) (k0 := 0) (n0 := 0) (As := [.int l5]) (st := [.int (1 : Int32), .int ((1 : Int32) <<< (r19 &&& 31))]) (pc := 81) dX3_reachedAgain_81 q2266 q2267 q91 q2268 1 (by decide +kernel) rfl (Nat.le_refl _) (by decide) (Nat.le_of_ble_eq_true rfl) (Cx.mono (cm_X3_secondLawn hM (by omega)  h) (mI.to (fun r21 ρ20 h => ?_)) (xo rfl))
      refine sd_ishl (pc := 84) dX3_reachedAgain_84 ?_
      refine sd_ior (pc := 85) dX3_reachedAgain_85 ?_
      refine sd_istore (pc := 86) dX3_reachedAgain_86 (by decide) (ls' := [(6, .int (((1 : Int32) <<< (r19 &&& 31)) ||| ((1 : Int32) <<< (r21 &&& 31)))), (0, .ref (mb 0)), (2, .int l2), (3, .int l3), (4, .int l4), (5, .int l5)]) rfl ?_
      refine sd_iload (pc := 88) dX3_reachedAgain_88 4 rfl ?_
      refine sd_aload_n (pc := 90) dX3_reachedAgain_90 rfl 1 rfl ?_
      refine sd_getR (pc := 91) dX3_reachedAgain_91 (ci := 2) rfl in_X3 (kf := 1) (by decide) q2074 (mo_gR hM (j := 1) rfl ?_)
      refine sd_bipush (pc := 94) dX3_reachedAgain_94 (v := 22) (by decide) ?_
      refine sd_iload (pc := 96) dX3_reachedAgain_96 5 rfl ?_
      refine sd_iadd (pc := 98) dX3_reachedAgain_98 ?_
      refine sd_iaload (pc := 99) dX3_reachedAgain_99 (mAld.to hM h (fun v22 h => ?_))
      refine sd_iload_n (pc := 100) dX3_reachedAgain_100 rfl 2 rfl ?_
      have h26 : Wx en (d + 1) mX3_reachedAgain 118 [(6, .int (((1 : Int32) <<< (r19 &&& 31)) ||| ((1 : Int32) <<< (r21 &&& 31)))), (0, .ref (mb 0)), (2, .int l2), (3, .int l3), (4, .int l4), (5, .int l5)] (.int (if (l2 < v22) then (0 : Int32) else (if ((l4 &&& (((1 : Int32) <<< (r19 &&& 31)) ||| ((1 : Int32) <<< (r21 &&& 31)))) = 0) then (0 : Int32) else (((1 : Int32) <<< (r19 &&& 31)) ||| ((1 : Int32) <<< (r21 &&& 31))))) :: .int l4 :: []) (mH en mb ρ20 σ) k n (mQ en mb σ (mI K)) X := by
        refine sd_ior (pc := 118) dX3_reachedAgain_118 ?_
        refine sd_istore (pc := 119) dX3_reachedAgain_119 (by decide) (ls' := [(4, .int (l4 ||| (if (l2 < v22) then (0 : Int32) else (if ((l4 &&& (((1 : Int32) <<< (r19 &&& 31)) ||| ((1 : Int32) <<< (r21 &&& 31)))) = 0) then (0 : Int32) else (((1 : Int32) <<< (r19 &&& 31)) ||| ((1 : Int32) <<< (r21 &&& 31))))))), (6, .int (((1 : Int32) <<< (r19 &&& 31)) ||| ((1 : Int32) <<< (r21 &&& 31)))), (0, .ref (mb 0)), (2, .int l2), (3, .int l3), (5, .int l5)]) rfl ?_
        refine sd_iinc (pc := 121) dX3_reachedAgain_121 5 rfl (v := (l5 + (1 : Int32))) rfl (by decide) (ls' := [(5, .int (l5 + (1 : Int32))), (4, .int (l4 ||| (if (l2 < v22) then (0 : Int32) else (if ((l4 &&& (((1 : Int32) <<< (r19 &&& 31)) ||| ((1 : Int32) <<< (r21 &&& 31)))) = 0) then (0 : Int32) else (((1 : Int32) <<< (r19 &&& 31)) ||| ((1 : Int32) <<< (r21 &&& 31))))))), (6, .int (((1 : Int32) <<< (r19 &&& 31)) ||| ((1 : Int32) <<< (r21 &&& 31)))), (0, .ref (mb 0)), (2, .int l2), (3, .int l3)]) rfl ?_
        refine sd_goto (pc := 124) dX3_reachedAgain_124 (tgt := 64) (by decide) ?_
        exact sd_loc [3, 4, 5, 1, 0] rfl (ih _ _ _ _ _ h)
      have e27 := sd_iteI h26
      refine sd_icmpgt (pc := 101) dX3_reachedAgain_101 (tgt := 117) (by decide) ⟨fun c24 => ?_, fun c24 => ?_⟩
      · refine sd_iconst (pc := 117) dX3_reachedAgain_117 (v := 0) (by decide) ?_
        exact (e27.1 c24)
      · refine sd_iload (pc := 104) dX3_reachedAgain_104 4 rfl ?_
        refine sd_iload (pc := 106) dX3_reachedAgain_106 0 rfl ?_
        refine sd_iand (pc := 108) dX3_reachedAgain_108 ?_
        have e28 := sd_iteI (e27.2 c24)
        refine sd_ifeq (pc := 109) dX3_reachedAgain_109 (tgt := 117) (by decide) ⟨fun c23 => ?_, fun c23 => ?_⟩
        · refine sd_iconst (pc := 117) dX3_reachedAgain_117 (v := 0) (by decide) ?_
          exact (e28.1 c23)
        · refine sd_iload (pc := 112) dX3_reachedAgain_112 0 rfl ?_
          refine sd_goto (pc := 114) dX3_reachedAgain_114 (tgt := 118) (by decide) ?_
          exact (e28.2 c23)
theorem okM_X3_reachedAgain_64 {en : yEn} {mb : Nat → Nat} {σ : yH} (hM : mOK en mb σ) {d : Nat} (hd : 3 ≤ d + 1) {K : Int32 → yMS → Prop} {X : String → Addr → yH → Prop} {k n : Nat} {C52 : Int32 → Int32 → Int32 → yMS → Prop} (hC52 : ∀ (l2 : Int32) (l3 : Int32) (l4 : Int32) (ρ : yMS), C52 l2 l3 l4 ρ → Wx en (d + 1) mX3_reachedAgain 52 [(0, .ref (mb 0)), (2, .int l2), (3, .int l3), (4, .int l4)] [] (mH en mb ρ σ) k n (mQ en mb σ (mI K)) X) (l2 : Int32) (l3 : Int32) (l4 : Int32) (l5 : Int32) (ρ : yMS) (h : wpM_X3_reachedAgain_64 C52 l2 l3 l4 l5 ρ K) : Wx en (d + 1) mX3_reachedAgain 64 [(0, .ref (mb 0)), (2, .int l2), (3, .int l3), (4, .int l4), (5, .int l5)] [] (mH en mb ρ σ) k n (mQ en mb σ (mI K)) X := by
  obtain ⟨nn, h⟩ := h
  exact olM_X3_reachedAgain_64 hM hd hC52 nn _ _ _ _ _ h
def stM_X3_reachedAgain_52 (K : Int32 → yMS → Prop) (rec : Int32 → Int32 → Int32 → yMS → Prop) (l2 : Int32) (l3 : Int32) (l4 : Int32) (ρ : yMS) : Prop :=
  (((l4 = l3) → K l3 ρ) ∧ (¬ (l4 = l3) → wpM_X3_reachedAgain_64 rec l2 l4 l4 (0 : Int32) ρ K))
def lpM_X3_reachedAgain_52 (K : Int32 → yMS → Prop) : Nat → Int32 × Int32 × Int32 × yMS → Prop := lpN (fun r s => stM_X3_reachedAgain_52  K (fun l2 l3 l4 ρ => r (l2, l3, l4, ρ)) s.1 s.2.1 s.2.2.1 s.2.2.2)
def wpM_X3_reachedAgain_52 (l2 : Int32) (l3 : Int32) (l4 : Int32) (ρ : yMS) (K : Int32 → yMS → Prop) : Prop := ∃ nn, lpM_X3_reachedAgain_52  K nn (l2, l3, l4, ρ)
theorem olM_X3_reachedAgain_52 {en : yEn} {mb : Nat → Nat} {σ : yH} (hM : mOK en mb σ) {d : Nat} (hd : 3 ≤ d + 1) {K : Int32 → yMS → Prop} {X : String → Addr → yH → Prop} {k n : Nat} : ∀ (nn : Nat) (l2 : Int32) (l3 : Int32) (l4 : Int32) (ρ : yMS), lpM_X3_reachedAgain_52  K nn (l2, l3, l4, ρ) → Wx en (d + 1) mX3_reachedAgain 52 [(0, .ref (mb 0)), (2, .int l2), (3, .int l3), (4, .int l4)] [] (mH en mb ρ σ) k n (mQ en mb σ (mI K)) X := by
  intro nn
  induction nn with
  | zero => intros; rename_i h; exact h.elim
  | succ nn ih =>
    intro l2 l3 l4 ρ h
    replace h : stM_X3_reachedAgain_52  K (fun l2 l3 l4 ρ => lpM_X3_reachedAgain_52  K nn (l2, l3, l4, ρ)) l2 l3 l4 ρ := h
    unfold stM_X3_reachedAgain_52 at h
    refine sd_iload (pc := 52) dX3_reachedAgain_52 3 rfl ?_
    refine sd_iload_n (pc := 54) dX3_reachedAgain_54 rfl 2 rfl ?_
    refine sd_icmpeq (pc := 55) dX3_reachedAgain_55 (tgt := 130) (by decide) ⟨fun c17 => ?_, fun c17 => ?_⟩
    · have h := h.1 c17
      refine sd_iload_n (pc := 130) dX3_reachedAgain_130 rfl 2 rfl ?_
      exact sd_ireturn (pc := 131) dX3_reachedAgain_131 (ty0 := .int) rfl rfl (mI.ok h)
    · have h := h.2 c17
      refine sd_iload (pc := 58) dX3_reachedAgain_58 3 rfl ?_
      refine sd_istore_n (pc := 60) dX3_reachedAgain_60 rfl (by decide) (ls' := [(3, .int l4), (0, .ref (mb 0)), (2, .int l2), (4, .int l4)]) rfl ?_
      refine sd_iconst (pc := 61) dX3_reachedAgain_61 (v := 0) (by decide) ?_
      refine sd_istore (pc := 62) dX3_reachedAgain_62 (by decide) (ls' := [(5, .int (0 : Int32)), (3, .int l4), (0, .ref (mb 0)), (2, .int l2), (4, .int l4)]) rfl ?_
      exact sd_loc [2, 3, 1, 4, 0] rfl (okM_X3_reachedAgain_64 hM (by omega) ih _ _ _ _ _ h)
theorem okM_X3_reachedAgain_52 {en : yEn} {mb : Nat → Nat} {σ : yH} (hM : mOK en mb σ) {d : Nat} (hd : 3 ≤ d + 1) {K : Int32 → yMS → Prop} {X : String → Addr → yH → Prop} {k n : Nat} (l2 : Int32) (l3 : Int32) (l4 : Int32) (ρ : yMS) (h : wpM_X3_reachedAgain_52  l2 l3 l4 ρ K) : Wx en (d + 1) mX3_reachedAgain 52 [(0, .ref (mb 0)), (2, .int l2), (3, .int l3), (4, .int l4)] [] (mH en mb ρ σ) k n (mQ en mb σ (mI K)) X := by
  obtain ⟨nn, h⟩ := h
  exact olM_X3_reachedAgain_52 hM hd  nn _ _ _ _ h
def wpM_X3_reachedAgain (ρ : yMS) (x1 : Int32) (x2 : Int32) (K : Int32 → yMS → Prop) : Prop :=
  wpM_X3_isLawn ρ x1 (fun r2 ρ1 => wpM_X3_fails ρ1 (1 : Int32) (if (r2 = 0) then (1 : Int32) else (0 : Int32)) (fun r5 ρ4 => ((¬ (r5 = 0) → K (0 : Int32) ρ4) ∧ ((r5 = 0) → wpM_X3_isBetween ρ4 x2 (0 : Int32) (20 : Int32) (fun r7 ρ6 => wpM_X3_fails ρ6 (2 : Int32) (if (r7 = 0) then (1 : Int32) else (0 : Int32)) (fun r10 ρ9 => (((r10 = 0) → wpM_X3_reachedAgain_52  x2 (0 : Int32) ((1 : Int32) <<< (x1 &&& 31)) ρ9 K) ∧ (¬ (r10 = 0) → K (0 : Int32) ρ9))))))))
theorem okM_X3_reachedAgain {en : yEn} {mb : Nat → Nat} {σ : yH} (hM : mOK en mb σ) {d : Nat} (hd : 3 ≤ d + 1) {ρ : yMS} {x1 : Int32} {x2 : Int32} {K : Int32 → yMS → Prop} {X : String → Addr → yH → Prop} {k n : Nat}  (h : wpM_X3_reachedAgain ρ x1 x2 K) : Wx en (d + 1) mX3_reachedAgain 0 [(0, .ref (mb 0)), (1, .int x1), (2, .int x2)] [] (mH en mb ρ σ) k n (mQ en mb σ (mI K)) X := by
  unfold wpM_X3_reachedAgain at h
  refine sd_aload_n (pc := 0) dX3_reachedAgain_0 rfl 0 rfl ?_
  refine sd_iconst (pc := 1) dX3_reachedAgain_1 (v := 1) (by decide) ?_
  refine sd_iload_n (pc := 2) dX3_reachedAgain_2 rfl 1 rfl ?_
  refine sd_callS (k := k) (n := n) (d0 := d) (k0 := 0) (n0 := 0) (As := [.int x1]) (st := [.int (1 : Int32), .ref (mb 0)]) (pc := 3) dX3_reachedAgain_3 q2178 q2179 q91 q2180 1 (by decide +kernel) rfl (Nat.le_refl _) (by decide) (Nat.le_of_ble_eq_true rfl) (Cx.mono (cm_X3_isLawn hM (by omega)  h) (mI.to (fun r2 ρ1 h => ?_)) (xo rfl))
  have h13 : Wx en (d + 1) mX3_reachedAgain 14 [(0, .ref (mb 0)), (1, .int x1), (2, .int x2)] (.int (if (r2 = 0) then (1 : Int32) else (0 : Int32)) :: .int (1 : Int32) :: .ref (mb 0) :: []) (mH en mb ρ1 σ) k n (mQ en mb σ (mI K)) X := by
    refine sd_callV (k := k) (n := n) (d0 := d) (k0 := 0) (n0 := 0) (As := [.int (1 : Int32), .int (if (r2 = 0) then (1 : Int32) else (0 : Int32))]) (st := []) (pc := 14) dX3_reachedAgain_14 (ci := 2) rfl (mo_isC hM) rfl q2170 q2172 qs26 q91 q2173 2 (by decide +kernel) rfl (Nat.le_refl _) (by decide) (Nat.le_of_ble_eq_true rfl) (Cx.mono (cm_X3_fails hM (by omega)  h) (mI.to (fun r5 ρ4 h => ?_)) (xo rfl))
    refine sd_ifne (pc := 17) dX3_reachedAgain_17 (tgt := 43) (by decide) ⟨fun c12 => ?_, fun c12 => ?_⟩
    · have h := h.1 c12
      refine sd_iconst (pc := 43) dX3_reachedAgain_43 (v := 0) (by decide) ?_
      exact sd_ireturn (pc := 44) dX3_reachedAgain_44 (ty0 := .int) rfl rfl (mI.ok h)
    · have h := h.2 c12
      refine sd_aload_n (pc := 20) dX3_reachedAgain_20 rfl 0 rfl ?_
      refine sd_iconst (pc := 21) dX3_reachedAgain_21 (v := 2) (by decide) ?_
      refine sd_iload_n (pc := 22) dX3_reachedAgain_22 rfl 2 rfl ?_
      refine sd_iconst (pc := 23) dX3_reachedAgain_23 (v := 0) (by decide) ?_
      refine sd_bipush (pc := 24) dX3_reachedAgain_24 (v := 20) (by decide) ?_
      refine sd_callS (k := k) (n := n) (d0 := d) (k0 := 0) (n0 := 0) (As := [.int x2, .int (0 : Int32), .int (20 : Int32)]) (st := [.int (2 : Int32), .ref (mb 0)]) (pc := 26) dX3_reachedAgain_26 q2167 q2168 q91 q2169 3 (by decide +kernel) rfl (Nat.le_refl _) (by decide) (Nat.le_of_ble_eq_true rfl) (Cx.mono (cm_X3_isBetween hM (by omega)  h) (mI.to (fun r7 ρ6 h => ?_)) (xo rfl))
      have h14 : Wx en (d + 1) mX3_reachedAgain 37 [(0, .ref (mb 0)), (1, .int x1), (2, .int x2)] (.int (if (r7 = 0) then (1 : Int32) else (0 : Int32)) :: .int (2 : Int32) :: .ref (mb 0) :: []) (mH en mb ρ6 σ) k n (mQ en mb σ (mI K)) X := by
        refine sd_callV (k := k) (n := n) (d0 := d) (k0 := 0) (n0 := 0) (As := [.int (2 : Int32), .int (if (r7 = 0) then (1 : Int32) else (0 : Int32))]) (st := []) (pc := 37) dX3_reachedAgain_37 (ci := 2) rfl (mo_isC hM) rfl q2170 q2172 qs26 q91 q2173 2 (by decide +kernel) rfl (Nat.le_refl _) (by decide) (Nat.le_of_ble_eq_true rfl) (Cx.mono (cm_X3_fails hM (by omega)  h) (mI.to (fun r10 ρ9 h => ?_)) (xo rfl))
        refine sd_ifeq (pc := 40) dX3_reachedAgain_40 (tgt := 45) (by decide) ⟨fun c11 => ?_, fun c11 => ?_⟩
        · have h := h.1 c11
          refine sd_iconst (pc := 45) dX3_reachedAgain_45 (v := 0) (by decide) ?_
          refine sd_istore_n (pc := 46) dX3_reachedAgain_46 rfl (by decide) (ls' := [(3, .int (0 : Int32)), (0, .ref (mb 0)), (1, .int x1), (2, .int x2)]) rfl ?_
          refine sd_iconst (pc := 47) dX3_reachedAgain_47 (v := 1) (by decide) ?_
          refine sd_iload_n (pc := 48) dX3_reachedAgain_48 rfl 2 rfl ?_
          refine sd_ishl (pc := 49) dX3_reachedAgain_49 ?_
          refine sd_istore (pc := 50) dX3_reachedAgain_50 (by decide) (ls' := [(4, .int ((1 : Int32) <<< (x1 &&& 31))), (3, .int (0 : Int32)), (0, .ref (mb 0)), (1, .int x1), (2, .int x2)]) rfl ?_
          exact sd_loc [2, 4, 1, 0] rfl (okM_X3_reachedAgain_52 hM (by omega)  _ _ _ _ h)
        · have h := h.2 c11
          refine sd_iconst (pc := 43) dX3_reachedAgain_43 (v := 0) (by decide) ?_
          exact sd_ireturn (pc := 44) dX3_reachedAgain_44 (ty0 := .int) rfl rfl (mI.ok h)
      have e15 := sd_iteIN h14
      refine sd_ifne (pc := 29) dX3_reachedAgain_29 (tgt := 36) (by decide) ⟨fun c8 => ?_, fun c8 => ?_⟩
      · refine sd_iconst (pc := 36) dX3_reachedAgain_36 (v := 0) (by decide) ?_
        exact (e15.1 c8)
      · refine sd_iconst (pc := 32) dX3_reachedAgain_32 (v := 1) (by decide) ?_
        refine sd_goto (pc := 33) dX3_reachedAgain_33 (tgt := 37) (by decide) ?_
        exact (e15.2 c8)
  have e16 := sd_iteIN h13
  refine sd_ifne (pc := 6) dX3_reachedAgain_6 (tgt := 13) (by decide) ⟨fun c3 => ?_, fun c3 => ?_⟩
  · refine sd_iconst (pc := 13) dX3_reachedAgain_13 (v := 0) (by decide) ?_
    exact (e16.1 c3)
  · refine sd_iconst (pc := 9) dX3_reachedAgain_9 (v := 1) (by decide) ?_
    refine sd_goto (pc := 10) dX3_reachedAgain_10 (tgt := 14) (by decide) ?_
    exact (e16.2 c3)
theorem cm_X3_reachedAgain {en : yEn} {mb : Nat → Nat} {σ : yH} (hM : mOK en mb σ) {d : Nat} (hd : 3 ≤ d) {ρ : yMS} {x1 : Int32} {x2 : Int32} {K : Int32 → yMS → Prop} {X : String → Addr → yH → Prop}  (h : wpM_X3_reachedAgain ρ x1 x2 K) : Cx en d 0 0 mX3_reachedAgain [.ref (mb 0), .int x1, .int x2] (mH en mb ρ σ) (mQ en mb σ (mI K)) X := by
  obtain ⟨d, rfl⟩ : ∃ e, d = e + 1 := ⟨d - 1, by omega⟩
  exact Cx.body (by decide +kernel) rfl (Nat.le_of_ble_eq_true rfl) (okM_X3_reachedAgain hM (by omega)  h)
