/-! THE MODEL: walks of its methods as predicate transformers -/
set_option maxRecDepth 100000
/-! sitAll()V -/
def stM_X3_sitAll_15 (K : yMS → Prop) (rec : Int32 → Int32 → yMS → Prop) (l1 : Int32) (l2 : Int32) (ρ : yMS) : Prop :=
  (((l1 ≤ l2) → K ρ) ∧ (¬ (l1 ≤ l2) → wpM_X3_hasEggs ρ l2 (fun r4 ρ3 => (((r4 = 0) → rec l1 (l2 + (1 : Int32)) ρ3) ∧ (¬ (r4 = 0) → wpM_X3_of ρ3 l2 (3 : Int32) (fun r6 ρ5 => wpM_X3_put ρ5 l2 (3 : Int32) (r6 + (1 : Int32)) (fun ρ7 => wpM_X3_of ρ7 l2 (3 : Int32) (fun r9 ρ8 => ((¬ (r9 = (28 : Int32)) → rec l1 (l2 + (1 : Int32)) ρ8) ∧ ((r9 = (28 : Int32)) → wpM_X3_hatch ρ8 l2 (fun ρ10 => rec l1 (l2 + (1 : Int32)) ρ10)))))))))))
def lpM_X3_sitAll_15 (K : yMS → Prop) : Nat → Int32 × Int32 × yMS → Prop := lpN (fun r s => stM_X3_sitAll_15  K (fun l1 l2 ρ => r (l1, l2, ρ)) s.1 s.2.1 s.2.2)
def wpM_X3_sitAll_15 (l1 : Int32) (l2 : Int32) (ρ : yMS) (K : yMS → Prop) : Prop := ∃ nn, lpM_X3_sitAll_15  K nn (l1, l2, ρ)
theorem olM_X3_sitAll_15 {en : yEn} {mb : Nat → Nat} {σ : yH} (hM : mOK en mb σ) {d : Nat} (hd : 4 ≤ d + 1) {K : yMS → Prop} {X : String → Addr → yH → Prop} {k n : Nat} : ∀ (nn : Nat) (l1 : Int32) (l2 : Int32) (ρ : yMS), lpM_X3_sitAll_15  K nn (l1, l2, ρ) → Wx en (d + 1) mX3_sitAll 15 [(0, .ref (mb 0)), (1, .int l1), (2, .int l2)] [] (mH en mb ρ σ) k n (mQ en mb σ (mV K)) X := by
  intro nn
  induction nn with
  | zero => intros; rename_i h; exact h.elim
  | succ nn ih =>
    intro l1 l2 ρ h
    replace h : stM_X3_sitAll_15  K (fun l1 l2 ρ => lpM_X3_sitAll_15  K nn (l1, l2, ρ)) l1 l2 ρ := h
    unfold stM_X3_sitAll_15 at h
    refine sd_iload_n (pc := 15) dX3_sitAll_15 rfl 2 rfl ?_
    refine sd_iload_n (pc := 16) dX3_sitAll_16 rfl 1 rfl ?_
    refine sd_icmpge (pc := 17) dX3_sitAll_17 (tgt := 64) (by decide) ⟨fun c13 => ?_, fun c13 => ?_⟩
    · have h := h.1 c13
      exact sd_return (pc := 64) dX3_sitAll_64 rfl (mV.ok h)
    · have h := h.2 c13
      refine sd_aload_n (pc := 20) dX3_sitAll_20 rfl 0 rfl ?_
      refine sd_iload_n (pc := 21) dX3_sitAll_21 rfl 2 rfl ?_
      refine sd_callV (k := k) (n := n) (d0 := d) (k0 := 0) (n0 := 0) (As := [.int l2]) (st := []) (pc := 22) dX3_sitAll_22 (ci := 2) rfl (mo_isC hM) rfl q2248 q2250 qs39 q91 q2251 1 (by decide +kernel) rfl (Nat.le_refl _) (by decide) (Nat.le_of_ble_eq_true rfl) (Cx.mono (cm_X3_hasEggs hM (by omega)  h) (mI.to (fun r4 ρ3 h => ?_)) (xo rfl))
      refine sd_ifeq (pc := 25) dX3_sitAll_25 (tgt := 58) (by decide) ⟨fun c12 => ?_, fun c12 => ?_⟩
      · have h := h.1 c12
        refine sd_iinc (pc := 58) dX3_sitAll_58 2 rfl (v := (l2 + (1 : Int32))) rfl (by decide) (ls' := [(2, .int (l2 + (1 : Int32))), (0, .ref (mb 0)), (1, .int l1)]) rfl ?_
        refine sd_goto (pc := 61) dX3_sitAll_61 (tgt := 15) (by decide) ?_
        exact sd_loc [1, 2, 0] rfl (ih _ _ _ h)
      · have h := h.2 c12
        refine sd_aload_n (pc := 28) dX3_sitAll_28 rfl 0 rfl ?_
        refine sd_iload_n (pc := 29) dX3_sitAll_29 rfl 2 rfl ?_
        refine sd_iconst (pc := 30) dX3_sitAll_30 (v := 3) (by decide) ?_
        refine sd_aload_n (pc := 31) dX3_sitAll_31 rfl 0 rfl ?_
        refine sd_iload_n (pc := 32) dX3_sitAll_32 rfl 2 rfl ?_
        refine sd_iconst (pc := 33) dX3_sitAll_33 (v := 3) (by decide) ?_
        refine sd_callV (k := k) (n := n) (d0 := d) (k0 := 0) (n0 := 0) (As := [.int l2, .int (3 : Int32)]) (st := [.int (3 : Int32), .int l2, .ref (mb 0)]) (pc := 34) dX3_sitAll_34 (ci := 2) rfl (mo_isC hM) rfl q2228 q2230 qs36 q91 q2231 2 (by decide +kernel) rfl (Nat.le_refl _) (by decide) (Nat.le_of_ble_eq_true rfl) (Cx.mono (cm_X3_of hM (by omega)  h) (mI.to (fun r6 ρ5 h => ?_)) (xo rfl))
        refine sd_iconst (pc := 37) dX3_sitAll_37 (v := 1) (by decide) ?_
        refine sd_iadd (pc := 38) dX3_sitAll_38 ?_
        refine sd_callV (k := k) (n := n) (d0 := d) (k0 := 0) (n0 := 0) (As := [.int l2, .int (3 : Int32), .int (r6 + (1 : Int32))]) (st := []) (pc := 39) dX3_sitAll_39 (ci := 2) rfl (mo_isC hM) rfl q2204 q2206 qs32 q91 q2207 3 (by decide +kernel) rfl (Nat.le_refl _) (by decide) (Nat.le_of_ble_eq_true rfl) (Cx.mono (cm_X3_put hM (by omega)  h) (mV.to (fun ρ7 h => ?_)) (xo rfl))
        refine sd_aload_n (pc := 42) dX3_sitAll_42 rfl 0 rfl ?_
        refine sd_iload_n (pc := 43) dX3_sitAll_43 rfl 2 rfl ?_
        refine sd_iconst (pc := 44) dX3_sitAll_44 (v := 3) (by decide) ?_
        refine sd_callV (k := k) (n := n) (d0 := d) (k0 := 0) (n0 := 0) (As := [.int l2, .int (3 : Int32)]) (st := []) (pc := 45) dX3_sitAll_45 (ci := 2) rfl (mo_isC hM) rfl q2228 q2230 qs36 q91 q2231 2 (by decide +kernel) rfl (Nat.le_refl _) (by decide) (Nat.le_of_ble_eq_true rfl) (Cx.mono (cm_X3_of hM (by omega)  h) (mI.to (fun r9 ρ8 h => ?_)) (xo rfl))
        refine sd_bipush (pc := 48) dX3_sitAll_48 (v := 28) (by decide) ?_
        refine sd_icmpne (pc := 50) dX3_sitAll_50 (tgt := 58) (by decide) ⟨fun c11 => ?_, fun c11 => ?_⟩
        · have h := h.1 c11
          refine sd_iinc (pc := 58) dX3_sitAll_58 2 rfl (v := (l2 + (1 : Int32))) rfl (by decide) (ls' := [(2, .int (l2 + (1 : Int32))), (0, .ref (mb 0)), (1, .int l1)]) rfl ?_
          refine sd_goto (pc := 61) dX3_sitAll_61 (tgt := 15) (by decide) ?_
          exact sd_loc [1, 2, 0] rfl (ih _ _ _ h)
        · have h := h.2 c11
          refine sd_aload_n (pc := 53) dX3_sitAll_53 rfl 0 rfl ?_
          refine sd_iload_n (pc := 54) dX3_sitAll_54 rfl 2 rfl ?_
          refine sd_callV (k := k) (n := n) (d0 := d) (k0 := 0) (n0 := 0) (As := [.int l2]) (st := []) (pc := 55) dX3_sitAll_55 (ci := 2) rfl (mo_isC hM) rfl q2411 q2413 qs60 q91 q2414 1 (by decide +kernel) rfl (Nat.le_refl _) (by decide) (Nat.le_of_ble_eq_true rfl) (Cx.mono (cm_X3_hatch hM (by omega)  h) (mV.to (fun ρ10 h => ?_)) (xo rfl))
          refine sd_iinc (pc := 58) dX3_sitAll_58 2 rfl (v := (l2 + (1 : Int32))) rfl (by decide) (ls' := [(2, .int (l2 + (1 : Int32))), (0, .ref (mb 0)), (1, .int l1)]) rfl ?_
          refine sd_goto (pc := 61) dX3_sitAll_61 (tgt := 15) (by decide) ?_
          exact sd_loc [1, 2, 0] rfl (ih _ _ _ h)
theorem okM_X3_sitAll_15 {en : yEn} {mb : Nat → Nat} {σ : yH} (hM : mOK en mb σ) {d : Nat} (hd : 4 ≤ d + 1) {K : yMS → Prop} {X : String → Addr → yH → Prop} {k n : Nat} (l1 : Int32) (l2 : Int32) (ρ : yMS) (h : wpM_X3_sitAll_15  l1 l2 ρ K) : Wx en (d + 1) mX3_sitAll 15 [(0, .ref (mb 0)), (1, .int l1), (2, .int l2)] [] (mH en mb ρ σ) k n (mQ en mb σ (mV K)) X := by
  obtain ⟨nn, h⟩ := h
  exact olM_X3_sitAll_15 hM hd  nn _ _ _ h
def wpM_X3_sitAll (ρ : yMS)  (K : yMS → Prop) : Prop :=
  mAld ρ 1 (10 : Int32) (fun v1 => (mPut ρ 15 (0 : Int32) (fun ρ2 => wpM_X3_sitAll_15  v1 (0 : Int32) ρ2 K)))
theorem okM_X3_sitAll {en : yEn} {mb : Nat → Nat} {σ : yH} (hM : mOK en mb σ) {d : Nat} (hd : 4 ≤ d + 1) {ρ : yMS}  {K : yMS → Prop} {X : String → Addr → yH → Prop} {k n : Nat}  (h : wpM_X3_sitAll ρ  K) : Wx en (d + 1) mX3_sitAll 0 [(0, .ref (mb 0))] [] (mH en mb ρ σ) k n (mQ en mb σ (mV K)) X := by
  unfold wpM_X3_sitAll at h
  refine sd_aload_n (pc := 0) dX3_sitAll_0 rfl 0 rfl ?_
  refine sd_getR (pc := 1) dX3_sitAll_1 (ci := 2) rfl in_X3 (kf := 1) (by decide) q2074 (mo_gR hM (j := 1) rfl ?_)
  refine sd_bipush (pc := 4) dX3_sitAll_4 (v := 10) (by decide) ?_
  refine sd_iaload (pc := 6) dX3_sitAll_6 (mAld.to hM h (fun v1 h => ?_))
  refine sd_istore_n (pc := 7) dX3_sitAll_7 rfl (by decide) (ls' := [(1, .int v1), (0, .ref (mb 0))]) rfl ?_
  refine sd_aload_n (pc := 8) dX3_sitAll_8 rfl 1 rfl ?_
  refine sd_iconst (pc := 9) dX3_sitAll_9 (v := 0) (by decide) ?_
  refine sd_putf (pc := 10) dX3_sitAll_10 (ci := 2) rfl in_X3 tyX3 tyX3_ok nmX3 (kf := 15) (by decide) q2088 rfl (ty := .int) rfl rfl rfl (mPut.to hM (by decide) rfl h (fun ρ2 h => ?_))
  refine sd_iconst (pc := 13) dX3_sitAll_13 (v := 0) (by decide) ?_
  refine sd_istore_n (pc := 14) dX3_sitAll_14 rfl (by decide) (ls' := [(2, .int (0 : Int32)), (1, .int v1), (0, .ref (mb 0))]) rfl ?_
  exact sd_loc [2, 1, 0] rfl (okM_X3_sitAll_15 hM (by omega)  _ _ _ h)
theorem cm_X3_sitAll {en : yEn} {mb : Nat → Nat} {σ : yH} (hM : mOK en mb σ) {d : Nat} (hd : 4 ≤ d) {ρ : yMS}  {K : yMS → Prop} {X : String → Addr → yH → Prop}  (h : wpM_X3_sitAll ρ  K) : Cx en d 0 0 mX3_sitAll [.ref (mb 0)] (mH en mb ρ σ) (mQ en mb σ (mV K)) X := by
  obtain ⟨d, rfl⟩ : ∃ e, d = e + 1 := ⟨d - 1, by omega⟩
  exact Cx.body (by decide +kernel) rfl (Nat.le_of_ble_eq_true rfl) (okM_X3_sitAll hM (by omega)  h)
/-! visit(I)V -/
def wpM_X3_visit (ρ : yMS) (x1 : Int32) (K : yMS → Prop) : Prop :=
  wpM_X3_ofBench ρ x1 (0 : Int32) (fun r2 ρ1 => wpM_X3_ofBench ρ1 x1 (1 : Int32) (fun r4 ρ3 => mAld ρ3 1 ((13 : Int32) + r2) (fun v5 => (((v5 ≤ r4) → mAld ρ3 1 ((13 : Int32) + r2) (fun v6 => mAld ρ3 1 ((13 : Int32) + r2) (fun v7 => mAst ρ3 1 ((13 : Int32) + r2) (v7 - v6) (fun ρ8 => mAld ρ8 1 (4 : Int32) (fun v9 => mAst ρ8 1 (4 : Int32) (v9 + v6) (fun ρ10 => mAst ρ10 1 (((118 : Int32) + ((3 : Int32) * x1)) + (1 : Int32)) (0 : Int32) (fun ρ11 => K ρ11))))))) ∧ (¬ (v5 ≤ r4) → wpM_X3_ofBench ρ3 x1 (1 : Int32) (fun r13 ρ12 => mAld ρ12 1 ((13 : Int32) + r2) (fun v14 => mAst ρ12 1 ((13 : Int32) + r2) (v14 - r13) (fun ρ15 => mAld ρ15 1 (4 : Int32) (fun v16 => mAst ρ15 1 (4 : Int32) (v16 + r13) (fun ρ17 => mAst ρ17 1 (((118 : Int32) + ((3 : Int32) * x1)) + (1 : Int32)) (0 : Int32) (fun ρ18 => K ρ18)))))))))))
theorem okM_X3_visit {en : yEn} {mb : Nat → Nat} {σ : yH} (hM : mOK en mb σ) {d : Nat} (hd : 2 ≤ d + 1) {ρ : yMS} {x1 : Int32} {K : yMS → Prop} {X : String → Addr → yH → Prop} {k n : Nat}  (h : wpM_X3_visit ρ x1 K) : Wx en (d + 1) mX3_visit 0 [(0, .ref (mb 0)), (1, .int x1)] [] (mH en mb ρ σ) k n (mQ en mb σ (mV K)) X := by
  unfold wpM_X3_visit at h
  refine sd_bipush (pc := 0) dX3_visit_0 (v := 13) (by decide) ?_
  refine sd_aload_n (pc := 2) dX3_visit_2 rfl 0 rfl ?_
  refine sd_iload_n (pc := 3) dX3_visit_3 rfl 1 rfl ?_
  refine sd_iconst (pc := 4) dX3_visit_4 (v := 0) (by decide) ?_
  refine sd_callV (k := k) (n := n) (d0 := d) (k0 := 0) (n0 := 0) (As := [.int x1, .int (0 : Int32)]) (st := [.int (13 : Int32)]) (pc := 5) dX3_visit_5 (ci := 2) rfl (mo_isC hM) rfl q2371 q2373 qs52 q91 q2374 2 (by decide +kernel) rfl (Nat.le_refl _) (by decide) (Nat.le_of_ble_eq_true rfl) (Cx.mono (cm_X3_ofBench hM (by omega)  h) (mI.to (fun r2 ρ1 h => ?_)) (xo rfl))
  refine sd_iadd (pc := 8) dX3_visit_8 ?_
  refine sd_istore_n (pc := 9) dX3_visit_9 rfl (by decide) (ls' := [(2, .int ((13 : Int32) + r2)), (0, .ref (mb 0)), (1, .int x1)]) rfl ?_
  refine sd_aload_n (pc := 10) dX3_visit_10 rfl 1 rfl ?_
  refine sd_iload_n (pc := 11) dX3_visit_11 rfl 2 rfl ?_
  refine sd_iconst (pc := 12) dX3_visit_12 (v := 1) (by decide) ?_
  refine sd_callV (k := k) (n := n) (d0 := d) (k0 := 0) (n0 := 0) (As := [.int x1, .int (1 : Int32)]) (st := []) (pc := 13) dX3_visit_13 (ci := 2) rfl (mo_isC hM) rfl q2371 q2373 qs52 q91 q2374 2 (by decide +kernel) rfl (Nat.le_refl _) (by decide) (Nat.le_of_ble_eq_true rfl) (Cx.mono (cm_X3_ofBench hM (by omega)  h) (mI.to (fun r4 ρ3 h => ?_)) (xo rfl))
  refine sd_aload_n (pc := 16) dX3_visit_16 rfl 1 rfl ?_
  refine sd_getR (pc := 17) dX3_visit_17 (ci := 2) rfl in_X3 (kf := 1) (by decide) q2074 (mo_gR hM (j := 1) rfl ?_)
  refine sd_iload_n (pc := 20) dX3_visit_20 rfl 0 rfl ?_
  refine sd_iaload (pc := 21) dX3_visit_21 (mAld.to hM h (fun v5 h => ?_))
  refine sd_icmpge (pc := 22) dX3_visit_22 (tgt := 34) (by decide) ⟨fun c19 => ?_, fun c19 => ?_⟩
  · have h := h.1 c19
    refine sd_aload_n (pc := 34) dX3_visit_34 rfl 1 rfl ?_
    refine sd_getR (pc := 35) dX3_visit_35 (ci := 2) rfl in_X3 (kf := 1) (by decide) q2074 (mo_gR hM (j := 1) rfl ?_)
    refine sd_iload_n (pc := 38) dX3_visit_38 rfl 0 rfl ?_
    refine sd_iaload (pc := 39) dX3_visit_39 (mAld.to hM h (fun v6 h => ?_))
    refine sd_istore_n (pc := 40) dX3_visit_40 rfl (by decide) (ls' := [(3, .int v6), (2, .int ((13 : Int32) + r2)), (0, .ref (mb 0)), (1, .int x1)]) rfl ?_
    refine sd_aload_n (pc := 41) dX3_visit_41 rfl 2 rfl ?_
    refine sd_getR (pc := 42) dX3_visit_42 (ci := 2) rfl in_X3 (kf := 1) (by decide) q2074 (mo_gR hM (j := 1) rfl ?_)
    refine sd_iload_n (pc := 45) dX3_visit_45 rfl 1 rfl ?_
    refine sd_dup2 (pc := 46) dX3_visit_46 rfl rfl ?_
    refine sd_iaload (pc := 47) dX3_visit_47 (mAld.to hM h (fun v7 h => ?_))
    refine sd_iload_n (pc := 48) dX3_visit_48 rfl 0 rfl ?_
    refine sd_isub (pc := 49) dX3_visit_49 ?_
    refine sd_iastore (pc := 50) dX3_visit_50 (mAst.to hM h (fun ρ8 h => ?_))
    refine sd_aload_n (pc := 51) dX3_visit_51 rfl 2 rfl ?_
    refine sd_getR (pc := 52) dX3_visit_52 (ci := 2) rfl in_X3 (kf := 1) (by decide) q2074 (mo_gR hM (j := 1) rfl ?_)
    refine sd_iconst (pc := 55) dX3_visit_55 (v := 4) (by decide) ?_
    refine sd_dup2 (pc := 56) dX3_visit_56 rfl rfl ?_
    refine sd_iaload (pc := 57) dX3_visit_57 (mAld.to hM h (fun v9 h => ?_))
    refine sd_iload_n (pc := 58) dX3_visit_58 rfl 0 rfl ?_
    refine sd_iadd (pc := 59) dX3_visit_59 ?_
    refine sd_iastore (pc := 60) dX3_visit_60 (mAst.to hM h (fun ρ10 h => ?_))
    refine sd_aload_n (pc := 61) dX3_visit_61 rfl 2 rfl ?_
    refine sd_getR (pc := 62) dX3_visit_62 (ci := 2) rfl in_X3 (kf := 1) (by decide) q2074 (mo_gR hM (j := 1) rfl ?_)
    refine sd_bipush (pc := 65) dX3_visit_65 (v := 118) (by decide) ?_
    refine sd_iconst (pc := 67) dX3_visit_67 (v := 3) (by decide) ?_
    refine sd_iload_n (pc := 68) dX3_visit_68 rfl 3 rfl ?_
    refine sd_imul (pc := 69) dX3_visit_69 ?_
    refine sd_iadd (pc := 70) dX3_visit_70 ?_
    refine sd_iconst (pc := 71) dX3_visit_71 (v := 1) (by decide) ?_
    refine sd_iadd (pc := 72) dX3_visit_72 ?_
    refine sd_iconst (pc := 73) dX3_visit_73 (v := 0) (by decide) ?_
    refine sd_iastore (pc := 74) dX3_visit_74 (mAst.to hM h (fun ρ11 h => ?_))
    exact sd_return (pc := 75) dX3_visit_75 rfl (mV.ok h)
  · have h := h.2 c19
    refine sd_aload_n (pc := 25) dX3_visit_25 rfl 1 rfl ?_
    refine sd_iload_n (pc := 26) dX3_visit_26 rfl 2 rfl ?_
    refine sd_iconst (pc := 27) dX3_visit_27 (v := 1) (by decide) ?_
    refine sd_callV (k := k) (n := n) (d0 := d) (k0 := 0) (n0 := 0) (As := [.int x1, .int (1 : Int32)]) (st := []) (pc := 28) dX3_visit_28 (ci := 2) rfl (mo_isC hM) rfl q2371 q2373 qs52 q91 q2374 2 (by decide +kernel) rfl (Nat.le_refl _) (by decide) (Nat.le_of_ble_eq_true rfl) (Cx.mono (cm_X3_ofBench hM (by omega)  h) (mI.to (fun r13 ρ12 h => ?_)) (xo rfl))
    refine sd_goto (pc := 31) dX3_visit_31 (tgt := 40) (by decide) ?_
    refine sd_istore_n (pc := 40) dX3_visit_40 rfl (by decide) (ls' := [(3, .int r13), (2, .int ((13 : Int32) + r2)), (0, .ref (mb 0)), (1, .int x1)]) rfl ?_
    refine sd_aload_n (pc := 41) dX3_visit_41 rfl 2 rfl ?_
    refine sd_getR (pc := 42) dX3_visit_42 (ci := 2) rfl in_X3 (kf := 1) (by decide) q2074 (mo_gR hM (j := 1) rfl ?_)
    refine sd_iload_n (pc := 45) dX3_visit_45 rfl 1 rfl ?_
    refine sd_dup2 (pc := 46) dX3_visit_46 rfl rfl ?_
    refine sd_iaload (pc := 47) dX3_visit_47 (mAld.to hM h (fun v14 h => ?_))
    refine sd_iload_n (pc := 48) dX3_visit_48 rfl 0 rfl ?_
    refine sd_isub (pc := 49) dX3_visit_49 ?_
    refine sd_iastore (pc := 50) dX3_visit_50 (mAst.to hM h (fun ρ15 h => ?_))
    refine sd_aload_n (pc := 51) dX3_visit_51 rfl 2 rfl ?_
    refine sd_getR (pc := 52) dX3_visit_52 (ci := 2) rfl in_X3 (kf := 1) (by decide) q2074 (mo_gR hM (j := 1) rfl ?_)
    refine sd_iconst (pc := 55) dX3_visit_55 (v := 4) (by decide) ?_
    refine sd_dup2 (pc := 56) dX3_visit_56 rfl rfl ?_
    refine sd_iaload (pc := 57) dX3_visit_57 (mAld.to hM h (fun v16 h => ?_))
    refine sd_iload_n (pc := 58) dX3_visit_58 rfl 0 rfl ?_
    refine sd_iadd (pc := 59) dX3_visit_59 ?_
    refine sd_iastore (pc := 60) dX3_visit_60 (mAst.to hM h (fun ρ17 h => ?_))
    refine sd_aload_n (pc := 61) dX3_visit_61 rfl 2 rfl ?_
    refine sd_getR (pc := 62) dX3_visit_62 (ci := 2) rfl in_X3 (kf := 1) (by decide) q2074 (mo_gR hM (j := 1) rfl ?_)
    refine sd_bipush (pc := 65) dX3_visit_65 (v := 118) (by decide) ?_
    refine sd_iconst (pc := 67) dX3_visit_67 (v := 3) (by decide) ?_
    refine sd_iload_n (pc := 68) dX3_visit_68 rfl 3 rfl ?_
    refine sd_imul (pc := 69) dX3_visit_69 ?_
    refine sd_iadd (pc := 70) dX3_visit_70 ?_
    refine sd_iconst (pc := 71) dX3_visit_71 (v := 1) (by decide) ?_
    refine sd_iadd (pc := 72) dX3_visit_72 ?_
    refine sd_iconst (pc := 73) dX3_visit_73 (v := 0) (by decide) ?_
    refine sd_iastore (pc := 74) dX3_visit_74 (mAst.to hM h (fun ρ18 h => ?_))
    exact sd_return (pc := 75) dX3_visit_75 rfl (mV.ok h)
theorem cm_X3_visit {en : yEn} {mb : Nat → Nat} {σ : yH} (hM : mOK en mb σ) {d : Nat} (hd : 2 ≤ d) {ρ : yMS} {x1 : Int32} {K : yMS → Prop} {X : String → Addr → yH → Prop}  (h : wpM_X3_visit ρ x1 K) : Cx en d 0 0 mX3_visit [.ref (mb 0), .int x1] (mH en mb ρ σ) (mQ en mb σ (mV K)) X := by
  obtain ⟨d, rfl⟩ : ∃ e, d = e + 1 := ⟨d - 1, by omega⟩
  exact Cx.body (by decide +kernel) rfl (Nat.le_of_ble_eq_true rfl) (okM_X3_visit hM (by omega)  h)
/-! voices()I -/
def stM_X3_voices_4 (K : Int32 → yMS → Prop) (rec : Int32 → Int32 → yMS → Prop) (l1 : Int32) (l2 : Int32) (ρ : yMS) : Prop :=
  mAld ρ 1 (10 : Int32) (fun v1 => (((v1 ≤ l2) → K l1 ρ) ∧ (¬ (v1 ≤ l2) → wpM_X3_of ρ l2 (1 : Int32) (fun r3 ρ2 => wpM_X3_isHen ρ2 l2 (fun r9 ρ8 => ((¬ (r9 = 0) → rec (l1 + (0 : Int32)) (l2 + (1 : Int32)) ρ8) ∧ ((r9 = 0) → ((((if (r3 = 0) then (1 : Int32) else (if (r3 = (2 : Int32)) then (1 : Int32) else (if (r3 = (6 : Int32)) then (1 : Int32) else (if (r3 = (8 : Int32)) then (1 : Int32) else (0 : Int32))))) = 0) → rec (l1 + (0 : Int32)) (l2 + (1 : Int32)) ρ8) ∧ (¬ ((if (r3 = 0) then (1 : Int32) else (if (r3 = (2 : Int32)) then (1 : Int32) else (if (r3 = (6 : Int32)) then (1 : Int32) else (if (r3 = (8 : Int32)) then (1 : Int32) else (0 : Int32))))) = 0) → wpM_X3_of ρ8 l2 (3 : Int32) (fun r11 ρ10 => rec (l1 + r11) (l2 + (1 : Int32)) ρ10))))))))))
def lpM_X3_voices_4 (K : Int32 → yMS → Prop) : Nat → Int32 × Int32 × yMS → Prop := lpN (fun r s => stM_X3_voices_4  K (fun l1 l2 ρ => r (l1, l2, ρ)) s.1 s.2.1 s.2.2)
def wpM_X3_voices_4 (l1 : Int32) (l2 : Int32) (ρ : yMS) (K : Int32 → yMS → Prop) : Prop := ∃ nn, lpM_X3_voices_4  K nn (l1, l2, ρ)
theorem olM_X3_voices_4 {en : yEn} {mb : Nat → Nat} {σ : yH} (hM : mOK en mb σ) {d : Nat} (hd : 3 ≤ d + 1) {K : Int32 → yMS → Prop} {X : String → Addr → yH → Prop} {k n : Nat} : ∀ (nn : Nat) (l1 : Int32) (l2 : Int32) (ρ : yMS), lpM_X3_voices_4  K nn (l1, l2, ρ) → Wx en (d + 1) mX3_voices 4 [(0, .ref (mb 0)), (1, .int l1), (2, .int l2)] [] (mH en mb ρ σ) k n (mQ en mb σ (mI K)) X := by
  intro nn
  induction nn with
  | zero => intros; rename_i h; exact h.elim
  | succ nn ih =>
    intro l1 l2 ρ h
    replace h : stM_X3_voices_4  K (fun l1 l2 ρ => lpM_X3_voices_4  K nn (l1, l2, ρ)) l1 l2 ρ := h
    unfold stM_X3_voices_4 at h
    refine sd_iload_n (pc := 4) dX3_voices_4 rfl 2 rfl ?_
    refine sd_aload_n (pc := 5) dX3_voices_5 rfl 0 rfl ?_
    refine sd_getR (pc := 6) dX3_voices_6 (ci := 2) rfl in_X3 (kf := 1) (by decide) q2074 (mo_gR hM (j := 1) rfl ?_)
    refine sd_bipush (pc := 9) dX3_voices_9 (v := 10) (by decide) ?_
    refine sd_iaload (pc := 11) dX3_voices_11 (mAld.to hM h (fun v1 h => ?_))
    refine sd_icmpge (pc := 12) dX3_voices_12 (tgt := 82) (by decide) ⟨fun c14 => ?_, fun c14 => ?_⟩
    · have h := h.1 c14
      refine sd_iload_n (pc := 82) dX3_voices_82 rfl 1 rfl ?_
      exact sd_ireturn (pc := 83) dX3_voices_83 (ty0 := .int) rfl rfl (mI.ok h)
    · have h := h.2 c14
      refine sd_aload_n (pc := 15) dX3_voices_15 rfl 0 rfl ?_
      refine sd_iload_n (pc := 16) dX3_voices_16 rfl 2 rfl ?_
      refine sd_iconst (pc := 17) dX3_voices_17 (v := 1) (by decide) ?_
      refine sd_callV (k := k) (n := n) (d0 := d) (k0 := 0) (n0 := 0) (As := [.int l2, .int (1 : Int32)]) (st := []) (pc := 18) dX3_voices_18 (ci := 2) rfl (mo_isC hM) rfl q2228 q2230 qs36 q91 q2231 2 (by decide +kernel) rfl (Nat.le_refl _) (by decide) (Nat.le_of_ble_eq_true rfl) (Cx.mono (cm_X3_of hM (by omega)  h) (mI.to (fun r3 ρ2 h => ?_)) (xo rfl))
      refine sd_istore_n (pc := 21) dX3_voices_21 rfl (by decide) (ls' := [(3, .int r3), (0, .ref (mb 0)), (1, .int l1), (2, .int l2)]) rfl ?_
      refine sd_iload_n (pc := 22) dX3_voices_22 rfl 0 rfl ?_
      have h15 : Wx en (d + 1) mX3_voices 48 [(3, .int r3), (0, .ref (mb 0)), (1, .int l1), (2, .int l2)] (.int (if (r3 = 0) then (1 : Int32) else (if (r3 = (2 : Int32)) then (1 : Int32) else (if (r3 = (6 : Int32)) then (1 : Int32) else (if (r3 = (8 : Int32)) then (1 : Int32) else (0 : Int32))))) :: []) (mH en mb ρ2 σ) k n (mQ en mb σ (mI K)) X := by
        refine sd_istore (pc := 48) dX3_voices_48 (by decide) (ls' := [(4, .int (if (r3 = 0) then (1 : Int32) else (if (r3 = (2 : Int32)) then (1 : Int32) else (if (r3 = (6 : Int32)) then (1 : Int32) else (if (r3 = (8 : Int32)) then (1 : Int32) else (0 : Int32)))))), (3, .int r3), (0, .ref (mb 0)), (1, .int l1), (2, .int l2)]) rfl ?_
        refine sd_iload_n (pc := 50) dX3_voices_50 rfl 3 rfl ?_
        refine sd_aload_n (pc := 51) dX3_voices_51 rfl 2 rfl ?_
        refine sd_iload_n (pc := 52) dX3_voices_52 rfl 4 rfl ?_
        refine sd_callV (k := k) (n := n) (d0 := d) (k0 := 0) (n0 := 0) (As := [.int l2]) (st := [.int l1]) (pc := 53) dX3_voices_53 (ci := 2) rfl (mo_isC hM) rfl q2224 q2226 qs35 q91 q2227 1 (by decide +kernel) rfl (Nat.le_refl _) (by decide) (Nat.le_of_ble_eq_true rfl) (Cx.mono (cm_X3_isHen hM (by omega)  h) (mI.to (fun r9 ρ8 h => ?_)) (xo rfl))
        refine sd_ifne (pc := 56) dX3_voices_56 (tgt := 73) (by decide) ⟨fun c13 => ?_, fun c13 => ?_⟩
        · have h := h.1 c13
          refine sd_iconst (pc := 73) dX3_voices_73 (v := 0) (by decide) ?_
          refine sd_iadd (pc := 74) dX3_voices_74 ?_
          refine sd_istore_n (pc := 75) dX3_voices_75 rfl (by decide) (ls' := [(1, .int (l1 + (0 : Int32))), (4, .int (if (r3 = 0) then (1 : Int32) else (if (r3 = (2 : Int32)) then (1 : Int32) else (if (r3 = (6 : Int32)) then (1 : Int32) else (if (r3 = (8 : Int32)) then (1 : Int32) else (0 : Int32)))))), (3, .int r3), (0, .ref (mb 0)), (2, .int l2)]) rfl ?_
          refine sd_iinc (pc := 76) dX3_voices_76 4 rfl (v := (l2 + (1 : Int32))) rfl (by decide) (ls' := [(2, .int (l2 + (1 : Int32))), (1, .int (l1 + (0 : Int32))), (4, .int (if (r3 = 0) then (1 : Int32) else (if (r3 = (2 : Int32)) then (1 : Int32) else (if (r3 = (6 : Int32)) then (1 : Int32) else (if (r3 = (8 : Int32)) then (1 : Int32) else (0 : Int32)))))), (3, .int r3), (0, .ref (mb 0))]) rfl ?_
          refine sd_goto (pc := 79) dX3_voices_79 (tgt := 4) (by decide) ?_
          exact sd_loc [4, 1, 0] rfl (ih _ _ _ h)
        · have h := h.2 c13
          refine sd_iload (pc := 59) dX3_voices_59 0 rfl ?_
          refine sd_ifeq (pc := 61) dX3_voices_61 (tgt := 73) (by decide) ⟨fun c12 => ?_, fun c12 => ?_⟩
          · have h := h.1 c12
            refine sd_iconst (pc := 73) dX3_voices_73 (v := 0) (by decide) ?_
            refine sd_iadd (pc := 74) dX3_voices_74 ?_
            refine sd_istore_n (pc := 75) dX3_voices_75 rfl (by decide) (ls' := [(1, .int (l1 + (0 : Int32))), (4, .int (if (r3 = 0) then (1 : Int32) else (if (r3 = (2 : Int32)) then (1 : Int32) else (if (r3 = (6 : Int32)) then (1 : Int32) else (if (r3 = (8 : Int32)) then (1 : Int32) else (0 : Int32)))))), (3, .int r3), (0, .ref (mb 0)), (2, .int l2)]) rfl ?_
            refine sd_iinc (pc := 76) dX3_voices_76 4 rfl (v := (l2 + (1 : Int32))) rfl (by decide) (ls' := [(2, .int (l2 + (1 : Int32))), (1, .int (l1 + (0 : Int32))), (4, .int (if (r3 = 0) then (1 : Int32) else (if (r3 = (2 : Int32)) then (1 : Int32) else (if (r3 = (6 : Int32)) then (1 : Int32) else (if (r3 = (8 : Int32)) then (1 : Int32) else (0 : Int32)))))), (3, .int r3), (0, .ref (mb 0))]) rfl ?_
            refine sd_goto (pc := 79) dX3_voices_79 (tgt := 4) (by decide) ?_
            exact sd_loc [4, 1, 0] rfl (ih _ _ _ h)
          · have h := h.2 c12
            refine sd_aload_n (pc := 64) dX3_voices_64 rfl 2 rfl ?_
            refine sd_iload_n (pc := 65) dX3_voices_65 rfl 4 rfl ?_
            refine sd_iconst (pc := 66) dX3_voices_66 (v := 3) (by decide) ?_
            refine sd_callV (k := k) (n := n) (d0 := d) (k0 := 0) (n0 := 0) (As := [.int l2, .int (3 : Int32)]) (st := [.int l1]) (pc := 67) dX3_voices_67 (ci := 2) rfl (mo_isC hM) rfl q2228 q2230 qs36 q91 q2231 2 (by decide +kernel) rfl (Nat.le_refl _) (by decide) (Nat.le_of_ble_eq_true rfl) (Cx.mono (cm_X3_of hM (by omega)  h) (mI.to (fun r11 ρ10 h => ?_)) (xo rfl))
            refine sd_goto (pc := 70) dX3_voices_70 (tgt := 74) (by decide) ?_
            refine sd_iadd (pc := 74) dX3_voices_74 ?_
            refine sd_istore_n (pc := 75) dX3_voices_75 rfl (by decide) (ls' := [(1, .int (l1 + r11)), (4, .int (if (r3 = 0) then (1 : Int32) else (if (r3 = (2 : Int32)) then (1 : Int32) else (if (r3 = (6 : Int32)) then (1 : Int32) else (if (r3 = (8 : Int32)) then (1 : Int32) else (0 : Int32)))))), (3, .int r3), (0, .ref (mb 0)), (2, .int l2)]) rfl ?_
            refine sd_iinc (pc := 76) dX3_voices_76 4 rfl (v := (l2 + (1 : Int32))) rfl (by decide) (ls' := [(2, .int (l2 + (1 : Int32))), (1, .int (l1 + r11)), (4, .int (if (r3 = 0) then (1 : Int32) else (if (r3 = (2 : Int32)) then (1 : Int32) else (if (r3 = (6 : Int32)) then (1 : Int32) else (if (r3 = (8 : Int32)) then (1 : Int32) else (0 : Int32)))))), (3, .int r3), (0, .ref (mb 0))]) rfl ?_
            refine sd_goto (pc := 79) dX3_voices_79 (tgt := 4) (by decide) ?_
            exact sd_loc [4, 1, 0] rfl (ih _ _ _ h)
      have e16 := sd_iteI h15
      refine sd_ifeq (pc := 23) dX3_voices_23 (tgt := 43) (by decide) ⟨fun c7 => ?_, fun c7 => ?_⟩
      · refine sd_iconst (pc := 43) dX3_voices_43 (v := 1) (by decide) ?_
        refine sd_goto (pc := 44) dX3_voices_44 (tgt := 48) (by decide) ?_
        exact (e16.1 c7)
      · refine sd_iload_n (pc := 26) dX3_voices_26 rfl 0 rfl ?_
        refine sd_iconst (pc := 27) dX3_voices_27 (v := 2) (by decide) ?_
        have e17 := sd_iteI (e16.2 c7)
        refine sd_icmpeq (pc := 28) dX3_voices_28 (tgt := 43) (by decide) ⟨fun c6 => ?_, fun c6 => ?_⟩
        · refine sd_iconst (pc := 43) dX3_voices_43 (v := 1) (by decide) ?_
          refine sd_goto (pc := 44) dX3_voices_44 (tgt := 48) (by decide) ?_
          exact (e17.1 c6)
        · refine sd_iload_n (pc := 31) dX3_voices_31 rfl 0 rfl ?_
          refine sd_bipush (pc := 32) dX3_voices_32 (v := 6) (by decide) ?_
          have e18 := sd_iteI (e17.2 c6)
          refine sd_icmpeq (pc := 34) dX3_voices_34 (tgt := 43) (by decide) ⟨fun c5 => ?_, fun c5 => ?_⟩
          · refine sd_iconst (pc := 43) dX3_voices_43 (v := 1) (by decide) ?_
            refine sd_goto (pc := 44) dX3_voices_44 (tgt := 48) (by decide) ?_
            exact (e18.1 c5)
          · refine sd_iload_n (pc := 37) dX3_voices_37 rfl 0 rfl ?_
            refine sd_bipush (pc := 38) dX3_voices_38 (v := 8) (by decide) ?_
            have e19 := sd_iteIN (e18.2 c5)
            refine sd_icmpne (pc := 40) dX3_voices_40 (tgt := 47) (by decide) ⟨fun c4 => ?_, fun c4 => ?_⟩
            · refine sd_iconst (pc := 47) dX3_voices_47 (v := 0) (by decide) ?_
              exact (e19.1 c4)
            · refine sd_iconst (pc := 43) dX3_voices_43 (v := 1) (by decide) ?_
              refine sd_goto (pc := 44) dX3_voices_44 (tgt := 48) (by decide) ?_
              exact (e19.2 c4)
theorem okM_X3_voices_4 {en : yEn} {mb : Nat → Nat} {σ : yH} (hM : mOK en mb σ) {d : Nat} (hd : 3 ≤ d + 1) {K : Int32 → yMS → Prop} {X : String → Addr → yH → Prop} {k n : Nat} (l1 : Int32) (l2 : Int32) (ρ : yMS) (h : wpM_X3_voices_4  l1 l2 ρ K) : Wx en (d + 1) mX3_voices 4 [(0, .ref (mb 0)), (1, .int l1), (2, .int l2)] [] (mH en mb ρ σ) k n (mQ en mb σ (mI K)) X := by
  obtain ⟨nn, h⟩ := h
  exact olM_X3_voices_4 hM hd  nn _ _ _ h
def wpM_X3_voices (ρ : yMS)  (K : Int32 → yMS → Prop) : Prop :=
  wpM_X3_voices_4  (0 : Int32) (0 : Int32) ρ K
theorem okM_X3_voices {en : yEn} {mb : Nat → Nat} {σ : yH} (hM : mOK en mb σ) {d : Nat} (hd : 3 ≤ d + 1) {ρ : yMS}  {K : Int32 → yMS → Prop} {X : String → Addr → yH → Prop} {k n : Nat}  (h : wpM_X3_voices ρ  K) : Wx en (d + 1) mX3_voices 0 [(0, .ref (mb 0))] [] (mH en mb ρ σ) k n (mQ en mb σ (mI K)) X := by
  unfold wpM_X3_voices at h
  refine sd_iconst (pc := 0) dX3_voices_0 (v := 0) (by decide) ?_
  refine sd_istore_n (pc := 1) dX3_voices_1 rfl (by decide) (ls' := [(1, .int (0 : Int32)), (0, .ref (mb 0))]) rfl ?_
  refine sd_iconst (pc := 2) dX3_voices_2 (v := 0) (by decide) ?_
  refine sd_istore_n (pc := 3) dX3_voices_3 rfl (by decide) (ls' := [(2, .int (0 : Int32)), (1, .int (0 : Int32)), (0, .ref (mb 0))]) rfl ?_
  exact sd_loc [2, 1, 0] rfl (okM_X3_voices_4 hM (by omega)  _ _ _ h)
theorem cm_X3_voices {en : yEn} {mb : Nat → Nat} {σ : yH} (hM : mOK en mb σ) {d : Nat} (hd : 3 ≤ d) {ρ : yMS}  {K : Int32 → yMS → Prop} {X : String → Addr → yH → Prop}  (h : wpM_X3_voices ρ  K) : Cx en d 0 0 mX3_voices [.ref (mb 0)] (mH en mb ρ σ) (mQ en mb σ (mI K)) X := by
  obtain ⟨d, rfl⟩ : ∃ e, d = e + 1 := ⟨d - 1, by omega⟩
  exact Cx.body (by decide +kernel) rfl (Nat.le_of_ble_eq_true rfl) (okM_X3_voices hM (by omega)  h)
/-! goDay()V -/
def stM_X3_goDay_137 (K : yMS → Prop) (rec : Int32 → yMS → Prop) (l2 : Int32) (ρ : yMS) : Prop :=
  mAld ρ 1 (11 : Int32) (fun v33 => (((v33 ≤ l2) → K ρ) ∧ (¬ (v33 ≤ l2) → wpM_X3_ofKeeper ρ l2 (1 : Int32) (fun r35 ρ34 => wpM_X3_addKeeper ρ34 l2 (1 : Int32) ((6 : Int32) - r35) (fun ρ36 => rec (l2 + (1 : Int32)) ρ36)))))
def lpM_X3_goDay_137 (K : yMS → Prop) : Nat → Int32 × yMS → Prop := lpN (fun r s => stM_X3_goDay_137  K (fun l2 ρ => r (l2, ρ)) s.1 s.2)
def wpM_X3_goDay_137 (l2 : Int32) (ρ : yMS) (K : yMS → Prop) : Prop := ∃ nn, lpM_X3_goDay_137  K nn (l2, ρ)
theorem olM_X3_goDay_137 {en : yEn} {mb : Nat → Nat} {σ : yH} (hM : mOK en mb σ) {d : Nat} (hd : 7 ≤ d + 1) {K : yMS → Prop} {X : String → Addr → yH → Prop} {k n : Nat} : ∀ (nn : Nat) (l2 : Int32) (ρ : yMS), lpM_X3_goDay_137  K nn (l2, ρ) → Wx en (d + 1) mX3_goDay 137 [(0, .ref (mb 0)), (2, .int l2)] [] (mH en mb ρ σ) k n (mQ en mb σ (mV K)) X := by
  intro nn
  induction nn with
  | zero => intros; rename_i h; exact h.elim
  | succ nn ih =>
    intro l2 ρ h
    replace h : stM_X3_goDay_137  K (fun l2 ρ => lpM_X3_goDay_137  K nn (l2, ρ)) l2 ρ := h
    unfold stM_X3_goDay_137 at h
    refine sd_iload_n (pc := 137) dX3_goDay_137 rfl 1 rfl ?_
    refine sd_aload_n (pc := 138) dX3_goDay_138 rfl 0 rfl ?_
    refine sd_getR (pc := 139) dX3_goDay_139 (ci := 2) rfl in_X3 (kf := 1) (by decide) q2074 (mo_gR hM (j := 1) rfl ?_)
    refine sd_bipush (pc := 142) dX3_goDay_142 (v := 11) (by decide) ?_
    refine sd_iaload (pc := 144) dX3_goDay_144 (mAld.to hM h (fun v33 h => ?_))
    refine sd_icmpge (pc := 145) dX3_goDay_145 (tgt := 169) (by decide) ⟨fun c37 => ?_, fun c37 => ?_⟩
    · have h := h.1 c37
      exact sd_return (pc := 169) dX3_goDay_169 rfl (mV.ok h)
    · have h := h.2 c37
      refine sd_aload_n (pc := 148) dX3_goDay_148 rfl 0 rfl ?_
      refine sd_iload_n (pc := 149) dX3_goDay_149 rfl 1 rfl ?_
      refine sd_iconst (pc := 150) dX3_goDay_150 (v := 1) (by decide) ?_
      refine sd_bipush (pc := 151) dX3_goDay_151 (v := 6) (by decide) ?_
      refine sd_aload_n (pc := 153) dX3_goDay_153 rfl 0 rfl ?_
      refine sd_iload_n (pc := 154) dX3_goDay_154 rfl 1 rfl ?_
      refine sd_iconst (pc := 155) dX3_goDay_155 (v := 1) (by decide) ?_
      refine sd_callV (k := k) (n := n) (d0 := d) (k0 := 0) (n0 := 0) (As := [.int l2, .int (1 : Int32)]) (st := [.int (6 : Int32), .int (1 : Int32), .int l2, .ref (mb 0)]) (pc := 156) dX3_goDay_156 (ci := 2) rfl (mo_isC hM) rfl q2320 q2322 qs46 q91 q2323 2 (by decide +kernel) rfl (Nat.le_refl _) (by decide) (Nat.le_of_ble_eq_true rfl) (Cx.mono (cm_X3_ofKeeper hM (by omega)  h) (mI.to (fun r35 ρ34 h => ?_)) (xo rfl))
      refine sd_isub (pc := 159) dX3_goDay_159 ?_
      refine sd_callV (k := k) (n := n) (d0 := d) (k0 := 0) (n0 := 0) (As := [.int l2, .int (1 : Int32), .int ((6 : Int32) - r35)]) (st := []) (pc := 160) dX3_goDay_160 (ci := 2) rfl (mo_isC hM) rfl q2335 q2337 qs48 q91 q2338 3 (by decide +kernel) rfl (Nat.le_refl _) (by decide) (Nat.le_of_ble_eq_true rfl) (Cx.mono (cm_X3_addKeeper hM (by omega)  h) (mV.to (fun ρ36 h => ?_)) (xo rfl))
      refine sd_iinc (pc := 163) dX3_goDay_163 1 rfl (v := (l2 + (1 : Int32))) rfl (by decide) (ls' := [(2, .int (l2 + (1 : Int32))), (0, .ref (mb 0))]) rfl ?_
      refine sd_goto (pc := 166) dX3_goDay_166 (tgt := 137) (by decide) ?_
      exact sd_loc [1, 0] rfl (ih _ _ h)
theorem okM_X3_goDay_137 {en : yEn} {mb : Nat → Nat} {σ : yH} (hM : mOK en mb σ) {d : Nat} (hd : 7 ≤ d + 1) {K : yMS → Prop} {X : String → Addr → yH → Prop} {k n : Nat} (l2 : Int32) (ρ : yMS) (h : wpM_X3_goDay_137  l2 ρ K) : Wx en (d + 1) mX3_goDay 137 [(0, .ref (mb 0)), (2, .int l2)] [] (mH en mb ρ σ) k n (mQ en mb σ (mV K)) X := by
  obtain ⟨nn, h⟩ := h
  exact olM_X3_goDay_137 hM hd  nn _ _ h
def stM_X3_goDay_50 (K : yMS → Prop) (rec : Int32 → yMS → Prop) (l1 : Int32) (ρ : yMS) : Prop :=
  mAld ρ 1 (12 : Int32) (fun v10 => (((v10 ≤ l1) → wpM_X3_sitAll ρ  (fun ρ11 => wpM_X3_prowl ρ11  (fun ρ12 => wpM_X3_voices ρ12  (fun r14 ρ13 => ((((12 : Int32) < r14) → mAld ρ13 1 (2 : Int32) (fun v15 => ((((3 : Int32) ≤ v15) → mAld ρ13 1 (2 : Int32) (fun v16 => mAst ρ13 1 (2 : Int32) (v16 - (3 : Int32)) (fun ρ17 => mAld ρ17 1 (6 : Int32) (fun v18 => mAst ρ17 1 (6 : Int32) (v18 + (3 : Int32)) (fun ρ19 => wpM_X3_goDay_137  (0 : Int32) ρ19 K))))) ∧ (¬ ((3 : Int32) ≤ v15) → mAld ρ13 1 (2 : Int32) (fun v20 => mAld ρ13 1 (2 : Int32) (fun v21 => mAst ρ13 1 (2 : Int32) (v21 - v20) (fun ρ22 => mAld ρ22 1 (6 : Int32) (fun v23 => mAst ρ22 1 (6 : Int32) (v23 + v20) (fun ρ24 => wpM_X3_goDay_137  (0 : Int32) ρ24 K))))))))) ∧ (¬ ((12 : Int32) < r14) → mAld ρ13 1 (2 : Int32) (fun v26 => mAst ρ13 1 (2 : Int32) (v26 - (0 : Int32)) (fun ρ27 => mAld ρ27 1 (6 : Int32) (fun v28 => mAst ρ27 1 (6 : Int32) (v28 + (0 : Int32)) (fun ρ29 => wpM_X3_goDay_137  (0 : Int32) ρ29 K)))))))))) ∧ (¬ (v10 ≤ l1) → wpM_X3_visit ρ l1 (fun ρ31 => rec (l1 + (1 : Int32)) ρ31))))
def lpM_X3_goDay_50 (K : yMS → Prop) : Nat → Int32 × yMS → Prop := lpN (fun r s => stM_X3_goDay_50  K (fun l1 ρ => r (l1, ρ)) s.1 s.2)
def wpM_X3_goDay_50 (l1 : Int32) (ρ : yMS) (K : yMS → Prop) : Prop := ∃ nn, lpM_X3_goDay_50  K nn (l1, ρ)
theorem olM_X3_goDay_50 {en : yEn} {mb : Nat → Nat} {σ : yH} (hM : mOK en mb σ) {d : Nat} (hd : 7 ≤ d + 1) {K : yMS → Prop} {X : String → Addr → yH → Prop} {k n : Nat} : ∀ (nn : Nat) (l1 : Int32) (ρ : yMS), lpM_X3_goDay_50  K nn (l1, ρ) → Wx en (d + 1) mX3_goDay 50 [(0, .ref (mb 0)), (1, .int l1)] [] (mH en mb ρ σ) k n (mQ en mb σ (mV K)) X := by
  intro nn
  induction nn with
  | zero => intros; rename_i h; exact h.elim
  | succ nn ih =>
    intro l1 ρ h
    replace h : stM_X3_goDay_50  K (fun l1 ρ => lpM_X3_goDay_50  K nn (l1, ρ)) l1 ρ := h
    unfold stM_X3_goDay_50 at h
    refine sd_iload_n (pc := 50) dX3_goDay_50 rfl 1 rfl ?_
    refine sd_aload_n (pc := 51) dX3_goDay_51 rfl 0 rfl ?_
    refine sd_getR (pc := 52) dX3_goDay_52 (ci := 2) rfl in_X3 (kf := 1) (by decide) q2074 (mo_gR hM (j := 1) rfl ?_)
    refine sd_bipush (pc := 55) dX3_goDay_55 (v := 12) (by decide) ?_
    refine sd_iaload (pc := 57) dX3_goDay_57 (mAld.to hM h (fun v10 h => ?_))
    refine sd_icmpge (pc := 58) dX3_goDay_58 (tgt := 72) (by decide) ⟨fun c32 => ?_, fun c32 => ?_⟩
    · have h := h.1 c32
      refine sd_aload_n (pc := 72) dX3_goDay_72 rfl 0 rfl ?_
      refine sd_callV (k := k) (n := n) (d0 := d) (k0 := 0) (n0 := 0) (As := []) (st := []) (pc := 73) dX3_goDay_73 (ci := 2) rfl (mo_isC hM) rfl q2407 q2409 qs59 q91 q2410 0 (by decide +kernel) rfl (Nat.le_refl _) (by decide) (Nat.le_of_ble_eq_true rfl) (Cx.mono (cm_X3_sitAll hM (by omega)  h) (mV.to (fun ρ11 h => ?_)) (xo rfl))
      refine sd_aload_n (pc := 76) dX3_goDay_76 rfl 0 rfl ?_
      refine sd_callV (k := k) (n := n) (d0 := d) (k0 := 0) (n0 := 0) (As := []) (st := []) (pc := 77) dX3_goDay_77 (ci := 2) rfl (mo_isC hM) rfl q2415 q2417 qs61 q91 q2418 0 (by decide +kernel) rfl (Nat.le_refl _) (by decide) (Nat.le_of_ble_eq_true rfl) (Cx.mono (cm_X3_prowl hM (by omega)  h) (mV.to (fun ρ12 h => ?_)) (xo rfl))
      refine sd_aload_n (pc := 80) dX3_goDay_80 rfl 0 rfl ?_
      refine sd_callV (k := k) (n := n) (d0 := d) (k0 := 0) (n0 := 0) (As := []) (st := []) (pc := 81) dX3_goDay_81 (ci := 2) rfl (mo_isC hM) rfl q2419 q2421 qs62 q91 q2422 0 (by decide +kernel) rfl (Nat.le_refl _) (by decide) (Nat.le_of_ble_eq_true rfl) (Cx.mono (cm_X3_voices hM (by omega)  h) (mI.to (fun r14 ρ13 h => ?_)) (xo rfl))
      refine sd_bipush (pc := 84) dX3_goDay_84 (v := 12) (by decide) ?_
      refine sd_icmpgt (pc := 86) dX3_goDay_86 (tgt := 93) (by decide) ⟨fun c30 => ?_, fun c30 => ?_⟩
      · have h := h.1 c30
        refine sd_aload_n (pc := 93) dX3_goDay_93 rfl 0 rfl ?_
        refine sd_getR (pc := 94) dX3_goDay_94 (ci := 2) rfl in_X3 (kf := 1) (by decide) q2074 (mo_gR hM (j := 1) rfl ?_)
        refine sd_iconst (pc := 97) dX3_goDay_97 (v := 2) (by decide) ?_
        refine sd_iaload (pc := 98) dX3_goDay_98 (mAld.to hM h (fun v15 h => ?_))
        refine sd_iconst (pc := 99) dX3_goDay_99 (v := 3) (by decide) ?_
        refine sd_icmpge (pc := 100) dX3_goDay_100 (tgt := 112) (by decide) ⟨fun c25 => ?_, fun c25 => ?_⟩
        · have h := h.1 c25
          refine sd_iconst (pc := 112) dX3_goDay_112 (v := 3) (by decide) ?_
          refine sd_istore_n (pc := 113) dX3_goDay_113 rfl (by decide) (ls' := [(1, .int (3 : Int32)), (0, .ref (mb 0))]) rfl ?_
          refine sd_aload_n (pc := 114) dX3_goDay_114 rfl 1 rfl ?_
          refine sd_getR (pc := 115) dX3_goDay_115 (ci := 2) rfl in_X3 (kf := 1) (by decide) q2074 (mo_gR hM (j := 1) rfl ?_)
          refine sd_iconst (pc := 118) dX3_goDay_118 (v := 2) (by decide) ?_
          refine sd_dup2 (pc := 119) dX3_goDay_119 rfl rfl ?_
          refine sd_iaload (pc := 120) dX3_goDay_120 (mAld.to hM h (fun v16 h => ?_))
          refine sd_iload_n (pc := 121) dX3_goDay_121 rfl 0 rfl ?_
          refine sd_isub (pc := 122) dX3_goDay_122 ?_
          refine sd_iastore (pc := 123) dX3_goDay_123 (mAst.to hM h (fun ρ17 h => ?_))
          refine sd_aload_n (pc := 124) dX3_goDay_124 rfl 1 rfl ?_
          refine sd_getR (pc := 125) dX3_goDay_125 (ci := 2) rfl in_X3 (kf := 1) (by decide) q2074 (mo_gR hM (j := 1) rfl ?_)
          refine sd_bipush (pc := 128) dX3_goDay_128 (v := 6) (by decide) ?_
          refine sd_dup2 (pc := 130) dX3_goDay_130 rfl rfl ?_
          refine sd_iaload (pc := 131) dX3_goDay_131 (mAld.to hM h (fun v18 h => ?_))
          refine sd_iload_n (pc := 132) dX3_goDay_132 rfl 0 rfl ?_
          refine sd_iadd (pc := 133) dX3_goDay_133 ?_
          refine sd_iastore (pc := 134) dX3_goDay_134 (mAst.to hM h (fun ρ19 h => ?_))
          refine sd_iconst (pc := 135) dX3_goDay_135 (v := 0) (by decide) ?_
          refine sd_istore_n (pc := 136) dX3_goDay_136 rfl (by decide) (ls' := [(2, .int (0 : Int32)), (1, .int (3 : Int32)), (0, .ref (mb 0))]) rfl ?_
          exact sd_loc [2, 0] rfl (okM_X3_goDay_137 hM (by omega)  _ _ h)
        · have h := h.2 c25
          refine sd_aload_n (pc := 103) dX3_goDay_103 rfl 0 rfl ?_
          refine sd_getR (pc := 104) dX3_goDay_104 (ci := 2) rfl in_X3 (kf := 1) (by decide) q2074 (mo_gR hM (j := 1) rfl ?_)
          refine sd_iconst (pc := 107) dX3_goDay_107 (v := 2) (by decide) ?_
          refine sd_iaload (pc := 108) dX3_goDay_108 (mAld.to hM h (fun v20 h => ?_))
          refine sd_goto (pc := 109) dX3_goDay_109 (tgt := 113) (by decide) ?_
          refine sd_istore_n (pc := 113) dX3_goDay_113 rfl (by decide) (ls' := [(1, .int v20), (0, .ref (mb 0))]) rfl ?_
          refine sd_aload_n (pc := 114) dX3_goDay_114 rfl 1 rfl ?_
          refine sd_getR (pc := 115) dX3_goDay_115 (ci := 2) rfl in_X3 (kf := 1) (by decide) q2074 (mo_gR hM (j := 1) rfl ?_)
          refine sd_iconst (pc := 118) dX3_goDay_118 (v := 2) (by decide) ?_
          refine sd_dup2 (pc := 119) dX3_goDay_119 rfl rfl ?_
          refine sd_iaload (pc := 120) dX3_goDay_120 (mAld.to hM h (fun v21 h => ?_))
          refine sd_iload_n (pc := 121) dX3_goDay_121 rfl 0 rfl ?_
          refine sd_isub (pc := 122) dX3_goDay_122 ?_
          refine sd_iastore (pc := 123) dX3_goDay_123 (mAst.to hM h (fun ρ22 h => ?_))
          refine sd_aload_n (pc := 124) dX3_goDay_124 rfl 1 rfl ?_
          refine sd_getR (pc := 125) dX3_goDay_125 (ci := 2) rfl in_X3 (kf := 1) (by decide) q2074 (mo_gR hM (j := 1) rfl ?_)
          refine sd_bipush (pc := 128) dX3_goDay_128 (v := 6) (by decide) ?_
          refine sd_dup2 (pc := 130) dX3_goDay_130 rfl rfl ?_
          refine sd_iaload (pc := 131) dX3_goDay_131 (mAld.to hM h (fun v23 h => ?_))
          refine sd_iload_n (pc := 132) dX3_goDay_132 rfl 0 rfl ?_
          refine sd_iadd (pc := 133) dX3_goDay_133 ?_
          refine sd_iastore (pc := 134) dX3_goDay_134 (mAst.to hM h (fun ρ24 h => ?_))
          refine sd_iconst (pc := 135) dX3_goDay_135 (v := 0) (by decide) ?_
          refine sd_istore_n (pc := 136) dX3_goDay_136 rfl (by decide) (ls' := [(2, .int (0 : Int32)), (1, .int v20), (0, .ref (mb 0))]) rfl ?_
          exact sd_loc [2, 0] rfl (okM_X3_goDay_137 hM (by omega)  _ _ h)
      · have h := h.2 c30
        refine sd_iconst (pc := 89) dX3_goDay_89 (v := 0) (by decide) ?_
        refine sd_goto (pc := 90) dX3_goDay_90 (tgt := 113) (by decide) ?_
        refine sd_istore_n (pc := 113) dX3_goDay_113 rfl (by decide) (ls' := [(1, .int (0 : Int32)), (0, .ref (mb 0))]) rfl ?_
        refine sd_aload_n (pc := 114) dX3_goDay_114 rfl 1 rfl ?_
        refine sd_getR (pc := 115) dX3_goDay_115 (ci := 2) rfl in_X3 (kf := 1) (by decide) q2074 (mo_gR hM (j := 1) rfl ?_)
        refine sd_iconst (pc := 118) dX3_goDay_118 (v := 2) (by decide) ?_
        refine sd_dup2 (pc := 119) dX3_goDay_119 rfl rfl ?_
        refine sd_iaload (pc := 120) dX3_goDay_120 (mAld.to hM h (fun v26 h => ?_))
        refine sd_iload_n (pc := 121) dX3_goDay_121 rfl 0 rfl ?_
        refine sd_isub (pc := 122) dX3_goDay_122 ?_
        refine sd_iastore (pc := 123) dX3_goDay_123 (mAst.to hM h (fun ρ27 h => ?_))
        refine sd_aload_n (pc := 124) dX3_goDay_124 rfl 1 rfl ?_
        refine sd_getR (pc := 125) dX3_goDay_125 (ci := 2) rfl in_X3 (kf := 1) (by decide) q2074 (mo_gR hM (j := 1) rfl ?_)
        refine sd_bipush (pc := 128) dX3_goDay_128 (v := 6) (by decide) ?_
        refine sd_dup2 (pc := 130) dX3_goDay_130 rfl rfl ?_
        refine sd_iaload (pc := 131) dX3_goDay_131 (mAld.to hM h (fun v28 h => ?_))
        refine sd_iload_n (pc := 132) dX3_goDay_132 rfl 0 rfl ?_
        refine sd_iadd (pc := 133) dX3_goDay_133 ?_
        refine sd_iastore (pc := 134) dX3_goDay_134 (mAst.to hM h (fun ρ29 h => ?_))
        refine sd_iconst (pc := 135) dX3_goDay_135 (v := 0) (by decide) ?_
        refine sd_istore_n (pc := 136) dX3_goDay_136 rfl (by decide) (ls' := [(2, .int (0 : Int32)), (1, .int (0 : Int32)), (0, .ref (mb 0))]) rfl ?_
        exact sd_loc [2, 0] rfl (okM_X3_goDay_137 hM (by omega)  _ _ h)
    · have h := h.2 c32
      refine sd_aload_n (pc := 61) dX3_goDay_61 rfl 0 rfl ?_
      refine sd_iload_n (pc := 62) dX3_goDay_62 rfl 1 rfl ?_
      refine sd_callV (k := k) (n := n) (d0 := d) (k0 := 0) (n0 := 0) (As := [.int l1]) (st := []) (pc := 63) dX3_goDay_63 (ci := 2) rfl (mo_isC hM) rfl q2403 q2405 qs58 q91 q2406 1 (by decide +kernel) rfl (Nat.le_refl _) (by decide) (Nat.le_of_ble_eq_true rfl) (Cx.mono (cm_X3_visit hM (by omega)  h) (mV.to (fun ρ31 h => ?_)) (xo rfl))
      refine sd_iinc (pc := 66) dX3_goDay_66 1 rfl (v := (l1 + (1 : Int32))) rfl (by decide) (ls' := [(1, .int (l1 + (1 : Int32))), (0, .ref (mb 0))]) rfl ?_
      refine sd_goto (pc := 69) dX3_goDay_69 (tgt := 50) (by decide) ?_
      exact sd_loc [1, 0] rfl (ih _ _ h)
theorem okM_X3_goDay_50 {en : yEn} {mb : Nat → Nat} {σ : yH} (hM : mOK en mb σ) {d : Nat} (hd : 7 ≤ d + 1) {K : yMS → Prop} {X : String → Addr → yH → Prop} {k n : Nat} (l1 : Int32) (ρ : yMS) (h : wpM_X3_goDay_50  l1 ρ K) : Wx en (d + 1) mX3_goDay 50 [(0, .ref (mb 0)), (1, .int l1)] [] (mH en mb ρ σ) k n (mQ en mb σ (mV K)) X := by
  obtain ⟨nn, h⟩ := h
  exact olM_X3_goDay_50 hM hd  nn _ _ h
def stM_X3_goDay_20 (K : yMS → Prop) (rec : Int32 → yMS → Prop) (l1 : Int32) (ρ : yMS) : Prop :=
  mAld ρ 1 (10 : Int32) (fun v5 => (((v5 ≤ l1) → wpM_X3_goDay_50  (0 : Int32) ρ K) ∧ (¬ (v5 ≤ l1) → wpM_X3_goal ρ l1 (fun r7 ρ6 => wpM_X3_put ρ6 l1 (1 : Int32) r7 (fun ρ8 => rec (l1 + (1 : Int32)) ρ8)))))
def lpM_X3_goDay_20 (K : yMS → Prop) : Nat → Int32 × yMS → Prop := lpN (fun r s => stM_X3_goDay_20  K (fun l1 ρ => r (l1, ρ)) s.1 s.2)
def wpM_X3_goDay_20 (l1 : Int32) (ρ : yMS) (K : yMS → Prop) : Prop := ∃ nn, lpM_X3_goDay_20  K nn (l1, ρ)
theorem olM_X3_goDay_20 {en : yEn} {mb : Nat → Nat} {σ : yH} (hM : mOK en mb σ) {d : Nat} (hd : 7 ≤ d + 1) {K : yMS → Prop} {X : String → Addr → yH → Prop} {k n : Nat} : ∀ (nn : Nat) (l1 : Int32) (ρ : yMS), lpM_X3_goDay_20  K nn (l1, ρ) → Wx en (d + 1) mX3_goDay 20 [(0, .ref (mb 0)), (1, .int l1)] [] (mH en mb ρ σ) k n (mQ en mb σ (mV K)) X := by
  intro nn
  induction nn with
  | zero => intros; rename_i h; exact h.elim
  | succ nn ih =>
    intro l1 ρ h
    replace h : stM_X3_goDay_20  K (fun l1 ρ => lpM_X3_goDay_20  K nn (l1, ρ)) l1 ρ := h
    unfold stM_X3_goDay_20 at h
    refine sd_iload_n (pc := 20) dX3_goDay_20 rfl 1 rfl ?_
    refine sd_aload_n (pc := 21) dX3_goDay_21 rfl 0 rfl ?_
    refine sd_getR (pc := 22) dX3_goDay_22 (ci := 2) rfl in_X3 (kf := 1) (by decide) q2074 (mo_gR hM (j := 1) rfl ?_)
    refine sd_bipush (pc := 25) dX3_goDay_25 (v := 10) (by decide) ?_
    refine sd_iaload (pc := 27) dX3_goDay_27 (mAld.to hM h (fun v5 h => ?_))
    refine sd_icmpge (pc := 28) dX3_goDay_28 (tgt := 48) (by decide) ⟨fun c9 => ?_, fun c9 => ?_⟩
    · have h := h.1 c9
      refine sd_iconst (pc := 48) dX3_goDay_48 (v := 0) (by decide) ?_
      refine sd_istore_n (pc := 49) dX3_goDay_49 rfl (by decide) (ls' := [(1, .int (0 : Int32)), (0, .ref (mb 0))]) rfl ?_
      exact sd_loc [1, 0] rfl (okM_X3_goDay_50 hM (by omega)  _ _ h)
    · have h := h.2 c9
      refine sd_aload_n (pc := 31) dX3_goDay_31 rfl 0 rfl ?_
      refine sd_iload_n (pc := 32) dX3_goDay_32 rfl 1 rfl ?_
      refine sd_iconst (pc := 33) dX3_goDay_33 (v := 1) (by decide) ?_
      refine sd_aload_n (pc := 34) dX3_goDay_34 rfl 0 rfl ?_
      refine sd_iload_n (pc := 35) dX3_goDay_35 rfl 1 rfl ?_
      refine sd_callV (k := k) (n := n) (d0 := d) (k0 := 0) (n0 := 0) (As := [.int l1]) (st := [.int (1 : Int32), .int l1, .ref (mb 0)]) (pc := 36) dX3_goDay_36 (ci := 2) rfl (mo_isC hM) rfl q2244 q2246 qs38 q91 q2247 1 (by decide +kernel) rfl (Nat.le_refl _) (by decide) (Nat.le_of_ble_eq_true rfl) (Cx.mono (cm_X3_goal hM (by omega)  h) (mI.to (fun r7 ρ6 h => ?_)) (xo rfl))
      refine sd_callV (k := k) (n := n) (d0 := d) (k0 := 0) (n0 := 0) (As := [.int l1, .int (1 : Int32), .int r7]) (st := []) (pc := 39) dX3_goDay_39 (ci := 2) rfl (mo_isC hM) rfl q2204 q2206 qs32 q91 q2207 3 (by decide +kernel) rfl (Nat.le_refl _) (by decide) (Nat.le_of_ble_eq_true rfl) (Cx.mono (cm_X3_put hM (by omega)  h) (mV.to (fun ρ8 h => ?_)) (xo rfl))
      refine sd_iinc (pc := 42) dX3_goDay_42 1 rfl (v := (l1 + (1 : Int32))) rfl (by decide) (ls' := [(1, .int (l1 + (1 : Int32))), (0, .ref (mb 0))]) rfl ?_
      refine sd_goto (pc := 45) dX3_goDay_45 (tgt := 20) (by decide) ?_
      exact sd_loc [1, 0] rfl (ih _ _ h)
theorem okM_X3_goDay_20 {en : yEn} {mb : Nat → Nat} {σ : yH} (hM : mOK en mb σ) {d : Nat} (hd : 7 ≤ d + 1) {K : yMS → Prop} {X : String → Addr → yH → Prop} {k n : Nat} (l1 : Int32) (ρ : yMS) (h : wpM_X3_goDay_20  l1 ρ K) : Wx en (d + 1) mX3_goDay 20 [(0, .ref (mb 0)), (1, .int l1)] [] (mH en mb ρ σ) k n (mQ en mb σ (mV K)) X := by
  obtain ⟨nn, h⟩ := h
  exact olM_X3_goDay_20 hM hd  nn _ _ h
def wpM_X3_goDay (ρ : yMS)  (K : yMS → Prop) : Prop :=
  mAld ρ 1 (0 : Int32) (fun v1 => mAst ρ 1 (0 : Int32) (v1 + (1 : Int32)) (fun ρ2 => wpM_X3_grow ρ2  (fun ρ3 => wpM_X3_moult ρ3  (fun ρ4 => wpM_X3_goDay_20  (0 : Int32) ρ4 K))))
theorem okM_X3_goDay {en : yEn} {mb : Nat → Nat} {σ : yH} (hM : mOK en mb σ) {d : Nat} (hd : 7 ≤ d + 1) {ρ : yMS}  {K : yMS → Prop} {X : String → Addr → yH → Prop} {k n : Nat}  (h : wpM_X3_goDay ρ  K) : Wx en (d + 1) mX3_goDay 0 [(0, .ref (mb 0))] [] (mH en mb ρ σ) k n (mQ en mb σ (mV K)) X := by
  unfold wpM_X3_goDay at h
  refine sd_aload_n (pc := 0) dX3_goDay_0 rfl 0 rfl ?_
  refine sd_getR (pc := 1) dX3_goDay_1 (ci := 2) rfl in_X3 (kf := 1) (by decide) q2074 (mo_gR hM (j := 1) rfl ?_)
  refine sd_iconst (pc := 4) dX3_goDay_4 (v := 0) (by decide) ?_
  refine sd_dup2 (pc := 5) dX3_goDay_5 rfl rfl ?_
  refine sd_iaload (pc := 6) dX3_goDay_6 (mAld.to hM h (fun v1 h => ?_))
  refine sd_iconst (pc := 7) dX3_goDay_7 (v := 1) (by decide) ?_
  refine sd_iadd (pc := 8) dX3_goDay_8 ?_
  refine sd_iastore (pc := 9) dX3_goDay_9 (mAst.to hM h (fun ρ2 h => ?_))
  refine sd_aload_n (pc := 10) dX3_goDay_10 rfl 0 rfl ?_
  refine sd_callV (k := k) (n := n) (d0 := d) (k0 := 0) (n0 := 0) (As := []) (st := []) (pc := 11) dX3_goDay_11 (ci := 2) rfl (mo_isC hM) rfl q2387 q2389 qs54 q91 q2390 0 (by decide +kernel) rfl (Nat.le_refl _) (by decide) (Nat.le_of_ble_eq_true rfl) (Cx.mono (cm_X3_grow hM (by omega)  h) (mV.to (fun ρ3 h => ?_)) (xo rfl))
  refine sd_aload_n (pc := 14) dX3_goDay_14 rfl 0 rfl ?_
  refine sd_callV (k := k) (n := n) (d0 := d) (k0 := 0) (n0 := 0) (As := []) (st := []) (pc := 15) dX3_goDay_15 (ci := 2) rfl (mo_isC hM) rfl q2395 q2397 qs56 q91 q2398 0 (by decide +kernel) rfl (Nat.le_refl _) (by decide) (Nat.le_of_ble_eq_true rfl) (Cx.mono (cm_X3_moult hM (by omega)  h) (mV.to (fun ρ4 h => ?_)) (xo rfl))
  refine sd_iconst (pc := 18) dX3_goDay_18 (v := 0) (by decide) ?_
  refine sd_istore_n (pc := 19) dX3_goDay_19 rfl (by decide) (ls' := [(1, .int (0 : Int32)), (0, .ref (mb 0))]) rfl ?_
  exact sd_loc [1, 0] rfl (okM_X3_goDay_20 hM (by omega)  _ _ h)
theorem cm_X3_goDay {en : yEn} {mb : Nat → Nat} {σ : yH} (hM : mOK en mb σ) {d : Nat} (hd : 7 ≤ d) {ρ : yMS}  {K : yMS → Prop} {X : String → Addr → yH → Prop}  (h : wpM_X3_goDay ρ  K) : Cx en d 0 0 mX3_goDay [.ref (mb 0)] (mH en mb ρ σ) (mQ en mb σ (mV K)) X := by
  obtain ⟨d, rfl⟩ : ∃ e, d = e + 1 := ⟨d - 1, by omega⟩
  exact Cx.body (by decide +kernel) rfl (Nat.le_of_ble_eq_true rfl) (okM_X3_goDay hM (by omega)  h)
/-! pass(I)I -/
def stM_X3_pass_39 (K : Int32 → yMS → Prop) (rec : Int32 → Int32 → Int32 → yMS → Prop) (l1 : Int32) (l2 : Int32) (l3 : Int32) (ρ : yMS) : Prop :=
  (((l1 ≤ l3) → mAld ρ 1 (9 : Int32) (fun v11 => K (v11 - l2) ρ)) ∧ (¬ (l1 ≤ l3) → wpM_X3_goDay ρ  (fun ρ12 => rec l1 l2 (l3 + (1 : Int32)) ρ12)))
def lpM_X3_pass_39 (K : Int32 → yMS → Prop) : Nat → Int32 × Int32 × Int32 × yMS → Prop := lpN (fun r s => stM_X3_pass_39  K (fun l1 l2 l3 ρ => r (l1, l2, l3, ρ)) s.1 s.2.1 s.2.2.1 s.2.2.2)
def wpM_X3_pass_39 (l1 : Int32) (l2 : Int32) (l3 : Int32) (ρ : yMS) (K : Int32 → yMS → Prop) : Prop := ∃ nn, lpM_X3_pass_39  K nn (l1, l2, l3, ρ)
theorem olM_X3_pass_39 {en : yEn} {mb : Nat → Nat} {σ : yH} (hM : mOK en mb σ) {d : Nat} (hd : 8 ≤ d + 1) {K : Int32 → yMS → Prop} {X : String → Addr → yH → Prop} {k n : Nat} : ∀ (nn : Nat) (l1 : Int32) (l2 : Int32) (l3 : Int32) (ρ : yMS), lpM_X3_pass_39  K nn (l1, l2, l3, ρ) → Wx en (d + 1) mX3_pass 39 [(0, .ref (mb 0)), (1, .int l1), (2, .int l2), (3, .int l3)] [] (mH en mb ρ σ) k n (mQ en mb σ (mI K)) X := by
  intro nn
  induction nn with
  | zero => intros; rename_i h; exact h.elim
  | succ nn ih =>
    intro l1 l2 l3 ρ h
    replace h : stM_X3_pass_39  K (fun l1 l2 l3 ρ => lpM_X3_pass_39  K nn (l1, l2, l3, ρ)) l1 l2 l3 ρ := h
    unfold stM_X3_pass_39 at h
    refine sd_iload_n (pc := 39) dX3_pass_39 rfl 3 rfl ?_
    refine sd_iload_n (pc := 40) dX3_pass_40 rfl 1 rfl ?_
    refine sd_icmpge (pc := 41) dX3_pass_41 (tgt := 54) (by decide) ⟨fun c13 => ?_, fun c13 => ?_⟩
    · have h := h.1 c13
      refine sd_aload_n (pc := 54) dX3_pass_54 rfl 0 rfl ?_
      refine sd_getR (pc := 55) dX3_pass_55 (ci := 2) rfl in_X3 (kf := 1) (by decide) q2074 (mo_gR hM (j := 1) rfl ?_)
      refine sd_bipush (pc := 58) dX3_pass_58 (v := 9) (by decide) ?_
      refine sd_iaload (pc := 60) dX3_pass_60 (mAld.to hM h (fun v11 h => ?_))
      refine sd_iload_n (pc := 61) dX3_pass_61 rfl 2 rfl ?_
      refine sd_isub (pc := 62) dX3_pass_62 ?_
      exact sd_ireturn (pc := 63) dX3_pass_63 (ty0 := .int) rfl rfl (mI.ok h)
    · have h := h.2 c13
      refine sd_aload_n (pc := 44) dX3_pass_44 rfl 0 rfl ?_
      refine sd_callV (k := k) (n := n) (d0 := d) (k0 := 0) (n0 := 0) (As := []) (st := []) (pc := 45) dX3_pass_45 (ci := 2) rfl (mo_isC hM) rfl q2383 q2385 qs53 q91 q2386 0 (by decide +kernel) rfl (Nat.le_refl _) (by decide) (Nat.le_of_ble_eq_true rfl) (Cx.mono (cm_X3_goDay hM (by omega)  h) (mV.to (fun ρ12 h => ?_)) (xo rfl))
      refine sd_iinc (pc := 48) dX3_pass_48 3 rfl (v := (l3 + (1 : Int32))) rfl (by decide) (ls' := [(3, .int (l3 + (1 : Int32))), (0, .ref (mb 0)), (1, .int l1), (2, .int l2)]) rfl ?_
      refine sd_goto (pc := 51) dX3_pass_51 (tgt := 39) (by decide) ?_
      exact sd_loc [1, 2, 3, 0] rfl (ih _ _ _ _ h)
theorem okM_X3_pass_39 {en : yEn} {mb : Nat → Nat} {σ : yH} (hM : mOK en mb σ) {d : Nat} (hd : 8 ≤ d + 1) {K : Int32 → yMS → Prop} {X : String → Addr → yH → Prop} {k n : Nat} (l1 : Int32) (l2 : Int32) (l3 : Int32) (ρ : yMS) (h : wpM_X3_pass_39  l1 l2 l3 ρ K) : Wx en (d + 1) mX3_pass 39 [(0, .ref (mb 0)), (1, .int l1), (2, .int l2), (3, .int l3)] [] (mH en mb ρ σ) k n (mQ en mb σ (mI K)) X := by
  obtain ⟨nn, h⟩ := h
  exact olM_X3_pass_39 hM hd  nn _ _ _ _ h
def wpM_X3_pass (ρ : yMS) (x1 : Int32) (K : Int32 → yMS → Prop) : Prop :=
  wpM_X3_isBetween ρ x1 (1 : Int32) (60 : Int32) (fun r2 ρ1 => wpM_X3_fails ρ1 (1 : Int32) (if (r2 = 0) then (1 : Int32) else (0 : Int32)) (fun r5 ρ4 => (((r5 = 0) → wpM_X3_change ρ4  (fun ρ6 => mAld ρ6 1 (9 : Int32) (fun v7 => wpM_X3_pass_39  x1 v7 (0 : Int32) ρ6 K))) ∧ (¬ (r5 = 0) → K (0 : Int32) ρ4))))
theorem okM_X3_pass {en : yEn} {mb : Nat → Nat} {σ : yH} (hM : mOK en mb σ) {d : Nat} (hd : 8 ≤ d + 1) {ρ : yMS} {x1 : Int32} {K : Int32 → yMS → Prop} {X : String → Addr → yH → Prop} {k n : Nat}  (h : wpM_X3_pass ρ x1 K) : Wx en (d + 1) mX3_pass 0 [(0, .ref (mb 0)), (1, .int x1)] [] (mH en mb ρ σ) k n (mQ en mb σ (mI K)) X := by
  unfold wpM_X3_pass at h
  refine sd_aload_n (pc := 0) dX3_pass_0 rfl 0 rfl ?_
  refine sd_iconst (pc := 1) dX3_pass_1 (v := 1) (by decide) ?_
  refine sd_iload_n (pc := 2) dX3_pass_2 rfl 1 rfl ?_
  refine sd_iconst (pc := 3) dX3_pass_3 (v := 1) (by decide) ?_
  refine sd_bipush (pc := 4) dX3_pass_4 (v := 60) (by decide) ?_
  refine sd_callS (k := k) (n := n) (d0 := d) (k0 := 0) (n0 := 0) (As := [.int x1, .int (1 : Int32), .int (60 : Int32)]) (st := [.int (1 : Int32), .ref (mb 0)]) (pc := 6) dX3_pass_6 q2167 q2168 q91 q2169 3 (by decide +kernel) rfl (Nat.le_refl _) (by decide) (Nat.le_of_ble_eq_true rfl) (Cx.mono (cm_X3_isBetween hM (by omega)  h) (mI.to (fun r2 ρ1 h => ?_)) (xo rfl))
  have h9 : Wx en (d + 1) mX3_pass 17 [(0, .ref (mb 0)), (1, .int x1)] (.int (if (r2 = 0) then (1 : Int32) else (0 : Int32)) :: .int (1 : Int32) :: .ref (mb 0) :: []) (mH en mb ρ1 σ) k n (mQ en mb σ (mI K)) X := by
    refine sd_callV (k := k) (n := n) (d0 := d) (k0 := 0) (n0 := 0) (As := [.int (1 : Int32), .int (if (r2 = 0) then (1 : Int32) else (0 : Int32))]) (st := []) (pc := 17) dX3_pass_17 (ci := 2) rfl (mo_isC hM) rfl q2170 q2172 qs26 q91 q2173 2 (by decide +kernel) rfl (Nat.le_refl _) (by decide) (Nat.le_of_ble_eq_true rfl) (Cx.mono (cm_X3_fails hM (by omega)  h) (mI.to (fun r5 ρ4 h => ?_)) (xo rfl))
    refine sd_ifeq (pc := 20) dX3_pass_20 (tgt := 25) (by decide) ⟨fun c8 => ?_, fun c8 => ?_⟩
    · have h := h.1 c8
      refine sd_aload_n (pc := 25) dX3_pass_25 rfl 0 rfl ?_
      refine sd_callV (k := k) (n := n) (d0 := d) (k0 := 0) (n0 := 0) (As := []) (st := []) (pc := 26) dX3_pass_26 (ci := 2) rfl (mo_isC hM) rfl q2189 q2191 qs29 q91 q2192 0 (by decide +kernel) rfl (Nat.le_refl _) (by decide) (Nat.le_of_ble_eq_true rfl) (Cx.mono (cm_X3_change hM (by omega)  h) (mV.to (fun ρ6 h => ?_)) (xo rfl))
      refine sd_aload_n (pc := 29) dX3_pass_29 rfl 0 rfl ?_
      refine sd_getR (pc := 30) dX3_pass_30 (ci := 2) rfl in_X3 (kf := 1) (by decide) q2074 (mo_gR hM (j := 1) rfl ?_)
      refine sd_bipush (pc := 33) dX3_pass_33 (v := 9) (by decide) ?_
      refine sd_iaload (pc := 35) dX3_pass_35 (mAld.to hM h (fun v7 h => ?_))
      refine sd_istore_n (pc := 36) dX3_pass_36 rfl (by decide) (ls' := [(2, .int v7), (0, .ref (mb 0)), (1, .int x1)]) rfl ?_
      refine sd_iconst (pc := 37) dX3_pass_37 (v := 0) (by decide) ?_
      refine sd_istore_n (pc := 38) dX3_pass_38 rfl (by decide) (ls' := [(3, .int (0 : Int32)), (2, .int v7), (0, .ref (mb 0)), (1, .int x1)]) rfl ?_
      exact sd_loc [2, 3, 1, 0] rfl (okM_X3_pass_39 hM (by omega)  _ _ _ _ h)
    · have h := h.2 c8
      refine sd_iconst (pc := 23) dX3_pass_23 (v := 0) (by decide) ?_
      exact sd_ireturn (pc := 24) dX3_pass_24 (ty0 := .int) rfl rfl (mI.ok h)
  have e10 := sd_iteIN h9
  refine sd_ifne (pc := 9) dX3_pass_9 (tgt := 16) (by decide) ⟨fun c3 => ?_, fun c3 => ?_⟩
  · refine sd_iconst (pc := 16) dX3_pass_16 (v := 0) (by decide) ?_
    exact (e10.1 c3)
  · refine sd_iconst (pc := 12) dX3_pass_12 (v := 1) (by decide) ?_
    refine sd_goto (pc := 13) dX3_pass_13 (tgt := 17) (by decide) ?_
    exact (e10.2 c3)
theorem cm_X3_pass {en : yEn} {mb : Nat → Nat} {σ : yH} (hM : mOK en mb σ) {d : Nat} (hd : 8 ≤ d) {ρ : yMS} {x1 : Int32} {K : Int32 → yMS → Prop} {X : String → Addr → yH → Prop}  (h : wpM_X3_pass ρ x1 K) : Cx en d 0 0 mX3_pass [.ref (mb 0), .int x1] (mH en mb ρ σ) (mQ en mb σ (mI K)) X := by
  obtain ⟨d, rfl⟩ : ∃ e, d = e + 1 := ⟨d - 1, by omega⟩
  exact Cx.body (by decide +kernel) rfl (Nat.le_of_ble_eq_true rfl) (okM_X3_pass hM (by omega)  h)
/-! hatchesIn(I)I -/
def stM_X3_hatchesIn_57 (K : Int32 → yMS → Prop) (rec : Int32 → Int32 → yMS → Prop) (l1 : Int32) (l2 : Int32) (ρ : yMS) : Prop :=
  wpM_X3_hasEggs ρ l1 (fun r19 ρ18 => (((r19 = 0) → wpM_X3_copyRow ρ18 3 1 (fun ρ21 => wpM_X3_fails ρ21 (2 : Int32) (if ((if ((((ρ18.1 15) >>> (l1 &&& 31)) &&& (1 : Int32)) = (1 : Int32)) then (1 : Int32) else (0 : Int32)) = 0) then (1 : Int32) else (0 : Int32)) (fun r24 ρ23 => K (if (r24 = 0) then l2 else (0 : Int32)) ρ23))) ∧ (¬ (r19 = 0) → wpM_X3_goDay ρ18  (fun ρ26 => rec l1 (l2 + (1 : Int32)) ρ26))))
def lpM_X3_hatchesIn_57 (K : Int32 → yMS → Prop) : Nat → Int32 × Int32 × yMS → Prop := lpN (fun r s => stM_X3_hatchesIn_57  K (fun l1 l2 ρ => r (l1, l2, ρ)) s.1 s.2.1 s.2.2)
def wpM_X3_hatchesIn_57 (l1 : Int32) (l2 : Int32) (ρ : yMS) (K : Int32 → yMS → Prop) : Prop := ∃ nn, lpM_X3_hatchesIn_57  K nn (l1, l2, ρ)
theorem olM_X3_hatchesIn_57 {en : yEn} {mb : Nat → Nat} {σ : yH} (hM : mOK en mb σ) {d : Nat} (hd : 8 ≤ d + 1) {K : Int32 → yMS → Prop} {X : String → Addr → yH → Prop} {k n : Nat} : ∀ (nn : Nat) (l1 : Int32) (l2 : Int32) (ρ : yMS), lpM_X3_hatchesIn_57  K nn (l1, l2, ρ) → Wx en (d + 1) mX3_hatchesIn 57 [(0, .ref (mb 0)), (1, .int l1), (2, .int l2)] [] (mH en mb ρ σ) k n (mQ en mb σ (mI K)) X := by
  intro nn
  induction nn with
  | zero => intros; rename_i h; exact h.elim
  | succ nn ih =>
    intro l1 l2 ρ h
    replace h : stM_X3_hatchesIn_57  K (fun l1 l2 ρ => lpM_X3_hatchesIn_57  K nn (l1, l2, ρ)) l1 l2 ρ := h
    unfold stM_X3_hatchesIn_57 at h
    refine sd_aload_n (pc := 57) dX3_hatchesIn_57 rfl 0 rfl ?_
    refine sd_iload_n (pc := 58) dX3_hatchesIn_58 rfl 1 rfl ?_
    refine sd_callV (k := k) (n := n) (d0 := d) (k0 := 0) (n0 := 0) (As := [.int l1]) (st := []) (pc := 59) dX3_hatchesIn_59 (ci := 2) rfl (mo_isC hM) rfl q2248 q2250 qs39 q91 q2251 1 (by decide +kernel) rfl (Nat.le_refl _) (by decide) (Nat.le_of_ble_eq_true rfl) (Cx.mono (cm_X3_hasEggs hM (by omega)  h) (mI.to (fun r19 ρ18 h => ?_)) (xo rfl))
    refine sd_ifeq (pc := 62) dX3_hatchesIn_62 (tgt := 75) (by decide) ⟨fun c27 => ?_, fun c27 => ?_⟩
    · have h := h.1 c27
      refine sd_aload_n (pc := 75) dX3_hatchesIn_75 rfl 0 rfl ?_
      refine sd_getI (pc := 76) dX3_hatchesIn_76 (ci := 2) rfl in_X3 (kf := 15) (by decide) q2088 (mo_gI hM rfl ?_)
      refine sd_iload_n (pc := 79) dX3_hatchesIn_79 rfl 1 rfl ?_
      refine sd_ishr (pc := 80) dX3_hatchesIn_80 ?_
      refine sd_iconst (pc := 81) dX3_hatchesIn_81 (v := 1) (by decide) ?_
      refine sd_iand (pc := 82) dX3_hatchesIn_82 ?_
      refine sd_iconst (pc := 83) dX3_hatchesIn_83 (v := 1) (by decide) ?_
      have h28 : Wx en (d + 1) mX3_hatchesIn 92 [(0, .ref (mb 0)), (1, .int l1), (2, .int l2)] (.int (if ((((ρ18.1 15) >>> (l1 &&& 31)) &&& (1 : Int32)) = (1 : Int32)) then (1 : Int32) else (0 : Int32)) :: []) (mH en mb ρ18 σ) k n (mQ en mb σ (mI K)) X := by
        refine sd_istore_n (pc := 92) dX3_hatchesIn_92 rfl (by decide) (ls' := [(3, .int (if ((((ρ18.1 15) >>> (l1 &&& 31)) &&& (1 : Int32)) = (1 : Int32)) then (1 : Int32) else (0 : Int32))), (0, .ref (mb 0)), (1, .int l1), (2, .int l2)]) rfl ?_
        refine sd_aload_n (pc := 93) dX3_hatchesIn_93 rfl 1 rfl ?_
        refine sd_getR (pc := 94) dX3_hatchesIn_94 (ci := 2) rfl in_X3 (kf := 3) (by decide) q2076 (mo_gR hM (j := 3) rfl ?_)
        refine sd_aload_n (pc := 97) dX3_hatchesIn_97 rfl 1 rfl ?_
        refine sd_getR (pc := 98) dX3_hatchesIn_98 (ci := 2) rfl in_X3 (kf := 1) (by decide) q2074 (mo_gR hM (j := 1) rfl ?_)
        refine sd_callS (k := k) (n := n) (d0 := d) (k0 := 0) (n0 := 0) (As := [.ref (mb 3), .ref (mb 1)]) (st := []) (pc := 101) dX3_hatchesIn_101 q2197 q2198 q91 q2199 2 (by decide +kernel) rfl (Nat.le_refl _) (by decide) (Nat.le_of_ble_eq_true rfl) (Cx.mono (cm_X3_copyRow hM (by omega)  h) (mV.to (fun ρ21 h => ?_)) (xo rfl))
        refine sd_aload_n (pc := 104) dX3_hatchesIn_104 rfl 1 rfl ?_
        refine sd_iconst (pc := 105) dX3_hatchesIn_105 (v := 2) (by decide) ?_
        refine sd_iload_n (pc := 106) dX3_hatchesIn_106 rfl 0 rfl ?_
        have h29 : Wx en (d + 1) mX3_hatchesIn 115 [(3, .int (if ((((ρ18.1 15) >>> (l1 &&& 31)) &&& (1 : Int32)) = (1 : Int32)) then (1 : Int32) else (0 : Int32))), (0, .ref (mb 0)), (1, .int l1), (2, .int l2)] (.int (if ((if ((((ρ18.1 15) >>> (l1 &&& 31)) &&& (1 : Int32)) = (1 : Int32)) then (1 : Int32) else (0 : Int32)) = 0) then (1 : Int32) else (0 : Int32)) :: .int (2 : Int32) :: .ref (mb 0) :: []) (mH en mb ρ21 σ) k n (mQ en mb σ (mI K)) X := by
          refine sd_callV (k := k) (n := n) (d0 := d) (k0 := 0) (n0 := 0) (As := [.int (2 : Int32), .int (if ((if ((((ρ18.1 15) >>> (l1 &&& 31)) &&& (1 : Int32)) = (1 : Int32)) then (1 : Int32) else (0 : Int32)) = 0) then (1 : Int32) else (0 : Int32))]) (st := []) (pc := 115) dX3_hatchesIn_115 (ci := 2) rfl (mo_isC hM) rfl q2170 q2172 qs26 q91 q2173 2 (by decide +kernel) rfl (Nat.le_refl _) (by decide) (Nat.le_of_ble_eq_true rfl) (Cx.mono (cm_X3_fails hM (by omega)  h) (mI.to (fun r24 ρ23 h => ?_)) (xo rfl))
          have h30 : Wx en (d + 1) mX3_hatchesIn 126 [(3, .int (if ((((ρ18.1 15) >>> (l1 &&& 31)) &&& (1 : Int32)) = (1 : Int32)) then (1 : Int32) else (0 : Int32))), (0, .ref (mb 0)), (1, .int l1), (2, .int l2)] (.int (if (r24 = 0) then l2 else (0 : Int32)) :: []) (mH en mb ρ23 σ) k n (mQ en mb σ (mI K)) X := by
            exact sd_ireturn (pc := 126) dX3_hatchesIn_126 (ty0 := .int) rfl rfl (mI.ok h)
          have e31 := sd_iteI h30
          refine sd_ifeq (pc := 118) dX3_hatchesIn_118 (tgt := 125) (by decide) ⟨fun c25 => ?_, fun c25 => ?_⟩
          · refine sd_iload_n (pc := 125) dX3_hatchesIn_125 rfl 3 rfl ?_
            exact (e31.1 c25)
          · refine sd_iconst (pc := 121) dX3_hatchesIn_121 (v := 0) (by decide) ?_
            refine sd_goto (pc := 122) dX3_hatchesIn_122 (tgt := 126) (by decide) ?_
            exact (e31.2 c25)
        have e32 := sd_iteIN h29
        refine sd_ifne (pc := 107) dX3_hatchesIn_107 (tgt := 114) (by decide) ⟨fun c22 => ?_, fun c22 => ?_⟩
        · refine sd_iconst (pc := 114) dX3_hatchesIn_114 (v := 0) (by decide) ?_
          exact (e32.1 c22)
        · refine sd_iconst (pc := 110) dX3_hatchesIn_110 (v := 1) (by decide) ?_
          refine sd_goto (pc := 111) dX3_hatchesIn_111 (tgt := 115) (by decide) ?_
          exact (e32.2 c22)
      have e33 := sd_iteIN h28
      refine sd_icmpne (pc := 84) dX3_hatchesIn_84 (tgt := 91) (by decide) ⟨fun c20 => ?_, fun c20 => ?_⟩
      · refine sd_iconst (pc := 91) dX3_hatchesIn_91 (v := 0) (by decide) ?_
        exact (e33.1 c20)
      · refine sd_iconst (pc := 87) dX3_hatchesIn_87 (v := 1) (by decide) ?_
        refine sd_goto (pc := 88) dX3_hatchesIn_88 (tgt := 92) (by decide) ?_
        exact (e33.2 c20)
    · have h := h.2 c27
      refine sd_aload_n (pc := 65) dX3_hatchesIn_65 rfl 0 rfl ?_
      refine sd_callV (k := k) (n := n) (d0 := d) (k0 := 0) (n0 := 0) (As := []) (st := []) (pc := 66) dX3_hatchesIn_66 (ci := 2) rfl (mo_isC hM) rfl q2383 q2385 qs53 q91 q2386 0 (by decide +kernel) rfl (Nat.le_refl _) (by decide) (Nat.le_of_ble_eq_true rfl) (Cx.mono (cm_X3_goDay hM (by omega)  h) (mV.to (fun ρ26 h => ?_)) (xo rfl))
      refine sd_iinc (pc := 69) dX3_hatchesIn_69 2 rfl (v := (l2 + (1 : Int32))) rfl (by decide) (ls' := [(2, .int (l2 + (1 : Int32))), (0, .ref (mb 0)), (1, .int l1)]) rfl ?_
      refine sd_goto (pc := 72) dX3_hatchesIn_72 (tgt := 57) (by decide) ?_
      exact sd_loc [1, 2, 0] rfl (ih _ _ _ h)
theorem okM_X3_hatchesIn_57 {en : yEn} {mb : Nat → Nat} {σ : yH} (hM : mOK en mb σ) {d : Nat} (hd : 8 ≤ d + 1) {K : Int32 → yMS → Prop} {X : String → Addr → yH → Prop} {k n : Nat} (l1 : Int32) (l2 : Int32) (ρ : yMS) (h : wpM_X3_hatchesIn_57  l1 l2 ρ K) : Wx en (d + 1) mX3_hatchesIn 57 [(0, .ref (mb 0)), (1, .int l1), (2, .int l2)] [] (mH en mb ρ σ) k n (mQ en mb σ (mI K)) X := by
  obtain ⟨nn, h⟩ := h
  exact olM_X3_hatchesIn_57 hM hd  nn _ _ _ h
def wpM_X3_hatchesIn (ρ : yMS) (x1 : Int32) (K : Int32 → yMS → Prop) : Prop :=
  wpM_X3_isBird ρ x1 (fun r2 ρ1 => wpM_X3_fails ρ1 (1 : Int32) (if (r2 = 0) then (1 : Int32) else (0 : Int32)) (fun r5 ρ4 => ((¬ (r5 = 0) → K (0 : Int32) ρ4) ∧ ((r5 = 0) → wpM_X3_hasEggs ρ4 x1 (fun r7 ρ6 => wpM_X3_fails ρ6 (2 : Int32) (if (r7 = 0) then (1 : Int32) else (0 : Int32)) (fun r10 ρ9 => (((r10 = 0) → wpM_X3_copyRow ρ9 1 3 (fun ρ11 => wpM_X3_hatchesIn_57  x1 (0 : Int32) ρ11 K)) ∧ (¬ (r10 = 0) → K (0 : Int32) ρ9))))))))
theorem okM_X3_hatchesIn {en : yEn} {mb : Nat → Nat} {σ : yH} (hM : mOK en mb σ) {d : Nat} (hd : 8 ≤ d + 1) {ρ : yMS} {x1 : Int32} {K : Int32 → yMS → Prop} {X : String → Addr → yH → Prop} {k n : Nat}  (h : wpM_X3_hatchesIn ρ x1 K) : Wx en (d + 1) mX3_hatchesIn 0 [(0, .ref (mb 0)), (1, .int x1)] [] (mH en mb ρ σ) k n (mQ en mb σ (mI K)) X := by
  unfold wpM_X3_hatchesIn at h
  refine sd_aload_n (pc := 0) dX3_hatchesIn_0 rfl 0 rfl ?_
  refine sd_iconst (pc := 1) dX3_hatchesIn_1 (v := 1) (by decide) ?_
  refine sd_aload_n (pc := 2) dX3_hatchesIn_2 rfl 0 rfl ?_
  refine sd_iload_n (pc := 3) dX3_hatchesIn_3 rfl 1 rfl ?_
  refine sd_callV (k := k) (n := n) (d0 := d) (k0 := 0) (n0 := 0) (As := [.int x1]) (st := [.int (1 : Int32), .ref (mb 0)]) (pc := 4) dX3_hatchesIn_4 (ci := 2) rfl (mo_isC hM) rfl q2216 q2218 qs33 q91 q2219 1 (by decide +kernel) rfl (Nat.le_refl _) (by decide) (Nat.le_of_ble_eq_true rfl) (Cx.mono (cm_X3_isBird hM (by omega)  h) (mI.to (fun r2 ρ1 h => ?_)) (xo rfl))
  have h14 : Wx en (d + 1) mX3_hatchesIn 15 [(0, .ref (mb 0)), (1, .int x1)] (.int (if (r2 = 0) then (1 : Int32) else (0 : Int32)) :: .int (1 : Int32) :: .ref (mb 0) :: []) (mH en mb ρ1 σ) k n (mQ en mb σ (mI K)) X := by
    refine sd_callV (k := k) (n := n) (d0 := d) (k0 := 0) (n0 := 0) (As := [.int (1 : Int32), .int (if (r2 = 0) then (1 : Int32) else (0 : Int32))]) (st := []) (pc := 15) dX3_hatchesIn_15 (ci := 2) rfl (mo_isC hM) rfl q2170 q2172 qs26 q91 q2173 2 (by decide +kernel) rfl (Nat.le_refl _) (by decide) (Nat.le_of_ble_eq_true rfl) (Cx.mono (cm_X3_fails hM (by omega)  h) (mI.to (fun r5 ρ4 h => ?_)) (xo rfl))
    refine sd_ifne (pc := 18) dX3_hatchesIn_18 (tgt := 42) (by decide) ⟨fun c13 => ?_, fun c13 => ?_⟩
    · have h := h.1 c13
      refine sd_iconst (pc := 42) dX3_hatchesIn_42 (v := 0) (by decide) ?_
      exact sd_ireturn (pc := 43) dX3_hatchesIn_43 (ty0 := .int) rfl rfl (mI.ok h)
    · have h := h.2 c13
      refine sd_aload_n (pc := 21) dX3_hatchesIn_21 rfl 0 rfl ?_
      refine sd_iconst (pc := 22) dX3_hatchesIn_22 (v := 2) (by decide) ?_
      refine sd_aload_n (pc := 23) dX3_hatchesIn_23 rfl 0 rfl ?_
      refine sd_iload_n (pc := 24) dX3_hatchesIn_24 rfl 1 rfl ?_
      refine sd_callV (k := k) (n := n) (d0 := d) (k0 := 0) (n0 := 0) (As := [.int x1]) (st := [.int (2 : Int32), .ref (mb 0)]) (pc := 25) dX3_hatchesIn_25 (ci := 2) rfl (mo_isC hM) rfl q2248 q2250 qs39 q91 q2251 1 (by decide +kernel) rfl (Nat.le_refl _) (by decide) (Nat.le_of_ble_eq_true rfl) (Cx.mono (cm_X3_hasEggs hM (by omega)  h) (mI.to (fun r7 ρ6 h => ?_)) (xo rfl))
      have h15 : Wx en (d + 1) mX3_hatchesIn 36 [(0, .ref (mb 0)), (1, .int x1)] (.int (if (r7 = 0) then (1 : Int32) else (0 : Int32)) :: .int (2 : Int32) :: .ref (mb 0) :: []) (mH en mb ρ6 σ) k n (mQ en mb σ (mI K)) X := by
        refine sd_callV (k := k) (n := n) (d0 := d) (k0 := 0) (n0 := 0) (As := [.int (2 : Int32), .int (if (r7 = 0) then (1 : Int32) else (0 : Int32))]) (st := []) (pc := 36) dX3_hatchesIn_36 (ci := 2) rfl (mo_isC hM) rfl q2170 q2172 qs26 q91 q2173 2 (by decide +kernel) rfl (Nat.le_refl _) (by decide) (Nat.le_of_ble_eq_true rfl) (Cx.mono (cm_X3_fails hM (by omega)  h) (mI.to (fun r10 ρ9 h => ?_)) (xo rfl))
        refine sd_ifeq (pc := 39) dX3_hatchesIn_39 (tgt := 44) (by decide) ⟨fun c12 => ?_, fun c12 => ?_⟩
        · have h := h.1 c12
          refine sd_aload_n (pc := 44) dX3_hatchesIn_44 rfl 0 rfl ?_
          refine sd_getR (pc := 45) dX3_hatchesIn_45 (ci := 2) rfl in_X3 (kf := 1) (by decide) q2074 (mo_gR hM (j := 1) rfl ?_)
          refine sd_aload_n (pc := 48) dX3_hatchesIn_48 rfl 0 rfl ?_
          refine sd_getR (pc := 49) dX3_hatchesIn_49 (ci := 2) rfl in_X3 (kf := 3) (by decide) q2076 (mo_gR hM (j := 3) rfl ?_)
          refine sd_callS (k := k) (n := n) (d0 := d) (k0 := 0) (n0 := 0) (As := [.ref (mb 1), .ref (mb 3)]) (st := []) (pc := 52) dX3_hatchesIn_52 q2197 q2198 q91 q2199 2 (by decide +kernel) rfl (Nat.le_refl _) (by decide) (Nat.le_of_ble_eq_true rfl) (Cx.mono (cm_X3_copyRow hM (by omega)  h) (mV.to (fun ρ11 h => ?_)) (xo rfl))
          refine sd_iconst (pc := 55) dX3_hatchesIn_55 (v := 0) (by decide) ?_
          refine sd_istore_n (pc := 56) dX3_hatchesIn_56 rfl (by decide) (ls' := [(2, .int (0 : Int32)), (0, .ref (mb 0)), (1, .int x1)]) rfl ?_
          exact sd_loc [1, 2, 0] rfl (okM_X3_hatchesIn_57 hM (by omega)  _ _ _ h)
        · have h := h.2 c12
          refine sd_iconst (pc := 42) dX3_hatchesIn_42 (v := 0) (by decide) ?_
          exact sd_ireturn (pc := 43) dX3_hatchesIn_43 (ty0 := .int) rfl rfl (mI.ok h)
      have e16 := sd_iteIN h15
      refine sd_ifne (pc := 28) dX3_hatchesIn_28 (tgt := 35) (by decide) ⟨fun c8 => ?_, fun c8 => ?_⟩
      · refine sd_iconst (pc := 35) dX3_hatchesIn_35 (v := 0) (by decide) ?_
        exact (e16.1 c8)
      · refine sd_iconst (pc := 31) dX3_hatchesIn_31 (v := 1) (by decide) ?_
        refine sd_goto (pc := 32) dX3_hatchesIn_32 (tgt := 36) (by decide) ?_
        exact (e16.2 c8)
  have e17 := sd_iteIN h14
  refine sd_ifne (pc := 7) dX3_hatchesIn_7 (tgt := 14) (by decide) ⟨fun c3 => ?_, fun c3 => ?_⟩
  · refine sd_iconst (pc := 14) dX3_hatchesIn_14 (v := 0) (by decide) ?_
    exact (e17.1 c3)
  · refine sd_iconst (pc := 10) dX3_hatchesIn_10 (v := 1) (by decide) ?_
    refine sd_goto (pc := 11) dX3_hatchesIn_11 (tgt := 15) (by decide) ?_
    exact (e17.2 c3)
theorem cm_X3_hatchesIn {en : yEn} {mb : Nat → Nat} {σ : yH} (hM : mOK en mb σ) {d : Nat} (hd : 8 ≤ d) {ρ : yMS} {x1 : Int32} {K : Int32 → yMS → Prop} {X : String → Addr → yH → Prop}  (h : wpM_X3_hatchesIn ρ x1 K) : Cx en d 0 0 mX3_hatchesIn [.ref (mb 0), .int x1] (mH en mb ρ σ) (mQ en mb σ (mI K)) X := by
  obtain ⟨d, rfl⟩ : ∃ e, d = e + 1 := ⟨d - 1, by omega⟩
  exact Cx.body (by decide +kernel) rfl (Nat.le_of_ble_eq_true rfl) (okM_X3_hatchesIn hM (by omega)  h)
/-! wouldShed(I)I -/
def stM_X3_wouldShed_38 (K : Int32 → yMS → Prop) (rec : Int32 → Int32 → yMS → Prop) (l1 : Int32) (l2 : Int32) (ρ : yMS) : Prop :=
  (((l1 ≤ l2) → mAld ρ 1 (9 : Int32) (fun v10 => mAld ρ 3 (9 : Int32) (fun v11 => wpM_X3_copyRow ρ 3 1 (fun ρ12 => K (v10 - v11) ρ12)))) ∧ (¬ (l1 ≤ l2) → wpM_X3_goDay ρ  (fun ρ13 => rec l1 (l2 + (1 : Int32)) ρ13)))
def lpM_X3_wouldShed_38 (K : Int32 → yMS → Prop) : Nat → Int32 × Int32 × yMS → Prop := lpN (fun r s => stM_X3_wouldShed_38  K (fun l1 l2 ρ => r (l1, l2, ρ)) s.1 s.2.1 s.2.2)
def wpM_X3_wouldShed_38 (l1 : Int32) (l2 : Int32) (ρ : yMS) (K : Int32 → yMS → Prop) : Prop := ∃ nn, lpM_X3_wouldShed_38  K nn (l1, l2, ρ)
theorem olM_X3_wouldShed_38 {en : yEn} {mb : Nat → Nat} {σ : yH} (hM : mOK en mb σ) {d : Nat} (hd : 8 ≤ d + 1) {K : Int32 → yMS → Prop} {X : String → Addr → yH → Prop} {k n : Nat} : ∀ (nn : Nat) (l1 : Int32) (l2 : Int32) (ρ : yMS), lpM_X3_wouldShed_38  K nn (l1, l2, ρ) → Wx en (d + 1) mX3_wouldShed 38 [(0, .ref (mb 0)), (1, .int l1), (2, .int l2)] [] (mH en mb ρ σ) k n (mQ en mb σ (mI K)) X := by
  intro nn
  induction nn with
  | zero => intros; rename_i h; exact h.elim
  | succ nn ih =>
    intro l1 l2 ρ h
    replace h : stM_X3_wouldShed_38  K (fun l1 l2 ρ => lpM_X3_wouldShed_38  K nn (l1, l2, ρ)) l1 l2 ρ := h
    unfold stM_X3_wouldShed_38 at h
    refine sd_iload_n (pc := 38) dX3_wouldShed_38 rfl 2 rfl ?_
    refine sd_iload_n (pc := 39) dX3_wouldShed_39 rfl 1 rfl ?_
    refine sd_icmpge (pc := 40) dX3_wouldShed_40 (tgt := 53) (by decide) ⟨fun c14 => ?_, fun c14 => ?_⟩
    · have h := h.1 c14
      refine sd_aload_n (pc := 53) dX3_wouldShed_53 rfl 0 rfl ?_
      refine sd_getR (pc := 54) dX3_wouldShed_54 (ci := 2) rfl in_X3 (kf := 1) (by decide) q2074 (mo_gR hM (j := 1) rfl ?_)
      refine sd_bipush (pc := 57) dX3_wouldShed_57 (v := 9) (by decide) ?_
      refine sd_iaload (pc := 59) dX3_wouldShed_59 (mAld.to hM h (fun v10 h => ?_))
      refine sd_aload_n (pc := 60) dX3_wouldShed_60 rfl 0 rfl ?_
      refine sd_getR (pc := 61) dX3_wouldShed_61 (ci := 2) rfl in_X3 (kf := 3) (by decide) q2076 (mo_gR hM (j := 3) rfl ?_)
      refine sd_bipush (pc := 64) dX3_wouldShed_64 (v := 9) (by decide) ?_
      refine sd_iaload (pc := 66) dX3_wouldShed_66 (mAld.to hM h (fun v11 h => ?_))
      refine sd_isub (pc := 67) dX3_wouldShed_67 ?_
      refine sd_istore_n (pc := 68) dX3_wouldShed_68 rfl (by decide) (ls' := [(2, .int (v10 - v11)), (0, .ref (mb 0)), (1, .int l1)]) rfl ?_
      refine sd_aload_n (pc := 69) dX3_wouldShed_69 rfl 1 rfl ?_
      refine sd_getR (pc := 70) dX3_wouldShed_70 (ci := 2) rfl in_X3 (kf := 3) (by decide) q2076 (mo_gR hM (j := 3) rfl ?_)
      refine sd_aload_n (pc := 73) dX3_wouldShed_73 rfl 1 rfl ?_
      refine sd_getR (pc := 74) dX3_wouldShed_74 (ci := 2) rfl in_X3 (kf := 1) (by decide) q2074 (mo_gR hM (j := 1) rfl ?_)
      refine sd_callS (k := k) (n := n) (d0 := d) (k0 := 0) (n0 := 0) (As := [.ref (mb 3), .ref (mb 1)]) (st := []) (pc := 77) dX3_wouldShed_77 q2197 q2198 q91 q2199 2 (by decide +kernel) rfl (Nat.le_refl _) (by decide) (Nat.le_of_ble_eq_true rfl) (Cx.mono (cm_X3_copyRow hM (by omega)  h) (mV.to (fun ρ12 h => ?_)) (xo rfl))
      refine sd_iload_n (pc := 80) dX3_wouldShed_80 rfl 0 rfl ?_
      exact sd_ireturn (pc := 81) dX3_wouldShed_81 (ty0 := .int) rfl rfl (mI.ok h)
    · have h := h.2 c14
      refine sd_aload_n (pc := 43) dX3_wouldShed_43 rfl 0 rfl ?_
      refine sd_callV (k := k) (n := n) (d0 := d) (k0 := 0) (n0 := 0) (As := []) (st := []) (pc := 44) dX3_wouldShed_44 (ci := 2) rfl (mo_isC hM) rfl q2383 q2385 qs53 q91 q2386 0 (by decide +kernel) rfl (Nat.le_refl _) (by decide) (Nat.le_of_ble_eq_true rfl) (Cx.mono (cm_X3_goDay hM (by omega)  h) (mV.to (fun ρ13 h => ?_)) (xo rfl))
      refine sd_iinc (pc := 47) dX3_wouldShed_47 2 rfl (v := (l2 + (1 : Int32))) rfl (by decide) (ls' := [(2, .int (l2 + (1 : Int32))), (0, .ref (mb 0)), (1, .int l1)]) rfl ?_
      refine sd_goto (pc := 50) dX3_wouldShed_50 (tgt := 38) (by decide) ?_
      exact sd_loc [1, 2, 0] rfl (ih _ _ _ h)
theorem okM_X3_wouldShed_38 {en : yEn} {mb : Nat → Nat} {σ : yH} (hM : mOK en mb σ) {d : Nat} (hd : 8 ≤ d + 1) {K : Int32 → yMS → Prop} {X : String → Addr → yH → Prop} {k n : Nat} (l1 : Int32) (l2 : Int32) (ρ : yMS) (h : wpM_X3_wouldShed_38  l1 l2 ρ K) : Wx en (d + 1) mX3_wouldShed 38 [(0, .ref (mb 0)), (1, .int l1), (2, .int l2)] [] (mH en mb ρ σ) k n (mQ en mb σ (mI K)) X := by
  obtain ⟨nn, h⟩ := h
  exact olM_X3_wouldShed_38 hM hd  nn _ _ _ h
def wpM_X3_wouldShed (ρ : yMS) (x1 : Int32) (K : Int32 → yMS → Prop) : Prop :=
  wpM_X3_isBetween ρ x1 (0 : Int32) (90 : Int32) (fun r2 ρ1 => wpM_X3_fails ρ1 (1 : Int32) (if (r2 = 0) then (1 : Int32) else (0 : Int32)) (fun r5 ρ4 => (((r5 = 0) → wpM_X3_copyRow ρ4 1 3 (fun ρ6 => wpM_X3_wouldShed_38  x1 (0 : Int32) ρ6 K)) ∧ (¬ (r5 = 0) → K (0 : Int32) ρ4))))
theorem okM_X3_wouldShed {en : yEn} {mb : Nat → Nat} {σ : yH} (hM : mOK en mb σ) {d : Nat} (hd : 8 ≤ d + 1) {ρ : yMS} {x1 : Int32} {K : Int32 → yMS → Prop} {X : String → Addr → yH → Prop} {k n : Nat}  (h : wpM_X3_wouldShed ρ x1 K) : Wx en (d + 1) mX3_wouldShed 0 [(0, .ref (mb 0)), (1, .int x1)] [] (mH en mb ρ σ) k n (mQ en mb σ (mI K)) X := by
  unfold wpM_X3_wouldShed at h
  refine sd_aload_n (pc := 0) dX3_wouldShed_0 rfl 0 rfl ?_
  refine sd_iconst (pc := 1) dX3_wouldShed_1 (v := 1) (by decide) ?_
  refine sd_iload_n (pc := 2) dX3_wouldShed_2 rfl 1 rfl ?_
  refine sd_iconst (pc := 3) dX3_wouldShed_3 (v := 0) (by decide) ?_
  refine sd_bipush (pc := 4) dX3_wouldShed_4 (v := 90) (by decide) ?_
  refine sd_callS (k := k) (n := n) (d0 := d) (k0 := 0) (n0 := 0) (As := [.int x1, .int (0 : Int32), .int (90 : Int32)]) (st := [.int (1 : Int32), .ref (mb 0)]) (pc := 6) dX3_wouldShed_6 q2167 q2168 q91 q2169 3 (by decide +kernel) rfl (Nat.le_refl _) (by decide) (Nat.le_of_ble_eq_true rfl) (Cx.mono (cm_X3_isBetween hM (by omega)  h) (mI.to (fun r2 ρ1 h => ?_)) (xo rfl))
  have h8 : Wx en (d + 1) mX3_wouldShed 17 [(0, .ref (mb 0)), (1, .int x1)] (.int (if (r2 = 0) then (1 : Int32) else (0 : Int32)) :: .int (1 : Int32) :: .ref (mb 0) :: []) (mH en mb ρ1 σ) k n (mQ en mb σ (mI K)) X := by
    refine sd_callV (k := k) (n := n) (d0 := d) (k0 := 0) (n0 := 0) (As := [.int (1 : Int32), .int (if (r2 = 0) then (1 : Int32) else (0 : Int32))]) (st := []) (pc := 17) dX3_wouldShed_17 (ci := 2) rfl (mo_isC hM) rfl q2170 q2172 qs26 q91 q2173 2 (by decide +kernel) rfl (Nat.le_refl _) (by decide) (Nat.le_of_ble_eq_true rfl) (Cx.mono (cm_X3_fails hM (by omega)  h) (mI.to (fun r5 ρ4 h => ?_)) (xo rfl))
    refine sd_ifeq (pc := 20) dX3_wouldShed_20 (tgt := 25) (by decide) ⟨fun c7 => ?_, fun c7 => ?_⟩
    · have h := h.1 c7
      refine sd_aload_n (pc := 25) dX3_wouldShed_25 rfl 0 rfl ?_
      refine sd_getR (pc := 26) dX3_wouldShed_26 (ci := 2) rfl in_X3 (kf := 1) (by decide) q2074 (mo_gR hM (j := 1) rfl ?_)
      refine sd_aload_n (pc := 29) dX3_wouldShed_29 rfl 0 rfl ?_
      refine sd_getR (pc := 30) dX3_wouldShed_30 (ci := 2) rfl in_X3 (kf := 3) (by decide) q2076 (mo_gR hM (j := 3) rfl ?_)
      refine sd_callS (k := k) (n := n) (d0 := d) (k0 := 0) (n0 := 0) (As := [.ref (mb 1), .ref (mb 3)]) (st := []) (pc := 33) dX3_wouldShed_33 q2197 q2198 q91 q2199 2 (by decide +kernel) rfl (Nat.le_refl _) (by decide) (Nat.le_of_ble_eq_true rfl) (Cx.mono (cm_X3_copyRow hM (by omega)  h) (mV.to (fun ρ6 h => ?_)) (xo rfl))
      refine sd_iconst (pc := 36) dX3_wouldShed_36 (v := 0) (by decide) ?_
      refine sd_istore_n (pc := 37) dX3_wouldShed_37 rfl (by decide) (ls' := [(2, .int (0 : Int32)), (0, .ref (mb 0)), (1, .int x1)]) rfl ?_
      exact sd_loc [1, 2, 0] rfl (okM_X3_wouldShed_38 hM (by omega)  _ _ _ h)
    · have h := h.2 c7
      refine sd_iconst (pc := 23) dX3_wouldShed_23 (v := 0) (by decide) ?_
      exact sd_ireturn (pc := 24) dX3_wouldShed_24 (ty0 := .int) rfl rfl (mI.ok h)
  have e9 := sd_iteIN h8
  refine sd_ifne (pc := 9) dX3_wouldShed_9 (tgt := 16) (by decide) ⟨fun c3 => ?_, fun c3 => ?_⟩
  · refine sd_iconst (pc := 16) dX3_wouldShed_16 (v := 0) (by decide) ?_
    exact (e9.1 c3)
  · refine sd_iconst (pc := 12) dX3_wouldShed_12 (v := 1) (by decide) ?_
    refine sd_goto (pc := 13) dX3_wouldShed_13 (tgt := 17) (by decide) ?_
    exact (e9.2 c3)
theorem cm_X3_wouldShed {en : yEn} {mb : Nat → Nat} {σ : yH} (hM : mOK en mb σ) {d : Nat} (hd : 8 ≤ d) {ρ : yMS} {x1 : Int32} {K : Int32 → yMS → Prop} {X : String → Addr → yH → Prop}  (h : wpM_X3_wouldShed ρ x1 K) : Cx en d 0 0 mX3_wouldShed [.ref (mb 0), .int x1] (mH en mb ρ σ) (mQ en mb σ (mI K)) X := by
  obtain ⟨d, rfl⟩ : ∃ e, d = e + 1 := ⟨d - 1, by omega⟩
  exact Cx.body (by decide +kernel) rfl (Nat.le_of_ble_eq_true rfl) (okM_X3_wouldShed hM (by omega)  h)
/-! noise()I -/
def wpM_X3_noise (ρ : yMS)  (K : Int32 → yMS → Prop) : Prop :=
  (mPut ρ 0 (0 : Int32) (fun ρ1 => wpM_X3_voices ρ1  (fun r3 ρ2 => K r3 ρ2)))
theorem okM_X3_noise {en : yEn} {mb : Nat → Nat} {σ : yH} (hM : mOK en mb σ) {d : Nat} (hd : 4 ≤ d + 1) {ρ : yMS}  {K : Int32 → yMS → Prop} {X : String → Addr → yH → Prop} {k n : Nat}  (h : wpM_X3_noise ρ  K) : Wx en (d + 1) mX3_noise 0 [(0, .ref (mb 0))] [] (mH en mb ρ σ) k n (mQ en mb σ (mI K)) X := by
  unfold wpM_X3_noise at h
  refine sd_aload_n (pc := 0) dX3_noise_0 rfl 0 rfl ?_
  refine sd_iconst (pc := 1) dX3_noise_1 (v := 0) (by decide) ?_
  refine sd_putf (pc := 2) dX3_noise_2 (ci := 2) rfl in_X3 tyX3 tyX3_ok nmX3 (kf := 0) (by decide) q2073 rfl (ty := .int) rfl rfl rfl (mPut.to hM (by decide) rfl h (fun ρ1 h => ?_))
  refine sd_aload_n (pc := 5) dX3_noise_5 rfl 0 rfl ?_
  refine sd_callV (k := k) (n := n) (d0 := d) (k0 := 0) (n0 := 0) (As := []) (st := []) (pc := 6) dX3_noise_6 (ci := 2) rfl (mo_isC hM) rfl q2419 q2421 qs62 q91 q2422 0 (by decide +kernel) rfl (Nat.le_refl _) (by decide) (Nat.le_of_ble_eq_true rfl) (Cx.mono (cm_X3_voices hM (by omega)  h) (mI.to (fun r3 ρ2 h => ?_)) (xo rfl))
  exact sd_ireturn (pc := 9) dX3_noise_9 (ty0 := .int) rfl rfl (mI.ok h)
theorem cm_X3_noise {en : yEn} {mb : Nat → Nat} {σ : yH} (hM : mOK en mb σ) {d : Nat} (hd : 4 ≤ d) {ρ : yMS}  {K : Int32 → yMS → Prop} {X : String → Addr → yH → Prop}  (h : wpM_X3_noise ρ  K) : Cx en d 0 0 mX3_noise [.ref (mb 0)] (mH en mb ρ σ) (mQ en mb σ (mI K)) X := by
  obtain ⟨d, rfl⟩ : ∃ e, d = e + 1 := ⟨d - 1, by omega⟩
  exact Cx.body (by decide +kernel) rfl (Nat.le_of_ble_eq_true rfl) (okM_X3_noise hM (by omega)  h)
/-! write(Ljava/lang/String;)V -/
def stM_X3_write_2 (K : yMS → Prop) (rec : List Int32 → Int32 → yMS → Prop) (l1 : List Int32) (l2 : Int32) (ρ : yMS) : Prop :=
  mLet (nI l1.length) (fun r1 => (((r1 ≤ l2) → K ρ) ∧ (¬ (r1 ≤ l2) → (vp_in l2 l1.length ∧ mLet (l1.getD l2.toNatClampNeg 0) (fun r2 => mCst ρ 14 (ρ.1 17) (vp_nar .char r2) (fun ρ3 => (mPut ρ3 17 ((ρ3.1 17) + (1 : Int32)) (fun ρ4 => rec l1 (l2 + (1 : Int32)) ρ4))))))))
def lpM_X3_write_2 (K : yMS → Prop) : Nat → List Int32 × Int32 × yMS → Prop := lpN (fun r s => stM_X3_write_2  K (fun l1 l2 ρ => r (l1, l2, ρ)) s.1 s.2.1 s.2.2)
def wpM_X3_write_2 (l1 : List Int32) (l2 : Int32) (ρ : yMS) (K : yMS → Prop) : Prop := ∃ nn, lpM_X3_write_2  K nn (l1, l2, ρ)
theorem olM_X3_write_2 {en : yEn} {mb : Nat → Nat} {σ : yH} (hM : mOK en mb σ) {d : Nat} (hd : 13 ≤ d + 1) {K : yMS → Prop} {X : String → Addr → yH → Prop} {k n : Nat} : ∀ (nn : Nat) (ql1 : Nat) (l1 : List Int32) (hl1 : strAt en σ ql1 l1) (l2 : Int32) (ρ : yMS), lpM_X3_write_2  K nn (l1, l2, ρ) → Wx en (d + 1) mX3_write 2 [(0, .ref (mb 0)), (1, .ref ql1), (2, .int l2)] [] (mH en mb ρ σ) k n (mQ en mb σ (mV K)) X := by
  intro nn
  induction nn with
  | zero => intros; rename_i h; exact h.elim
  | succ nn ih =>
    intro ql1 l1 hl1 l2 ρ h
    replace h : stM_X3_write_2  K (fun l1 l2 ρ => lpM_X3_write_2  K nn (l1, l2, ρ)) l1 l2 ρ := h
    unfold stM_X3_write_2 at h
    refine sd_iload_n (pc := 2) dX3_write_2 rfl 2 rfl ?_
    refine sd_aload_n (pc := 3) dX3_write_3 rfl 1 rfl ?_
    refine sd_callV (k := k) (n := n) (d0 := d) (k0 := 0) (n0 := 0) (As := []) (st := [.int l2]) (pc := 4) dX3_write_4 (ci := 15) rfl (str_isC (strAt.mH hM hl1)) rfl q2448 q619 q620 q89 q621 0 (by decide +kernel) rfl (Nat.le_refl _) (by decide) (Nat.le_of_ble_eq_true rfl) (Cx.mono (cs_lengthM hM (by omega) hl1 h) (kI.to (fun r1 σ9 h => ?_)) (xo rfl))
    obtain ⟨rfl, h⟩ := h
    refine sd_icmpge (pc := 7) dX3_write_7 (tgt := 40) (by decide) ⟨fun c5 => ?_, fun c5 => ?_⟩
    · have h := h.1 c5
      exact sd_return (pc := 40) dX3_write_40 rfl (mV.ok h)
    · have h := h.2 c5
      refine sd_aload_n (pc := 10) dX3_write_10 rfl 0 rfl ?_
      refine sd_getR (pc := 11) dX3_write_11 (ci := 2) rfl in_X3 (kf := 16) (by decide) q2089 (mo_gR hM (j := 14) rfl ?_)
      refine sd_aload_n (pc := 14) dX3_write_14 rfl 0 rfl ?_
      refine sd_getI (pc := 15) dX3_write_15 (ci := 2) rfl in_X3 (kf := 17) (by decide) q2090 (mo_gI hM rfl ?_)
      refine sd_aload_n (pc := 18) dX3_write_18 rfl 1 rfl ?_
      refine sd_iload_n (pc := 19) dX3_write_19 rfl 2 rfl ?_
      refine sd_callV (k := k) (n := n) (d0 := d) (k0 := 0) (n0 := 0) (As := [.int l2]) (st := [.int (ρ.1 17), .ref (mb 14)]) (pc := 20) dX3_write_20 (ci := 15) rfl (str_isC (strAt.mH hM hl1)) rfl q2449 q1622 q2594 q89 q1624 1 (by decide +kernel) rfl (Nat.le_refl _) (by decide) (Nat.le_of_ble_eq_true rfl) (Cx.mono (cs_charAtM hM (by omega) hl1 h) (kI.to (fun r2 σ9 h => ?_)) (xo rfl))
      obtain ⟨rfl, h⟩ := h
      refine sd_castore (pc := 23) dX3_write_23 (mCst.to hM h (fun ρ3 h => ?_))
      refine sd_aload_n (pc := 24) dX3_write_24 rfl 0 rfl ?_
      refine sd_dup (pc := 25) dX3_write_25 rfl ?_
      refine sd_getI (pc := 26) dX3_write_26 (ci := 2) rfl in_X3 (kf := 17) (by decide) q2090 (mo_gI hM rfl ?_)
      refine sd_iconst (pc := 29) dX3_write_29 (v := 1) (by decide) ?_
      refine sd_iadd (pc := 30) dX3_write_30 ?_
      refine sd_putf (pc := 31) dX3_write_31 (ci := 2) rfl in_X3 tyX3 tyX3_ok nmX3 (kf := 17) (by decide) q2090 rfl (ty := .int) rfl rfl rfl (mPut.to hM (by decide) rfl h (fun ρ4 h => ?_))
      refine sd_iinc (pc := 34) dX3_write_34 2 rfl (v := (l2 + (1 : Int32))) rfl (by decide) (ls' := [(2, .int (l2 + (1 : Int32))), (0, .ref (mb 0)), (1, .ref ql1)]) rfl ?_
      refine sd_goto (pc := 37) dX3_write_37 (tgt := 2) (by decide) ?_
      exact sd_loc [1, 2, 0] rfl (ih _ _ hl1 _ _ h)
theorem okM_X3_write_2 {en : yEn} {mb : Nat → Nat} {σ : yH} (hM : mOK en mb σ) {d : Nat} (hd : 13 ≤ d + 1) {K : yMS → Prop} {X : String → Addr → yH → Prop} {k n : Nat} (ql1 : Nat) (l1 : List Int32) (hl1 : strAt en σ ql1 l1) (l2 : Int32) (ρ : yMS) (h : wpM_X3_write_2  l1 l2 ρ K) : Wx en (d + 1) mX3_write 2 [(0, .ref (mb 0)), (1, .ref ql1), (2, .int l2)] [] (mH en mb ρ σ) k n (mQ en mb σ (mV K)) X := by
  obtain ⟨nn, h⟩ := h
  exact olM_X3_write_2 hM hd  nn _ _ hl1 _ _ h
def wpM_X3_write (ρ : yMS) (x1 : List Int32) (K : yMS → Prop) : Prop :=
  wpM_X3_write_2  x1 (0 : Int32) ρ K
theorem okM_X3_write {en : yEn} {mb : Nat → Nat} {σ : yH} (hM : mOK en mb σ) {d : Nat} (hd : 13 ≤ d + 1) {ρ : yMS} {qx1 : Nat} {x1 : List Int32} {K : yMS → Prop} {X : String → Addr → yH → Prop} {k n : Nat} (hx1 : strAt en σ qx1 x1) (h : wpM_X3_write ρ x1 K) : Wx en (d + 1) mX3_write 0 [(0, .ref (mb 0)), (1, .ref qx1)] [] (mH en mb ρ σ) k n (mQ en mb σ (mV K)) X := by
  unfold wpM_X3_write at h
  refine sd_iconst (pc := 0) dX3_write_0 (v := 0) (by decide) ?_
  refine sd_istore_n (pc := 1) dX3_write_1 rfl (by decide) (ls' := [(2, .int (0 : Int32)), (0, .ref (mb 0)), (1, .ref qx1)]) rfl ?_
  exact sd_loc [1, 2, 0] rfl (okM_X3_write_2 hM (by omega)  _ _ hx1 _ _ h)
theorem cm_X3_write {en : yEn} {mb : Nat → Nat} {σ : yH} (hM : mOK en mb σ) {d : Nat} (hd : 13 ≤ d) {ρ : yMS} {qx1 : Nat} {x1 : List Int32} {K : yMS → Prop} {X : String → Addr → yH → Prop} (hx1 : strAt en σ qx1 x1) (h : wpM_X3_write ρ x1 K) : Cx en d 0 0 mX3_write [.ref (mb 0), .ref qx1] (mH en mb ρ σ) (mQ en mb σ (mV K)) X := by
  obtain ⟨d, rfl⟩ : ∃ e, d = e + 1 := ⟨d - 1, by omega⟩
  exact Cx.body (by decide +kernel) rfl (Nat.le_of_ble_eq_true rfl) (okM_X3_write hM (by omega) hx1 h)
/-! writeNumber(I)V -/
def bdM_X3_writeNumber (R : yMS → Int32 → (yMS → Prop) → Prop) (ρ : yMS) (x1 : Int32) (K : yMS → Prop) : Prop :=
  (((x1 ≤ (9 : Int32)) → mCst ρ 14 (ρ.1 17) (vp_nar .char ((((48 : Int32) + (x1 - x1 / (10 : Int32) * (10 : Int32))).toUInt32 % 65536).toInt32)) (fun ρ1 => (mPut ρ1 17 ((ρ1.1 17) + (1 : Int32)) (fun ρ2 => K ρ2)))) ∧ (¬ (x1 ≤ (9 : Int32)) → R ρ (x1 / (10 : Int32)) (fun ρ3 => mCst ρ3 14 (ρ3.1 17) (vp_nar .char ((((48 : Int32) + (x1 - x1 / (10 : Int32) * (10 : Int32))).toUInt32 % 65536).toInt32)) (fun ρ4 => (mPut ρ4 17 ((ρ4.1 17) + (1 : Int32)) (fun ρ5 => K ρ5))))))
def wpM_X3_writeNumber : Nat → yMS → Int32 → (yMS → Prop) → Prop
  | 0, _ , _ , _ => False
  | f+1, ρ, x1, K => bdM_X3_writeNumber (fun ρ x1 K => wpM_X3_writeNumber f ρ x1 K) ρ x1 K
theorem okM_X3_writeNumber {en : yEn} {mb : Nat → Nat} {σ : yH} (hM : mOK en mb σ) {d : Nat} (hd : 1 ≤ d + 1) {K : yMS → Prop} {X : String → Addr → yH → Prop} {k n : Nat} {R : yMS → Int32 → (yMS → Prop) → Prop} (hR : ∀ (ρ : yMS) (x1 : Int32) (K : yMS → Prop) (X : String → Addr → yH → Prop), R ρ x1 K → Cx en d 0 0 mX3_writeNumber [.ref (mb 0), .int x1] (mH en mb ρ σ) (mQ en mb σ (mV K)) X) {ρ : yMS} {x1 : Int32}  (h : bdM_X3_writeNumber R ρ x1 K) : Wx en (d + 1) mX3_writeNumber 0 [(0, .ref (mb 0)), (1, .int x1)] [] (mH en mb ρ σ) k n (mQ en mb σ (mV K)) X := by
  unfold bdM_X3_writeNumber at h
  refine sd_iload_n (pc := 0) dX3_writeNumber_0 rfl 1 rfl ?_
  refine sd_bipush (pc := 1) dX3_writeNumber_1 (v := 9) (by decide) ?_
  refine sd_icmple (pc := 3) dX3_writeNumber_3 (tgt := 14) (by decide) ⟨fun c6 => ?_, fun c6 => ?_⟩
  · have h := h.1 c6
    refine sd_aload_n (pc := 14) dX3_writeNumber_14 rfl 0 rfl ?_
    refine sd_getR (pc := 15) dX3_writeNumber_15 (ci := 2) rfl in_X3 (kf := 16) (by decide) q2089 (mo_gR hM (j := 14) rfl ?_)
    refine sd_aload_n (pc := 18) dX3_writeNumber_18 rfl 0 rfl ?_
    refine sd_getI (pc := 19) dX3_writeNumber_19 (ci := 2) rfl in_X3 (kf := 17) (by decide) q2090 (mo_gI hM rfl ?_)
    refine sd_bipush (pc := 22) dX3_writeNumber_22 (v := 48) (by decide) ?_
    refine sd_iload_n (pc := 24) dX3_writeNumber_24 rfl 1 rfl ?_
    refine sd_bipush (pc := 25) dX3_writeNumber_25 (v := 10) (by decide) ?_
    refine sd_irem (pc := 27) dX3_writeNumber_27 (by decide) ?_
    refine sd_iadd (pc := 28) dX3_writeNumber_28 ?_
    refine sd_i2c (pc := 29) dX3_writeNumber_29 ?_
    refine sd_castore (pc := 30) dX3_writeNumber_30 (mCst.to hM h (fun ρ1 h => ?_))
    refine sd_aload_n (pc := 31) dX3_writeNumber_31 rfl 0 rfl ?_
    refine sd_dup (pc := 32) dX3_writeNumber_32 rfl ?_
    refine sd_getI (pc := 33) dX3_writeNumber_33 (ci := 2) rfl in_X3 (kf := 17) (by decide) q2090 (mo_gI hM rfl ?_)
    refine sd_iconst (pc := 36) dX3_writeNumber_36 (v := 1) (by decide) ?_
    refine sd_iadd (pc := 37) dX3_writeNumber_37 ?_
    refine sd_putf (pc := 38) dX3_writeNumber_38 (ci := 2) rfl in_X3 tyX3 tyX3_ok nmX3 (kf := 17) (by decide) q2090 rfl (ty := .int) rfl rfl rfl (mPut.to hM (by decide) rfl h (fun ρ2 h => ?_))
    exact sd_return (pc := 41) dX3_writeNumber_41 rfl (mV.ok h)
  · have h := h.2 c6
    refine sd_aload_n (pc := 6) dX3_writeNumber_6 rfl 0 rfl ?_
    refine sd_iload_n (pc := 7) dX3_writeNumber_7 rfl 1 rfl ?_
    refine sd_bipush (pc := 8) dX3_writeNumber_8 (v := 10) (by decide) ?_
    refine sd_idiv (pc := 10) dX3_writeNumber_10 (by decide) ?_
    refine sd_callV (k := k) (n := n) (d0 := d) (k0 := 0) (n0 := 0) (As := [.int (x1 / (10 : Int32))]) (st := []) (pc := 11) dX3_writeNumber_11 (ci := 2) rfl (mo_isC hM) rfl q2439 q2441 qs63 q91 q2442 1 (by decide +kernel) rfl (Nat.le_refl _) (by decide) (Nat.le_of_ble_eq_true rfl) (Cx.mono (hR _ _ _ _ h) (mV.to (fun ρ3 h => ?_)) (xo rfl))
    refine sd_aload_n (pc := 14) dX3_writeNumber_14 rfl 0 rfl ?_
    refine sd_getR (pc := 15) dX3_writeNumber_15 (ci := 2) rfl in_X3 (kf := 16) (by decide) q2089 (mo_gR hM (j := 14) rfl ?_)
    refine sd_aload_n (pc := 18) dX3_writeNumber_18 rfl 0 rfl ?_
    refine sd_getI (pc := 19) dX3_writeNumber_19 (ci := 2) rfl in_X3 (kf := 17) (by decide) q2090 (mo_gI hM rfl ?_)
    refine sd_bipush (pc := 22) dX3_writeNumber_22 (v := 48) (by decide) ?_
    refine sd_iload_n (pc := 24) dX3_writeNumber_24 rfl 1 rfl ?_
    refine sd_bipush (pc := 25) dX3_writeNumber_25 (v := 10) (by decide) ?_
    refine sd_irem (pc := 27) dX3_writeNumber_27 (by decide) ?_
    refine sd_iadd (pc := 28) dX3_writeNumber_28 ?_
    refine sd_i2c (pc := 29) dX3_writeNumber_29 ?_
    refine sd_castore (pc := 30) dX3_writeNumber_30 (mCst.to hM h (fun ρ4 h => ?_))
    refine sd_aload_n (pc := 31) dX3_writeNumber_31 rfl 0 rfl ?_
    refine sd_dup (pc := 32) dX3_writeNumber_32 rfl ?_
    refine sd_getI (pc := 33) dX3_writeNumber_33 (ci := 2) rfl in_X3 (kf := 17) (by decide) q2090 (mo_gI hM rfl ?_)
    refine sd_iconst (pc := 36) dX3_writeNumber_36 (v := 1) (by decide) ?_
    refine sd_iadd (pc := 37) dX3_writeNumber_37 ?_
    refine sd_putf (pc := 38) dX3_writeNumber_38 (ci := 2) rfl in_X3 tyX3 tyX3_ok nmX3 (kf := 17) (by decide) q2090 rfl (ty := .int) rfl rfl rfl (mPut.to hM (by decide) rfl h (fun ρ5 h => ?_))
    exact sd_return (pc := 41) dX3_writeNumber_41 rfl (mV.ok h)
theorem cm_X3_writeNumber {en : yEn} {mb : Nat → Nat} {σ : yH} (hM : mOK en mb σ) : ∀ {f d : Nat} (_ : 1 + f ≤ d) {ρ : yMS} {x1 : Int32} {K : yMS → Prop} {X : String → Addr → yH → Prop} (_ : wpM_X3_writeNumber f ρ x1 K), Cx en d 0 0 mX3_writeNumber [.ref (mb 0), .int x1] (mH en mb ρ σ) (mQ en mb σ (mV K)) X := by
  intro f
  induction f with
  | zero => intros; rename_i h; exact h.elim
  | succ f ih =>
    intro d hd ρ x1 K X h
    obtain ⟨d, rfl⟩ : ∃ e, d = e + 1 := ⟨d - 1, by omega⟩
    exact Cx.body (by decide +kernel) rfl (Nat.le_of_ble_eq_true rfl) (okM_X3_writeNumber hM (by omega) (fun ρ x1 K X h => ih (by omega) h) h)
/-! line(I)I -/
def stM_X3_line_40 (K : Int32 → yMS → Prop) (rec : Int32 → Int32 → yMS → Prop) (l1 : Int32) (l2 : Int32) (ρ : yMS) : Prop :=
  mAld ρ 1 (10 : Int32) (fun v12 => (((v12 ≤ l2) → mAld ρ 1 ((13 : Int32) + l1) (fun v13 => (((v13 ≤ 0) → mAld ρ 1 (1 : Int32) (fun v14 => ((¬ (v14 = l1) → wpM_X3_write ρ ([] : List Int32) (fun ρ15 => K (ρ15.1 17) ρ15)) ∧ ((v14 = l1) → wpM_X3_write ρ ([32, 102, 111, 120] : List Int32) (fun ρ16 => K (ρ16.1 17) ρ16))))) ∧ (¬ (v13 ≤ 0) → wpM_X3_write ρ ([32, 102] : List Int32) (fun ρ18 => mAld ρ18 1 ((13 : Int32) + l1) (fun v19 => wpM_X3_writeNumber 12 ρ18 v19 (fun ρ20 => mAld ρ20 1 (1 : Int32) (fun v21 => ((¬ (v21 = l1) → wpM_X3_write ρ20 ([] : List Int32) (fun ρ22 => K (ρ22.1 17) ρ22)) ∧ ((v21 = l1) → wpM_X3_write ρ20 ([32, 102, 111, 120] : List Int32) (fun ρ23 => K (ρ23.1 17) ρ23))))))))))) ∧ (¬ (v12 ≤ l2) → wpM_X3_of ρ l2 (1 : Int32) (fun r27 ρ26 => ((¬ (r27 = l1) → rec l1 (l2 + (1 : Int32)) ρ26) ∧ ((r27 = l1) → wpM_X3_isHen ρ26 l2 (fun r29 ρ28 => (((r29 = 0) → wpM_X3_write ρ28 ([32, 99] : List Int32) (fun ρ30 => wpM_X3_writeNumber 12 ρ30 l2 (fun ρ31 => wpM_X3_hasEggs ρ31 l2 (fun r33 ρ32 => (((r33 = 0) → rec l1 (l2 + (1 : Int32)) ρ32) ∧ (¬ (r33 = 0) → wpM_X3_write ρ32 ([43] : List Int32) (fun ρ34 => wpM_X3_of ρ34 l2 (2 : Int32) (fun r36 ρ35 => wpM_X3_writeNumber 12 ρ35 r36 (fun ρ37 => rec l1 (l2 + (1 : Int32)) ρ37))))))))) ∧ (¬ (r29 = 0) → wpM_X3_write ρ28 ([32, 104] : List Int32) (fun ρ39 => wpM_X3_writeNumber 12 ρ39 l2 (fun ρ40 => wpM_X3_hasEggs ρ40 l2 (fun r42 ρ41 => (((r42 = 0) → rec l1 (l2 + (1 : Int32)) ρ41) ∧ (¬ (r42 = 0) → wpM_X3_write ρ41 ([43] : List Int32) (fun ρ43 => wpM_X3_of ρ43 l2 (2 : Int32) (fun r45 ρ44 => wpM_X3_writeNumber 12 ρ44 r45 (fun ρ46 => rec l1 (l2 + (1 : Int32)) ρ46)))))))))))))))))
def lpM_X3_line_40 (K : Int32 → yMS → Prop) : Nat → Int32 × Int32 × yMS → Prop := lpN (fun r s => stM_X3_line_40  K (fun l1 l2 ρ => r (l1, l2, ρ)) s.1 s.2.1 s.2.2)
def wpM_X3_line_40 (l1 : Int32) (l2 : Int32) (ρ : yMS) (K : Int32 → yMS → Prop) : Prop := ∃ nn, lpM_X3_line_40  K nn (l1, l2, ρ)
theorem olM_X3_line_40 {en : yEn} {mb : Nat → Nat} {σ : yH} (hM : mOK en mb σ) {d : Nat} (hd : 14 ≤ d + 1) {K : Int32 → yMS → Prop} {X : String → Addr → yH → Prop} {k n : Nat} : ∀ (nn : Nat) (l1 : Int32) (l2 : Int32) (ρ : yMS), lpM_X3_line_40  K nn (l1, l2, ρ) → Wx en (d + 1) mX3_line 40 [(0, .ref (mb 0)), (1, .int l1), (2, .int l2)] [] (mH en mb ρ σ) k n (mQ en mb σ (mI K)) X := by
  intro nn
  induction nn with
  | zero => intros; rename_i h; exact h.elim
  | succ nn ih =>
    intro l1 l2 ρ h
    replace h : stM_X3_line_40  K (fun l1 l2 ρ => lpM_X3_line_40  K nn (l1, l2, ρ)) l1 l2 ρ := h
    unfold stM_X3_line_40 at h
    refine sd_iload_n (pc := 40) dX3_line_40 rfl 2 rfl ?_
    refine sd_aload_n (pc := 41) dX3_line_41 rfl 0 rfl ?_
    refine sd_getR (pc := 42) dX3_line_42 (ci := 2) rfl in_X3 (kf := 1) (by decide) q2074 (mo_gR hM (j := 1) rfl ?_)
    refine sd_bipush (pc := 45) dX3_line_45 (v := 10) (by decide) ?_
    refine sd_iaload (pc := 47) dX3_line_47 (mAld.to hM h (fun v12 h => ?_))
    refine sd_icmpge (pc := 48) dX3_line_48 (tgt := 115) (by decide) ⟨fun c50 => ?_, fun c50 => ?_⟩
    · have h := h.1 c50
      refine sd_aload_n (pc := 115) dX3_line_115 rfl 0 rfl ?_
      refine sd_getR (pc := 116) dX3_line_116 (ci := 2) rfl in_X3 (kf := 1) (by decide) q2074 (mo_gR hM (j := 1) rfl ?_)
      refine sd_bipush (pc := 119) dX3_line_119 (v := 13) (by decide) ?_
      refine sd_iload_n (pc := 121) dX3_line_121 rfl 1 rfl ?_
      refine sd_iadd (pc := 122) dX3_line_122 ?_
      refine sd_iaload (pc := 123) dX3_line_123 (mAld.to hM h (fun v13 h => ?_))
      refine sd_ifle (pc := 124) dX3_line_124 (tgt := 146) (by decide) ⟨fun c25 => ?_, fun c25 => ?_⟩
      · have h := h.1 c25
        refine sd_aload_n (pc := 146) dX3_line_146 rfl 0 rfl ?_
        refine sd_aload_n (pc := 147) dX3_line_147 rfl 0 rfl ?_
        refine sd_getR (pc := 148) dX3_line_148 (ci := 2) rfl in_X3 (kf := 1) (by decide) q2074 (mo_gR hM (j := 1) rfl ?_)
        refine sd_iconst (pc := 151) dX3_line_151 (v := 1) (by decide) ?_
        refine sd_iaload (pc := 152) dX3_line_152 (mAld.to hM h (fun v14 h => ?_))
        refine sd_iload_n (pc := 153) dX3_line_153 rfl 1 rfl ?_
        refine sd_icmpne (pc := 154) dX3_line_154 (tgt := 162) (by decide) ⟨fun c17 => ?_, fun c17 => ?_⟩
        · have h := h.1 c17
          refine sd_ldcS (pc := 162) dX3_line_162 q2455 yn889 ?_
          refine sd_callV (k := k) (n := n) (d0 := d) (k0 := 0) (n0 := 0) (As := [.ref (y_str en "PeacockLawnsModel" 250)]) (st := []) (pc := 164) dX3_line_164 (ci := 2) rfl (mo_isC hM) rfl q2444 q2446 qs64 q91 q2447 1 (by decide +kernel) rfl (Nat.le_refl _) (by decide) (Nat.le_of_ble_eq_true rfl) (Cx.mono (cm_X3_write hM (by omega) (hM.2.2 12 _ rfl) h) (mV.to (fun ρ15 h => ?_)) (xo rfl))
          refine sd_aload_n (pc := 167) dX3_line_167 rfl 0 rfl ?_
          refine sd_getI (pc := 168) dX3_line_168 (ci := 2) rfl in_X3 (kf := 17) (by decide) q2090 (mo_gI hM rfl ?_)
          exact sd_ireturn (pc := 171) dX3_line_171 (ty0 := .int) rfl rfl (mI.ok h)
        · have h := h.2 c17
          refine sd_ldcS (pc := 157) dX3_line_157 q2454 yn878 ?_
          refine sd_goto (pc := 159) dX3_line_159 (tgt := 164) (by decide) ?_
          refine sd_callV (k := k) (n := n) (d0 := d) (k0 := 0) (n0 := 0) (As := [.ref (y_str en "PeacockLawnsModel" 248)]) (st := []) (pc := 164) dX3_line_164 (ci := 2) rfl (mo_isC hM) rfl q2444 q2446 qs64 q91 q2447 1 (by decide +kernel) rfl (Nat.le_refl _) (by decide) (Nat.le_of_ble_eq_true rfl) (Cx.mono (cm_X3_write hM (by omega) (hM.2.2 11 _ rfl) h) (mV.to (fun ρ16 h => ?_)) (xo rfl))
          refine sd_aload_n (pc := 167) dX3_line_167 rfl 0 rfl ?_
          refine sd_getI (pc := 168) dX3_line_168 (ci := 2) rfl in_X3 (kf := 17) (by decide) q2090 (mo_gI hM rfl ?_)
          exact sd_ireturn (pc := 171) dX3_line_171 (ty0 := .int) rfl rfl (mI.ok h)
      · have h := h.2 c25
        refine sd_aload_n (pc := 127) dX3_line_127 rfl 0 rfl ?_
        refine sd_ldcS (pc := 128) dX3_line_128 q2453 yn869 ?_
        refine sd_callV (k := k) (n := n) (d0 := d) (k0 := 0) (n0 := 0) (As := [.ref (y_str en "PeacockLawnsModel" 246)]) (st := []) (pc := 130) dX3_line_130 (ci := 2) rfl (mo_isC hM) rfl q2444 q2446 qs64 q91 q2447 1 (by decide +kernel) rfl (Nat.le_refl _) (by decide) (Nat.le_of_ble_eq_true rfl) (Cx.mono (cm_X3_write hM (by omega) (hM.2.2 10 _ rfl) h) (mV.to (fun ρ18 h => ?_)) (xo rfl))
        refine sd_aload_n (pc := 133) dX3_line_133 rfl 0 rfl ?_
        refine sd_aload_n (pc := 134) dX3_line_134 rfl 0 rfl ?_
        refine sd_getR (pc := 135) dX3_line_135 (ci := 2) rfl in_X3 (kf := 1) (by decide) q2074 (mo_gR hM (j := 1) rfl ?_)
        refine sd_bipush (pc := 138) dX3_line_138 (v := 13) (by decide) ?_
        refine sd_iload_n (pc := 140) dX3_line_140 rfl 1 rfl ?_
        refine sd_iadd (pc := 141) dX3_line_141 ?_
        refine sd_iaload (pc := 142) dX3_line_142 (mAld.to hM h (fun v19 h => ?_))
        refine sd_callV (k := k) (n := n) (d0 := d) (k0 := 0) (n0 := 0) (As := [.int v19]) (st := []) (pc := 143) dX3_line_143 (ci := 2) rfl (mo_isC hM) rfl q2439 q2441 qs63 q91 q2442 1 (by decide +kernel) rfl (Nat.le_refl _) (by decide) (Nat.le_of_ble_eq_true rfl) (Cx.mono (cm_X3_writeNumber hM (by omega)  h) (mV.to (fun ρ20 h => ?_)) (xo rfl))
        refine sd_aload_n (pc := 146) dX3_line_146 rfl 0 rfl ?_
        refine sd_aload_n (pc := 147) dX3_line_147 rfl 0 rfl ?_
        refine sd_getR (pc := 148) dX3_line_148 (ci := 2) rfl in_X3 (kf := 1) (by decide) q2074 (mo_gR hM (j := 1) rfl ?_)
        refine sd_iconst (pc := 151) dX3_line_151 (v := 1) (by decide) ?_
        refine sd_iaload (pc := 152) dX3_line_152 (mAld.to hM h (fun v21 h => ?_))
        refine sd_iload_n (pc := 153) dX3_line_153 rfl 1 rfl ?_
        refine sd_icmpne (pc := 154) dX3_line_154 (tgt := 162) (by decide) ⟨fun c24 => ?_, fun c24 => ?_⟩
        · have h := h.1 c24
          refine sd_ldcS (pc := 162) dX3_line_162 q2455 yn889 ?_
          refine sd_callV (k := k) (n := n) (d0 := d) (k0 := 0) (n0 := 0) (As := [.ref (y_str en "PeacockLawnsModel" 250)]) (st := []) (pc := 164) dX3_line_164 (ci := 2) rfl (mo_isC hM) rfl q2444 q2446 qs64 q91 q2447 1 (by decide +kernel) rfl (Nat.le_refl _) (by decide) (Nat.le_of_ble_eq_true rfl) (Cx.mono (cm_X3_write hM (by omega) (hM.2.2 12 _ rfl) h) (mV.to (fun ρ22 h => ?_)) (xo rfl))
          refine sd_aload_n (pc := 167) dX3_line_167 rfl 0 rfl ?_
          refine sd_getI (pc := 168) dX3_line_168 (ci := 2) rfl in_X3 (kf := 17) (by decide) q2090 (mo_gI hM rfl ?_)
          exact sd_ireturn (pc := 171) dX3_line_171 (ty0 := .int) rfl rfl (mI.ok h)
        · have h := h.2 c24
          refine sd_ldcS (pc := 157) dX3_line_157 q2454 yn878 ?_
          refine sd_goto (pc := 159) dX3_line_159 (tgt := 164) (by decide) ?_
          refine sd_callV (k := k) (n := n) (d0 := d) (k0 := 0) (n0 := 0) (As := [.ref (y_str en "PeacockLawnsModel" 248)]) (st := []) (pc := 164) dX3_line_164 (ci := 2) rfl (mo_isC hM) rfl q2444 q2446 qs64 q91 q2447 1 (by decide +kernel) rfl (Nat.le_refl _) (by decide) (Nat.le_of_ble_eq_true rfl) (Cx.mono (cm_X3_write hM (by omega) (hM.2.2 11 _ rfl) h) (mV.to (fun ρ23 h => ?_)) (xo rfl))
          refine sd_aload_n (pc := 167) dX3_line_167 rfl 0 rfl ?_
          refine sd_getI (pc := 168) dX3_line_168 (ci := 2) rfl in_X3 (kf := 17) (by decide) q2090 (mo_gI hM rfl ?_)
          exact sd_ireturn (pc := 171) dX3_line_171 (ty0 := .int) rfl rfl (mI.ok h)
    · have h := h.2 c50
      refine sd_aload_n (pc := 51) dX3_line_51 rfl 0 rfl ?_
      refine sd_iload_n (pc := 52) dX3_line_52 rfl 2 rfl ?_
      refine sd_iconst (pc := 53) dX3_line_53 (v := 1) (by decide) ?_
      refine sd_callV (k := k) (n := n) (d0 := d) (k0 := 0) (n0 := 0) (As := [.int l2, .int (1 : Int32)]) (st := []) (pc := 54) dX3_line_54 (ci := 2) rfl (mo_isC hM) rfl q2228 q2230 qs36 q91 q2231 2 (by decide +kernel) rfl (Nat.le_refl _) (by decide) (Nat.le_of_ble_eq_true rfl) (Cx.mono (cm_X3_of hM (by omega)  h) (mI.to (fun r27 ρ26 h => ?_)) (xo rfl))
      refine sd_iload_n (pc := 57) dX3_line_57 rfl 1 rfl ?_
      refine sd_icmpne (pc := 58) dX3_line_58 (tgt := 109) (by decide) ⟨fun c49 => ?_, fun c49 => ?_⟩
      · have h := h.1 c49
        refine sd_iinc (pc := 109) dX3_line_109 2 rfl (v := (l2 + (1 : Int32))) rfl (by decide) (ls' := [(2, .int (l2 + (1 : Int32))), (0, .ref (mb 0)), (1, .int l1)]) rfl ?_
        refine sd_goto (pc := 112) dX3_line_112 (tgt := 40) (by decide) ?_
        exact sd_loc [1, 2, 0] rfl (ih _ _ _ h)
      · have h := h.2 c49
        refine sd_aload_n (pc := 61) dX3_line_61 rfl 0 rfl ?_
        refine sd_aload_n (pc := 62) dX3_line_62 rfl 0 rfl ?_
        refine sd_iload_n (pc := 63) dX3_line_63 rfl 2 rfl ?_
        refine sd_callV (k := k) (n := n) (d0 := d) (k0 := 0) (n0 := 0) (As := [.int l2]) (st := [.ref (mb 0)]) (pc := 64) dX3_line_64 (ci := 2) rfl (mo_isC hM) rfl q2224 q2226 qs35 q91 q2227 1 (by decide +kernel) rfl (Nat.le_refl _) (by decide) (Nat.le_of_ble_eq_true rfl) (Cx.mono (cm_X3_isHen hM (by omega)  h) (mI.to (fun r29 ρ28 h => ?_)) (xo rfl))
        refine sd_ifeq (pc := 67) dX3_line_67 (tgt := 75) (by decide) ⟨fun c48 => ?_, fun c48 => ?_⟩
        · have h := h.1 c48
          refine sd_ldcS (pc := 75) dX3_line_75 q2451 yn852 ?_
          refine sd_callV (k := k) (n := n) (d0 := d) (k0 := 0) (n0 := 0) (As := [.ref (y_str en "PeacockLawnsModel" 242)]) (st := []) (pc := 77) dX3_line_77 (ci := 2) rfl (mo_isC hM) rfl q2444 q2446 qs64 q91 q2447 1 (by decide +kernel) rfl (Nat.le_refl _) (by decide) (Nat.le_of_ble_eq_true rfl) (Cx.mono (cm_X3_write hM (by omega) (hM.2.2 8 _ rfl) h) (mV.to (fun ρ30 h => ?_)) (xo rfl))
          refine sd_aload_n (pc := 80) dX3_line_80 rfl 0 rfl ?_
          refine sd_iload_n (pc := 81) dX3_line_81 rfl 2 rfl ?_
          refine sd_callV (k := k) (n := n) (d0 := d) (k0 := 0) (n0 := 0) (As := [.int l2]) (st := []) (pc := 82) dX3_line_82 (ci := 2) rfl (mo_isC hM) rfl q2439 q2441 qs63 q91 q2442 1 (by decide +kernel) rfl (Nat.le_refl _) (by decide) (Nat.le_of_ble_eq_true rfl) (Cx.mono (cm_X3_writeNumber hM (by omega)  h) (mV.to (fun ρ31 h => ?_)) (xo rfl))
          refine sd_aload_n (pc := 85) dX3_line_85 rfl 0 rfl ?_
          refine sd_iload_n (pc := 86) dX3_line_86 rfl 2 rfl ?_
          refine sd_callV (k := k) (n := n) (d0 := d) (k0 := 0) (n0 := 0) (As := [.int l2]) (st := []) (pc := 87) dX3_line_87 (ci := 2) rfl (mo_isC hM) rfl q2248 q2250 qs39 q91 q2251 1 (by decide +kernel) rfl (Nat.le_refl _) (by decide) (Nat.le_of_ble_eq_true rfl) (Cx.mono (cm_X3_hasEggs hM (by omega)  h) (mI.to (fun r33 ρ32 h => ?_)) (xo rfl))
          refine sd_ifeq (pc := 90) dX3_line_90 (tgt := 109) (by decide) ⟨fun c38 => ?_, fun c38 => ?_⟩
          · have h := h.1 c38
            refine sd_iinc (pc := 109) dX3_line_109 2 rfl (v := (l2 + (1 : Int32))) rfl (by decide) (ls' := [(2, .int (l2 + (1 : Int32))), (0, .ref (mb 0)), (1, .int l1)]) rfl ?_
            refine sd_goto (pc := 112) dX3_line_112 (tgt := 40) (by decide) ?_
            exact sd_loc [1, 2, 0] rfl (ih _ _ _ h)
          · have h := h.2 c38
            refine sd_aload_n (pc := 93) dX3_line_93 rfl 0 rfl ?_
            refine sd_ldcS (pc := 94) dX3_line_94 q2452 yn861 ?_
            refine sd_callV (k := k) (n := n) (d0 := d) (k0 := 0) (n0 := 0) (As := [.ref (y_str en "PeacockLawnsModel" 244)]) (st := []) (pc := 96) dX3_line_96 (ci := 2) rfl (mo_isC hM) rfl q2444 q2446 qs64 q91 q2447 1 (by decide +kernel) rfl (Nat.le_refl _) (by decide) (Nat.le_of_ble_eq_true rfl) (Cx.mono (cm_X3_write hM (by omega) (hM.2.2 9 _ rfl) h) (mV.to (fun ρ34 h => ?_)) (xo rfl))
            refine sd_aload_n (pc := 99) dX3_line_99 rfl 0 rfl ?_
            refine sd_aload_n (pc := 100) dX3_line_100 rfl 0 rfl ?_
            refine sd_iload_n (pc := 101) dX3_line_101 rfl 2 rfl ?_
            refine sd_iconst (pc := 102) dX3_line_102 (v := 2) (by decide) ?_
            refine sd_callV (k := k) (n := n) (d0 := d) (k0 := 0) (n0 := 0) (As := [.int l2, .int (2 : Int32)]) (st := [.ref (mb 0)]) (pc := 103) dX3_line_103 (ci := 2) rfl (mo_isC hM) rfl q2228 q2230 qs36 q91 q2231 2 (by decide +kernel) rfl (Nat.le_refl _) (by decide) (Nat.le_of_ble_eq_true rfl) (Cx.mono (cm_X3_of hM (by omega)  h) (mI.to (fun r36 ρ35 h => ?_)) (xo rfl))
            refine sd_callV (k := k) (n := n) (d0 := d) (k0 := 0) (n0 := 0) (As := [.int r36]) (st := []) (pc := 106) dX3_line_106 (ci := 2) rfl (mo_isC hM) rfl q2439 q2441 qs63 q91 q2442 1 (by decide +kernel) rfl (Nat.le_refl _) (by decide) (Nat.le_of_ble_eq_true rfl) (Cx.mono (cm_X3_writeNumber hM (by omega)  h) (mV.to (fun ρ37 h => ?_)) (xo rfl))
            refine sd_iinc (pc := 109) dX3_line_109 2 rfl (v := (l2 + (1 : Int32))) rfl (by decide) (ls' := [(2, .int (l2 + (1 : Int32))), (0, .ref (mb 0)), (1, .int l1)]) rfl ?_
            refine sd_goto (pc := 112) dX3_line_112 (tgt := 40) (by decide) ?_
            exact sd_loc [1, 2, 0] rfl (ih _ _ _ h)
        · have h := h.2 c48
          refine sd_ldcS (pc := 70) dX3_line_70 q2450 yn843 ?_
          refine sd_goto (pc := 72) dX3_line_72 (tgt := 77) (by decide) ?_
          refine sd_callV (k := k) (n := n) (d0 := d) (k0 := 0) (n0 := 0) (As := [.ref (y_str en "PeacockLawnsModel" 240)]) (st := []) (pc := 77) dX3_line_77 (ci := 2) rfl (mo_isC hM) rfl q2444 q2446 qs64 q91 q2447 1 (by decide +kernel) rfl (Nat.le_refl _) (by decide) (Nat.le_of_ble_eq_true rfl) (Cx.mono (cm_X3_write hM (by omega) (hM.2.2 7 _ rfl) h) (mV.to (fun ρ39 h => ?_)) (xo rfl))
          refine sd_aload_n (pc := 80) dX3_line_80 rfl 0 rfl ?_
          refine sd_iload_n (pc := 81) dX3_line_81 rfl 2 rfl ?_
          refine sd_callV (k := k) (n := n) (d0 := d) (k0 := 0) (n0 := 0) (As := [.int l2]) (st := []) (pc := 82) dX3_line_82 (ci := 2) rfl (mo_isC hM) rfl q2439 q2441 qs63 q91 q2442 1 (by decide +kernel) rfl (Nat.le_refl _) (by decide) (Nat.le_of_ble_eq_true rfl) (Cx.mono (cm_X3_writeNumber hM (by omega)  h) (mV.to (fun ρ40 h => ?_)) (xo rfl))
          refine sd_aload_n (pc := 85) dX3_line_85 rfl 0 rfl ?_
          refine sd_iload_n (pc := 86) dX3_line_86 rfl 2 rfl ?_
          refine sd_callV (k := k) (n := n) (d0 := d) (k0 := 0) (n0 := 0) (As := [.int l2]) (st := []) (pc := 87) dX3_line_87 (ci := 2) rfl (mo_isC hM) rfl q2248 q2250 qs39 q91 q2251 1 (by decide +kernel) rfl (Nat.le_refl _) (by decide) (Nat.le_of_ble_eq_true rfl) (Cx.mono (cm_X3_hasEggs hM (by omega)  h) (mI.to (fun r42 ρ41 h => ?_)) (xo rfl))
          refine sd_ifeq (pc := 90) dX3_line_90 (tgt := 109) (by decide) ⟨fun c47 => ?_, fun c47 => ?_⟩
          · have h := h.1 c47
            refine sd_iinc (pc := 109) dX3_line_109 2 rfl (v := (l2 + (1 : Int32))) rfl (by decide) (ls' := [(2, .int (l2 + (1 : Int32))), (0, .ref (mb 0)), (1, .int l1)]) rfl ?_
            refine sd_goto (pc := 112) dX3_line_112 (tgt := 40) (by decide) ?_
            exact sd_loc [1, 2, 0] rfl (ih _ _ _ h)
          · have h := h.2 c47
            refine sd_aload_n (pc := 93) dX3_line_93 rfl 0 rfl ?_
            refine sd_ldcS (pc := 94) dX3_line_94 q2452 yn861 ?_
            refine sd_callV (k := k) (n := n) (d0 := d) (k0 := 0) (n0 := 0) (As := [.ref (y_str en "PeacockLawnsModel" 244)]) (st := []) (pc := 96) dX3_line_96 (ci := 2) rfl (mo_isC hM) rfl q2444 q2446 qs64 q91 q2447 1 (by decide +kernel) rfl (Nat.le_refl _) (by decide) (Nat.le_of_ble_eq_true rfl) (Cx.mono (cm_X3_write hM (by omega) (hM.2.2 9 _ rfl) h) (mV.to (fun ρ43 h => ?_)) (xo rfl))
            refine sd_aload_n (pc := 99) dX3_line_99 rfl 0 rfl ?_
            refine sd_aload_n (pc := 100) dX3_line_100 rfl 0 rfl ?_
            refine sd_iload_n (pc := 101) dX3_line_101 rfl 2 rfl ?_
            refine sd_iconst (pc := 102) dX3_line_102 (v := 2) (by decide) ?_
            refine sd_callV (k := k) (n := n) (d0 := d) (k0 := 0) (n0 := 0) (As := [.int l2, .int (2 : Int32)]) (st := [.ref (mb 0)]) (pc := 103) dX3_line_103 (ci := 2) rfl (mo_isC hM) rfl q2228 q2230 qs36 q91 q2231 2 (by decide +kernel) rfl (Nat.le_refl _) (by decide) (Nat.le_of_ble_eq_true rfl) (Cx.mono (cm_X3_of hM (by omega)  h) (mI.to (fun r45 ρ44 h => ?_)) (xo rfl))
            refine sd_callV (k := k) (n := n) (d0 := d) (k0 := 0) (n0 := 0) (As := [.int r45]) (st := []) (pc := 106) dX3_line_106 (ci := 2) rfl (mo_isC hM) rfl q2439 q2441 qs63 q91 q2442 1 (by decide +kernel) rfl (Nat.le_refl _) (by decide) (Nat.le_of_ble_eq_true rfl) (Cx.mono (cm_X3_writeNumber hM (by omega)  h) (mV.to (fun ρ46 h => ?_)) (xo rfl))
            refine sd_iinc (pc := 109) dX3_line_109 2 rfl (v := (l2 + (1 : Int32))) rfl (by decide) (ls' := [(2, .int (l2 + (1 : Int32))), (0, .ref (mb 0)), (1, .int l1)]) rfl ?_
            refine sd_goto (pc := 112) dX3_line_112 (tgt := 40) (by decide) ?_
            exact sd_loc [1, 2, 0] rfl (ih _ _ _ h)
theorem okM_X3_line_40 {en : yEn} {mb : Nat → Nat} {σ : yH} (hM : mOK en mb σ) {d : Nat} (hd : 14 ≤ d + 1) {K : Int32 → yMS → Prop} {X : String → Addr → yH → Prop} {k n : Nat} (l1 : Int32) (l2 : Int32) (ρ : yMS) (h : wpM_X3_line_40  l1 l2 ρ K) : Wx en (d + 1) mX3_line 40 [(0, .ref (mb 0)), (1, .int l1), (2, .int l2)] [] (mH en mb ρ σ) k n (mQ en mb σ (mI K)) X := by
  obtain ⟨nn, h⟩ := h
  exact olM_X3_line_40 hM hd  nn _ _ _ h
def wpM_X3_line (ρ : yMS) (x1 : Int32) (K : Int32 → yMS → Prop) : Prop :=
  wpM_X3_isLawn ρ x1 (fun r2 ρ1 => wpM_X3_fails ρ1 (1 : Int32) (if (r2 = 0) then (1 : Int32) else (0 : Int32)) (fun r5 ρ4 => (((r5 = 0) → (mPut ρ4 17 (0 : Int32) (fun ρ6 => wpM_X3_writeNumber 12 ρ6 x1 (fun ρ7 => wpM_X3_write ρ7 ([58] : List Int32) (fun ρ8 => wpM_X3_line_40  x1 (0 : Int32) ρ8 K))))) ∧ (¬ (r5 = 0) → K (0 : Int32) ρ4))))
theorem okM_X3_line {en : yEn} {mb : Nat → Nat} {σ : yH} (hM : mOK en mb σ) {d : Nat} (hd : 14 ≤ d + 1) {ρ : yMS} {x1 : Int32} {K : Int32 → yMS → Prop} {X : String → Addr → yH → Prop} {k n : Nat}  (h : wpM_X3_line ρ x1 K) : Wx en (d + 1) mX3_line 0 [(0, .ref (mb 0)), (1, .int x1)] [] (mH en mb ρ σ) k n (mQ en mb σ (mI K)) X := by
  unfold wpM_X3_line at h
  refine sd_aload_n (pc := 0) dX3_line_0 rfl 0 rfl ?_
  refine sd_iconst (pc := 1) dX3_line_1 (v := 1) (by decide) ?_
  refine sd_iload_n (pc := 2) dX3_line_2 rfl 1 rfl ?_
  refine sd_callS (k := k) (n := n) (d0 := d) (k0 := 0) (n0 := 0) (As := [.int x1]) (st := [.int (1 : Int32), .ref (mb 0)]) (pc := 3) dX3_line_3 q2178 q2179 q91 q2180 1 (by decide +kernel) rfl (Nat.le_refl _) (by decide) (Nat.le_of_ble_eq_true rfl) (Cx.mono (cm_X3_isLawn hM (by omega)  h) (mI.to (fun r2 ρ1 h => ?_)) (xo rfl))
  have h10 : Wx en (d + 1) mX3_line 14 [(0, .ref (mb 0)), (1, .int x1)] (.int (if (r2 = 0) then (1 : Int32) else (0 : Int32)) :: .int (1 : Int32) :: .ref (mb 0) :: []) (mH en mb ρ1 σ) k n (mQ en mb σ (mI K)) X := by
    refine sd_callV (k := k) (n := n) (d0 := d) (k0 := 0) (n0 := 0) (As := [.int (1 : Int32), .int (if (r2 = 0) then (1 : Int32) else (0 : Int32))]) (st := []) (pc := 14) dX3_line_14 (ci := 2) rfl (mo_isC hM) rfl q2170 q2172 qs26 q91 q2173 2 (by decide +kernel) rfl (Nat.le_refl _) (by decide) (Nat.le_of_ble_eq_true rfl) (Cx.mono (cm_X3_fails hM (by omega)  h) (mI.to (fun r5 ρ4 h => ?_)) (xo rfl))
    refine sd_ifeq (pc := 17) dX3_line_17 (tgt := 22) (by decide) ⟨fun c9 => ?_, fun c9 => ?_⟩
    · have h := h.1 c9
      refine sd_aload_n (pc := 22) dX3_line_22 rfl 0 rfl ?_
      refine sd_iconst (pc := 23) dX3_line_23 (v := 0) (by decide) ?_
      refine sd_putf (pc := 24) dX3_line_24 (ci := 2) rfl in_X3 tyX3 tyX3_ok nmX3 (kf := 17) (by decide) q2090 rfl (ty := .int) rfl rfl rfl (mPut.to hM (by decide) rfl h (fun ρ6 h => ?_))
      refine sd_aload_n (pc := 27) dX3_line_27 rfl 0 rfl ?_
      refine sd_iload_n (pc := 28) dX3_line_28 rfl 1 rfl ?_
      refine sd_callV (k := k) (n := n) (d0 := d) (k0 := 0) (n0 := 0) (As := [.int x1]) (st := []) (pc := 29) dX3_line_29 (ci := 2) rfl (mo_isC hM) rfl q2439 q2441 qs63 q91 q2442 1 (by decide +kernel) rfl (Nat.le_refl _) (by decide) (Nat.le_of_ble_eq_true rfl) (Cx.mono (cm_X3_writeNumber hM (by omega)  h) (mV.to (fun ρ7 h => ?_)) (xo rfl))
      refine sd_aload_n (pc := 32) dX3_line_32 rfl 0 rfl ?_
      refine sd_ldcS (pc := 33) dX3_line_33 q2443 yn836 ?_
      refine sd_callV (k := k) (n := n) (d0 := d) (k0 := 0) (n0 := 0) (As := [.ref (y_str en "PeacockLawnsModel" 234)]) (st := []) (pc := 35) dX3_line_35 (ci := 2) rfl (mo_isC hM) rfl q2444 q2446 qs64 q91 q2447 1 (by decide +kernel) rfl (Nat.le_refl _) (by decide) (Nat.le_of_ble_eq_true rfl) (Cx.mono (cm_X3_write hM (by omega) (hM.2.2 6 _ rfl) h) (mV.to (fun ρ8 h => ?_)) (xo rfl))
      refine sd_iconst (pc := 38) dX3_line_38 (v := 0) (by decide) ?_
      refine sd_istore_n (pc := 39) dX3_line_39 rfl (by decide) (ls' := [(2, .int (0 : Int32)), (0, .ref (mb 0)), (1, .int x1)]) rfl ?_
      exact sd_loc [1, 2, 0] rfl (okM_X3_line_40 hM (by omega)  _ _ _ h)
    · have h := h.2 c9
      refine sd_iconst (pc := 20) dX3_line_20 (v := 0) (by decide) ?_
      exact sd_ireturn (pc := 21) dX3_line_21 (ty0 := .int) rfl rfl (mI.ok h)
  have e11 := sd_iteIN h10
  refine sd_ifne (pc := 6) dX3_line_6 (tgt := 13) (by decide) ⟨fun c3 => ?_, fun c3 => ?_⟩
  · refine sd_iconst (pc := 13) dX3_line_13 (v := 0) (by decide) ?_
    exact (e11.1 c3)
  · refine sd_iconst (pc := 9) dX3_line_9 (v := 1) (by decide) ?_
    refine sd_goto (pc := 10) dX3_line_10 (tgt := 14) (by decide) ?_
    exact (e11.2 c3)
theorem cm_X3_line {en : yEn} {mb : Nat → Nat} {σ : yH} (hM : mOK en mb σ) {d : Nat} (hd : 14 ≤ d) {ρ : yMS} {x1 : Int32} {K : Int32 → yMS → Prop} {X : String → Addr → yH → Prop}  (h : wpM_X3_line ρ x1 K) : Cx en d 0 0 mX3_line [.ref (mb 0), .int x1] (mH en mb ρ σ) (mQ en mb σ (mI K)) X := by
  obtain ⟨d, rfl⟩ : ∃ e, d = e + 1 := ⟨d - 1, by omega⟩
  exact Cx.body (by decide +kernel) rfl (Nat.le_of_ble_eq_true rfl) (okM_X3_line hM (by omega)  h)
