/-! THE MODEL: walks of its methods as predicate transformers -/
set_option maxRecDepth 100000
/-! richest()I -/
def stM_X3_richest_4 (K : Int32 → yMS → Prop) (rec : Int32 → Int32 → yMS → Prop) (l1 : Int32) (l2 : Int32) (ρ : yMS) : Prop :=
  ((((9 : Int32) ≤ l2) → mAld ρ 1 ((13 : Int32) + l1) (fun v1 => wpM_X3_fails ρ (1 : Int32) (if (v1 = 0) then (1 : Int32) else (0 : Int32)) (fun r4 ρ3 => K (if (r4 = 0) then l1 else (0 : Int32)) ρ3))) ∧ (¬ ((9 : Int32) ≤ l2) → mAld ρ 1 ((13 : Int32) + l2) (fun v6 => mAld ρ 1 ((13 : Int32) + l1) (fun v7 => rec (if (v6 ≤ v7) then l1 else l2) (l2 + (1 : Int32)) ρ))))
def lpM_X3_richest_4 (K : Int32 → yMS → Prop) : Nat → Int32 × Int32 × yMS → Prop := lpN (fun r s => stM_X3_richest_4  K (fun l1 l2 ρ => r (l1, l2, ρ)) s.1 s.2.1 s.2.2)
def wpM_X3_richest_4 (l1 : Int32) (l2 : Int32) (ρ : yMS) (K : Int32 → yMS → Prop) : Prop := ∃ nn, lpM_X3_richest_4  K nn (l1, l2, ρ)
theorem olM_X3_richest_4 {en : yEn} {mb : Nat → Nat} {σ : yH} (hM : mOK en mb σ) {d : Nat} (hd : 2 ≤ d + 1) {K : Int32 → yMS → Prop} {X : String → Addr → yH → Prop} {k n : Nat} : ∀ (nn : Nat) (l1 : Int32) (l2 : Int32) (ρ : yMS), lpM_X3_richest_4  K nn (l1, l2, ρ) → Wx en (d + 1) mX3_richest 4 [(0, .ref (mb 0)), (1, .int l1), (2, .int l2)] [] (mH en mb ρ σ) k n (mQ en mb σ (mI K)) X := by
  intro nn
  induction nn with
  | zero => intros; rename_i h; exact h.elim
  | succ nn ih =>
    intro l1 l2 ρ h
    replace h : stM_X3_richest_4  K (fun l1 l2 ρ => lpM_X3_richest_4  K nn (l1, l2, ρ)) l1 l2 ρ := h
    unfold stM_X3_richest_4 at h
    refine sd_iload_n (pc := 4) dX3_richest_4 rfl 2 rfl ?_
    refine sd_bipush (pc := 5) dX3_richest_5 (v := 9) (by decide) ?_
    refine sd_icmpge (pc := 7) dX3_richest_7 (tgt := 43) (by decide) ⟨fun c9 => ?_, fun c9 => ?_⟩
    · have h := h.1 c9
      refine sd_aload_n (pc := 43) dX3_richest_43 rfl 0 rfl ?_
      refine sd_iconst (pc := 44) dX3_richest_44 (v := 1) (by decide) ?_
      refine sd_aload_n (pc := 45) dX3_richest_45 rfl 0 rfl ?_
      refine sd_getR (pc := 46) dX3_richest_46 (ci := 2) rfl in_X3 (kf := 1) (by decide) q2074 (mo_gR hM (j := 1) rfl ?_)
      refine sd_bipush (pc := 49) dX3_richest_49 (v := 13) (by decide) ?_
      refine sd_iload_n (pc := 51) dX3_richest_51 rfl 1 rfl ?_
      refine sd_iadd (pc := 52) dX3_richest_52 ?_
      refine sd_iaload (pc := 53) dX3_richest_53 (mAld.to hM h (fun v1 h => ?_))
      have h10 : Wx en (d + 1) mX3_richest 62 [(0, .ref (mb 0)), (1, .int l1), (2, .int l2)] (.int (if (v1 = 0) then (1 : Int32) else (0 : Int32)) :: .int (1 : Int32) :: .ref (mb 0) :: []) (mH en mb ρ σ) k n (mQ en mb σ (mI K)) X := by
        refine sd_callV (k := k) (n := n) (d0 := d) (k0 := 0) (n0 := 0) (As := [.int (1 : Int32), .int (if (v1 = 0) then (1 : Int32) else (0 : Int32))]) (st := []) (pc := 62) dX3_richest_62 (ci := 2) rfl (mo_isC hM) rfl q2170 q2172 qs26 q91 q2173 2 (by decide +kernel) rfl (Nat.le_refl _) (by decide) (Nat.le_of_ble_eq_true rfl) (Cx.mono (cm_X3_fails hM (by omega)  h) (mI.to (fun r4 ρ3 h => ?_)) (xo rfl))
        have h11 : Wx en (d + 1) mX3_richest 73 [(0, .ref (mb 0)), (1, .int l1), (2, .int l2)] (.int (if (r4 = 0) then l1 else (0 : Int32)) :: []) (mH en mb ρ3 σ) k n (mQ en mb σ (mI K)) X := by
          exact sd_ireturn (pc := 73) dX3_richest_73 (ty0 := .int) rfl rfl (mI.ok h)
        have e12 := sd_iteI h11
        refine sd_ifeq (pc := 65) dX3_richest_65 (tgt := 72) (by decide) ⟨fun c5 => ?_, fun c5 => ?_⟩
        · refine sd_iload_n (pc := 72) dX3_richest_72 rfl 1 rfl ?_
          exact (e12.1 c5)
        · refine sd_iconst (pc := 68) dX3_richest_68 (v := 0) (by decide) ?_
          refine sd_goto (pc := 69) dX3_richest_69 (tgt := 73) (by decide) ?_
          exact (e12.2 c5)
      have e13 := sd_iteIN h10
      refine sd_ifne (pc := 54) dX3_richest_54 (tgt := 61) (by decide) ⟨fun c2 => ?_, fun c2 => ?_⟩
      · refine sd_iconst (pc := 61) dX3_richest_61 (v := 0) (by decide) ?_
        exact (e13.1 c2)
      · refine sd_iconst (pc := 57) dX3_richest_57 (v := 1) (by decide) ?_
        refine sd_goto (pc := 58) dX3_richest_58 (tgt := 62) (by decide) ?_
        exact (e13.2 c2)
    · have h := h.2 c9
      refine sd_aload_n (pc := 10) dX3_richest_10 rfl 0 rfl ?_
      refine sd_getR (pc := 11) dX3_richest_11 (ci := 2) rfl in_X3 (kf := 1) (by decide) q2074 (mo_gR hM (j := 1) rfl ?_)
      refine sd_bipush (pc := 14) dX3_richest_14 (v := 13) (by decide) ?_
      refine sd_iload_n (pc := 16) dX3_richest_16 rfl 2 rfl ?_
      refine sd_iadd (pc := 17) dX3_richest_17 ?_
      refine sd_iaload (pc := 18) dX3_richest_18 (mAld.to hM h (fun v6 h => ?_))
      refine sd_aload_n (pc := 19) dX3_richest_19 rfl 0 rfl ?_
      refine sd_getR (pc := 20) dX3_richest_20 (ci := 2) rfl in_X3 (kf := 1) (by decide) q2074 (mo_gR hM (j := 1) rfl ?_)
      refine sd_bipush (pc := 23) dX3_richest_23 (v := 13) (by decide) ?_
      refine sd_iload_n (pc := 25) dX3_richest_25 rfl 1 rfl ?_
      refine sd_iadd (pc := 26) dX3_richest_26 ?_
      refine sd_iaload (pc := 27) dX3_richest_27 (mAld.to hM h (fun v7 h => ?_))
      have h14 : Wx en (d + 1) mX3_richest 36 [(0, .ref (mb 0)), (1, .int l1), (2, .int l2)] (.int (if (v6 ≤ v7) then l1 else l2) :: []) (mH en mb ρ σ) k n (mQ en mb σ (mI K)) X := by
        refine sd_istore_n (pc := 36) dX3_richest_36 rfl (by decide) (ls' := [(1, .int (if (v6 ≤ v7) then l1 else l2)), (0, .ref (mb 0)), (2, .int l2)]) rfl ?_
        refine sd_iinc (pc := 37) dX3_richest_37 2 rfl (v := (l2 + (1 : Int32))) rfl (by decide) (ls' := [(2, .int (l2 + (1 : Int32))), (1, .int (if (v6 ≤ v7) then l1 else l2)), (0, .ref (mb 0))]) rfl ?_
        refine sd_goto (pc := 40) dX3_richest_40 (tgt := 4) (by decide) ?_
        exact sd_loc [2, 1, 0] rfl (ih _ _ _ h)
      have e15 := sd_iteI h14
      refine sd_icmple (pc := 28) dX3_richest_28 (tgt := 35) (by decide) ⟨fun c8 => ?_, fun c8 => ?_⟩
      · refine sd_iload_n (pc := 35) dX3_richest_35 rfl 1 rfl ?_
        exact (e15.1 c8)
      · refine sd_iload_n (pc := 31) dX3_richest_31 rfl 2 rfl ?_
        refine sd_goto (pc := 32) dX3_richest_32 (tgt := 36) (by decide) ?_
        exact (e15.2 c8)
theorem okM_X3_richest_4 {en : yEn} {mb : Nat → Nat} {σ : yH} (hM : mOK en mb σ) {d : Nat} (hd : 2 ≤ d + 1) {K : Int32 → yMS → Prop} {X : String → Addr → yH → Prop} {k n : Nat} (l1 : Int32) (l2 : Int32) (ρ : yMS) (h : wpM_X3_richest_4  l1 l2 ρ K) : Wx en (d + 1) mX3_richest 4 [(0, .ref (mb 0)), (1, .int l1), (2, .int l2)] [] (mH en mb ρ σ) k n (mQ en mb σ (mI K)) X := by
  obtain ⟨nn, h⟩ := h
  exact olM_X3_richest_4 hM hd  nn _ _ _ h
def wpM_X3_richest (ρ : yMS)  (K : Int32 → yMS → Prop) : Prop :=
  wpM_X3_richest_4  (0 : Int32) (1 : Int32) ρ K
theorem okM_X3_richest {en : yEn} {mb : Nat → Nat} {σ : yH} (hM : mOK en mb σ) {d : Nat} (hd : 2 ≤ d + 1) {ρ : yMS}  {K : Int32 → yMS → Prop} {X : String → Addr → yH → Prop} {k n : Nat}  (h : wpM_X3_richest ρ  K) : Wx en (d + 1) mX3_richest 0 [(0, .ref (mb 0))] [] (mH en mb ρ σ) k n (mQ en mb σ (mI K)) X := by
  unfold wpM_X3_richest at h
  refine sd_iconst (pc := 0) dX3_richest_0 (v := 0) (by decide) ?_
  refine sd_istore_n (pc := 1) dX3_richest_1 rfl (by decide) (ls' := [(1, .int (0 : Int32)), (0, .ref (mb 0))]) rfl ?_
  refine sd_iconst (pc := 2) dX3_richest_2 (v := 1) (by decide) ?_
  refine sd_istore_n (pc := 3) dX3_richest_3 rfl (by decide) (ls' := [(2, .int (1 : Int32)), (1, .int (0 : Int32)), (0, .ref (mb 0))]) rfl ?_
  exact sd_loc [2, 1, 0] rfl (okM_X3_richest_4 hM (by omega)  _ _ _ h)
theorem cm_X3_richest {en : yEn} {mb : Nat → Nat} {σ : yH} (hM : mOK en mb σ) {d : Nat} (hd : 2 ≤ d) {ρ : yMS}  {K : Int32 → yMS → Prop} {X : String → Addr → yH → Prop}  (h : wpM_X3_richest ρ  K) : Cx en d 0 0 mX3_richest [.ref (mb 0)] (mH en mb ρ σ) (mQ en mb σ (mI K)) X := by
  obtain ⟨d, rfl⟩ : ∃ e, d = e + 1 := ⟨d - 1, by omega⟩
  exact Cx.body (by decide +kernel) rfl (Nat.le_of_ble_eq_true rfl) (okM_X3_richest hM (by omega)  h)
/-! keeper()I -/
def wpM_X3_keeper (ρ : yMS)  (K : Int32 → yMS → Prop) : Prop :=
  mAld ρ 1 (11 : Int32) (fun v1 => wpM_X3_refuse ρ (if (v1 = (3 : Int32)) then (1 : Int32) else (0 : Int32)) (1 : Int32) (3 : Int32) (fun r4 ρ3 => wpM_X3_fails ρ3 (1 : Int32) r4 (fun r6 ρ5 => (((r6 = 0) → wpM_X3_change ρ5  (fun ρ7 => mAld ρ7 1 (11 : Int32) (fun v8 => mAst ρ7 1 (((106 : Int32) + ((4 : Int32) * v8)) + (0 : Int32)) (4 : Int32) (fun ρ9 => mAst ρ9 1 (((106 : Int32) + ((4 : Int32) * v8)) + (1 : Int32)) (6 : Int32) (fun ρ10 => mAst ρ10 1 (((106 : Int32) + ((4 : Int32) * v8)) + (2 : Int32)) (0 : Int32) (fun ρ11 => mAst ρ11 1 (((106 : Int32) + ((4 : Int32) * v8)) + (3 : Int32)) (0 : Int32) (fun ρ12 => mAld ρ12 1 (11 : Int32) (fun v13 => mAst ρ12 1 (11 : Int32) (v13 + (1 : Int32)) (fun ρ14 => mAld ρ14 1 (11 : Int32) (fun v15 => K (v15 - (1 : Int32)) ρ14)))))))))) ∧ (¬ (r6 = 0) → K (0 : Int32) ρ5)))))
theorem okM_X3_keeper {en : yEn} {mb : Nat → Nat} {σ : yH} (hM : mOK en mb σ) {d : Nat} (hd : 4 ≤ d + 1) {ρ : yMS}  {K : Int32 → yMS → Prop} {X : String → Addr → yH → Prop} {k n : Nat}  (h : wpM_X3_keeper ρ  K) : Wx en (d + 1) mX3_keeper 0 [(0, .ref (mb 0))] [] (mH en mb ρ σ) k n (mQ en mb σ (mI K)) X := by
  unfold wpM_X3_keeper at h
  refine sd_aload_n (pc := 0) dX3_keeper_0 rfl 0 rfl ?_
  refine sd_iconst (pc := 1) dX3_keeper_1 (v := 1) (by decide) ?_
  refine sd_aload_n (pc := 2) dX3_keeper_2 rfl 0 rfl ?_
  refine sd_aload_n (pc := 3) dX3_keeper_3 rfl 0 rfl ?_
  refine sd_getR (pc := 4) dX3_keeper_4 (ci := 2) rfl in_X3 (kf := 1) (by decide) q2074 (mo_gR hM (j := 1) rfl ?_)
  refine sd_bipush (pc := 7) dX3_keeper_7 (v := 11) (by decide) ?_
  refine sd_iaload (pc := 9) dX3_keeper_9 (mAld.to hM h (fun v1 h => ?_))
  refine sd_iconst (pc := 10) dX3_keeper_10 (v := 3) (by decide) ?_
  have h17 : Wx en (d + 1) mX3_keeper 19 [(0, .ref (mb 0))] (.int (if (v1 = (3 : Int32)) then (1 : Int32) else (0 : Int32)) :: .ref (mb 0) :: .int (1 : Int32) :: .ref (mb 0) :: []) (mH en mb ρ σ) k n (mQ en mb σ (mI K)) X := by
    refine sd_iconst (pc := 19) dX3_keeper_19 (v := 1) (by decide) ?_
    refine sd_iconst (pc := 20) dX3_keeper_20 (v := 3) (by decide) ?_
    refine sd_callV (k := k) (n := n) (d0 := d) (k0 := 0) (n0 := 0) (As := [.int (if (v1 = (3 : Int32)) then (1 : Int32) else (0 : Int32)), .int (1 : Int32), .int (3 : Int32)]) (st := [.int (1 : Int32), .ref (mb 0)]) (pc := 21) dX3_keeper_21 (ci := 2) rfl (mo_isC hM) rfl q2185 q2187 qs28 q91 q2188 3 (by decide +kernel) rfl (Nat.le_refl _) (by decide) (Nat.le_of_ble_eq_true rfl) (Cx.mono (cm_X3_refuse hM (by omega)  h) (mI.to (fun r4 ρ3 h => ?_)) (xo rfl))
    refine sd_callV (k := k) (n := n) (d0 := d) (k0 := 0) (n0 := 0) (As := [.int (1 : Int32), .int r4]) (st := []) (pc := 24) dX3_keeper_24 (ci := 2) rfl (mo_isC hM) rfl q2170 q2172 qs26 q91 q2173 2 (by decide +kernel) rfl (Nat.le_refl _) (by decide) (Nat.le_of_ble_eq_true rfl) (Cx.mono (cm_X3_fails hM (by omega)  h) (mI.to (fun r6 ρ5 h => ?_)) (xo rfl))
    refine sd_ifeq (pc := 27) dX3_keeper_27 (tgt := 32) (by decide) ⟨fun c16 => ?_, fun c16 => ?_⟩
    · have h := h.1 c16
      refine sd_aload_n (pc := 32) dX3_keeper_32 rfl 0 rfl ?_
      refine sd_callV (k := k) (n := n) (d0 := d) (k0 := 0) (n0 := 0) (As := []) (st := []) (pc := 33) dX3_keeper_33 (ci := 2) rfl (mo_isC hM) rfl q2189 q2191 qs29 q91 q2192 0 (by decide +kernel) rfl (Nat.le_refl _) (by decide) (Nat.le_of_ble_eq_true rfl) (Cx.mono (cm_X3_change hM (by omega)  h) (mV.to (fun ρ7 h => ?_)) (xo rfl))
      refine sd_bipush (pc := 36) dX3_keeper_36 (v := 106) (by decide) ?_
      refine sd_iconst (pc := 38) dX3_keeper_38 (v := 4) (by decide) ?_
      refine sd_aload_n (pc := 39) dX3_keeper_39 rfl 0 rfl ?_
      refine sd_getR (pc := 40) dX3_keeper_40 (ci := 2) rfl in_X3 (kf := 1) (by decide) q2074 (mo_gR hM (j := 1) rfl ?_)
      refine sd_bipush (pc := 43) dX3_keeper_43 (v := 11) (by decide) ?_
      refine sd_iaload (pc := 45) dX3_keeper_45 (mAld.to hM h (fun v8 h => ?_))
      refine sd_imul (pc := 46) dX3_keeper_46 ?_
      refine sd_iadd (pc := 47) dX3_keeper_47 ?_
      refine sd_istore_n (pc := 48) dX3_keeper_48 rfl (by decide) (ls' := [(1, .int ((106 : Int32) + ((4 : Int32) * v8))), (0, .ref (mb 0))]) rfl ?_
      refine sd_aload_n (pc := 49) dX3_keeper_49 rfl 1 rfl ?_
      refine sd_getR (pc := 50) dX3_keeper_50 (ci := 2) rfl in_X3 (kf := 1) (by decide) q2074 (mo_gR hM (j := 1) rfl ?_)
      refine sd_iload_n (pc := 53) dX3_keeper_53 rfl 0 rfl ?_
      refine sd_iconst (pc := 54) dX3_keeper_54 (v := 0) (by decide) ?_
      refine sd_iadd (pc := 55) dX3_keeper_55 ?_
      refine sd_iconst (pc := 56) dX3_keeper_56 (v := 4) (by decide) ?_
      refine sd_iastore (pc := 57) dX3_keeper_57 (mAst.to hM h (fun ρ9 h => ?_))
      refine sd_aload_n (pc := 58) dX3_keeper_58 rfl 1 rfl ?_
      refine sd_getR (pc := 59) dX3_keeper_59 (ci := 2) rfl in_X3 (kf := 1) (by decide) q2074 (mo_gR hM (j := 1) rfl ?_)
      refine sd_iload_n (pc := 62) dX3_keeper_62 rfl 0 rfl ?_
      refine sd_iconst (pc := 63) dX3_keeper_63 (v := 1) (by decide) ?_
      refine sd_iadd (pc := 64) dX3_keeper_64 ?_
      refine sd_bipush (pc := 65) dX3_keeper_65 (v := 6) (by decide) ?_
      refine sd_iastore (pc := 67) dX3_keeper_67 (mAst.to hM h (fun ρ10 h => ?_))
      refine sd_aload_n (pc := 68) dX3_keeper_68 rfl 1 rfl ?_
      refine sd_getR (pc := 69) dX3_keeper_69 (ci := 2) rfl in_X3 (kf := 1) (by decide) q2074 (mo_gR hM (j := 1) rfl ?_)
      refine sd_iload_n (pc := 72) dX3_keeper_72 rfl 0 rfl ?_
      refine sd_iconst (pc := 73) dX3_keeper_73 (v := 2) (by decide) ?_
      refine sd_iadd (pc := 74) dX3_keeper_74 ?_
      refine sd_iconst (pc := 75) dX3_keeper_75 (v := 0) (by decide) ?_
      refine sd_iastore (pc := 76) dX3_keeper_76 (mAst.to hM h (fun ρ11 h => ?_))
      refine sd_aload_n (pc := 77) dX3_keeper_77 rfl 1 rfl ?_
      refine sd_getR (pc := 78) dX3_keeper_78 (ci := 2) rfl in_X3 (kf := 1) (by decide) q2074 (mo_gR hM (j := 1) rfl ?_)
      refine sd_iload_n (pc := 81) dX3_keeper_81 rfl 0 rfl ?_
      refine sd_iconst (pc := 82) dX3_keeper_82 (v := 3) (by decide) ?_
      refine sd_iadd (pc := 83) dX3_keeper_83 ?_
      refine sd_iconst (pc := 84) dX3_keeper_84 (v := 0) (by decide) ?_
      refine sd_iastore (pc := 85) dX3_keeper_85 (mAst.to hM h (fun ρ12 h => ?_))
      refine sd_aload_n (pc := 86) dX3_keeper_86 rfl 1 rfl ?_
      refine sd_getR (pc := 87) dX3_keeper_87 (ci := 2) rfl in_X3 (kf := 1) (by decide) q2074 (mo_gR hM (j := 1) rfl ?_)
      refine sd_bipush (pc := 90) dX3_keeper_90 (v := 11) (by decide) ?_
      refine sd_dup2 (pc := 92) dX3_keeper_92 rfl rfl ?_
      refine sd_iaload (pc := 93) dX3_keeper_93 (mAld.to hM h (fun v13 h => ?_))
      refine sd_iconst (pc := 94) dX3_keeper_94 (v := 1) (by decide) ?_
      refine sd_iadd (pc := 95) dX3_keeper_95 ?_
      refine sd_iastore (pc := 96) dX3_keeper_96 (mAst.to hM h (fun ρ14 h => ?_))
      refine sd_aload_n (pc := 97) dX3_keeper_97 rfl 1 rfl ?_
      refine sd_getR (pc := 98) dX3_keeper_98 (ci := 2) rfl in_X3 (kf := 1) (by decide) q2074 (mo_gR hM (j := 1) rfl ?_)
      refine sd_bipush (pc := 101) dX3_keeper_101 (v := 11) (by decide) ?_
      refine sd_iaload (pc := 103) dX3_keeper_103 (mAld.to hM h (fun v15 h => ?_))
      refine sd_iconst (pc := 104) dX3_keeper_104 (v := 1) (by decide) ?_
      refine sd_isub (pc := 105) dX3_keeper_105 ?_
      exact sd_ireturn (pc := 106) dX3_keeper_106 (ty0 := .int) rfl rfl (mI.ok h)
    · have h := h.2 c16
      refine sd_iconst (pc := 30) dX3_keeper_30 (v := 0) (by decide) ?_
      exact sd_ireturn (pc := 31) dX3_keeper_31 (ty0 := .int) rfl rfl (mI.ok h)
  have e18 := sd_iteIN h17
  refine sd_icmpne (pc := 11) dX3_keeper_11 (tgt := 18) (by decide) ⟨fun c2 => ?_, fun c2 => ?_⟩
  · refine sd_iconst (pc := 18) dX3_keeper_18 (v := 0) (by decide) ?_
    exact (e18.1 c2)
  · refine sd_iconst (pc := 14) dX3_keeper_14 (v := 1) (by decide) ?_
    refine sd_goto (pc := 15) dX3_keeper_15 (tgt := 19) (by decide) ?_
    exact (e18.2 c2)
theorem cm_X3_keeper {en : yEn} {mb : Nat → Nat} {σ : yH} (hM : mOK en mb σ) {d : Nat} (hd : 4 ≤ d) {ρ : yMS}  {K : Int32 → yMS → Prop} {X : String → Addr → yH → Prop}  (h : wpM_X3_keeper ρ  K) : Cx en d 0 0 mX3_keeper [.ref (mb 0)] (mH en mb ρ σ) (mQ en mb σ (mI K)) X := by
  obtain ⟨d, rfl⟩ : ∃ e, d = e + 1 := ⟨d - 1, by omega⟩
  exact Cx.body (by decide +kernel) rfl (Nat.le_of_ble_eq_true rfl) (okM_X3_keeper hM (by omega)  h)
/-! isKeeper(I)Z -/
def wpM_X3_isKeeper (ρ : yMS) (x1 : Int32) (K : Int32 → yMS → Prop) : Prop :=
  mAld ρ 1 (11 : Int32) (fun v1 => wpM_X3_isBetween ρ x1 (0 : Int32) (v1 - (1 : Int32)) (fun r3 ρ2 => (narrow .boolean (.int r3) = .int r3 ∧ K r3 ρ2)))
theorem okM_X3_isKeeper {en : yEn} {mb : Nat → Nat} {σ : yH} (hM : mOK en mb σ) {d : Nat} (hd : 2 ≤ d + 1) {ρ : yMS} {x1 : Int32} {K : Int32 → yMS → Prop} {X : String → Addr → yH → Prop} {k n : Nat}  (h : wpM_X3_isKeeper ρ x1 K) : Wx en (d + 1) mX3_isKeeper 0 [(0, .ref (mb 0)), (1, .int x1)] [] (mH en mb ρ σ) k n (mQ en mb σ (mI K)) X := by
  unfold wpM_X3_isKeeper at h
  refine sd_iload_n (pc := 0) dX3_isKeeper_0 rfl 1 rfl ?_
  refine sd_iconst (pc := 1) dX3_isKeeper_1 (v := 0) (by decide) ?_
  refine sd_aload_n (pc := 2) dX3_isKeeper_2 rfl 0 rfl ?_
  refine sd_getR (pc := 3) dX3_isKeeper_3 (ci := 2) rfl in_X3 (kf := 1) (by decide) q2074 (mo_gR hM (j := 1) rfl ?_)
  refine sd_bipush (pc := 6) dX3_isKeeper_6 (v := 11) (by decide) ?_
  refine sd_iaload (pc := 8) dX3_isKeeper_8 (mAld.to hM h (fun v1 h => ?_))
  refine sd_iconst (pc := 9) dX3_isKeeper_9 (v := 1) (by decide) ?_
  refine sd_isub (pc := 10) dX3_isKeeper_10 ?_
  refine sd_callS (k := k) (n := n) (d0 := d) (k0 := 0) (n0 := 0) (As := [.int x1, .int (0 : Int32), .int (v1 - (1 : Int32))]) (st := []) (pc := 11) dX3_isKeeper_11 q2167 q2168 q91 q2169 3 (by decide +kernel) rfl (Nat.le_refl _) (by decide) (Nat.le_of_ble_eq_true rfl) (Cx.mono (cm_X3_isBetween hM (by omega)  h) (mI.to (fun r3 ρ2 h => ?_)) (xo rfl))
  exact sd_ireturn (pc := 14) dX3_isKeeper_14 (ty0 := .boolean) rfl h.1 (mI.ok h.2)
theorem cm_X3_isKeeper {en : yEn} {mb : Nat → Nat} {σ : yH} (hM : mOK en mb σ) {d : Nat} (hd : 2 ≤ d) {ρ : yMS} {x1 : Int32} {K : Int32 → yMS → Prop} {X : String → Addr → yH → Prop}  (h : wpM_X3_isKeeper ρ x1 K) : Cx en d 0 0 mX3_isKeeper [.ref (mb 0), .int x1] (mH en mb ρ σ) (mQ en mb σ (mI K)) X := by
  obtain ⟨d, rfl⟩ : ∃ e, d = e + 1 := ⟨d - 1, by omega⟩
  exact Cx.body (by decide +kernel) rfl (Nat.le_of_ble_eq_true rfl) (okM_X3_isKeeper hM (by omega)  h)
/-! ofKeeper(II)I -/
def wpM_X3_ofKeeper (ρ : yMS) (x1 : Int32) (x2 : Int32) (K : Int32 → yMS → Prop) : Prop :=
  mAld ρ 1 (((106 : Int32) + ((4 : Int32) * x1)) + x2) (fun v1 => K v1 ρ)
theorem okM_X3_ofKeeper {en : yEn} {mb : Nat → Nat} {σ : yH} (hM : mOK en mb σ) {d : Nat} (hd : 1 ≤ d + 1) {ρ : yMS} {x1 : Int32} {x2 : Int32} {K : Int32 → yMS → Prop} {X : String → Addr → yH → Prop} {k n : Nat}  (h : wpM_X3_ofKeeper ρ x1 x2 K) : Wx en (d + 1) mX3_ofKeeper 0 [(0, .ref (mb 0)), (1, .int x1), (2, .int x2)] [] (mH en mb ρ σ) k n (mQ en mb σ (mI K)) X := by
  unfold wpM_X3_ofKeeper at h
  refine sd_aload_n (pc := 0) dX3_ofKeeper_0 rfl 0 rfl ?_
  refine sd_getR (pc := 1) dX3_ofKeeper_1 (ci := 2) rfl in_X3 (kf := 1) (by decide) q2074 (mo_gR hM (j := 1) rfl ?_)
  refine sd_bipush (pc := 4) dX3_ofKeeper_4 (v := 106) (by decide) ?_
  refine sd_iconst (pc := 6) dX3_ofKeeper_6 (v := 4) (by decide) ?_
  refine sd_iload_n (pc := 7) dX3_ofKeeper_7 rfl 1 rfl ?_
  refine sd_imul (pc := 8) dX3_ofKeeper_8 ?_
  refine sd_iadd (pc := 9) dX3_ofKeeper_9 ?_
  refine sd_iload_n (pc := 10) dX3_ofKeeper_10 rfl 2 rfl ?_
  refine sd_iadd (pc := 11) dX3_ofKeeper_11 ?_
  refine sd_iaload (pc := 12) dX3_ofKeeper_12 (mAld.to hM h (fun v1 h => ?_))
  exact sd_ireturn (pc := 13) dX3_ofKeeper_13 (ty0 := .int) rfl rfl (mI.ok h)
theorem cm_X3_ofKeeper {en : yEn} {mb : Nat → Nat} {σ : yH} (hM : mOK en mb σ) {d : Nat} (hd : 1 ≤ d) {ρ : yMS} {x1 : Int32} {x2 : Int32} {K : Int32 → yMS → Prop} {X : String → Addr → yH → Prop}  (h : wpM_X3_ofKeeper ρ x1 x2 K) : Cx en d 0 0 mX3_ofKeeper [.ref (mb 0), .int x1, .int x2] (mH en mb ρ σ) (mQ en mb σ (mI K)) X := by
  obtain ⟨d, rfl⟩ : ∃ e, d = e + 1 := ⟨d - 1, by omega⟩
  exact Cx.body (by decide +kernel) rfl (Nat.le_of_ble_eq_true rfl) (okM_X3_ofKeeper hM (by omega)  h)
/-! keeperOf(II)I -/
def wpM_X3_keeperOf (ρ : yMS) (x1 : Int32) (x2 : Int32) (K : Int32 → yMS → Prop) : Prop :=
  wpM_X3_isKeeper ρ x1 (fun r2 ρ1 => wpM_X3_fails ρ1 (1 : Int32) (if (r2 = 0) then (1 : Int32) else (0 : Int32)) (fun r5 ρ4 => ((¬ (r5 = 0) → K (0 : Int32) ρ4) ∧ ((r5 = 0) → wpM_X3_isBetween ρ4 x2 (0 : Int32) (3 : Int32) (fun r7 ρ6 => wpM_X3_fails ρ6 (2 : Int32) (if (r7 = 0) then (1 : Int32) else (0 : Int32)) (fun r10 ρ9 => (((r10 = 0) → wpM_X3_ofKeeper ρ9 x1 x2 (fun r12 ρ11 => K r12 ρ11)) ∧ (¬ (r10 = 0) → K (0 : Int32) ρ9))))))))
theorem okM_X3_keeperOf {en : yEn} {mb : Nat → Nat} {σ : yH} (hM : mOK en mb σ) {d : Nat} (hd : 3 ≤ d + 1) {ρ : yMS} {x1 : Int32} {x2 : Int32} {K : Int32 → yMS → Prop} {X : String → Addr → yH → Prop} {k n : Nat}  (h : wpM_X3_keeperOf ρ x1 x2 K) : Wx en (d + 1) mX3_keeperOf 0 [(0, .ref (mb 0)), (1, .int x1), (2, .int x2)] [] (mH en mb ρ σ) k n (mQ en mb σ (mI K)) X := by
  unfold wpM_X3_keeperOf at h
  refine sd_aload_n (pc := 0) dX3_keeperOf_0 rfl 0 rfl ?_
  refine sd_iconst (pc := 1) dX3_keeperOf_1 (v := 1) (by decide) ?_
  refine sd_aload_n (pc := 2) dX3_keeperOf_2 rfl 0 rfl ?_
  refine sd_iload_n (pc := 3) dX3_keeperOf_3 rfl 1 rfl ?_
  refine sd_callV (k := k) (n := n) (d0 := d) (k0 := 0) (n0 := 0) (As := [.int x1]) (st := [.int (1 : Int32), .ref (mb 0)]) (pc := 4) dX3_keeperOf_4 (ci := 2) rfl (mo_isC hM) rfl q2316 q2318 qs45 q91 q2319 1 (by decide +kernel) rfl (Nat.le_refl _) (by decide) (Nat.le_of_ble_eq_true rfl) (Cx.mono (cm_X3_isKeeper hM (by omega)  h) (mI.to (fun r2 ρ1 h => ?_)) (xo rfl))
  have h15 : Wx en (d + 1) mX3_keeperOf 15 [(0, .ref (mb 0)), (1, .int x1), (2, .int x2)] (.int (if (r2 = 0) then (1 : Int32) else (0 : Int32)) :: .int (1 : Int32) :: .ref (mb 0) :: []) (mH en mb ρ1 σ) k n (mQ en mb σ (mI K)) X := by
    refine sd_callV (k := k) (n := n) (d0 := d) (k0 := 0) (n0 := 0) (As := [.int (1 : Int32), .int (if (r2 = 0) then (1 : Int32) else (0 : Int32))]) (st := []) (pc := 15) dX3_keeperOf_15 (ci := 2) rfl (mo_isC hM) rfl q2170 q2172 qs26 q91 q2173 2 (by decide +kernel) rfl (Nat.le_refl _) (by decide) (Nat.le_of_ble_eq_true rfl) (Cx.mono (cm_X3_fails hM (by omega)  h) (mI.to (fun r5 ρ4 h => ?_)) (xo rfl))
    refine sd_ifne (pc := 18) dX3_keeperOf_18 (tgt := 43) (by decide) ⟨fun c14 => ?_, fun c14 => ?_⟩
    · have h := h.1 c14
      refine sd_iconst (pc := 43) dX3_keeperOf_43 (v := 0) (by decide) ?_
      refine sd_goto (pc := 44) dX3_keeperOf_44 (tgt := 53) (by decide) ?_
      exact sd_ireturn (pc := 53) dX3_keeperOf_53 (ty0 := .int) rfl rfl (mI.ok h)
    · have h := h.2 c14
      refine sd_aload_n (pc := 21) dX3_keeperOf_21 rfl 0 rfl ?_
      refine sd_iconst (pc := 22) dX3_keeperOf_22 (v := 2) (by decide) ?_
      refine sd_iload_n (pc := 23) dX3_keeperOf_23 rfl 2 rfl ?_
      refine sd_iconst (pc := 24) dX3_keeperOf_24 (v := 0) (by decide) ?_
      refine sd_iconst (pc := 25) dX3_keeperOf_25 (v := 3) (by decide) ?_
      refine sd_callS (k := k) (n := n) (d0 := d) (k0 := 0) (n0 := 0) (As := [.int x2, .int (0 : Int32), .int (3 : Int32)]) (st := [.int (2 : Int32), .ref (mb 0)]) (pc := 26) dX3_keeperOf_26 q2167 q2168 q91 q2169 3 (by decide +kernel) rfl (Nat.le_refl _) (by decide) (Nat.le_of_ble_eq_true rfl) (Cx.mono (cm_X3_isBetween hM (by omega)  h) (mI.to (fun r7 ρ6 h => ?_)) (xo rfl))
      have h16 : Wx en (d + 1) mX3_keeperOf 37 [(0, .ref (mb 0)), (1, .int x1), (2, .int x2)] (.int (if (r7 = 0) then (1 : Int32) else (0 : Int32)) :: .int (2 : Int32) :: .ref (mb 0) :: []) (mH en mb ρ6 σ) k n (mQ en mb σ (mI K)) X := by
        refine sd_callV (k := k) (n := n) (d0 := d) (k0 := 0) (n0 := 0) (As := [.int (2 : Int32), .int (if (r7 = 0) then (1 : Int32) else (0 : Int32))]) (st := []) (pc := 37) dX3_keeperOf_37 (ci := 2) rfl (mo_isC hM) rfl q2170 q2172 qs26 q91 q2173 2 (by decide +kernel) rfl (Nat.le_refl _) (by decide) (Nat.le_of_ble_eq_true rfl) (Cx.mono (cm_X3_fails hM (by omega)  h) (mI.to (fun r10 ρ9 h => ?_)) (xo rfl))
        refine sd_ifeq (pc := 40) dX3_keeperOf_40 (tgt := 47) (by decide) ⟨fun c13 => ?_, fun c13 => ?_⟩
        · have h := h.1 c13
          refine sd_aload_n (pc := 47) dX3_keeperOf_47 rfl 0 rfl ?_
          refine sd_iload_n (pc := 48) dX3_keeperOf_48 rfl 1 rfl ?_
          refine sd_iload_n (pc := 49) dX3_keeperOf_49 rfl 2 rfl ?_
          refine sd_callV (k := k) (n := n) (d0 := d) (k0 := 0) (n0 := 0) (As := [.int x1, .int x2]) (st := []) (pc := 50) dX3_keeperOf_50 (ci := 2) rfl (mo_isC hM) rfl q2320 q2322 qs46 q91 q2323 2 (by decide +kernel) rfl (Nat.le_refl _) (by decide) (Nat.le_of_ble_eq_true rfl) (Cx.mono (cm_X3_ofKeeper hM (by omega)  h) (mI.to (fun r12 ρ11 h => ?_)) (xo rfl))
          exact sd_ireturn (pc := 53) dX3_keeperOf_53 (ty0 := .int) rfl rfl (mI.ok h)
        · have h := h.2 c13
          refine sd_iconst (pc := 43) dX3_keeperOf_43 (v := 0) (by decide) ?_
          refine sd_goto (pc := 44) dX3_keeperOf_44 (tgt := 53) (by decide) ?_
          exact sd_ireturn (pc := 53) dX3_keeperOf_53 (ty0 := .int) rfl rfl (mI.ok h)
      have e17 := sd_iteIN h16
      refine sd_ifne (pc := 29) dX3_keeperOf_29 (tgt := 36) (by decide) ⟨fun c8 => ?_, fun c8 => ?_⟩
      · refine sd_iconst (pc := 36) dX3_keeperOf_36 (v := 0) (by decide) ?_
        exact (e17.1 c8)
      · refine sd_iconst (pc := 32) dX3_keeperOf_32 (v := 1) (by decide) ?_
        refine sd_goto (pc := 33) dX3_keeperOf_33 (tgt := 37) (by decide) ?_
        exact (e17.2 c8)
  have e18 := sd_iteIN h15
  refine sd_ifne (pc := 7) dX3_keeperOf_7 (tgt := 14) (by decide) ⟨fun c3 => ?_, fun c3 => ?_⟩
  · refine sd_iconst (pc := 14) dX3_keeperOf_14 (v := 0) (by decide) ?_
    exact (e18.1 c3)
  · refine sd_iconst (pc := 10) dX3_keeperOf_10 (v := 1) (by decide) ?_
    refine sd_goto (pc := 11) dX3_keeperOf_11 (tgt := 15) (by decide) ?_
    exact (e18.2 c3)
theorem cm_X3_keeperOf {en : yEn} {mb : Nat → Nat} {σ : yH} (hM : mOK en mb σ) {d : Nat} (hd : 3 ≤ d) {ρ : yMS} {x1 : Int32} {x2 : Int32} {K : Int32 → yMS → Prop} {X : String → Addr → yH → Prop}  (h : wpM_X3_keeperOf ρ x1 x2 K) : Cx en d 0 0 mX3_keeperOf [.ref (mb 0), .int x1, .int x2] (mH en mb ρ σ) (mQ en mb σ (mI K)) X := by
  obtain ⟨d, rfl⟩ : ∃ e, d = e + 1 := ⟨d - 1, by omega⟩
  exact Cx.body (by decide +kernel) rfl (Nat.le_of_ble_eq_true rfl) (okM_X3_keeperOf hM (by omega)  h)
/-! addKeeper(III)V -/
def wpM_X3_addKeeper (ρ : yMS) (x1 : Int32) (x2 : Int32) (x3 : Int32) (K : yMS → Prop) : Prop :=
  mAld ρ 1 (((106 : Int32) + ((4 : Int32) * x1)) + x2) (fun v1 => mAst ρ 1 (((106 : Int32) + ((4 : Int32) * x1)) + x2) (v1 + x3) (fun ρ2 => K ρ2))
theorem okM_X3_addKeeper {en : yEn} {mb : Nat → Nat} {σ : yH} (hM : mOK en mb σ) {d : Nat} (hd : 1 ≤ d + 1) {ρ : yMS} {x1 : Int32} {x2 : Int32} {x3 : Int32} {K : yMS → Prop} {X : String → Addr → yH → Prop} {k n : Nat}  (h : wpM_X3_addKeeper ρ x1 x2 x3 K) : Wx en (d + 1) mX3_addKeeper 0 [(0, .ref (mb 0)), (1, .int x1), (2, .int x2), (3, .int x3)] [] (mH en mb ρ σ) k n (mQ en mb σ (mV K)) X := by
  unfold wpM_X3_addKeeper at h
  refine sd_aload_n (pc := 0) dX3_addKeeper_0 rfl 0 rfl ?_
  refine sd_getR (pc := 1) dX3_addKeeper_1 (ci := 2) rfl in_X3 (kf := 1) (by decide) q2074 (mo_gR hM (j := 1) rfl ?_)
  refine sd_bipush (pc := 4) dX3_addKeeper_4 (v := 106) (by decide) ?_
  refine sd_iconst (pc := 6) dX3_addKeeper_6 (v := 4) (by decide) ?_
  refine sd_iload_n (pc := 7) dX3_addKeeper_7 rfl 1 rfl ?_
  refine sd_imul (pc := 8) dX3_addKeeper_8 ?_
  refine sd_iadd (pc := 9) dX3_addKeeper_9 ?_
  refine sd_iload_n (pc := 10) dX3_addKeeper_10 rfl 2 rfl ?_
  refine sd_iadd (pc := 11) dX3_addKeeper_11 ?_
  refine sd_dup2 (pc := 12) dX3_addKeeper_12 rfl rfl ?_
  refine sd_iaload (pc := 13) dX3_addKeeper_13 (mAld.to hM h (fun v1 h => ?_))
  refine sd_iload_n (pc := 14) dX3_addKeeper_14 rfl 3 rfl ?_
  refine sd_iadd (pc := 15) dX3_addKeeper_15 ?_
  refine sd_iastore (pc := 16) dX3_addKeeper_16 (mAst.to hM h (fun ρ2 h => ?_))
  exact sd_return (pc := 17) dX3_addKeeper_17 rfl (mV.ok h)
theorem cm_X3_addKeeper {en : yEn} {mb : Nat → Nat} {σ : yH} (hM : mOK en mb σ) {d : Nat} (hd : 1 ≤ d) {ρ : yMS} {x1 : Int32} {x2 : Int32} {x3 : Int32} {K : yMS → Prop} {X : String → Addr → yH → Prop}  (h : wpM_X3_addKeeper ρ x1 x2 x3 K) : Cx en d 0 0 mX3_addKeeper [.ref (mb 0), .int x1, .int x2, .int x3] (mH en mb ρ σ) (mQ en mb σ (mV K)) X := by
  obtain ⟨d, rfl⟩ : ∃ e, d = e + 1 := ⟨d - 1, by omega⟩
  exact Cx.body (by decide +kernel) rfl (Nat.le_of_ble_eq_true rfl) (okM_X3_addKeeper hM (by omega)  h)
/-! apart(II)I -/
def wpM_X3_apart (ρ : yMS) (x1 : Int32) (x2 : Int32) (K : Int32 → yMS → Prop) : Prop :=
  K (if (x2 ≤ x1) then (x1 - x2) else (x2 - x1)) ρ
theorem okM_X3_apart {en : yEn} {mb : Nat → Nat} {σ : yH} (hM : mOK en mb σ) {d : Nat} (hd : 1 ≤ d + 1) {ρ : yMS} {x1 : Int32} {x2 : Int32} {K : Int32 → yMS → Prop} {X : String → Addr → yH → Prop} {k n : Nat}  (h : wpM_X3_apart ρ x1 x2 K) : Wx en (d + 1) mX3_apart 0 [(0, .int x1), (1, .int x2)] [] (mH en mb ρ σ) k n (mQ en mb σ (mI K)) X := by
  unfold wpM_X3_apart at h
  refine sd_iload_n (pc := 0) dX3_apart_0 rfl 0 rfl ?_
  refine sd_iload_n (pc := 1) dX3_apart_1 rfl 1 rfl ?_
  have h2 : Wx en (d + 1) mX3_apart 14 [(0, .int x1), (1, .int x2)] (.int (if (x2 ≤ x1) then (x1 - x2) else (x2 - x1)) :: []) (mH en mb ρ σ) k n (mQ en mb σ (mI K)) X := by
    exact sd_ireturn (pc := 14) dX3_apart_14 (ty0 := .int) rfl rfl (mI.ok h)
  have e3 := sd_iteI h2
  refine sd_icmpge (pc := 2) dX3_apart_2 (tgt := 11) (by decide) ⟨fun c1 => ?_, fun c1 => ?_⟩
  · refine sd_iload_n (pc := 11) dX3_apart_11 rfl 0 rfl ?_
    refine sd_iload_n (pc := 12) dX3_apart_12 rfl 1 rfl ?_
    refine sd_isub (pc := 13) dX3_apart_13 ?_
    exact (e3.1 c1)
  · refine sd_iload_n (pc := 5) dX3_apart_5 rfl 1 rfl ?_
    refine sd_iload_n (pc := 6) dX3_apart_6 rfl 0 rfl ?_
    refine sd_isub (pc := 7) dX3_apart_7 ?_
    refine sd_goto (pc := 8) dX3_apart_8 (tgt := 14) (by decide) ?_
    exact (e3.2 c1)
theorem cm_X3_apart {en : yEn} {mb : Nat → Nat} {σ : yH} (hM : mOK en mb σ) {d : Nat} (hd : 1 ≤ d) {ρ : yMS} {x1 : Int32} {x2 : Int32} {K : Int32 → yMS → Prop} {X : String → Addr → yH → Prop}  (h : wpM_X3_apart ρ x1 x2 K) : Cx en d 0 0 mX3_apart [.int x1, .int x2] (mH en mb ρ σ) (mQ en mb σ (mI K)) X := by
  obtain ⟨d, rfl⟩ : ∃ e, d = e + 1 := ⟨d - 1, by omega⟩
  exact Cx.body (by decide +kernel) rfl (Nat.le_of_ble_eq_true rfl) (okM_X3_apart hM (by omega)  h)
/-! lacksHours(II)Z -/
def wpM_X3_lacksHours (ρ : yMS) (x1 : Int32) (x2 : Int32) (K : Int32 → yMS → Prop) : Prop :=
  wpM_X3_ofKeeper ρ x1 (1 : Int32) (fun r2 ρ1 => wpM_X3_ofKeeper ρ1 x1 (1 : Int32) (fun r5 ρ4 => wpM_X3_refuse ρ4 (if (x2 ≤ r2) then (0 : Int32) else (1 : Int32)) (6 : Int32) (x2 - r5) (fun r7 ρ6 => (narrow .boolean (.int r7) = .int r7 ∧ K r7 ρ6))))
theorem okM_X3_lacksHours {en : yEn} {mb : Nat → Nat} {σ : yH} (hM : mOK en mb σ) {d : Nat} (hd : 2 ≤ d + 1) {ρ : yMS} {x1 : Int32} {x2 : Int32} {K : Int32 → yMS → Prop} {X : String → Addr → yH → Prop} {k n : Nat}  (h : wpM_X3_lacksHours ρ x1 x2 K) : Wx en (d + 1) mX3_lacksHours 0 [(0, .ref (mb 0)), (1, .int x1), (2, .int x2)] [] (mH en mb ρ σ) k n (mQ en mb σ (mI K)) X := by
  unfold wpM_X3_lacksHours at h
  refine sd_aload_n (pc := 0) dX3_lacksHours_0 rfl 0 rfl ?_
  refine sd_aload_n (pc := 1) dX3_lacksHours_1 rfl 0 rfl ?_
  refine sd_iload_n (pc := 2) dX3_lacksHours_2 rfl 1 rfl ?_
  refine sd_iconst (pc := 3) dX3_lacksHours_3 (v := 1) (by decide) ?_
  refine sd_callV (k := k) (n := n) (d0 := d) (k0 := 0) (n0 := 0) (As := [.int x1, .int (1 : Int32)]) (st := [.ref (mb 0)]) (pc := 4) dX3_lacksHours_4 (ci := 2) rfl (mo_isC hM) rfl q2320 q2322 qs46 q91 q2323 2 (by decide +kernel) rfl (Nat.le_refl _) (by decide) (Nat.le_of_ble_eq_true rfl) (Cx.mono (cm_X3_ofKeeper hM (by omega)  h) (mI.to (fun r2 ρ1 h => ?_)) (xo rfl))
  refine sd_iload_n (pc := 7) dX3_lacksHours_7 rfl 2 rfl ?_
  have h8 : Wx en (d + 1) mX3_lacksHours 16 [(0, .ref (mb 0)), (1, .int x1), (2, .int x2)] (.int (if (x2 ≤ r2) then (0 : Int32) else (1 : Int32)) :: .ref (mb 0) :: []) (mH en mb ρ1 σ) k n (mQ en mb σ (mI K)) X := by
    refine sd_bipush (pc := 16) dX3_lacksHours_16 (v := 6) (by decide) ?_
    refine sd_iload_n (pc := 18) dX3_lacksHours_18 rfl 2 rfl ?_
    refine sd_aload_n (pc := 19) dX3_lacksHours_19 rfl 0 rfl ?_
    refine sd_iload_n (pc := 20) dX3_lacksHours_20 rfl 1 rfl ?_
    refine sd_iconst (pc := 21) dX3_lacksHours_21 (v := 1) (by decide) ?_
    refine sd_callV (k := k) (n := n) (d0 := d) (k0 := 0) (n0 := 0) (As := [.int x1, .int (1 : Int32)]) (st := [.int x2, .int (6 : Int32), .int (if (x2 ≤ r2) then (0 : Int32) else (1 : Int32)), .ref (mb 0)]) (pc := 22) dX3_lacksHours_22 (ci := 2) rfl (mo_isC hM) rfl q2320 q2322 qs46 q91 q2323 2 (by decide +kernel) rfl (Nat.le_refl _) (by decide) (Nat.le_of_ble_eq_true rfl) (Cx.mono (cm_X3_ofKeeper hM (by omega)  h) (mI.to (fun r5 ρ4 h => ?_)) (xo rfl))
    refine sd_isub (pc := 25) dX3_lacksHours_25 ?_
    refine sd_callV (k := k) (n := n) (d0 := d) (k0 := 0) (n0 := 0) (As := [.int (if (x2 ≤ r2) then (0 : Int32) else (1 : Int32)), .int (6 : Int32), .int (x2 - r5)]) (st := []) (pc := 26) dX3_lacksHours_26 (ci := 2) rfl (mo_isC hM) rfl q2185 q2187 qs28 q91 q2188 3 (by decide +kernel) rfl (Nat.le_refl _) (by decide) (Nat.le_of_ble_eq_true rfl) (Cx.mono (cm_X3_refuse hM (by omega)  h) (mI.to (fun r7 ρ6 h => ?_)) (xo rfl))
    exact sd_ireturn (pc := 29) dX3_lacksHours_29 (ty0 := .boolean) rfl h.1 (mI.ok h.2)
  have e9 := sd_iteI h8
  refine sd_icmpge (pc := 8) dX3_lacksHours_8 (tgt := 15) (by decide) ⟨fun c3 => ?_, fun c3 => ?_⟩
  · refine sd_iconst (pc := 15) dX3_lacksHours_15 (v := 0) (by decide) ?_
    exact (e9.1 c3)
  · refine sd_iconst (pc := 11) dX3_lacksHours_11 (v := 1) (by decide) ?_
    refine sd_goto (pc := 12) dX3_lacksHours_12 (tgt := 16) (by decide) ?_
    exact (e9.2 c3)
theorem cm_X3_lacksHours {en : yEn} {mb : Nat → Nat} {σ : yH} (hM : mOK en mb σ) {d : Nat} (hd : 2 ≤ d) {ρ : yMS} {x1 : Int32} {x2 : Int32} {K : Int32 → yMS → Prop} {X : String → Addr → yH → Prop}  (h : wpM_X3_lacksHours ρ x1 x2 K) : Cx en d 0 0 mX3_lacksHours [.ref (mb 0), .int x1, .int x2] (mH en mb ρ σ) (mQ en mb σ (mI K)) X := by
  obtain ⟨d, rfl⟩ : ∃ e, d = e + 1 := ⟨d - 1, by omega⟩
  exact Cx.body (by decide +kernel) rfl (Nat.le_of_ble_eq_true rfl) (okM_X3_lacksHours hM (by omega)  h)
/-! walk(II)I -/
def wpM_X3_walk (ρ : yMS) (x1 : Int32) (x2 : Int32) (K : Int32 → yMS → Prop) : Prop :=
  wpM_X3_isKeeper ρ x1 (fun r2 ρ1 => (((r2 = 0) → wpM_X3_fails ρ1 (1 : Int32) (1 : Int32) (fun r4 ρ3 => (((r4 = 0) → wpM_X3_ofKeeper ρ3 x1 (0 : Int32) (fun r6 ρ5 => wpM_X3_apart ρ5 (r6 / (3 : Int32)) (x2 / (3 : Int32)) (fun r8 ρ7 => wpM_X3_apart ρ7 (r6 - r6 / (3 : Int32) * (3 : Int32)) (x2 - x2 / (3 : Int32) * (3 : Int32)) (fun r10 ρ9 => wpM_X3_lacksHours ρ9 x1 (r8 + r10) (fun r12 ρ11 => wpM_X3_fails ρ11 (2 : Int32) r12 (fun r14 ρ13 => (((r14 = 0) → wpM_X3_change ρ13  (fun ρ15 => wpM_X3_addKeeper ρ15 x1 (1 : Int32) (-(r8 + r10)) (fun ρ16 => wpM_X3_addKeeper ρ16 x1 (0 : Int32) (x2 - r6) (fun ρ17 => wpM_X3_ofKeeper ρ17 x1 (1 : Int32) (fun r19 ρ18 => K r19 ρ18))))) ∧ (¬ (r14 = 0) → K (0 : Int32) ρ13)))))))) ∧ (¬ (r4 = 0) → K (0 : Int32) ρ3)))) ∧ (¬ (r2 = 0) → wpM_X3_isLawn ρ1 x2 (fun r23 ρ22 => wpM_X3_fails ρ22 (1 : Int32) (if (r23 = 0) then (1 : Int32) else (0 : Int32)) (fun r26 ρ25 => (((r26 = 0) → wpM_X3_ofKeeper ρ25 x1 (0 : Int32) (fun r28 ρ27 => wpM_X3_apart ρ27 (r28 / (3 : Int32)) (x2 / (3 : Int32)) (fun r30 ρ29 => wpM_X3_apart ρ29 (r28 - r28 / (3 : Int32) * (3 : Int32)) (x2 - x2 / (3 : Int32) * (3 : Int32)) (fun r32 ρ31 => wpM_X3_lacksHours ρ31 x1 (r30 + r32) (fun r34 ρ33 => wpM_X3_fails ρ33 (2 : Int32) r34 (fun r36 ρ35 => (((r36 = 0) → wpM_X3_change ρ35  (fun ρ37 => wpM_X3_addKeeper ρ37 x1 (1 : Int32) (-(r30 + r32)) (fun ρ38 => wpM_X3_addKeeper ρ38 x1 (0 : Int32) (x2 - r28) (fun ρ39 => wpM_X3_ofKeeper ρ39 x1 (1 : Int32) (fun r41 ρ40 => K r41 ρ40))))) ∧ (¬ (r36 = 0) → K (0 : Int32) ρ35)))))))) ∧ (¬ (r26 = 0) → K (0 : Int32) ρ25)))))))
theorem okM_X3_walk {en : yEn} {mb : Nat → Nat} {σ : yH} (hM : mOK en mb σ) {d : Nat} (hd : 4 ≤ d + 1) {ρ : yMS} {x1 : Int32} {x2 : Int32} {K : Int32 → yMS → Prop} {X : String → Addr → yH → Prop} {k n : Nat}  (h : wpM_X3_walk ρ x1 x2 K) : Wx en (d + 1) mX3_walk 0 [(0, .ref (mb 0)), (1, .int x1), (2, .int x2)] [] (mH en mb ρ σ) k n (mQ en mb σ (mI K)) X := by
  unfold wpM_X3_walk at h
  refine sd_aload_n (pc := 0) dX3_walk_0 rfl 0 rfl ?_
  refine sd_iconst (pc := 1) dX3_walk_1 (v := 1) (by decide) ?_
  refine sd_aload_n (pc := 2) dX3_walk_2 rfl 0 rfl ?_
  refine sd_iload_n (pc := 3) dX3_walk_3 rfl 1 rfl ?_
  refine sd_callV (k := k) (n := n) (d0 := d) (k0 := 0) (n0 := 0) (As := [.int x1]) (st := [.int (1 : Int32), .ref (mb 0)]) (pc := 4) dX3_walk_4 (ci := 2) rfl (mo_isC hM) rfl q2316 q2318 qs45 q91 q2319 1 (by decide +kernel) rfl (Nat.le_refl _) (by decide) (Nat.le_of_ble_eq_true rfl) (Cx.mono (cm_X3_isKeeper hM (by omega)  h) (mI.to (fun r2 ρ1 h => ?_)) (xo rfl))
  refine sd_ifeq (pc := 7) dX3_walk_7 (tgt := 17) (by decide) ⟨fun c44 => ?_, fun c44 => ?_⟩
  · have h := h.1 c44
    refine sd_iconst (pc := 17) dX3_walk_17 (v := 1) (by decide) ?_
    refine sd_goto (pc := 18) dX3_walk_18 (tgt := 22) (by decide) ?_
    refine sd_callV (k := k) (n := n) (d0 := d) (k0 := 0) (n0 := 0) (As := [.int (1 : Int32), .int (1 : Int32)]) (st := []) (pc := 22) dX3_walk_22 (ci := 2) rfl (mo_isC hM) rfl q2170 q2172 qs26 q91 q2173 2 (by decide +kernel) rfl (Nat.le_refl _) (by decide) (Nat.le_of_ble_eq_true rfl) (Cx.mono (cm_X3_fails hM (by omega)  h) (mI.to (fun r4 ρ3 h => ?_)) (xo rfl))
    refine sd_ifeq (pc := 25) dX3_walk_25 (tgt := 30) (by decide) ⟨fun c21 => ?_, fun c21 => ?_⟩
    · have h := h.1 c21
      refine sd_aload_n (pc := 30) dX3_walk_30 rfl 0 rfl ?_
      refine sd_iload_n (pc := 31) dX3_walk_31 rfl 1 rfl ?_
      refine sd_iconst (pc := 32) dX3_walk_32 (v := 0) (by decide) ?_
      refine sd_callV (k := k) (n := n) (d0 := d) (k0 := 0) (n0 := 0) (As := [.int x1, .int (0 : Int32)]) (st := []) (pc := 33) dX3_walk_33 (ci := 2) rfl (mo_isC hM) rfl q2320 q2322 qs46 q91 q2323 2 (by decide +kernel) rfl (Nat.le_refl _) (by decide) (Nat.le_of_ble_eq_true rfl) (Cx.mono (cm_X3_ofKeeper hM (by omega)  h) (mI.to (fun r6 ρ5 h => ?_)) (xo rfl))
      refine sd_istore_n (pc := 36) dX3_walk_36 rfl (by decide) (ls' := [(3, .int r6), (0, .ref (mb 0)), (1, .int x1), (2, .int x2)]) rfl ?_
      refine sd_iload_n (pc := 37) dX3_walk_37 rfl 0 rfl ?_
      refine sd_iconst (pc := 38) dX3_walk_38 (v := 3) (by decide) ?_
      refine sd_idiv (pc := 39) dX3_walk_39 (by decide) ?_
      refine sd_iload_n (pc := 40) dX3_walk_40 rfl 3 rfl ?_
      refine sd_iconst (pc := 41) dX3_walk_41 (v := 3) (by decide) ?_
      refine sd_idiv (pc := 42) dX3_walk_42 (by decide) ?_
      refine sd_callS (k := k) (n := n) (d0 := d) (k0 := 0) (n0 := 0) (As := [.int (r6 / (3 : Int32)), .int (x2 / (3 : Int32))]) (st := []) (pc := 43) dX3_walk_43 q2328 q2329 q91 q2330 2 (by decide +kernel) rfl (Nat.le_refl _) (by decide) (Nat.le_of_ble_eq_true rfl) (Cx.mono (cm_X3_apart hM (by omega)  h) (mI.to (fun r8 ρ7 h => ?_)) (xo rfl))
      refine sd_iload_n (pc := 46) dX3_walk_46 rfl 0 rfl ?_
      refine sd_iconst (pc := 47) dX3_walk_47 (v := 3) (by decide) ?_
      refine sd_irem (pc := 48) dX3_walk_48 (by decide) ?_
      refine sd_iload_n (pc := 49) dX3_walk_49 rfl 3 rfl ?_
      refine sd_iconst (pc := 50) dX3_walk_50 (v := 3) (by decide) ?_
      refine sd_irem (pc := 51) dX3_walk_51 (by decide) ?_
      refine sd_callS (k := k) (n := n) (d0 := d) (k0 := 0) (n0 := 0) (As := [.int (r6 - r6 / (3 : Int32) * (3 : Int32)), .int (x2 - x2 / (3 : Int32) * (3 : Int32))]) (st := [.int r8]) (pc := 52) dX3_walk_52 q2328 q2329 q91 q2330 2 (by decide +kernel) rfl (Nat.le_refl _) (by decide) (Nat.le_of_ble_eq_true rfl) (Cx.mono (cm_X3_apart hM (by omega)  h) (mI.to (fun r10 ρ9 h => ?_)) (xo rfl))
      refine sd_iadd (pc := 55) dX3_walk_55 ?_
      refine sd_istore (pc := 56) dX3_walk_56 (by decide) (ls' := [(4, .int (r8 + r10)), (3, .int r6), (0, .ref (mb 0)), (1, .int x1), (2, .int x2)]) rfl ?_
      refine sd_aload_n (pc := 58) dX3_walk_58 rfl 2 rfl ?_
      refine sd_iconst (pc := 59) dX3_walk_59 (v := 2) (by decide) ?_
      refine sd_aload_n (pc := 60) dX3_walk_60 rfl 2 rfl ?_
      refine sd_iload_n (pc := 61) dX3_walk_61 rfl 3 rfl ?_
      refine sd_iload (pc := 62) dX3_walk_62 0 rfl ?_
      refine sd_callV (k := k) (n := n) (d0 := d) (k0 := 0) (n0 := 0) (As := [.int x1, .int (r8 + r10)]) (st := [.int (2 : Int32), .ref (mb 0)]) (pc := 64) dX3_walk_64 (ci := 2) rfl (mo_isC hM) rfl q2331 q2333 qs47 q91 q2334 2 (by decide +kernel) rfl (Nat.le_refl _) (by decide) (Nat.le_of_ble_eq_true rfl) (Cx.mono (cm_X3_lacksHours hM (by omega)  h) (mI.to (fun r12 ρ11 h => ?_)) (xo rfl))
      refine sd_callV (k := k) (n := n) (d0 := d) (k0 := 0) (n0 := 0) (As := [.int (2 : Int32), .int r12]) (st := []) (pc := 67) dX3_walk_67 (ci := 2) rfl (mo_isC hM) rfl q2170 q2172 qs26 q91 q2173 2 (by decide +kernel) rfl (Nat.le_refl _) (by decide) (Nat.le_of_ble_eq_true rfl) (Cx.mono (cm_X3_fails hM (by omega)  h) (mI.to (fun r14 ρ13 h => ?_)) (xo rfl))
      refine sd_ifeq (pc := 70) dX3_walk_70 (tgt := 75) (by decide) ⟨fun c20 => ?_, fun c20 => ?_⟩
      · have h := h.1 c20
        refine sd_aload_n (pc := 75) dX3_walk_75 rfl 2 rfl ?_
        refine sd_callV (k := k) (n := n) (d0 := d) (k0 := 0) (n0 := 0) (As := []) (st := []) (pc := 76) dX3_walk_76 (ci := 2) rfl (mo_isC hM) rfl q2189 q2191 qs29 q91 q2192 0 (by decide +kernel) rfl (Nat.le_refl _) (by decide) (Nat.le_of_ble_eq_true rfl) (Cx.mono (cm_X3_change hM (by omega)  h) (mV.to (fun ρ15 h => ?_)) (xo rfl))
        refine sd_aload_n (pc := 79) dX3_walk_79 rfl 2 rfl ?_
        refine sd_iload_n (pc := 80) dX3_walk_80 rfl 3 rfl ?_
        refine sd_iconst (pc := 81) dX3_walk_81 (v := 1) (by decide) ?_
        refine sd_iload (pc := 82) dX3_walk_82 0 rfl ?_
        refine sd_ineg (pc := 84) dX3_walk_84 ?_
        refine sd_callV (k := k) (n := n) (d0 := d) (k0 := 0) (n0 := 0) (As := [.int x1, .int (1 : Int32), .int (-(r8 + r10))]) (st := []) (pc := 85) dX3_walk_85 (ci := 2) rfl (mo_isC hM) rfl q2335 q2337 qs48 q91 q2338 3 (by decide +kernel) rfl (Nat.le_refl _) (by decide) (Nat.le_of_ble_eq_true rfl) (Cx.mono (cm_X3_addKeeper hM (by omega)  h) (mV.to (fun ρ16 h => ?_)) (xo rfl))
        refine sd_aload_n (pc := 88) dX3_walk_88 rfl 2 rfl ?_
        refine sd_iload_n (pc := 89) dX3_walk_89 rfl 3 rfl ?_
        refine sd_iconst (pc := 90) dX3_walk_90 (v := 0) (by decide) ?_
        refine sd_iload_n (pc := 91) dX3_walk_91 rfl 4 rfl ?_
        refine sd_iload_n (pc := 92) dX3_walk_92 rfl 1 rfl ?_
        refine sd_isub (pc := 93) dX3_walk_93 ?_
        refine sd_callV (k := k) (n := n) (d0 := d) (k0 := 0) (n0 := 0) (As := [.int x1, .int (0 : Int32), .int (x2 - r6)]) (st := []) (pc := 94) dX3_walk_94 (ci := 2) rfl (mo_isC hM) rfl q2335 q2337 qs48 q91 q2338 3 (by decide +kernel) rfl (Nat.le_refl _) (by decide) (Nat.le_of_ble_eq_true rfl) (Cx.mono (cm_X3_addKeeper hM (by omega)  h) (mV.to (fun ρ17 h => ?_)) (xo rfl))
        refine sd_aload_n (pc := 97) dX3_walk_97 rfl 2 rfl ?_
        refine sd_iload_n (pc := 98) dX3_walk_98 rfl 3 rfl ?_
        refine sd_iconst (pc := 99) dX3_walk_99 (v := 1) (by decide) ?_
        refine sd_callV (k := k) (n := n) (d0 := d) (k0 := 0) (n0 := 0) (As := [.int x1, .int (1 : Int32)]) (st := []) (pc := 100) dX3_walk_100 (ci := 2) rfl (mo_isC hM) rfl q2320 q2322 qs46 q91 q2323 2 (by decide +kernel) rfl (Nat.le_refl _) (by decide) (Nat.le_of_ble_eq_true rfl) (Cx.mono (cm_X3_ofKeeper hM (by omega)  h) (mI.to (fun r19 ρ18 h => ?_)) (xo rfl))
        exact sd_ireturn (pc := 103) dX3_walk_103 (ty0 := .int) rfl rfl (mI.ok h)
      · have h := h.2 c20
        refine sd_iconst (pc := 73) dX3_walk_73 (v := 0) (by decide) ?_
        exact sd_ireturn (pc := 74) dX3_walk_74 (ty0 := .int) rfl rfl (mI.ok h)
    · have h := h.2 c21
      refine sd_iconst (pc := 28) dX3_walk_28 (v := 0) (by decide) ?_
      exact sd_ireturn (pc := 29) dX3_walk_29 (ty0 := .int) rfl rfl (mI.ok h)
  · have h := h.2 c44
    refine sd_iload_n (pc := 10) dX3_walk_10 rfl 2 rfl ?_
    refine sd_callS (k := k) (n := n) (d0 := d) (k0 := 0) (n0 := 0) (As := [.int x2]) (st := [.int (1 : Int32), .ref (mb 0)]) (pc := 11) dX3_walk_11 q2178 q2179 q91 q2180 1 (by decide +kernel) rfl (Nat.le_refl _) (by decide) (Nat.le_of_ble_eq_true rfl) (Cx.mono (cm_X3_isLawn hM (by omega)  h) (mI.to (fun r23 ρ22 h => ?_)) (xo rfl))
    have h45 : Wx en (d + 1) mX3_walk 22 [(0, .ref (mb 0)), (1, .int x1), (2, .int x2)] (.int (if (r23 = 0) then (1 : Int32) else (0 : Int32)) :: .int (1 : Int32) :: .ref (mb 0) :: []) (mH en mb ρ22 σ) k n (mQ en mb σ (mI K)) X := by
      refine sd_callV (k := k) (n := n) (d0 := d) (k0 := 0) (n0 := 0) (As := [.int (1 : Int32), .int (if (r23 = 0) then (1 : Int32) else (0 : Int32))]) (st := []) (pc := 22) dX3_walk_22 (ci := 2) rfl (mo_isC hM) rfl q2170 q2172 qs26 q91 q2173 2 (by decide +kernel) rfl (Nat.le_refl _) (by decide) (Nat.le_of_ble_eq_true rfl) (Cx.mono (cm_X3_fails hM (by omega)  h) (mI.to (fun r26 ρ25 h => ?_)) (xo rfl))
      refine sd_ifeq (pc := 25) dX3_walk_25 (tgt := 30) (by decide) ⟨fun c43 => ?_, fun c43 => ?_⟩
      · have h := h.1 c43
        refine sd_aload_n (pc := 30) dX3_walk_30 rfl 0 rfl ?_
        refine sd_iload_n (pc := 31) dX3_walk_31 rfl 1 rfl ?_
        refine sd_iconst (pc := 32) dX3_walk_32 (v := 0) (by decide) ?_
        refine sd_callV (k := k) (n := n) (d0 := d) (k0 := 0) (n0 := 0) (As := [.int x1, .int (0 : Int32)]) (st := []) (pc := 33) dX3_walk_33 (ci := 2) rfl (mo_isC hM) rfl q2320 q2322 qs46 q91 q2323 2 (by decide +kernel) rfl (Nat.le_refl _) (by decide) (Nat.le_of_ble_eq_true rfl) (Cx.mono (cm_X3_ofKeeper hM (by omega)  h) (mI.to (fun r28 ρ27 h => ?_)) (xo rfl))
        refine sd_istore_n (pc := 36) dX3_walk_36 rfl (by decide) (ls' := [(3, .int r28), (0, .ref (mb 0)), (1, .int x1), (2, .int x2)]) rfl ?_
        refine sd_iload_n (pc := 37) dX3_walk_37 rfl 0 rfl ?_
        refine sd_iconst (pc := 38) dX3_walk_38 (v := 3) (by decide) ?_
        refine sd_idiv (pc := 39) dX3_walk_39 (by decide) ?_
        refine sd_iload_n (pc := 40) dX3_walk_40 rfl 3 rfl ?_
        refine sd_iconst (pc := 41) dX3_walk_41 (v := 3) (by decide) ?_
        refine sd_idiv (pc := 42) dX3_walk_42 (by decide) ?_
        refine sd_callS (k := k) (n := n) (d0 := d) (k0 := 0) (n0 := 0) (As := [.int (r28 / (3 : Int32)), .int (x2 / (3 : Int32))]) (st := []) (pc := 43) dX3_walk_43 q2328 q2329 q91 q2330 2 (by decide +kernel) rfl (Nat.le_refl _) (by decide) (Nat.le_of_ble_eq_true rfl) (Cx.mono (cm_X3_apart hM (by omega)  h) (mI.to (fun r30 ρ29 h => ?_)) (xo rfl))
        refine sd_iload_n (pc := 46) dX3_walk_46 rfl 0 rfl ?_
        refine sd_iconst (pc := 47) dX3_walk_47 (v := 3) (by decide) ?_
        refine sd_irem (pc := 48) dX3_walk_48 (by decide) ?_
        refine sd_iload_n (pc := 49) dX3_walk_49 rfl 3 rfl ?_
        refine sd_iconst (pc := 50) dX3_walk_50 (v := 3) (by decide) ?_
        refine sd_irem (pc := 51) dX3_walk_51 (by decide) ?_
        refine sd_callS (k := k) (n := n) (d0 := d) (k0 := 0) (n0 := 0) (As := [.int (r28 - r28 / (3 : Int32) * (3 : Int32)), .int (x2 - x2 / (3 : Int32) * (3 : Int32))]) (st := [.int r30]) (pc := 52) dX3_walk_52 q2328 q2329 q91 q2330 2 (by decide +kernel) rfl (Nat.le_refl _) (by decide) (Nat.le_of_ble_eq_true rfl) (Cx.mono (cm_X3_apart hM (by omega)  h) (mI.to (fun r32 ρ31 h => ?_)) (xo rfl))
        refine sd_iadd (pc := 55) dX3_walk_55 ?_
        refine sd_istore (pc := 56) dX3_walk_56 (by decide) (ls' := [(4, .int (r30 + r32)), (3, .int r28), (0, .ref (mb 0)), (1, .int x1), (2, .int x2)]) rfl ?_
        refine sd_aload_n (pc := 58) dX3_walk_58 rfl 2 rfl ?_
        refine sd_iconst (pc := 59) dX3_walk_59 (v := 2) (by decide) ?_
        refine sd_aload_n (pc := 60) dX3_walk_60 rfl 2 rfl ?_
        refine sd_iload_n (pc := 61) dX3_walk_61 rfl 3 rfl ?_
        refine sd_iload (pc := 62) dX3_walk_62 0 rfl ?_
        refine sd_callV (k := k) (n := n) (d0 := d) (k0 := 0) (n0 := 0) (As := [.int x1, .int (r30 + r32)]) (st := [.int (2 : Int32), .ref (mb 0)]) (pc := 64) dX3_walk_64 (ci := 2) rfl (mo_isC hM) rfl q2331 q2333 qs47 q91 q2334 2 (by decide +kernel) rfl (Nat.le_refl _) (by decide) (Nat.le_of_ble_eq_true rfl) (Cx.mono (cm_X3_lacksHours hM (by omega)  h) (mI.to (fun r34 ρ33 h => ?_)) (xo rfl))
        refine sd_callV (k := k) (n := n) (d0 := d) (k0 := 0) (n0 := 0) (As := [.int (2 : Int32), .int r34]) (st := []) (pc := 67) dX3_walk_67 (ci := 2) rfl (mo_isC hM) rfl q2170 q2172 qs26 q91 q2173 2 (by decide +kernel) rfl (Nat.le_refl _) (by decide) (Nat.le_of_ble_eq_true rfl) (Cx.mono (cm_X3_fails hM (by omega)  h) (mI.to (fun r36 ρ35 h => ?_)) (xo rfl))
        refine sd_ifeq (pc := 70) dX3_walk_70 (tgt := 75) (by decide) ⟨fun c42 => ?_, fun c42 => ?_⟩
        · have h := h.1 c42
          refine sd_aload_n (pc := 75) dX3_walk_75 rfl 2 rfl ?_
          refine sd_callV (k := k) (n := n) (d0 := d) (k0 := 0) (n0 := 0) (As := []) (st := []) (pc := 76) dX3_walk_76 (ci := 2) rfl (mo_isC hM) rfl q2189 q2191 qs29 q91 q2192 0 (by decide +kernel) rfl (Nat.le_refl _) (by decide) (Nat.le_of_ble_eq_true rfl) (Cx.mono (cm_X3_change hM (by omega)  h) (mV.to (fun ρ37 h => ?_)) (xo rfl))
          refine sd_aload_n (pc := 79) dX3_walk_79 rfl 2 rfl ?_
          refine sd_iload_n (pc := 80) dX3_walk_80 rfl 3 rfl ?_
          refine sd_iconst (pc := 81) dX3_walk_81 (v := 1) (by decide) ?_
          refine sd_iload (pc := 82) dX3_walk_82 0 rfl ?_
          refine sd_ineg (pc := 84) dX3_walk_84 ?_
          refine sd_callV (k := k) (n := n) (d0 := d) (k0 := 0) (n0 := 0) (As := [.int x1, .int (1 : Int32), .int (-(r30 + r32))]) (st := []) (pc := 85) dX3_walk_85 (ci := 2) rfl (mo_isC hM) rfl q2335 q2337 qs48 q91 q2338 3 (by decide +kernel) rfl (Nat.le_refl _) (by decide) (Nat.le_of_ble_eq_true rfl) (Cx.mono (cm_X3_addKeeper hM (by omega)  h) (mV.to (fun ρ38 h => ?_)) (xo rfl))
          refine sd_aload_n (pc := 88) dX3_walk_88 rfl 2 rfl ?_
          refine sd_iload_n (pc := 89) dX3_walk_89 rfl 3 rfl ?_
          refine sd_iconst (pc := 90) dX3_walk_90 (v := 0) (by decide) ?_
          refine sd_iload_n (pc := 91) dX3_walk_91 rfl 4 rfl ?_
          refine sd_iload_n (pc := 92) dX3_walk_92 rfl 1 rfl ?_
          refine sd_isub (pc := 93) dX3_walk_93 ?_
          refine sd_callV (k := k) (n := n) (d0 := d) (k0 := 0) (n0 := 0) (As := [.int x1, .int (0 : Int32), .int (x2 - r28)]) (st := []) (pc := 94) dX3_walk_94 (ci := 2) rfl (mo_isC hM) rfl q2335 q2337 qs48 q91 q2338 3 (by decide +kernel) rfl (Nat.le_refl _) (by decide) (Nat.le_of_ble_eq_true rfl) (Cx.mono (cm_X3_addKeeper hM (by omega)  h) (mV.to (fun ρ39 h => ?_)) (xo rfl))
          refine sd_aload_n (pc := 97) dX3_walk_97 rfl 2 rfl ?_
          refine sd_iload_n (pc := 98) dX3_walk_98 rfl 3 rfl ?_
          refine sd_iconst (pc := 99) dX3_walk_99 (v := 1) (by decide) ?_
          refine sd_callV (k := k) (n := n) (d0 := d) (k0 := 0) (n0 := 0) (As := [.int x1, .int (1 : Int32)]) (st := []) (pc := 100) dX3_walk_100 (ci := 2) rfl (mo_isC hM) rfl q2320 q2322 qs46 q91 q2323 2 (by decide +kernel) rfl (Nat.le_refl _) (by decide) (Nat.le_of_ble_eq_true rfl) (Cx.mono (cm_X3_ofKeeper hM (by omega)  h) (mI.to (fun r41 ρ40 h => ?_)) (xo rfl))
          exact sd_ireturn (pc := 103) dX3_walk_103 (ty0 := .int) rfl rfl (mI.ok h)
        · have h := h.2 c42
          refine sd_iconst (pc := 73) dX3_walk_73 (v := 0) (by decide) ?_
          exact sd_ireturn (pc := 74) dX3_walk_74 (ty0 := .int) rfl rfl (mI.ok h)
      · have h := h.2 c43
        refine sd_iconst (pc := 28) dX3_walk_28 (v := 0) (by decide) ?_
        exact sd_ireturn (pc := 29) dX3_walk_29 (ty0 := .int) rfl rfl (mI.ok h)
    have e46 := sd_iteIN h45
    refine sd_ifne (pc := 14) dX3_walk_14 (tgt := 21) (by decide) ⟨fun c24 => ?_, fun c24 => ?_⟩
    · refine sd_iconst (pc := 21) dX3_walk_21 (v := 0) (by decide) ?_
      exact (e46.1 c24)
    · refine sd_iconst (pc := 17) dX3_walk_17 (v := 1) (by decide) ?_
      refine sd_goto (pc := 18) dX3_walk_18 (tgt := 22) (by decide) ?_
      exact (e46.2 c24)
theorem cm_X3_walk {en : yEn} {mb : Nat → Nat} {σ : yH} (hM : mOK en mb σ) {d : Nat} (hd : 4 ≤ d) {ρ : yMS} {x1 : Int32} {x2 : Int32} {K : Int32 → yMS → Prop} {X : String → Addr → yH → Prop}  (h : wpM_X3_walk ρ x1 x2 K) : Cx en d 0 0 mX3_walk [.ref (mb 0), .int x1, .int x2] (mH en mb ρ σ) (mQ en mb σ (mI K)) X := by
  obtain ⟨d, rfl⟩ : ∃ e, d = e + 1 := ⟨d - 1, by omega⟩
  exact Cx.body (by decide +kernel) rfl (Nat.le_of_ble_eq_true rfl) (okM_X3_walk hM (by omega)  h)
/-! isShearRefused(III)Z -/
def wpM_X3_isShearRefused (ρ : yMS) (x1 : Int32) (x2 : Int32) (x3 : Int32) (K : Int32 → yMS → Prop) : Prop :=
  mAld ρ 1 ((22 : Int32) + x2) (fun v1 => wpM_X3_ofKeeper ρ x1 (0 : Int32) (fun r3 ρ2 => wpM_X3_isBeside ρ2 x2 r3 (fun r5 ρ4 => wpM_X3_refuse ρ4 (if (r5 = 0) then (1 : Int32) else (0 : Int32)) (4 : Int32) x2 (fun r8 ρ7 => ((¬ (r8 = 0) → K (1 : Int32) ρ7) ∧ ((r8 = 0) → wpM_X3_refuse ρ7 (if (x3 < v1) then (0 : Int32) else (1 : Int32)) (5 : Int32) v1 (fun r11 ρ10 => (((r11 = 0) → wpM_X3_lacksHours ρ10 x1 (((v1 - x3) + (3 : Int32)) / (4 : Int32)) (fun r13 ρ12 => (narrow .boolean (.int r13) = .int r13 ∧ K r13 ρ12))) ∧ (¬ (r11 = 0) → K (1 : Int32) ρ10)))))))))
theorem okM_X3_isShearRefused {en : yEn} {mb : Nat → Nat} {σ : yH} (hM : mOK en mb σ) {d : Nat} (hd : 4 ≤ d + 1) {ρ : yMS} {x1 : Int32} {x2 : Int32} {x3 : Int32} {K : Int32 → yMS → Prop} {X : String → Addr → yH → Prop} {k n : Nat}  (h : wpM_X3_isShearRefused ρ x1 x2 x3 K) : Wx en (d + 1) mX3_isShearRefused 0 [(0, .ref (mb 0)), (1, .int x1), (2, .int x2), (3, .int x3)] [] (mH en mb ρ σ) k n (mQ en mb σ (mI K)) X := by
  unfold wpM_X3_isShearRefused at h
  refine sd_aload_n (pc := 0) dX3_isShearRefused_0 rfl 0 rfl ?_
  refine sd_getR (pc := 1) dX3_isShearRefused_1 (ci := 2) rfl in_X3 (kf := 1) (by decide) q2074 (mo_gR hM (j := 1) rfl ?_)
  refine sd_bipush (pc := 4) dX3_isShearRefused_4 (v := 22) (by decide) ?_
  refine sd_iload_n (pc := 6) dX3_isShearRefused_6 rfl 2 rfl ?_
  refine sd_iadd (pc := 7) dX3_isShearRefused_7 ?_
  refine sd_iaload (pc := 8) dX3_isShearRefused_8 (mAld.to hM h (fun v1 h => ?_))
  refine sd_istore (pc := 9) dX3_isShearRefused_9 (by decide) (ls' := [(4, .int v1), (0, .ref (mb 0)), (1, .int x1), (2, .int x2), (3, .int x3)]) rfl ?_
  refine sd_aload_n (pc := 11) dX3_isShearRefused_11 rfl 1 rfl ?_
  refine sd_iload_n (pc := 12) dX3_isShearRefused_12 rfl 3 rfl ?_
  refine sd_aload_n (pc := 13) dX3_isShearRefused_13 rfl 1 rfl ?_
  refine sd_iload_n (pc := 14) dX3_isShearRefused_14 rfl 2 rfl ?_
  refine sd_iconst (pc := 15) dX3_isShearRefused_15 (v := 0) (by decide) ?_
  refine sd_callV (k := k) (n := n) (d0 := d) (k0 := 0) (n0 := 0) (As := [.int x1, .int (0 : Int32)]) (st := [.int x2, .ref (mb 0)]) (pc := 16) dX3_isShearRefused_16 (ci := 2) rfl (mo_isC hM) rfl q2320 q2322 qs46 q91 q2323 2 (by decide +kernel) rfl (Nat.le_refl _) (by decide) (Nat.le_of_ble_eq_true rfl) (Cx.mono (cm_X3_ofKeeper hM (by omega)  h) (mI.to (fun r3 ρ2 h => ?_)) (xo rfl))
  refine sd_callS (k := k) (n := n) (d0 := d) (k0 := 0) (n0 := 0) (As := [.int x2, .int r3]) (st := [.ref (mb 0)]) (pc := 19) dX3_isShearRefused_19 q2260 q2261 q91 q2262 2 (by decide +kernel) rfl (Nat.le_refl _) (by decide) (Nat.le_of_ble_eq_true rfl) (Cx.mono (cm_X3_isBeside hM (by omega)  h) (mI.to (fun r5 ρ4 h => ?_)) (xo rfl))
  have h16 : Wx en (d + 1) mX3_isShearRefused 30 [(4, .int v1), (0, .ref (mb 0)), (1, .int x1), (2, .int x2), (3, .int x3)] (.int (if (r5 = 0) then (1 : Int32) else (0 : Int32)) :: .ref (mb 0) :: []) (mH en mb ρ4 σ) k n (mQ en mb σ (mI K)) X := by
    refine sd_iconst (pc := 30) dX3_isShearRefused_30 (v := 4) (by decide) ?_
    refine sd_iload_n (pc := 31) dX3_isShearRefused_31 rfl 3 rfl ?_
    refine sd_callV (k := k) (n := n) (d0 := d) (k0 := 0) (n0 := 0) (As := [.int (if (r5 = 0) then (1 : Int32) else (0 : Int32)), .int (4 : Int32), .int x2]) (st := []) (pc := 32) dX3_isShearRefused_32 (ci := 2) rfl (mo_isC hM) rfl q2185 q2187 qs28 q91 q2188 3 (by decide +kernel) rfl (Nat.le_refl _) (by decide) (Nat.le_of_ble_eq_true rfl) (Cx.mono (cm_X3_refuse hM (by omega)  h) (mI.to (fun r8 ρ7 h => ?_)) (xo rfl))
    refine sd_ifne (pc := 35) dX3_isShearRefused_35 (tgt := 59) (by decide) ⟨fun c15 => ?_, fun c15 => ?_⟩
    · have h := h.1 c15
      refine sd_iconst (pc := 59) dX3_isShearRefused_59 (v := 1) (by decide) ?_
      exact sd_ireturn (pc := 60) dX3_isShearRefused_60 (ty0 := .boolean) rfl rfl (mI.ok h)
    · have h := h.2 c15
      refine sd_aload_n (pc := 38) dX3_isShearRefused_38 rfl 1 rfl ?_
      refine sd_iload (pc := 39) dX3_isShearRefused_39 0 rfl ?_
      refine sd_iload_n (pc := 41) dX3_isShearRefused_41 rfl 4 rfl ?_
      have h17 : Wx en (d + 1) mX3_isShearRefused 50 [(4, .int v1), (0, .ref (mb 0)), (1, .int x1), (2, .int x2), (3, .int x3)] (.int (if (x3 < v1) then (0 : Int32) else (1 : Int32)) :: .ref (mb 0) :: []) (mH en mb ρ7 σ) k n (mQ en mb σ (mI K)) X := by
        refine sd_iconst (pc := 50) dX3_isShearRefused_50 (v := 5) (by decide) ?_
        refine sd_iload (pc := 51) dX3_isShearRefused_51 0 rfl ?_
        refine sd_callV (k := k) (n := n) (d0 := d) (k0 := 0) (n0 := 0) (As := [.int (if (x3 < v1) then (0 : Int32) else (1 : Int32)), .int (5 : Int32), .int v1]) (st := []) (pc := 53) dX3_isShearRefused_53 (ci := 2) rfl (mo_isC hM) rfl q2185 q2187 qs28 q91 q2188 3 (by decide +kernel) rfl (Nat.le_refl _) (by decide) (Nat.le_of_ble_eq_true rfl) (Cx.mono (cm_X3_refuse hM (by omega)  h) (mI.to (fun r11 ρ10 h => ?_)) (xo rfl))
        refine sd_ifeq (pc := 56) dX3_isShearRefused_56 (tgt := 61) (by decide) ⟨fun c14 => ?_, fun c14 => ?_⟩
        · have h := h.1 c14
          refine sd_aload_n (pc := 61) dX3_isShearRefused_61 rfl 1 rfl ?_
          refine sd_iload_n (pc := 62) dX3_isShearRefused_62 rfl 2 rfl ?_
          refine sd_iload (pc := 63) dX3_isShearRefused_63 0 rfl ?_
          refine sd_iload_n (pc := 65) dX3_isShearRefused_65 rfl 4 rfl ?_
          refine sd_isub (pc := 66) dX3_isShearRefused_66 ?_
          refine sd_iconst (pc := 67) dX3_isShearRefused_67 (v := 3) (by decide) ?_
          refine sd_iadd (pc := 68) dX3_isShearRefused_68 ?_
          refine sd_iconst (pc := 69) dX3_isShearRefused_69 (v := 4) (by decide) ?_
          refine sd_idiv (pc := 70) dX3_isShearRefused_70 (by decide) ?_
          refine sd_callV (k := k) (n := n) (d0 := d) (k0 := 0) (n0 := 0) (As := [.int x1, .int (((v1 - x3) + (3 : Int32)) / (4 : Int32))]) (st := []) (pc := 71) dX3_isShearRefused_71 (ci := 2) rfl (mo_isC hM) rfl q2331 q2333 qs47 q91 q2334 2 (by decide +kernel) rfl (Nat.le_refl _) (by decide) (Nat.le_of_ble_eq_true rfl) (Cx.mono (cm_X3_lacksHours hM (by omega)  h) (mI.to (fun r13 ρ12 h => ?_)) (xo rfl))
          exact sd_ireturn (pc := 74) dX3_isShearRefused_74 (ty0 := .boolean) rfl h.1 (mI.ok h.2)
        · have h := h.2 c14
          refine sd_iconst (pc := 59) dX3_isShearRefused_59 (v := 1) (by decide) ?_
          exact sd_ireturn (pc := 60) dX3_isShearRefused_60 (ty0 := .boolean) rfl rfl (mI.ok h)
      have e18 := sd_iteI h17
      refine sd_icmpgt (pc := 42) dX3_isShearRefused_42 (tgt := 49) (by decide) ⟨fun c9 => ?_, fun c9 => ?_⟩
      · refine sd_iconst (pc := 49) dX3_isShearRefused_49 (v := 0) (by decide) ?_
        exact (e18.1 c9)
      · refine sd_iconst (pc := 45) dX3_isShearRefused_45 (v := 1) (by decide) ?_
        refine sd_goto (pc := 46) dX3_isShearRefused_46 (tgt := 50) (by decide) ?_
        exact (e18.2 c9)
  have e19 := sd_iteIN h16
  refine sd_ifne (pc := 22) dX3_isShearRefused_22 (tgt := 29) (by decide) ⟨fun c6 => ?_, fun c6 => ?_⟩
  · refine sd_iconst (pc := 29) dX3_isShearRefused_29 (v := 0) (by decide) ?_
    exact (e19.1 c6)
  · refine sd_iconst (pc := 25) dX3_isShearRefused_25 (v := 1) (by decide) ?_
    refine sd_goto (pc := 26) dX3_isShearRefused_26 (tgt := 30) (by decide) ?_
    exact (e19.2 c6)
theorem cm_X3_isShearRefused {en : yEn} {mb : Nat → Nat} {σ : yH} (hM : mOK en mb σ) {d : Nat} (hd : 4 ≤ d) {ρ : yMS} {x1 : Int32} {x2 : Int32} {x3 : Int32} {K : Int32 → yMS → Prop} {X : String → Addr → yH → Prop}  (h : wpM_X3_isShearRefused ρ x1 x2 x3 K) : Cx en d 0 0 mX3_isShearRefused [.ref (mb 0), .int x1, .int x2, .int x3] (mH en mb ρ σ) (mQ en mb σ (mI K)) X := by
  obtain ⟨d, rfl⟩ : ∃ e, d = e + 1 := ⟨d - 1, by omega⟩
  exact Cx.body (by decide +kernel) rfl (Nat.le_of_ble_eq_true rfl) (okM_X3_isShearRefused hM (by omega)  h)
/-! shear(III)I -/
def wpM_X3_shear (ρ : yMS) (x1 : Int32) (x2 : Int32) (x3 : Int32) (K : Int32 → yMS → Prop) : Prop :=
  wpM_X3_isKeeper ρ x1 (fun r2 ρ1 => (((r2 = 0) → wpM_X3_fails ρ1 (1 : Int32) (1 : Int32) (fun r4 ρ3 => ((¬ (r4 = 0) → K (0 : Int32) ρ3) ∧ ((r4 = 0) → wpM_X3_isBetween ρ3 x3 (0 : Int32) (20 : Int32) (fun r6 ρ5 => wpM_X3_fails ρ5 (2 : Int32) (if (r6 = 0) then (1 : Int32) else (0 : Int32)) (fun r9 ρ8 => ((¬ (r9 = 0) → K (0 : Int32) ρ8) ∧ ((r9 = 0) → wpM_X3_isShearRefused ρ8 x1 x2 x3 (fun r11 ρ10 => wpM_X3_fails ρ10 (3 : Int32) r11 (fun r13 ρ12 => (((r13 = 0) → wpM_X3_change ρ12  (fun ρ14 => mAld ρ14 1 ((22 : Int32) + x2) (fun v15 => wpM_X3_addKeeper ρ14 x1 (1 : Int32) (-(((v15 - x3) + (3 : Int32)) / (4 : Int32))) (fun ρ16 => wpM_X3_addKeeper ρ16 x1 (3 : Int32) (v15 - x3) (fun ρ17 => mAst ρ17 1 ((22 : Int32) + x2) x3 (fun ρ18 => K (v15 - x3) ρ18)))))) ∧ (¬ (r13 = 0) → K (0 : Int32) ρ12)))))))))))) ∧ (¬ (r2 = 0) → wpM_X3_isHedge ρ1 x2 (fun r23 ρ22 => wpM_X3_fails ρ22 (1 : Int32) (if (r23 = 0) then (1 : Int32) else (0 : Int32)) (fun r26 ρ25 => ((¬ (r26 = 0) → K (0 : Int32) ρ25) ∧ ((r26 = 0) → wpM_X3_isBetween ρ25 x3 (0 : Int32) (20 : Int32) (fun r28 ρ27 => wpM_X3_fails ρ27 (2 : Int32) (if (r28 = 0) then (1 : Int32) else (0 : Int32)) (fun r31 ρ30 => ((¬ (r31 = 0) → K (0 : Int32) ρ30) ∧ ((r31 = 0) → wpM_X3_isShearRefused ρ30 x1 x2 x3 (fun r33 ρ32 => wpM_X3_fails ρ32 (3 : Int32) r33 (fun r35 ρ34 => (((r35 = 0) → wpM_X3_change ρ34  (fun ρ36 => mAld ρ36 1 ((22 : Int32) + x2) (fun v37 => wpM_X3_addKeeper ρ36 x1 (1 : Int32) (-(((v37 - x3) + (3 : Int32)) / (4 : Int32))) (fun ρ38 => wpM_X3_addKeeper ρ38 x1 (3 : Int32) (v37 - x3) (fun ρ39 => mAst ρ39 1 ((22 : Int32) + x2) x3 (fun ρ40 => K (v37 - x3) ρ40)))))) ∧ (¬ (r35 = 0) → K (0 : Int32) ρ34)))))))))))))))
theorem okM_X3_shear {en : yEn} {mb : Nat → Nat} {σ : yH} (hM : mOK en mb σ) {d : Nat} (hd : 5 ≤ d + 1) {ρ : yMS} {x1 : Int32} {x2 : Int32} {x3 : Int32} {K : Int32 → yMS → Prop} {X : String → Addr → yH → Prop} {k n : Nat}  (h : wpM_X3_shear ρ x1 x2 x3 K) : Wx en (d + 1) mX3_shear 0 [(0, .ref (mb 0)), (1, .int x1), (2, .int x2), (3, .int x3)] [] (mH en mb ρ σ) k n (mQ en mb σ (mI K)) X := by
  unfold wpM_X3_shear at h
  refine sd_aload_n (pc := 0) dX3_shear_0 rfl 0 rfl ?_
  refine sd_iconst (pc := 1) dX3_shear_1 (v := 1) (by decide) ?_
  refine sd_aload_n (pc := 2) dX3_shear_2 rfl 0 rfl ?_
  refine sd_iload_n (pc := 3) dX3_shear_3 rfl 1 rfl ?_
  refine sd_callV (k := k) (n := n) (d0 := d) (k0 := 0) (n0 := 0) (As := [.int x1]) (st := [.int (1 : Int32), .ref (mb 0)]) (pc := 4) dX3_shear_4 (ci := 2) rfl (mo_isC hM) rfl q2316 q2318 qs45 q91 q2319 1 (by decide +kernel) rfl (Nat.le_refl _) (by decide) (Nat.le_of_ble_eq_true rfl) (Cx.mono (cm_X3_isKeeper hM (by omega)  h) (mI.to (fun r2 ρ1 h => ?_)) (xo rfl))
  refine sd_ifeq (pc := 7) dX3_shear_7 (tgt := 17) (by decide) ⟨fun c44 => ?_, fun c44 => ?_⟩
  · have h := h.1 c44
    refine sd_iconst (pc := 17) dX3_shear_17 (v := 1) (by decide) ?_
    refine sd_goto (pc := 18) dX3_shear_18 (tgt := 22) (by decide) ?_
    refine sd_callV (k := k) (n := n) (d0 := d) (k0 := 0) (n0 := 0) (As := [.int (1 : Int32), .int (1 : Int32)]) (st := []) (pc := 22) dX3_shear_22 (ci := 2) rfl (mo_isC hM) rfl q2170 q2172 qs26 q91 q2173 2 (by decide +kernel) rfl (Nat.le_refl _) (by decide) (Nat.le_of_ble_eq_true rfl) (Cx.mono (cm_X3_fails hM (by omega)  h) (mI.to (fun r4 ρ3 h => ?_)) (xo rfl))
    refine sd_ifne (pc := 25) dX3_shear_25 (tgt := 66) (by decide) ⟨fun c21 => ?_, fun c21 => ?_⟩
    · have h := h.1 c21
      refine sd_iconst (pc := 66) dX3_shear_66 (v := 0) (by decide) ?_
      exact sd_ireturn (pc := 67) dX3_shear_67 (ty0 := .int) rfl rfl (mI.ok h)
    · have h := h.2 c21
      refine sd_aload_n (pc := 28) dX3_shear_28 rfl 0 rfl ?_
      refine sd_iconst (pc := 29) dX3_shear_29 (v := 2) (by decide) ?_
      refine sd_iload_n (pc := 30) dX3_shear_30 rfl 3 rfl ?_
      refine sd_iconst (pc := 31) dX3_shear_31 (v := 0) (by decide) ?_
      refine sd_bipush (pc := 32) dX3_shear_32 (v := 20) (by decide) ?_
      refine sd_callS (k := k) (n := n) (d0 := d) (k0 := 0) (n0 := 0) (As := [.int x3, .int (0 : Int32), .int (20 : Int32)]) (st := [.int (2 : Int32), .ref (mb 0)]) (pc := 34) dX3_shear_34 q2167 q2168 q91 q2169 3 (by decide +kernel) rfl (Nat.le_refl _) (by decide) (Nat.le_of_ble_eq_true rfl) (Cx.mono (cm_X3_isBetween hM (by omega)  h) (mI.to (fun r6 ρ5 h => ?_)) (xo rfl))
      have h45 : Wx en (d + 1) mX3_shear 45 [(0, .ref (mb 0)), (1, .int x1), (2, .int x2), (3, .int x3)] (.int (if (r6 = 0) then (1 : Int32) else (0 : Int32)) :: .int (2 : Int32) :: .ref (mb 0) :: []) (mH en mb ρ5 σ) k n (mQ en mb σ (mI K)) X := by
        refine sd_callV (k := k) (n := n) (d0 := d) (k0 := 0) (n0 := 0) (As := [.int (2 : Int32), .int (if (r6 = 0) then (1 : Int32) else (0 : Int32))]) (st := []) (pc := 45) dX3_shear_45 (ci := 2) rfl (mo_isC hM) rfl q2170 q2172 qs26 q91 q2173 2 (by decide +kernel) rfl (Nat.le_refl _) (by decide) (Nat.le_of_ble_eq_true rfl) (Cx.mono (cm_X3_fails hM (by omega)  h) (mI.to (fun r9 ρ8 h => ?_)) (xo rfl))
        refine sd_ifne (pc := 48) dX3_shear_48 (tgt := 66) (by decide) ⟨fun c20 => ?_, fun c20 => ?_⟩
        · have h := h.1 c20
          refine sd_iconst (pc := 66) dX3_shear_66 (v := 0) (by decide) ?_
          exact sd_ireturn (pc := 67) dX3_shear_67 (ty0 := .int) rfl rfl (mI.ok h)
        · have h := h.2 c20
          refine sd_aload_n (pc := 51) dX3_shear_51 rfl 0 rfl ?_
          refine sd_iconst (pc := 52) dX3_shear_52 (v := 3) (by decide) ?_
          refine sd_aload_n (pc := 53) dX3_shear_53 rfl 0 rfl ?_
          refine sd_iload_n (pc := 54) dX3_shear_54 rfl 1 rfl ?_
          refine sd_iload_n (pc := 55) dX3_shear_55 rfl 2 rfl ?_
          refine sd_iload_n (pc := 56) dX3_shear_56 rfl 3 rfl ?_
          refine sd_callV (k := k) (n := n) (d0 := d) (k0 := 0) (n0 := 0) (As := [.int x1, .int x2, .int x3]) (st := [.int (3 : Int32), .ref (mb 0)]) (pc := 57) dX3_shear_57 (ci := 2) rfl (mo_isC hM) rfl q2343 q2345 qs49 q91 q2346 3 (by decide +kernel) rfl (Nat.le_refl _) (by decide) (Nat.le_of_ble_eq_true rfl) (Cx.mono (cm_X3_isShearRefused hM (by omega)  h) (mI.to (fun r11 ρ10 h => ?_)) (xo rfl))
          refine sd_callV (k := k) (n := n) (d0 := d) (k0 := 0) (n0 := 0) (As := [.int (3 : Int32), .int r11]) (st := []) (pc := 60) dX3_shear_60 (ci := 2) rfl (mo_isC hM) rfl q2170 q2172 qs26 q91 q2173 2 (by decide +kernel) rfl (Nat.le_refl _) (by decide) (Nat.le_of_ble_eq_true rfl) (Cx.mono (cm_X3_fails hM (by omega)  h) (mI.to (fun r13 ρ12 h => ?_)) (xo rfl))
          refine sd_ifeq (pc := 63) dX3_shear_63 (tgt := 68) (by decide) ⟨fun c19 => ?_, fun c19 => ?_⟩
          · have h := h.1 c19
            refine sd_aload_n (pc := 68) dX3_shear_68 rfl 0 rfl ?_
            refine sd_callV (k := k) (n := n) (d0 := d) (k0 := 0) (n0 := 0) (As := []) (st := []) (pc := 69) dX3_shear_69 (ci := 2) rfl (mo_isC hM) rfl q2189 q2191 qs29 q91 q2192 0 (by decide +kernel) rfl (Nat.le_refl _) (by decide) (Nat.le_of_ble_eq_true rfl) (Cx.mono (cm_X3_change hM (by omega)  h) (mV.to (fun ρ14 h => ?_)) (xo rfl))
            refine sd_aload_n (pc := 72) dX3_shear_72 rfl 0 rfl ?_
            refine sd_getR (pc := 73) dX3_shear_73 (ci := 2) rfl in_X3 (kf := 1) (by decide) q2074 (mo_gR hM (j := 1) rfl ?_)
            refine sd_bipush (pc := 76) dX3_shear_76 (v := 22) (by decide) ?_
            refine sd_iload_n (pc := 78) dX3_shear_78 rfl 2 rfl ?_
            refine sd_iadd (pc := 79) dX3_shear_79 ?_
            refine sd_iaload (pc := 80) dX3_shear_80 (mAld.to hM h (fun v15 h => ?_))
            refine sd_iload_n (pc := 81) dX3_shear_81 rfl 3 rfl ?_
            refine sd_isub (pc := 82) dX3_shear_82 ?_
            refine sd_istore (pc := 83) dX3_shear_83 (by decide) (ls' := [(4, .int (v15 - x3)), (0, .ref (mb 0)), (1, .int x1), (2, .int x2), (3, .int x3)]) rfl ?_
            refine sd_aload_n (pc := 85) dX3_shear_85 rfl 1 rfl ?_
            refine sd_iload_n (pc := 86) dX3_shear_86 rfl 2 rfl ?_
            refine sd_iconst (pc := 87) dX3_shear_87 (v := 1) (by decide) ?_
            refine sd_iload (pc := 88) dX3_shear_88 0 rfl ?_
            refine sd_iconst (pc := 90) dX3_shear_90 (v := 3) (by decide) ?_
            refine sd_iadd (pc := 91) dX3_shear_91 ?_
            refine sd_iconst (pc := 92) dX3_shear_92 (v := 4) (by decide) ?_
            refine sd_idiv (pc := 93) dX3_shear_93 (by decide) ?_
            refine sd_ineg (pc := 94) dX3_shear_94 ?_
            refine sd_callV (k := k) (n := n) (d0 := d) (k0 := 0) (n0 := 0) (As := [.int x1, .int (1 : Int32), .int (-(((v15 - x3) + (3 : Int32)) / (4 : Int32)))]) (st := []) (pc := 95) dX3_shear_95 (ci := 2) rfl (mo_isC hM) rfl q2335 q2337 qs48 q91 q2338 3 (by decide +kernel) rfl (Nat.le_refl _) (by decide) (Nat.le_of_ble_eq_true rfl) (Cx.mono (cm_X3_addKeeper hM (by omega)  h) (mV.to (fun ρ16 h => ?_)) (xo rfl))
            refine sd_aload_n (pc := 98) dX3_shear_98 rfl 1 rfl ?_
            refine sd_iload_n (pc := 99) dX3_shear_99 rfl 2 rfl ?_
            refine sd_iconst (pc := 100) dX3_shear_100 (v := 3) (by decide) ?_
            refine sd_iload (pc := 101) dX3_shear_101 0 rfl ?_
            refine sd_callV (k := k) (n := n) (d0 := d) (k0 := 0) (n0 := 0) (As := [.int x1, .int (3 : Int32), .int (v15 - x3)]) (st := []) (pc := 103) dX3_shear_103 (ci := 2) rfl (mo_isC hM) rfl q2335 q2337 qs48 q91 q2338 3 (by decide +kernel) rfl (Nat.le_refl _) (by decide) (Nat.le_of_ble_eq_true rfl) (Cx.mono (cm_X3_addKeeper hM (by omega)  h) (mV.to (fun ρ17 h => ?_)) (xo rfl))
            refine sd_aload_n (pc := 106) dX3_shear_106 rfl 1 rfl ?_
            refine sd_getR (pc := 107) dX3_shear_107 (ci := 2) rfl in_X3 (kf := 1) (by decide) q2074 (mo_gR hM (j := 1) rfl ?_)
            refine sd_bipush (pc := 110) dX3_shear_110 (v := 22) (by decide) ?_
            refine sd_iload_n (pc := 112) dX3_shear_112 rfl 3 rfl ?_
            refine sd_iadd (pc := 113) dX3_shear_113 ?_
            refine sd_iload_n (pc := 114) dX3_shear_114 rfl 4 rfl ?_
            refine sd_iastore (pc := 115) dX3_shear_115 (mAst.to hM h (fun ρ18 h => ?_))
            refine sd_iload (pc := 116) dX3_shear_116 0 rfl ?_
            exact sd_ireturn (pc := 118) dX3_shear_118 (ty0 := .int) rfl rfl (mI.ok h)
          · have h := h.2 c19
            refine sd_iconst (pc := 66) dX3_shear_66 (v := 0) (by decide) ?_
            exact sd_ireturn (pc := 67) dX3_shear_67 (ty0 := .int) rfl rfl (mI.ok h)
      have e46 := sd_iteIN h45
      refine sd_ifne (pc := 37) dX3_shear_37 (tgt := 44) (by decide) ⟨fun c7 => ?_, fun c7 => ?_⟩
      · refine sd_iconst (pc := 44) dX3_shear_44 (v := 0) (by decide) ?_
        exact (e46.1 c7)
      · refine sd_iconst (pc := 40) dX3_shear_40 (v := 1) (by decide) ?_
        refine sd_goto (pc := 41) dX3_shear_41 (tgt := 45) (by decide) ?_
        exact (e46.2 c7)
  · have h := h.2 c44
    refine sd_iload_n (pc := 10) dX3_shear_10 rfl 2 rfl ?_
    refine sd_callS (k := k) (n := n) (d0 := d) (k0 := 0) (n0 := 0) (As := [.int x2]) (st := [.int (1 : Int32), .ref (mb 0)]) (pc := 11) dX3_shear_11 q2164 q2165 q91 q2166 1 (by decide +kernel) rfl (Nat.le_refl _) (by decide) (Nat.le_of_ble_eq_true rfl) (Cx.mono (cm_X3_isHedge hM (by omega)  h) (mI.to (fun r23 ρ22 h => ?_)) (xo rfl))
    have h47 : Wx en (d + 1) mX3_shear 22 [(0, .ref (mb 0)), (1, .int x1), (2, .int x2), (3, .int x3)] (.int (if (r23 = 0) then (1 : Int32) else (0 : Int32)) :: .int (1 : Int32) :: .ref (mb 0) :: []) (mH en mb ρ22 σ) k n (mQ en mb σ (mI K)) X := by
      refine sd_callV (k := k) (n := n) (d0 := d) (k0 := 0) (n0 := 0) (As := [.int (1 : Int32), .int (if (r23 = 0) then (1 : Int32) else (0 : Int32))]) (st := []) (pc := 22) dX3_shear_22 (ci := 2) rfl (mo_isC hM) rfl q2170 q2172 qs26 q91 q2173 2 (by decide +kernel) rfl (Nat.le_refl _) (by decide) (Nat.le_of_ble_eq_true rfl) (Cx.mono (cm_X3_fails hM (by omega)  h) (mI.to (fun r26 ρ25 h => ?_)) (xo rfl))
      refine sd_ifne (pc := 25) dX3_shear_25 (tgt := 66) (by decide) ⟨fun c43 => ?_, fun c43 => ?_⟩
      · have h := h.1 c43
        refine sd_iconst (pc := 66) dX3_shear_66 (v := 0) (by decide) ?_
        exact sd_ireturn (pc := 67) dX3_shear_67 (ty0 := .int) rfl rfl (mI.ok h)
      · have h := h.2 c43
        refine sd_aload_n (pc := 28) dX3_shear_28 rfl 0 rfl ?_
        refine sd_iconst (pc := 29) dX3_shear_29 (v := 2) (by decide) ?_
        refine sd_iload_n (pc := 30) dX3_shear_30 rfl 3 rfl ?_
        refine sd_iconst (pc := 31) dX3_shear_31 (v := 0) (by decide) ?_
        refine sd_bipush (pc := 32) dX3_shear_32 (v := 20) (by decide) ?_
        refine sd_callS (k := k) (n := n) (d0 := d) (k0 := 0) (n0 := 0) (As := [.int x3, .int (0 : Int32), .int (20 : Int32)]) (st := [.int (2 : Int32), .ref (mb 0)]) (pc := 34) dX3_shear_34 q2167 q2168 q91 q2169 3 (by decide +kernel) rfl (Nat.le_refl _) (by decide) (Nat.le_of_ble_eq_true rfl) (Cx.mono (cm_X3_isBetween hM (by omega)  h) (mI.to (fun r28 ρ27 h => ?_)) (xo rfl))
        have h48 : Wx en (d + 1) mX3_shear 45 [(0, .ref (mb 0)), (1, .int x1), (2, .int x2), (3, .int x3)] (.int (if (r28 = 0) then (1 : Int32) else (0 : Int32)) :: .int (2 : Int32) :: .ref (mb 0) :: []) (mH en mb ρ27 σ) k n (mQ en mb σ (mI K)) X := by
          refine sd_callV (k := k) (n := n) (d0 := d) (k0 := 0) (n0 := 0) (As := [.int (2 : Int32), .int (if (r28 = 0) then (1 : Int32) else (0 : Int32))]) (st := []) (pc := 45) dX3_shear_45 (ci := 2) rfl (mo_isC hM) rfl q2170 q2172 qs26 q91 q2173 2 (by decide +kernel) rfl (Nat.le_refl _) (by decide) (Nat.le_of_ble_eq_true rfl) (Cx.mono (cm_X3_fails hM (by omega)  h) (mI.to (fun r31 ρ30 h => ?_)) (xo rfl))
          refine sd_ifne (pc := 48) dX3_shear_48 (tgt := 66) (by decide) ⟨fun c42 => ?_, fun c42 => ?_⟩
          · have h := h.1 c42
            refine sd_iconst (pc := 66) dX3_shear_66 (v := 0) (by decide) ?_
            exact sd_ireturn (pc := 67) dX3_shear_67 (ty0 := .int) rfl rfl (mI.ok h)
          · have h := h.2 c42
            refine sd_aload_n (pc := 51) dX3_shear_51 rfl 0 rfl ?_
            refine sd_iconst (pc := 52) dX3_shear_52 (v := 3) (by decide) ?_
            refine sd_aload_n (pc := 53) dX3_shear_53 rfl 0 rfl ?_
            refine sd_iload_n (pc := 54) dX3_shear_54 rfl 1 rfl ?_
            refine sd_iload_n (pc := 55) dX3_shear_55 rfl 2 rfl ?_
            refine sd_iload_n (pc := 56) dX3_shear_56 rfl 3 rfl ?_
            refine sd_callV (k := k) (n := n) (d0 := d) (k0 := 0) (n0 := 0) (As := [.int x1, .int x2, .int x3]) (st := [.int (3 : Int32), .ref (mb 0)]) (pc := 57) dX3_shear_57 (ci := 2) rfl (mo_isC hM) rfl q2343 q2345 qs49 q91 q2346 3 (by decide +kernel) rfl (Nat.le_refl _) (by decide) (Nat.le_of_ble_eq_true rfl) (Cx.mono (cm_X3_isShearRefused hM (by omega)  h) (mI.to (fun r33 ρ32 h => ?_)) (xo rfl))
            refine sd_callV (k := k) (n := n) (d0 := d) (k0 := 0) (n0 := 0) (As := [.int (3 : Int32), .int r33]) (st := []) (pc := 60) dX3_shear_60 (ci := 2) rfl (mo_isC hM) rfl q2170 q2172 qs26 q91 q2173 2 (by decide +kernel) rfl (Nat.le_refl _) (by decide) (Nat.le_of_ble_eq_true rfl) (Cx.mono (cm_X3_fails hM (by omega)  h) (mI.to (fun r35 ρ34 h => ?_)) (xo rfl))
            refine sd_ifeq (pc := 63) dX3_shear_63 (tgt := 68) (by decide) ⟨fun c41 => ?_, fun c41 => ?_⟩
            · have h := h.1 c41
              refine sd_aload_n (pc := 68) dX3_shear_68 rfl 0 rfl ?_
              refine sd_callV (k := k) (n := n) (d0 := d) (k0 := 0) (n0 := 0) (As := []) (st := []) (pc := 69) dX3_shear_69 (ci := 2) rfl (mo_isC hM) rfl q2189 q2191 qs29 q91 q2192 0 (by decide +kernel) rfl (Nat.le_refl _) (by decide) (Nat.le_of_ble_eq_true rfl) (Cx.mono (cm_X3_change hM (by omega)  h) (mV.to (fun ρ36 h => ?_)) (xo rfl))
              refine sd_aload_n (pc := 72) dX3_shear_72 rfl 0 rfl ?_
              refine sd_getR (pc := 73) dX3_shear_73 (ci := 2) rfl in_X3 (kf := 1) (by decide) q2074 (mo_gR hM (j := 1) rfl ?_)
              refine sd_bipush (pc := 76) dX3_shear_76 (v := 22) (by decide) ?_
              refine sd_iload_n (pc := 78) dX3_shear_78 rfl 2 rfl ?_
              refine sd_iadd (pc := 79) dX3_shear_79 ?_
              refine sd_iaload (pc := 80) dX3_shear_80 (mAld.to hM h (fun v37 h => ?_))
              refine sd_iload_n (pc := 81) dX3_shear_81 rfl 3 rfl ?_
              refine sd_isub (pc := 82) dX3_shear_82 ?_
              refine sd_istore (pc := 83) dX3_shear_83 (by decide) (ls' := [(4, .int (v37 - x3)), (0, .ref (mb 0)), (1, .int x1), (2, .int x2), (3, .int x3)]) rfl ?_
              refine sd_aload_n (pc := 85) dX3_shear_85 rfl 1 rfl ?_
              refine sd_iload_n (pc := 86) dX3_shear_86 rfl 2 rfl ?_
              refine sd_iconst (pc := 87) dX3_shear_87 (v := 1) (by decide) ?_
              refine sd_iload (pc := 88) dX3_shear_88 0 rfl ?_
              refine sd_iconst (pc := 90) dX3_shear_90 (v := 3) (by decide) ?_
              refine sd_iadd (pc := 91) dX3_shear_91 ?_
              refine sd_iconst (pc := 92) dX3_shear_92 (v := 4) (by decide) ?_
              refine sd_idiv (pc := 93) dX3_shear_93 (by decide) ?_
              refine sd_ineg (pc := 94) dX3_shear_94 ?_
              refine sd_callV (k := k) (n := n) (d0 := d) (k0 := 0) (n0 := 0) (As := [.int x1, .int (1 : Int32), .int (-(((v37 - x3) + (3 : Int32)) / (4 : Int32)))]) (st := []) (pc := 95) dX3_shear_95 (ci := 2) rfl (mo_isC hM) rfl q2335 q2337 qs48 q91 q2338 3 (by decide +kernel) rfl (Nat.le_refl _) (by decide) (Nat.le_of_ble_eq_true rfl) (Cx.mono (cm_X3_addKeeper hM (by omega)  h) (mV.to (fun ρ38 h => ?_)) (xo rfl))
              refine sd_aload_n (pc := 98) dX3_shear_98 rfl 1 rfl ?_
              refine sd_iload_n (pc := 99) dX3_shear_99 rfl 2 rfl ?_
              refine sd_iconst (pc := 100) dX3_shear_100 (v := 3) (by decide) ?_
              refine sd_iload (pc := 101) dX3_shear_101 0 rfl ?_
              refine sd_callV (k := k) (n := n) (d0 := d) (k0 := 0) (n0 := 0) (As := [.int x1, .int (3 : Int32), .int (v37 - x3)]) (st := []) (pc := 103) dX3_shear_103 (ci := 2) rfl (mo_isC hM) rfl q2335 q2337 qs48 q91 q2338 3 (by decide +kernel) rfl (Nat.le_refl _) (by decide) (Nat.le_of_ble_eq_true rfl) (Cx.mono (cm_X3_addKeeper hM (by omega)  h) (mV.to (fun ρ39 h => ?_)) (xo rfl))
              refine sd_aload_n (pc := 106) dX3_shear_106 rfl 1 rfl ?_
              refine sd_getR (pc := 107) dX3_shear_107 (ci := 2) rfl in_X3 (kf := 1) (by decide) q2074 (mo_gR hM (j := 1) rfl ?_)
              refine sd_bipush (pc := 110) dX3_shear_110 (v := 22) (by decide) ?_
              refine sd_iload_n (pc := 112) dX3_shear_112 rfl 3 rfl ?_
              refine sd_iadd (pc := 113) dX3_shear_113 ?_
              refine sd_iload_n (pc := 114) dX3_shear_114 rfl 4 rfl ?_
              refine sd_iastore (pc := 115) dX3_shear_115 (mAst.to hM h (fun ρ40 h => ?_))
              refine sd_iload (pc := 116) dX3_shear_116 0 rfl ?_
              exact sd_ireturn (pc := 118) dX3_shear_118 (ty0 := .int) rfl rfl (mI.ok h)
            · have h := h.2 c41
              refine sd_iconst (pc := 66) dX3_shear_66 (v := 0) (by decide) ?_
              exact sd_ireturn (pc := 67) dX3_shear_67 (ty0 := .int) rfl rfl (mI.ok h)
        have e49 := sd_iteIN h48
        refine sd_ifne (pc := 37) dX3_shear_37 (tgt := 44) (by decide) ⟨fun c29 => ?_, fun c29 => ?_⟩
        · refine sd_iconst (pc := 44) dX3_shear_44 (v := 0) (by decide) ?_
          exact (e49.1 c29)
        · refine sd_iconst (pc := 40) dX3_shear_40 (v := 1) (by decide) ?_
          refine sd_goto (pc := 41) dX3_shear_41 (tgt := 45) (by decide) ?_
          exact (e49.2 c29)
    have e50 := sd_iteIN h47
    refine sd_ifne (pc := 14) dX3_shear_14 (tgt := 21) (by decide) ⟨fun c24 => ?_, fun c24 => ?_⟩
    · refine sd_iconst (pc := 21) dX3_shear_21 (v := 0) (by decide) ?_
      exact (e50.1 c24)
    · refine sd_iconst (pc := 17) dX3_shear_17 (v := 1) (by decide) ?_
      refine sd_goto (pc := 18) dX3_shear_18 (tgt := 22) (by decide) ?_
      exact (e50.2 c24)
theorem cm_X3_shear {en : yEn} {mb : Nat → Nat} {σ : yH} (hM : mOK en mb σ) {d : Nat} (hd : 5 ≤ d) {ρ : yMS} {x1 : Int32} {x2 : Int32} {x3 : Int32} {K : Int32 → yMS → Prop} {X : String → Addr → yH → Prop}  (h : wpM_X3_shear ρ x1 x2 x3 K) : Cx en d 0 0 mX3_shear [.ref (mb 0), .int x1, .int x2, .int x3] (mH en mb ρ σ) (mQ en mb σ (mI K)) X := by
  obtain ⟨d, rfl⟩ : ∃ e, d = e + 1 := ⟨d - 1, by omega⟩
  exact Cx.body (by decide +kernel) rfl (Nat.le_of_ble_eq_true rfl) (okM_X3_shear hM (by omega)  h)
/-! isFindRefused(I)Z -/
def wpM_X3_isFindRefused (ρ : yMS) (x1 : Int32) (K : Int32 → yMS → Prop) : Prop :=
  wpM_X3_ofKeeper ρ x1 (0 : Int32) (fun r2 ρ1 => mAld ρ1 1 ((13 : Int32) + r2) (fun v3 => wpM_X3_refuse ρ1 (if (v3 = 0) then (1 : Int32) else (0 : Int32)) (7 : Int32) r2 (fun r6 ρ5 => ((¬ (r6 = 0) → K (1 : Int32) ρ5) ∧ ((r6 = 0) → wpM_X3_lacksHours ρ5 x1 (1 : Int32) (fun r8 ρ7 => K (if (r8 = 0) then (0 : Int32) else (1 : Int32)) ρ7))))))
theorem okM_X3_isFindRefused {en : yEn} {mb : Nat → Nat} {σ : yH} (hM : mOK en mb σ) {d : Nat} (hd : 3 ≤ d + 1) {ρ : yMS} {x1 : Int32} {K : Int32 → yMS → Prop} {X : String → Addr → yH → Prop} {k n : Nat}  (h : wpM_X3_isFindRefused ρ x1 K) : Wx en (d + 1) mX3_isFindRefused 0 [(0, .ref (mb 0)), (1, .int x1)] [] (mH en mb ρ σ) k n (mQ en mb σ (mI K)) X := by
  unfold wpM_X3_isFindRefused at h
  refine sd_aload_n (pc := 0) dX3_isFindRefused_0 rfl 0 rfl ?_
  refine sd_iload_n (pc := 1) dX3_isFindRefused_1 rfl 1 rfl ?_
  refine sd_iconst (pc := 2) dX3_isFindRefused_2 (v := 0) (by decide) ?_
  refine sd_callV (k := k) (n := n) (d0 := d) (k0 := 0) (n0 := 0) (As := [.int x1, .int (0 : Int32)]) (st := []) (pc := 3) dX3_isFindRefused_3 (ci := 2) rfl (mo_isC hM) rfl q2320 q2322 qs46 q91 q2323 2 (by decide +kernel) rfl (Nat.le_refl _) (by decide) (Nat.le_of_ble_eq_true rfl) (Cx.mono (cm_X3_ofKeeper hM (by omega)  h) (mI.to (fun r2 ρ1 h => ?_)) (xo rfl))
  refine sd_istore_n (pc := 6) dX3_isFindRefused_6 rfl (by decide) (ls' := [(2, .int r2), (0, .ref (mb 0)), (1, .int x1)]) rfl ?_
  refine sd_aload_n (pc := 7) dX3_isFindRefused_7 rfl 1 rfl ?_
  refine sd_aload_n (pc := 8) dX3_isFindRefused_8 rfl 1 rfl ?_
  refine sd_getR (pc := 9) dX3_isFindRefused_9 (ci := 2) rfl in_X3 (kf := 1) (by decide) q2074 (mo_gR hM (j := 1) rfl ?_)
  refine sd_bipush (pc := 12) dX3_isFindRefused_12 (v := 13) (by decide) ?_
  refine sd_iload_n (pc := 14) dX3_isFindRefused_14 rfl 0 rfl ?_
  refine sd_iadd (pc := 15) dX3_isFindRefused_15 ?_
  refine sd_iaload (pc := 16) dX3_isFindRefused_16 (mAld.to hM h (fun v3 h => ?_))
  have h11 : Wx en (d + 1) mX3_isFindRefused 25 [(2, .int r2), (0, .ref (mb 0)), (1, .int x1)] (.int (if (v3 = 0) then (1 : Int32) else (0 : Int32)) :: .ref (mb 0) :: []) (mH en mb ρ1 σ) k n (mQ en mb σ (mI K)) X := by
    refine sd_bipush (pc := 25) dX3_isFindRefused_25 (v := 7) (by decide) ?_
    refine sd_iload_n (pc := 27) dX3_isFindRefused_27 rfl 0 rfl ?_
    refine sd_callV (k := k) (n := n) (d0 := d) (k0 := 0) (n0 := 0) (As := [.int (if (v3 = 0) then (1 : Int32) else (0 : Int32)), .int (7 : Int32), .int r2]) (st := []) (pc := 28) dX3_isFindRefused_28 (ci := 2) rfl (mo_isC hM) rfl q2185 q2187 qs28 q91 q2188 3 (by decide +kernel) rfl (Nat.le_refl _) (by decide) (Nat.le_of_ble_eq_true rfl) (Cx.mono (cm_X3_refuse hM (by omega)  h) (mI.to (fun r6 ρ5 h => ?_)) (xo rfl))
    refine sd_ifne (pc := 31) dX3_isFindRefused_31 (tgt := 43) (by decide) ⟨fun c10 => ?_, fun c10 => ?_⟩
    · have h := h.1 c10
      refine sd_iconst (pc := 43) dX3_isFindRefused_43 (v := 1) (by decide) ?_
      refine sd_goto (pc := 44) dX3_isFindRefused_44 (tgt := 48) (by decide) ?_
      exact sd_ireturn (pc := 48) dX3_isFindRefused_48 (ty0 := .boolean) rfl rfl (mI.ok h)
    · have h := h.2 c10
      refine sd_aload_n (pc := 34) dX3_isFindRefused_34 rfl 1 rfl ?_
      refine sd_iload_n (pc := 35) dX3_isFindRefused_35 rfl 2 rfl ?_
      refine sd_iconst (pc := 36) dX3_isFindRefused_36 (v := 1) (by decide) ?_
      refine sd_callV (k := k) (n := n) (d0 := d) (k0 := 0) (n0 := 0) (As := [.int x1, .int (1 : Int32)]) (st := []) (pc := 37) dX3_isFindRefused_37 (ci := 2) rfl (mo_isC hM) rfl q2331 q2333 qs47 q91 q2334 2 (by decide +kernel) rfl (Nat.le_refl _) (by decide) (Nat.le_of_ble_eq_true rfl) (Cx.mono (cm_X3_lacksHours hM (by omega)  h) (mI.to (fun r8 ρ7 h => ?_)) (xo rfl))
      have h12 : Wx en (d + 1) mX3_isFindRefused 48 [(2, .int r2), (0, .ref (mb 0)), (1, .int x1)] (.int (if (r8 = 0) then (0 : Int32) else (1 : Int32)) :: []) (mH en mb ρ7 σ) k n (mQ en mb σ (mI K)) X := by
        exact sd_ireturn (pc := 48) dX3_isFindRefused_48 (ty0 := .boolean) rfl (nb_ite rfl rfl) (mI.ok h)
      have e13 := sd_iteI h12
      refine sd_ifeq (pc := 40) dX3_isFindRefused_40 (tgt := 47) (by decide) ⟨fun c9 => ?_, fun c9 => ?_⟩
      · refine sd_iconst (pc := 47) dX3_isFindRefused_47 (v := 0) (by decide) ?_
        exact (e13.1 c9)
      · refine sd_iconst (pc := 43) dX3_isFindRefused_43 (v := 1) (by decide) ?_
        refine sd_goto (pc := 44) dX3_isFindRefused_44 (tgt := 48) (by decide) ?_
        exact (e13.2 c9)
  have e14 := sd_iteIN h11
  refine sd_ifne (pc := 17) dX3_isFindRefused_17 (tgt := 24) (by decide) ⟨fun c4 => ?_, fun c4 => ?_⟩
  · refine sd_iconst (pc := 24) dX3_isFindRefused_24 (v := 0) (by decide) ?_
    exact (e14.1 c4)
  · refine sd_iconst (pc := 20) dX3_isFindRefused_20 (v := 1) (by decide) ?_
    refine sd_goto (pc := 21) dX3_isFindRefused_21 (tgt := 25) (by decide) ?_
    exact (e14.2 c4)
theorem cm_X3_isFindRefused {en : yEn} {mb : Nat → Nat} {σ : yH} (hM : mOK en mb σ) {d : Nat} (hd : 3 ≤ d) {ρ : yMS} {x1 : Int32} {K : Int32 → yMS → Prop} {X : String → Addr → yH → Prop}  (h : wpM_X3_isFindRefused ρ x1 K) : Cx en d 0 0 mX3_isFindRefused [.ref (mb 0), .int x1] (mH en mb ρ σ) (mQ en mb σ (mI K)) X := by
  obtain ⟨d, rfl⟩ : ∃ e, d = e + 1 := ⟨d - 1, by omega⟩
  exact Cx.body (by decide +kernel) rfl (Nat.le_of_ble_eq_true rfl) (okM_X3_isFindRefused hM (by omega)  h)
/-! find(I)I -/
def wpM_X3_find (ρ : yMS) (x1 : Int32) (K : Int32 → yMS → Prop) : Prop :=
  wpM_X3_isKeeper ρ x1 (fun r2 ρ1 => wpM_X3_fails ρ1 (1 : Int32) (if (r2 = 0) then (1 : Int32) else (0 : Int32)) (fun r5 ρ4 => ((¬ (r5 = 0) → K (0 : Int32) ρ4) ∧ ((r5 = 0) → wpM_X3_isFindRefused ρ4 x1 (fun r7 ρ6 => wpM_X3_fails ρ6 (2 : Int32) r7 (fun r9 ρ8 => (((r9 = 0) → wpM_X3_change ρ8  (fun ρ10 => wpM_X3_ofKeeper ρ10 x1 (0 : Int32) (fun r12 ρ11 => mAld ρ11 1 ((13 : Int32) + r12) (fun v13 => ((((15 : Int32) ≤ v13) → mAld ρ11 1 ((13 : Int32) + r12) (fun v14 => mAst ρ11 1 ((13 : Int32) + r12) (v14 - (15 : Int32)) (fun ρ15 => mAld ρ15 1 (3 : Int32) (fun v16 => mAst ρ15 1 (3 : Int32) (v16 + (15 : Int32)) (fun ρ17 => wpM_X3_addKeeper ρ17 x1 (1 : Int32) (-1 : Int32) (fun ρ18 => wpM_X3_addKeeper ρ18 x1 (2 : Int32) (15 : Int32) (fun ρ19 => K (15 : Int32) ρ19))))))) ∧ (¬ ((15 : Int32) ≤ v13) → mAld ρ11 1 ((13 : Int32) + r12) (fun v20 => mAld ρ11 1 ((13 : Int32) + r12) (fun v21 => mAst ρ11 1 ((13 : Int32) + r12) (v21 - v20) (fun ρ22 => mAld ρ22 1 (3 : Int32) (fun v23 => mAst ρ22 1 (3 : Int32) (v23 + v20) (fun ρ24 => wpM_X3_addKeeper ρ24 x1 (1 : Int32) (-1 : Int32) (fun ρ25 => wpM_X3_addKeeper ρ25 x1 (2 : Int32) v20 (fun ρ26 => K v20 ρ26))))))))))))) ∧ (¬ (r9 = 0) → K (0 : Int32) ρ8))))))))
theorem okM_X3_find {en : yEn} {mb : Nat → Nat} {σ : yH} (hM : mOK en mb σ) {d : Nat} (hd : 4 ≤ d + 1) {ρ : yMS} {x1 : Int32} {K : Int32 → yMS → Prop} {X : String → Addr → yH → Prop} {k n : Nat}  (h : wpM_X3_find ρ x1 K) : Wx en (d + 1) mX3_find 0 [(0, .ref (mb 0)), (1, .int x1)] [] (mH en mb ρ σ) k n (mQ en mb σ (mI K)) X := by
  unfold wpM_X3_find at h
  refine sd_aload_n (pc := 0) dX3_find_0 rfl 0 rfl ?_
  refine sd_iconst (pc := 1) dX3_find_1 (v := 1) (by decide) ?_
  refine sd_aload_n (pc := 2) dX3_find_2 rfl 0 rfl ?_
  refine sd_iload_n (pc := 3) dX3_find_3 rfl 1 rfl ?_
  refine sd_callV (k := k) (n := n) (d0 := d) (k0 := 0) (n0 := 0) (As := [.int x1]) (st := [.int (1 : Int32), .ref (mb 0)]) (pc := 4) dX3_find_4 (ci := 2) rfl (mo_isC hM) rfl q2316 q2318 qs45 q91 q2319 1 (by decide +kernel) rfl (Nat.le_refl _) (by decide) (Nat.le_of_ble_eq_true rfl) (Cx.mono (cm_X3_isKeeper hM (by omega)  h) (mI.to (fun r2 ρ1 h => ?_)) (xo rfl))
  have h30 : Wx en (d + 1) mX3_find 15 [(0, .ref (mb 0)), (1, .int x1)] (.int (if (r2 = 0) then (1 : Int32) else (0 : Int32)) :: .int (1 : Int32) :: .ref (mb 0) :: []) (mH en mb ρ1 σ) k n (mQ en mb σ (mI K)) X := by
    refine sd_callV (k := k) (n := n) (d0 := d) (k0 := 0) (n0 := 0) (As := [.int (1 : Int32), .int (if (r2 = 0) then (1 : Int32) else (0 : Int32))]) (st := []) (pc := 15) dX3_find_15 (ci := 2) rfl (mo_isC hM) rfl q2170 q2172 qs26 q91 q2173 2 (by decide +kernel) rfl (Nat.le_refl _) (by decide) (Nat.le_of_ble_eq_true rfl) (Cx.mono (cm_X3_fails hM (by omega)  h) (mI.to (fun r5 ρ4 h => ?_)) (xo rfl))
    refine sd_ifne (pc := 18) dX3_find_18 (tgt := 34) (by decide) ⟨fun c29 => ?_, fun c29 => ?_⟩
    · have h := h.1 c29
      refine sd_iconst (pc := 34) dX3_find_34 (v := 0) (by decide) ?_
      exact sd_ireturn (pc := 35) dX3_find_35 (ty0 := .int) rfl rfl (mI.ok h)
    · have h := h.2 c29
      refine sd_aload_n (pc := 21) dX3_find_21 rfl 0 rfl ?_
      refine sd_iconst (pc := 22) dX3_find_22 (v := 2) (by decide) ?_
      refine sd_aload_n (pc := 23) dX3_find_23 rfl 0 rfl ?_
      refine sd_iload_n (pc := 24) dX3_find_24 rfl 1 rfl ?_
      refine sd_callV (k := k) (n := n) (d0 := d) (k0 := 0) (n0 := 0) (As := [.int x1]) (st := [.int (2 : Int32), .ref (mb 0)]) (pc := 25) dX3_find_25 (ci := 2) rfl (mo_isC hM) rfl q2351 q2353 qs50 q91 q2354 1 (by decide +kernel) rfl (Nat.le_refl _) (by decide) (Nat.le_of_ble_eq_true rfl) (Cx.mono (cm_X3_isFindRefused hM (by omega)  h) (mI.to (fun r7 ρ6 h => ?_)) (xo rfl))
      refine sd_callV (k := k) (n := n) (d0 := d) (k0 := 0) (n0 := 0) (As := [.int (2 : Int32), .int r7]) (st := []) (pc := 28) dX3_find_28 (ci := 2) rfl (mo_isC hM) rfl q2170 q2172 qs26 q91 q2173 2 (by decide +kernel) rfl (Nat.le_refl _) (by decide) (Nat.le_of_ble_eq_true rfl) (Cx.mono (cm_X3_fails hM (by omega)  h) (mI.to (fun r9 ρ8 h => ?_)) (xo rfl))
      refine sd_ifeq (pc := 31) dX3_find_31 (tgt := 36) (by decide) ⟨fun c28 => ?_, fun c28 => ?_⟩
      · have h := h.1 c28
        refine sd_aload_n (pc := 36) dX3_find_36 rfl 0 rfl ?_
        refine sd_callV (k := k) (n := n) (d0 := d) (k0 := 0) (n0 := 0) (As := []) (st := []) (pc := 37) dX3_find_37 (ci := 2) rfl (mo_isC hM) rfl q2189 q2191 qs29 q91 q2192 0 (by decide +kernel) rfl (Nat.le_refl _) (by decide) (Nat.le_of_ble_eq_true rfl) (Cx.mono (cm_X3_change hM (by omega)  h) (mV.to (fun ρ10 h => ?_)) (xo rfl))
        refine sd_bipush (pc := 40) dX3_find_40 (v := 13) (by decide) ?_
        refine sd_aload_n (pc := 42) dX3_find_42 rfl 0 rfl ?_
        refine sd_iload_n (pc := 43) dX3_find_43 rfl 1 rfl ?_
        refine sd_iconst (pc := 44) dX3_find_44 (v := 0) (by decide) ?_
        refine sd_callV (k := k) (n := n) (d0 := d) (k0 := 0) (n0 := 0) (As := [.int x1, .int (0 : Int32)]) (st := [.int (13 : Int32)]) (pc := 45) dX3_find_45 (ci := 2) rfl (mo_isC hM) rfl q2320 q2322 qs46 q91 q2323 2 (by decide +kernel) rfl (Nat.le_refl _) (by decide) (Nat.le_of_ble_eq_true rfl) (Cx.mono (cm_X3_ofKeeper hM (by omega)  h) (mI.to (fun r12 ρ11 h => ?_)) (xo rfl))
        refine sd_iadd (pc := 48) dX3_find_48 ?_
        refine sd_istore_n (pc := 49) dX3_find_49 rfl (by decide) (ls' := [(2, .int ((13 : Int32) + r12)), (0, .ref (mb 0)), (1, .int x1)]) rfl ?_
        refine sd_aload_n (pc := 50) dX3_find_50 rfl 1 rfl ?_
        refine sd_getR (pc := 51) dX3_find_51 (ci := 2) rfl in_X3 (kf := 1) (by decide) q2074 (mo_gR hM (j := 1) rfl ?_)
        refine sd_iload_n (pc := 54) dX3_find_54 rfl 0 rfl ?_
        refine sd_iaload (pc := 55) dX3_find_55 (mAld.to hM h (fun v13 h => ?_))
        refine sd_bipush (pc := 56) dX3_find_56 (v := 15) (by decide) ?_
        refine sd_icmpge (pc := 58) dX3_find_58 (tgt := 70) (by decide) ⟨fun c27 => ?_, fun c27 => ?_⟩
        · have h := h.1 c27
          refine sd_bipush (pc := 70) dX3_find_70 (v := 15) (by decide) ?_
          refine sd_istore_n (pc := 72) dX3_find_72 rfl (by decide) (ls' := [(3, .int (15 : Int32)), (2, .int ((13 : Int32) + r12)), (0, .ref (mb 0)), (1, .int x1)]) rfl ?_
          refine sd_aload_n (pc := 73) dX3_find_73 rfl 2 rfl ?_
          refine sd_getR (pc := 74) dX3_find_74 (ci := 2) rfl in_X3 (kf := 1) (by decide) q2074 (mo_gR hM (j := 1) rfl ?_)
          refine sd_iload_n (pc := 77) dX3_find_77 rfl 1 rfl ?_
          refine sd_dup2 (pc := 78) dX3_find_78 rfl rfl ?_
          refine sd_iaload (pc := 79) dX3_find_79 (mAld.to hM h (fun v14 h => ?_))
          refine sd_iload_n (pc := 80) dX3_find_80 rfl 0 rfl ?_
          refine sd_isub (pc := 81) dX3_find_81 ?_
          refine sd_iastore (pc := 82) dX3_find_82 (mAst.to hM h (fun ρ15 h => ?_))
          refine sd_aload_n (pc := 83) dX3_find_83 rfl 2 rfl ?_
          refine sd_getR (pc := 84) dX3_find_84 (ci := 2) rfl in_X3 (kf := 1) (by decide) q2074 (mo_gR hM (j := 1) rfl ?_)
          refine sd_iconst (pc := 87) dX3_find_87 (v := 3) (by decide) ?_
          refine sd_dup2 (pc := 88) dX3_find_88 rfl rfl ?_
          refine sd_iaload (pc := 89) dX3_find_89 (mAld.to hM h (fun v16 h => ?_))
          refine sd_iload_n (pc := 90) dX3_find_90 rfl 0 rfl ?_
          refine sd_iadd (pc := 91) dX3_find_91 ?_
          refine sd_iastore (pc := 92) dX3_find_92 (mAst.to hM h (fun ρ17 h => ?_))
          refine sd_aload_n (pc := 93) dX3_find_93 rfl 2 rfl ?_
          refine sd_iload_n (pc := 94) dX3_find_94 rfl 3 rfl ?_
          refine sd_iconst (pc := 95) dX3_find_95 (v := 1) (by decide) ?_
          refine sd_iconst (pc := 96) dX3_find_96 (v := -1) (by decide) ?_
          refine sd_callV (k := k) (n := n) (d0 := d) (k0 := 0) (n0 := 0) (As := [.int x1, .int (1 : Int32), .int (-1 : Int32)]) (st := []) (pc := 97) dX3_find_97 (ci := 2) rfl (mo_isC hM) rfl q2335 q2337 qs48 q91 q2338 3 (by decide +kernel) rfl (Nat.le_refl _) (by decide) (Nat.le_of_ble_eq_true rfl) (Cx.mono (cm_X3_addKeeper hM (by omega)  h) (mV.to (fun ρ18 h => ?_)) (xo rfl))
          refine sd_aload_n (pc := 100) dX3_find_100 rfl 2 rfl ?_
          refine sd_iload_n (pc := 101) dX3_find_101 rfl 3 rfl ?_
          refine sd_iconst (pc := 102) dX3_find_102 (v := 2) (by decide) ?_
          refine sd_iload_n (pc := 103) dX3_find_103 rfl 0 rfl ?_
          refine sd_callV (k := k) (n := n) (d0 := d) (k0 := 0) (n0 := 0) (As := [.int x1, .int (2 : Int32), .int (15 : Int32)]) (st := []) (pc := 104) dX3_find_104 (ci := 2) rfl (mo_isC hM) rfl q2335 q2337 qs48 q91 q2338 3 (by decide +kernel) rfl (Nat.le_refl _) (by decide) (Nat.le_of_ble_eq_true rfl) (Cx.mono (cm_X3_addKeeper hM (by omega)  h) (mV.to (fun ρ19 h => ?_)) (xo rfl))
          refine sd_iload_n (pc := 107) dX3_find_107 rfl 0 rfl ?_
          exact sd_ireturn (pc := 108) dX3_find_108 (ty0 := .int) rfl rfl (mI.ok h)
        · have h := h.2 c27
          refine sd_aload_n (pc := 61) dX3_find_61 rfl 1 rfl ?_
          refine sd_getR (pc := 62) dX3_find_62 (ci := 2) rfl in_X3 (kf := 1) (by decide) q2074 (mo_gR hM (j := 1) rfl ?_)
          refine sd_iload_n (pc := 65) dX3_find_65 rfl 0 rfl ?_
          refine sd_iaload (pc := 66) dX3_find_66 (mAld.to hM h (fun v20 h => ?_))
          refine sd_goto (pc := 67) dX3_find_67 (tgt := 72) (by decide) ?_
          refine sd_istore_n (pc := 72) dX3_find_72 rfl (by decide) (ls' := [(3, .int v20), (2, .int ((13 : Int32) + r12)), (0, .ref (mb 0)), (1, .int x1)]) rfl ?_
          refine sd_aload_n (pc := 73) dX3_find_73 rfl 2 rfl ?_
          refine sd_getR (pc := 74) dX3_find_74 (ci := 2) rfl in_X3 (kf := 1) (by decide) q2074 (mo_gR hM (j := 1) rfl ?_)
          refine sd_iload_n (pc := 77) dX3_find_77 rfl 1 rfl ?_
          refine sd_dup2 (pc := 78) dX3_find_78 rfl rfl ?_
          refine sd_iaload (pc := 79) dX3_find_79 (mAld.to hM h (fun v21 h => ?_))
          refine sd_iload_n (pc := 80) dX3_find_80 rfl 0 rfl ?_
          refine sd_isub (pc := 81) dX3_find_81 ?_
          refine sd_iastore (pc := 82) dX3_find_82 (mAst.to hM h (fun ρ22 h => ?_))
          refine sd_aload_n (pc := 83) dX3_find_83 rfl 2 rfl ?_
          refine sd_getR (pc := 84) dX3_find_84 (ci := 2) rfl in_X3 (kf := 1) (by decide) q2074 (mo_gR hM (j := 1) rfl ?_)
          refine sd_iconst (pc := 87) dX3_find_87 (v := 3) (by decide) ?_
          refine sd_dup2 (pc := 88) dX3_find_88 rfl rfl ?_
          refine sd_iaload (pc := 89) dX3_find_89 (mAld.to hM h (fun v23 h => ?_))
          refine sd_iload_n (pc := 90) dX3_find_90 rfl 0 rfl ?_
          refine sd_iadd (pc := 91) dX3_find_91 ?_
          refine sd_iastore (pc := 92) dX3_find_92 (mAst.to hM h (fun ρ24 h => ?_))
          refine sd_aload_n (pc := 93) dX3_find_93 rfl 2 rfl ?_
          refine sd_iload_n (pc := 94) dX3_find_94 rfl 3 rfl ?_
          refine sd_iconst (pc := 95) dX3_find_95 (v := 1) (by decide) ?_
          refine sd_iconst (pc := 96) dX3_find_96 (v := -1) (by decide) ?_
          refine sd_callV (k := k) (n := n) (d0 := d) (k0 := 0) (n0 := 0) (As := [.int x1, .int (1 : Int32), .int (-1 : Int32)]) (st := []) (pc := 97) dX3_find_97 (ci := 2) rfl (mo_isC hM) rfl q2335 q2337 qs48 q91 q2338 3 (by decide +kernel) rfl (Nat.le_refl _) (by decide) (Nat.le_of_ble_eq_true rfl) (Cx.mono (cm_X3_addKeeper hM (by omega)  h) (mV.to (fun ρ25 h => ?_)) (xo rfl))
          refine sd_aload_n (pc := 100) dX3_find_100 rfl 2 rfl ?_
          refine sd_iload_n (pc := 101) dX3_find_101 rfl 3 rfl ?_
          refine sd_iconst (pc := 102) dX3_find_102 (v := 2) (by decide) ?_
          refine sd_iload_n (pc := 103) dX3_find_103 rfl 0 rfl ?_
          refine sd_callV (k := k) (n := n) (d0 := d) (k0 := 0) (n0 := 0) (As := [.int x1, .int (2 : Int32), .int v20]) (st := []) (pc := 104) dX3_find_104 (ci := 2) rfl (mo_isC hM) rfl q2335 q2337 qs48 q91 q2338 3 (by decide +kernel) rfl (Nat.le_refl _) (by decide) (Nat.le_of_ble_eq_true rfl) (Cx.mono (cm_X3_addKeeper hM (by omega)  h) (mV.to (fun ρ26 h => ?_)) (xo rfl))
          refine sd_iload_n (pc := 107) dX3_find_107 rfl 0 rfl ?_
          exact sd_ireturn (pc := 108) dX3_find_108 (ty0 := .int) rfl rfl (mI.ok h)
      · have h := h.2 c28
        refine sd_iconst (pc := 34) dX3_find_34 (v := 0) (by decide) ?_
        exact sd_ireturn (pc := 35) dX3_find_35 (ty0 := .int) rfl rfl (mI.ok h)
  have e31 := sd_iteIN h30
  refine sd_ifne (pc := 7) dX3_find_7 (tgt := 14) (by decide) ⟨fun c3 => ?_, fun c3 => ?_⟩
  · refine sd_iconst (pc := 14) dX3_find_14 (v := 0) (by decide) ?_
    exact (e31.1 c3)
  · refine sd_iconst (pc := 10) dX3_find_10 (v := 1) (by decide) ?_
    refine sd_goto (pc := 11) dX3_find_11 (tgt := 15) (by decide) ?_
    exact (e31.2 c3)
theorem cm_X3_find {en : yEn} {mb : Nat → Nat} {σ : yH} (hM : mOK en mb σ) {d : Nat} (hd : 4 ≤ d) {ρ : yMS} {x1 : Int32} {K : Int32 → yMS → Prop} {X : String → Addr → yH → Prop}  (h : wpM_X3_find ρ x1 K) : Cx en d 0 0 mX3_find [.ref (mb 0), .int x1] (mH en mb ρ σ) (mQ en mb σ (mI K)) X := by
  obtain ⟨d, rfl⟩ : ∃ e, d = e + 1 := ⟨d - 1, by omega⟩
  exact Cx.body (by decide +kernel) rfl (Nat.le_of_ble_eq_true rfl) (okM_X3_find hM (by omega)  h)
/-! sell(I)I -/
def wpM_X3_sell (ρ : yMS) (x1 : Int32) (K : Int32 → yMS → Prop) : Prop :=
  wpM_X3_isBetween ρ x1 (1 : Int32) (20 : Int32) (fun r2 ρ1 => wpM_X3_fails ρ1 (1 : Int32) (if (r2 = 0) then (1 : Int32) else (0 : Int32)) (fun r5 ρ4 => (((r5 = 0) → mAld ρ4 1 (3 : Int32) (fun v6 => mAld ρ4 1 (3 : Int32) (fun v8 => wpM_X3_refuse ρ4 (if (((10 : Int32) * x1) ≤ v6) then (0 : Int32) else (1 : Int32)) (8 : Int32) (((10 : Int32) * x1) - v8) (fun r10 ρ9 => wpM_X3_fails ρ9 (2 : Int32) r10 (fun r12 ρ11 => (((r12 = 0) → wpM_X3_change ρ11  (fun ρ13 => mAld ρ13 1 (3 : Int32) (fun v14 => mAst ρ13 1 (3 : Int32) (v14 - ((10 : Int32) * x1)) (fun ρ15 => mAld ρ15 1 (5 : Int32) (fun v16 => mAst ρ15 1 (5 : Int32) (v16 + ((10 : Int32) * x1)) (fun ρ17 => mAld ρ17 1 (2 : Int32) (fun v18 => mAst ρ17 1 (2 : Int32) (v18 + ((4 : Int32) * x1)) (fun ρ19 => mAld ρ19 1 (2 : Int32) (fun v20 => K v20 ρ19))))))))) ∧ (¬ (r12 = 0) → K (0 : Int32) ρ11))))))) ∧ (¬ (r5 = 0) → K (0 : Int32) ρ4))))
theorem okM_X3_sell {en : yEn} {mb : Nat → Nat} {σ : yH} (hM : mOK en mb σ) {d : Nat} (hd : 4 ≤ d + 1) {ρ : yMS} {x1 : Int32} {K : Int32 → yMS → Prop} {X : String → Addr → yH → Prop} {k n : Nat}  (h : wpM_X3_sell ρ x1 K) : Wx en (d + 1) mX3_sell 0 [(0, .ref (mb 0)), (1, .int x1)] [] (mH en mb ρ σ) k n (mQ en mb σ (mI K)) X := by
  unfold wpM_X3_sell at h
  refine sd_aload_n (pc := 0) dX3_sell_0 rfl 0 rfl ?_
  refine sd_iconst (pc := 1) dX3_sell_1 (v := 1) (by decide) ?_
  refine sd_iload_n (pc := 2) dX3_sell_2 rfl 1 rfl ?_
  refine sd_iconst (pc := 3) dX3_sell_3 (v := 1) (by decide) ?_
  refine sd_bipush (pc := 4) dX3_sell_4 (v := 20) (by decide) ?_
  refine sd_callS (k := k) (n := n) (d0 := d) (k0 := 0) (n0 := 0) (As := [.int x1, .int (1 : Int32), .int (20 : Int32)]) (st := [.int (1 : Int32), .ref (mb 0)]) (pc := 6) dX3_sell_6 q2167 q2168 q91 q2169 3 (by decide +kernel) rfl (Nat.le_refl _) (by decide) (Nat.le_of_ble_eq_true rfl) (Cx.mono (cm_X3_isBetween hM (by omega)  h) (mI.to (fun r2 ρ1 h => ?_)) (xo rfl))
  have h23 : Wx en (d + 1) mX3_sell 17 [(0, .ref (mb 0)), (1, .int x1)] (.int (if (r2 = 0) then (1 : Int32) else (0 : Int32)) :: .int (1 : Int32) :: .ref (mb 0) :: []) (mH en mb ρ1 σ) k n (mQ en mb σ (mI K)) X := by
    refine sd_callV (k := k) (n := n) (d0 := d) (k0 := 0) (n0 := 0) (As := [.int (1 : Int32), .int (if (r2 = 0) then (1 : Int32) else (0 : Int32))]) (st := []) (pc := 17) dX3_sell_17 (ci := 2) rfl (mo_isC hM) rfl q2170 q2172 qs26 q91 q2173 2 (by decide +kernel) rfl (Nat.le_refl _) (by decide) (Nat.le_of_ble_eq_true rfl) (Cx.mono (cm_X3_fails hM (by omega)  h) (mI.to (fun r5 ρ4 h => ?_)) (xo rfl))
    refine sd_ifeq (pc := 20) dX3_sell_20 (tgt := 25) (by decide) ⟨fun c22 => ?_, fun c22 => ?_⟩
    · have h := h.1 c22
      refine sd_bipush (pc := 25) dX3_sell_25 (v := 10) (by decide) ?_
      refine sd_iload_n (pc := 27) dX3_sell_27 rfl 1 rfl ?_
      refine sd_imul (pc := 28) dX3_sell_28 ?_
      refine sd_istore_n (pc := 29) dX3_sell_29 rfl (by decide) (ls' := [(2, .int ((10 : Int32) * x1)), (0, .ref (mb 0)), (1, .int x1)]) rfl ?_
      refine sd_aload_n (pc := 30) dX3_sell_30 rfl 1 rfl ?_
      refine sd_iconst (pc := 31) dX3_sell_31 (v := 2) (by decide) ?_
      refine sd_aload_n (pc := 32) dX3_sell_32 rfl 1 rfl ?_
      refine sd_aload_n (pc := 33) dX3_sell_33 rfl 1 rfl ?_
      refine sd_getR (pc := 34) dX3_sell_34 (ci := 2) rfl in_X3 (kf := 1) (by decide) q2074 (mo_gR hM (j := 1) rfl ?_)
      refine sd_iconst (pc := 37) dX3_sell_37 (v := 3) (by decide) ?_
      refine sd_iaload (pc := 38) dX3_sell_38 (mAld.to hM h (fun v6 h => ?_))
      refine sd_iload_n (pc := 39) dX3_sell_39 rfl 0 rfl ?_
      have h24 : Wx en (d + 1) mX3_sell 48 [(2, .int ((10 : Int32) * x1)), (0, .ref (mb 0)), (1, .int x1)] (.int (if (((10 : Int32) * x1) ≤ v6) then (0 : Int32) else (1 : Int32)) :: .ref (mb 0) :: .int (2 : Int32) :: .ref (mb 0) :: []) (mH en mb ρ4 σ) k n (mQ en mb σ (mI K)) X := by
        refine sd_bipush (pc := 48) dX3_sell_48 (v := 8) (by decide) ?_
        refine sd_iload_n (pc := 50) dX3_sell_50 rfl 0 rfl ?_
        refine sd_aload_n (pc := 51) dX3_sell_51 rfl 1 rfl ?_
        refine sd_getR (pc := 52) dX3_sell_52 (ci := 2) rfl in_X3 (kf := 1) (by decide) q2074 (mo_gR hM (j := 1) rfl ?_)
        refine sd_iconst (pc := 55) dX3_sell_55 (v := 3) (by decide) ?_
        refine sd_iaload (pc := 56) dX3_sell_56 (mAld.to hM h (fun v8 h => ?_))
        refine sd_isub (pc := 57) dX3_sell_57 ?_
        refine sd_callV (k := k) (n := n) (d0 := d) (k0 := 0) (n0 := 0) (As := [.int (if (((10 : Int32) * x1) ≤ v6) then (0 : Int32) else (1 : Int32)), .int (8 : Int32), .int (((10 : Int32) * x1) - v8)]) (st := [.int (2 : Int32), .ref (mb 0)]) (pc := 58) dX3_sell_58 (ci := 2) rfl (mo_isC hM) rfl q2185 q2187 qs28 q91 q2188 3 (by decide +kernel) rfl (Nat.le_refl _) (by decide) (Nat.le_of_ble_eq_true rfl) (Cx.mono (cm_X3_refuse hM (by omega)  h) (mI.to (fun r10 ρ9 h => ?_)) (xo rfl))
        refine sd_callV (k := k) (n := n) (d0 := d) (k0 := 0) (n0 := 0) (As := [.int (2 : Int32), .int r10]) (st := []) (pc := 61) dX3_sell_61 (ci := 2) rfl (mo_isC hM) rfl q2170 q2172 qs26 q91 q2173 2 (by decide +kernel) rfl (Nat.le_refl _) (by decide) (Nat.le_of_ble_eq_true rfl) (Cx.mono (cm_X3_fails hM (by omega)  h) (mI.to (fun r12 ρ11 h => ?_)) (xo rfl))
        refine sd_ifeq (pc := 64) dX3_sell_64 (tgt := 69) (by decide) ⟨fun c21 => ?_, fun c21 => ?_⟩
        · have h := h.1 c21
          refine sd_aload_n (pc := 69) dX3_sell_69 rfl 1 rfl ?_
          refine sd_callV (k := k) (n := n) (d0 := d) (k0 := 0) (n0 := 0) (As := []) (st := []) (pc := 70) dX3_sell_70 (ci := 2) rfl (mo_isC hM) rfl q2189 q2191 qs29 q91 q2192 0 (by decide +kernel) rfl (Nat.le_refl _) (by decide) (Nat.le_of_ble_eq_true rfl) (Cx.mono (cm_X3_change hM (by omega)  h) (mV.to (fun ρ13 h => ?_)) (xo rfl))
          refine sd_aload_n (pc := 73) dX3_sell_73 rfl 1 rfl ?_
          refine sd_getR (pc := 74) dX3_sell_74 (ci := 2) rfl in_X3 (kf := 1) (by decide) q2074 (mo_gR hM (j := 1) rfl ?_)
          refine sd_iconst (pc := 77) dX3_sell_77 (v := 3) (by decide) ?_
          refine sd_dup2 (pc := 78) dX3_sell_78 rfl rfl ?_
          refine sd_iaload (pc := 79) dX3_sell_79 (mAld.to hM h (fun v14 h => ?_))
          refine sd_iload_n (pc := 80) dX3_sell_80 rfl 0 rfl ?_
          refine sd_isub (pc := 81) dX3_sell_81 ?_
          refine sd_iastore (pc := 82) dX3_sell_82 (mAst.to hM h (fun ρ15 h => ?_))
          refine sd_aload_n (pc := 83) dX3_sell_83 rfl 1 rfl ?_
          refine sd_getR (pc := 84) dX3_sell_84 (ci := 2) rfl in_X3 (kf := 1) (by decide) q2074 (mo_gR hM (j := 1) rfl ?_)
          refine sd_iconst (pc := 87) dX3_sell_87 (v := 5) (by decide) ?_
          refine sd_dup2 (pc := 88) dX3_sell_88 rfl rfl ?_
          refine sd_iaload (pc := 89) dX3_sell_89 (mAld.to hM h (fun v16 h => ?_))
          refine sd_iload_n (pc := 90) dX3_sell_90 rfl 0 rfl ?_
          refine sd_iadd (pc := 91) dX3_sell_91 ?_
          refine sd_iastore (pc := 92) dX3_sell_92 (mAst.to hM h (fun ρ17 h => ?_))
          refine sd_aload_n (pc := 93) dX3_sell_93 rfl 1 rfl ?_
          refine sd_getR (pc := 94) dX3_sell_94 (ci := 2) rfl in_X3 (kf := 1) (by decide) q2074 (mo_gR hM (j := 1) rfl ?_)
          refine sd_iconst (pc := 97) dX3_sell_97 (v := 2) (by decide) ?_
          refine sd_dup2 (pc := 98) dX3_sell_98 rfl rfl ?_
          refine sd_iaload (pc := 99) dX3_sell_99 (mAld.to hM h (fun v18 h => ?_))
          refine sd_iconst (pc := 100) dX3_sell_100 (v := 4) (by decide) ?_
          refine sd_iload_n (pc := 101) dX3_sell_101 rfl 2 rfl ?_
          refine sd_imul (pc := 102) dX3_sell_102 ?_
          refine sd_iadd (pc := 103) dX3_sell_103 ?_
          refine sd_iastore (pc := 104) dX3_sell_104 (mAst.to hM h (fun ρ19 h => ?_))
          refine sd_aload_n (pc := 105) dX3_sell_105 rfl 1 rfl ?_
          refine sd_getR (pc := 106) dX3_sell_106 (ci := 2) rfl in_X3 (kf := 1) (by decide) q2074 (mo_gR hM (j := 1) rfl ?_)
          refine sd_iconst (pc := 109) dX3_sell_109 (v := 2) (by decide) ?_
          refine sd_iaload (pc := 110) dX3_sell_110 (mAld.to hM h (fun v20 h => ?_))
          exact sd_ireturn (pc := 111) dX3_sell_111 (ty0 := .int) rfl rfl (mI.ok h)
        · have h := h.2 c21
          refine sd_iconst (pc := 67) dX3_sell_67 (v := 0) (by decide) ?_
          exact sd_ireturn (pc := 68) dX3_sell_68 (ty0 := .int) rfl rfl (mI.ok h)
      have e25 := sd_iteI h24
      refine sd_icmpge (pc := 40) dX3_sell_40 (tgt := 47) (by decide) ⟨fun c7 => ?_, fun c7 => ?_⟩
      · refine sd_iconst (pc := 47) dX3_sell_47 (v := 0) (by decide) ?_
        exact (e25.1 c7)
      · refine sd_iconst (pc := 43) dX3_sell_43 (v := 1) (by decide) ?_
        refine sd_goto (pc := 44) dX3_sell_44 (tgt := 48) (by decide) ?_
        exact (e25.2 c7)
    · have h := h.2 c22
      refine sd_iconst (pc := 23) dX3_sell_23 (v := 0) (by decide) ?_
      exact sd_ireturn (pc := 24) dX3_sell_24 (ty0 := .int) rfl rfl (mI.ok h)
  have e26 := sd_iteIN h23
  refine sd_ifne (pc := 9) dX3_sell_9 (tgt := 16) (by decide) ⟨fun c3 => ?_, fun c3 => ?_⟩
  · refine sd_iconst (pc := 16) dX3_sell_16 (v := 0) (by decide) ?_
    exact (e26.1 c3)
  · refine sd_iconst (pc := 12) dX3_sell_12 (v := 1) (by decide) ?_
    refine sd_goto (pc := 13) dX3_sell_13 (tgt := 17) (by decide) ?_
    exact (e26.2 c3)
theorem cm_X3_sell {en : yEn} {mb : Nat → Nat} {σ : yH} (hM : mOK en mb σ) {d : Nat} (hd : 4 ≤ d) {ρ : yMS} {x1 : Int32} {K : Int32 → yMS → Prop} {X : String → Addr → yH → Prop}  (h : wpM_X3_sell ρ x1 K) : Cx en d 0 0 mX3_sell [.ref (mb 0), .int x1] (mH en mb ρ σ) (mQ en mb σ (mI K)) X := by
  obtain ⟨d, rfl⟩ : ∃ e, d = e + 1 := ⟨d - 1, by omega⟩
  exact Cx.body (by decide +kernel) rfl (Nat.le_of_ble_eq_true rfl) (okM_X3_sell hM (by omega)  h)
