/-! THE MODEL: walks of its methods as predicate transformers -/
set_option maxRecDepth 100000
/-! bench(I)I -/
def wpM_X3_bench (ρ : yMS) (x1 : Int32) (K : Int32 → yMS → Prop) : Prop :=
  wpM_X3_isLawn ρ x1 (fun r2 ρ1 => wpM_X3_fails ρ1 (1 : Int32) (if (r2 = 0) then (1 : Int32) else (0 : Int32)) (fun r5 ρ4 => ((¬ (r5 = 0) → K (0 : Int32) ρ4) ∧ ((r5 = 0) → mAld ρ4 1 (12 : Int32) (fun v6 => wpM_X3_refuse ρ4 (if (v6 = (4 : Int32)) then (1 : Int32) else (0 : Int32)) (1 : Int32) (4 : Int32) (fun r9 ρ8 => wpM_X3_fails ρ8 (2 : Int32) r9 (fun r11 ρ10 => (((r11 = 0) → wpM_X3_change ρ10  (fun ρ12 => mAld ρ12 1 (12 : Int32) (fun v13 => mAst ρ12 1 (((118 : Int32) + ((3 : Int32) * v13)) + (0 : Int32)) x1 (fun ρ14 => mAst ρ14 1 (((118 : Int32) + ((3 : Int32) * v13)) + (1 : Int32)) (0 : Int32) (fun ρ15 => mAst ρ15 1 (((118 : Int32) + ((3 : Int32) * v13)) + (2 : Int32)) (0 : Int32) (fun ρ16 => mAld ρ16 1 (12 : Int32) (fun v17 => mAst ρ16 1 (12 : Int32) (v17 + (1 : Int32)) (fun ρ18 => mAld ρ18 1 (12 : Int32) (fun v19 => K (v19 - (1 : Int32)) ρ18))))))))) ∧ (¬ (r11 = 0) → K (0 : Int32) ρ10)))))))))
theorem okM_X3_bench {en : yEn} {mb : Nat → Nat} {σ : yH} (hM : mOK en mb σ) {d : Nat} (hd : 4 ≤ d + 1) {ρ : yMS} {x1 : Int32} {K : Int32 → yMS → Prop} {X : String → Addr → yH → Prop} {k n : Nat}  (h : wpM_X3_bench ρ x1 K) : Wx en (d + 1) mX3_bench 0 [(0, .ref (mb 0)), (1, .int x1)] [] (mH en mb ρ σ) k n (mQ en mb σ (mI K)) X := by
  unfold wpM_X3_bench at h
  refine sd_aload_n (pc := 0) dX3_bench_0 rfl 0 rfl ?_
  refine sd_iconst (pc := 1) dX3_bench_1 (v := 1) (by decide) ?_
  refine sd_iload_n (pc := 2) dX3_bench_2 rfl 1 rfl ?_
  refine sd_callS (k := k) (n := n) (d0 := d) (k0 := 0) (n0 := 0) (As := [.int x1]) (st := [.int (1 : Int32), .ref (mb 0)]) (pc := 3) dX3_bench_3 q2178 q2179 q91 q2180 1 (by decide +kernel) rfl (Nat.le_refl _) (by decide) (Nat.le_of_ble_eq_true rfl) (Cx.mono (cm_X3_isLawn hM (by omega)  h) (mI.to (fun r2 ρ1 h => ?_)) (xo rfl))
  have h22 : Wx en (d + 1) mX3_bench 14 [(0, .ref (mb 0)), (1, .int x1)] (.int (if (r2 = 0) then (1 : Int32) else (0 : Int32)) :: .int (1 : Int32) :: .ref (mb 0) :: []) (mH en mb ρ1 σ) k n (mQ en mb σ (mI K)) X := by
    refine sd_callV (k := k) (n := n) (d0 := d) (k0 := 0) (n0 := 0) (As := [.int (1 : Int32), .int (if (r2 = 0) then (1 : Int32) else (0 : Int32))]) (st := []) (pc := 14) dX3_bench_14 (ci := 2) rfl (mo_isC hM) rfl q2170 q2172 qs26 q91 q2173 2 (by decide +kernel) rfl (Nat.le_refl _) (by decide) (Nat.le_of_ble_eq_true rfl) (Cx.mono (cm_X3_fails hM (by omega)  h) (mI.to (fun r5 ρ4 h => ?_)) (xo rfl))
    refine sd_ifne (pc := 17) dX3_bench_17 (tgt := 50) (by decide) ⟨fun c21 => ?_, fun c21 => ?_⟩
    · have h := h.1 c21
      refine sd_iconst (pc := 50) dX3_bench_50 (v := 0) (by decide) ?_
      exact sd_ireturn (pc := 51) dX3_bench_51 (ty0 := .int) rfl rfl (mI.ok h)
    · have h := h.2 c21
      refine sd_aload_n (pc := 20) dX3_bench_20 rfl 0 rfl ?_
      refine sd_iconst (pc := 21) dX3_bench_21 (v := 2) (by decide) ?_
      refine sd_aload_n (pc := 22) dX3_bench_22 rfl 0 rfl ?_
      refine sd_aload_n (pc := 23) dX3_bench_23 rfl 0 rfl ?_
      refine sd_getR (pc := 24) dX3_bench_24 (ci := 2) rfl in_X3 (kf := 1) (by decide) q2074 (mo_gR hM (j := 1) rfl ?_)
      refine sd_bipush (pc := 27) dX3_bench_27 (v := 12) (by decide) ?_
      refine sd_iaload (pc := 29) dX3_bench_29 (mAld.to hM h (fun v6 h => ?_))
      refine sd_iconst (pc := 30) dX3_bench_30 (v := 4) (by decide) ?_
      have h23 : Wx en (d + 1) mX3_bench 39 [(0, .ref (mb 0)), (1, .int x1)] (.int (if (v6 = (4 : Int32)) then (1 : Int32) else (0 : Int32)) :: .ref (mb 0) :: .int (2 : Int32) :: .ref (mb 0) :: []) (mH en mb ρ4 σ) k n (mQ en mb σ (mI K)) X := by
        refine sd_iconst (pc := 39) dX3_bench_39 (v := 1) (by decide) ?_
        refine sd_iconst (pc := 40) dX3_bench_40 (v := 4) (by decide) ?_
        refine sd_callV (k := k) (n := n) (d0 := d) (k0 := 0) (n0 := 0) (As := [.int (if (v6 = (4 : Int32)) then (1 : Int32) else (0 : Int32)), .int (1 : Int32), .int (4 : Int32)]) (st := [.int (2 : Int32), .ref (mb 0)]) (pc := 41) dX3_bench_41 (ci := 2) rfl (mo_isC hM) rfl q2185 q2187 qs28 q91 q2188 3 (by decide +kernel) rfl (Nat.le_refl _) (by decide) (Nat.le_of_ble_eq_true rfl) (Cx.mono (cm_X3_refuse hM (by omega)  h) (mI.to (fun r9 ρ8 h => ?_)) (xo rfl))
        refine sd_callV (k := k) (n := n) (d0 := d) (k0 := 0) (n0 := 0) (As := [.int (2 : Int32), .int r9]) (st := []) (pc := 44) dX3_bench_44 (ci := 2) rfl (mo_isC hM) rfl q2170 q2172 qs26 q91 q2173 2 (by decide +kernel) rfl (Nat.le_refl _) (by decide) (Nat.le_of_ble_eq_true rfl) (Cx.mono (cm_X3_fails hM (by omega)  h) (mI.to (fun r11 ρ10 h => ?_)) (xo rfl))
        refine sd_ifeq (pc := 47) dX3_bench_47 (tgt := 52) (by decide) ⟨fun c20 => ?_, fun c20 => ?_⟩
        · have h := h.1 c20
          refine sd_aload_n (pc := 52) dX3_bench_52 rfl 0 rfl ?_
          refine sd_callV (k := k) (n := n) (d0 := d) (k0 := 0) (n0 := 0) (As := []) (st := []) (pc := 53) dX3_bench_53 (ci := 2) rfl (mo_isC hM) rfl q2189 q2191 qs29 q91 q2192 0 (by decide +kernel) rfl (Nat.le_refl _) (by decide) (Nat.le_of_ble_eq_true rfl) (Cx.mono (cm_X3_change hM (by omega)  h) (mV.to (fun ρ12 h => ?_)) (xo rfl))
          refine sd_bipush (pc := 56) dX3_bench_56 (v := 118) (by decide) ?_
          refine sd_iconst (pc := 58) dX3_bench_58 (v := 3) (by decide) ?_
          refine sd_aload_n (pc := 59) dX3_bench_59 rfl 0 rfl ?_
          refine sd_getR (pc := 60) dX3_bench_60 (ci := 2) rfl in_X3 (kf := 1) (by decide) q2074 (mo_gR hM (j := 1) rfl ?_)
          refine sd_bipush (pc := 63) dX3_bench_63 (v := 12) (by decide) ?_
          refine sd_iaload (pc := 65) dX3_bench_65 (mAld.to hM h (fun v13 h => ?_))
          refine sd_imul (pc := 66) dX3_bench_66 ?_
          refine sd_iadd (pc := 67) dX3_bench_67 ?_
          refine sd_istore_n (pc := 68) dX3_bench_68 rfl (by decide) (ls' := [(2, .int ((118 : Int32) + ((3 : Int32) * v13))), (0, .ref (mb 0)), (1, .int x1)]) rfl ?_
          refine sd_aload_n (pc := 69) dX3_bench_69 rfl 1 rfl ?_
          refine sd_getR (pc := 70) dX3_bench_70 (ci := 2) rfl in_X3 (kf := 1) (by decide) q2074 (mo_gR hM (j := 1) rfl ?_)
          refine sd_iload_n (pc := 73) dX3_bench_73 rfl 0 rfl ?_
          refine sd_iconst (pc := 74) dX3_bench_74 (v := 0) (by decide) ?_
          refine sd_iadd (pc := 75) dX3_bench_75 ?_
          refine sd_iload_n (pc := 76) dX3_bench_76 rfl 2 rfl ?_
          refine sd_iastore (pc := 77) dX3_bench_77 (mAst.to hM h (fun ρ14 h => ?_))
          refine sd_aload_n (pc := 78) dX3_bench_78 rfl 1 rfl ?_
          refine sd_getR (pc := 79) dX3_bench_79 (ci := 2) rfl in_X3 (kf := 1) (by decide) q2074 (mo_gR hM (j := 1) rfl ?_)
          refine sd_iload_n (pc := 82) dX3_bench_82 rfl 0 rfl ?_
          refine sd_iconst (pc := 83) dX3_bench_83 (v := 1) (by decide) ?_
          refine sd_iadd (pc := 84) dX3_bench_84 ?_
          refine sd_iconst (pc := 85) dX3_bench_85 (v := 0) (by decide) ?_
          refine sd_iastore (pc := 86) dX3_bench_86 (mAst.to hM h (fun ρ15 h => ?_))
          refine sd_aload_n (pc := 87) dX3_bench_87 rfl 1 rfl ?_
          refine sd_getR (pc := 88) dX3_bench_88 (ci := 2) rfl in_X3 (kf := 1) (by decide) q2074 (mo_gR hM (j := 1) rfl ?_)
          refine sd_iload_n (pc := 91) dX3_bench_91 rfl 0 rfl ?_
          refine sd_iconst (pc := 92) dX3_bench_92 (v := 2) (by decide) ?_
          refine sd_iadd (pc := 93) dX3_bench_93 ?_
          refine sd_iconst (pc := 94) dX3_bench_94 (v := 0) (by decide) ?_
          refine sd_iastore (pc := 95) dX3_bench_95 (mAst.to hM h (fun ρ16 h => ?_))
          refine sd_aload_n (pc := 96) dX3_bench_96 rfl 1 rfl ?_
          refine sd_getR (pc := 97) dX3_bench_97 (ci := 2) rfl in_X3 (kf := 1) (by decide) q2074 (mo_gR hM (j := 1) rfl ?_)
          refine sd_bipush (pc := 100) dX3_bench_100 (v := 12) (by decide) ?_
          refine sd_dup2 (pc := 102) dX3_bench_102 rfl rfl ?_
          refine sd_iaload (pc := 103) dX3_bench_103 (mAld.to hM h (fun v17 h => ?_))
          refine sd_iconst (pc := 104) dX3_bench_104 (v := 1) (by decide) ?_
          refine sd_iadd (pc := 105) dX3_bench_105 ?_
          refine sd_iastore (pc := 106) dX3_bench_106 (mAst.to hM h (fun ρ18 h => ?_))
          refine sd_aload_n (pc := 107) dX3_bench_107 rfl 1 rfl ?_
          refine sd_getR (pc := 108) dX3_bench_108 (ci := 2) rfl in_X3 (kf := 1) (by decide) q2074 (mo_gR hM (j := 1) rfl ?_)
          refine sd_bipush (pc := 111) dX3_bench_111 (v := 12) (by decide) ?_
          refine sd_iaload (pc := 113) dX3_bench_113 (mAld.to hM h (fun v19 h => ?_))
          refine sd_iconst (pc := 114) dX3_bench_114 (v := 1) (by decide) ?_
          refine sd_isub (pc := 115) dX3_bench_115 ?_
          exact sd_ireturn (pc := 116) dX3_bench_116 (ty0 := .int) rfl rfl (mI.ok h)
        · have h := h.2 c20
          refine sd_iconst (pc := 50) dX3_bench_50 (v := 0) (by decide) ?_
          exact sd_ireturn (pc := 51) dX3_bench_51 (ty0 := .int) rfl rfl (mI.ok h)
      have e24 := sd_iteIN h23
      refine sd_icmpne (pc := 31) dX3_bench_31 (tgt := 38) (by decide) ⟨fun c7 => ?_, fun c7 => ?_⟩
      · refine sd_iconst (pc := 38) dX3_bench_38 (v := 0) (by decide) ?_
        exact (e24.1 c7)
      · refine sd_iconst (pc := 34) dX3_bench_34 (v := 1) (by decide) ?_
        refine sd_goto (pc := 35) dX3_bench_35 (tgt := 39) (by decide) ?_
        exact (e24.2 c7)
  have e25 := sd_iteIN h22
  refine sd_ifne (pc := 6) dX3_bench_6 (tgt := 13) (by decide) ⟨fun c3 => ?_, fun c3 => ?_⟩
  · refine sd_iconst (pc := 13) dX3_bench_13 (v := 0) (by decide) ?_
    exact (e25.1 c3)
  · refine sd_iconst (pc := 9) dX3_bench_9 (v := 1) (by decide) ?_
    refine sd_goto (pc := 10) dX3_bench_10 (tgt := 14) (by decide) ?_
    exact (e25.2 c3)
theorem cm_X3_bench {en : yEn} {mb : Nat → Nat} {σ : yH} (hM : mOK en mb σ) {d : Nat} (hd : 4 ≤ d) {ρ : yMS} {x1 : Int32} {K : Int32 → yMS → Prop} {X : String → Addr → yH → Prop}  (h : wpM_X3_bench ρ x1 K) : Cx en d 0 0 mX3_bench [.ref (mb 0), .int x1] (mH en mb ρ σ) (mQ en mb σ (mI K)) X := by
  obtain ⟨d, rfl⟩ : ∃ e, d = e + 1 := ⟨d - 1, by omega⟩
  exact Cx.body (by decide +kernel) rfl (Nat.le_of_ble_eq_true rfl) (okM_X3_bench hM (by omega)  h)
/-! isBench(I)Z -/
def wpM_X3_isBench (ρ : yMS) (x1 : Int32) (K : Int32 → yMS → Prop) : Prop :=
  mAld ρ 1 (12 : Int32) (fun v1 => wpM_X3_isBetween ρ x1 (0 : Int32) (v1 - (1 : Int32)) (fun r3 ρ2 => (narrow .boolean (.int r3) = .int r3 ∧ K r3 ρ2)))
theorem okM_X3_isBench {en : yEn} {mb : Nat → Nat} {σ : yH} (hM : mOK en mb σ) {d : Nat} (hd : 2 ≤ d + 1) {ρ : yMS} {x1 : Int32} {K : Int32 → yMS → Prop} {X : String → Addr → yH → Prop} {k n : Nat}  (h : wpM_X3_isBench ρ x1 K) : Wx en (d + 1) mX3_isBench 0 [(0, .ref (mb 0)), (1, .int x1)] [] (mH en mb ρ σ) k n (mQ en mb σ (mI K)) X := by
  unfold wpM_X3_isBench at h
  refine sd_iload_n (pc := 0) dX3_isBench_0 rfl 1 rfl ?_
  refine sd_iconst (pc := 1) dX3_isBench_1 (v := 0) (by decide) ?_
  refine sd_aload_n (pc := 2) dX3_isBench_2 rfl 0 rfl ?_
  refine sd_getR (pc := 3) dX3_isBench_3 (ci := 2) rfl in_X3 (kf := 1) (by decide) q2074 (mo_gR hM (j := 1) rfl ?_)
  refine sd_bipush (pc := 6) dX3_isBench_6 (v := 12) (by decide) ?_
  refine sd_iaload (pc := 8) dX3_isBench_8 (mAld.to hM h (fun v1 h => ?_))
  refine sd_iconst (pc := 9) dX3_isBench_9 (v := 1) (by decide) ?_
  refine sd_isub (pc := 10) dX3_isBench_10 ?_
  refine sd_callS (k := k) (n := n) (d0 := d) (k0 := 0) (n0 := 0) (As := [.int x1, .int (0 : Int32), .int (v1 - (1 : Int32))]) (st := []) (pc := 11) dX3_isBench_11 q2167 q2168 q91 q2169 3 (by decide +kernel) rfl (Nat.le_refl _) (by decide) (Nat.le_of_ble_eq_true rfl) (Cx.mono (cm_X3_isBetween hM (by omega)  h) (mI.to (fun r3 ρ2 h => ?_)) (xo rfl))
  exact sd_ireturn (pc := 14) dX3_isBench_14 (ty0 := .boolean) rfl h.1 (mI.ok h.2)
theorem cm_X3_isBench {en : yEn} {mb : Nat → Nat} {σ : yH} (hM : mOK en mb σ) {d : Nat} (hd : 2 ≤ d) {ρ : yMS} {x1 : Int32} {K : Int32 → yMS → Prop} {X : String → Addr → yH → Prop}  (h : wpM_X3_isBench ρ x1 K) : Cx en d 0 0 mX3_isBench [.ref (mb 0), .int x1] (mH en mb ρ σ) (mQ en mb σ (mI K)) X := by
  obtain ⟨d, rfl⟩ : ∃ e, d = e + 1 := ⟨d - 1, by omega⟩
  exact Cx.body (by decide +kernel) rfl (Nat.le_of_ble_eq_true rfl) (okM_X3_isBench hM (by omega)  h)
/-! ofBench(II)I -/
def wpM_X3_ofBench (ρ : yMS) (x1 : Int32) (x2 : Int32) (K : Int32 → yMS → Prop) : Prop :=
  mAld ρ 1 (((118 : Int32) + ((3 : Int32) * x1)) + x2) (fun v1 => K v1 ρ)
theorem okM_X3_ofBench {en : yEn} {mb : Nat → Nat} {σ : yH} (hM : mOK en mb σ) {d : Nat} (hd : 1 ≤ d + 1) {ρ : yMS} {x1 : Int32} {x2 : Int32} {K : Int32 → yMS → Prop} {X : String → Addr → yH → Prop} {k n : Nat}  (h : wpM_X3_ofBench ρ x1 x2 K) : Wx en (d + 1) mX3_ofBench 0 [(0, .ref (mb 0)), (1, .int x1), (2, .int x2)] [] (mH en mb ρ σ) k n (mQ en mb σ (mI K)) X := by
  unfold wpM_X3_ofBench at h
  refine sd_aload_n (pc := 0) dX3_ofBench_0 rfl 0 rfl ?_
  refine sd_getR (pc := 1) dX3_ofBench_1 (ci := 2) rfl in_X3 (kf := 1) (by decide) q2074 (mo_gR hM (j := 1) rfl ?_)
  refine sd_bipush (pc := 4) dX3_ofBench_4 (v := 118) (by decide) ?_
  refine sd_iconst (pc := 6) dX3_ofBench_6 (v := 3) (by decide) ?_
  refine sd_iload_n (pc := 7) dX3_ofBench_7 rfl 1 rfl ?_
  refine sd_imul (pc := 8) dX3_ofBench_8 ?_
  refine sd_iadd (pc := 9) dX3_ofBench_9 ?_
  refine sd_iload_n (pc := 10) dX3_ofBench_10 rfl 2 rfl ?_
  refine sd_iadd (pc := 11) dX3_ofBench_11 ?_
  refine sd_iaload (pc := 12) dX3_ofBench_12 (mAld.to hM h (fun v1 h => ?_))
  exact sd_ireturn (pc := 13) dX3_ofBench_13 (ty0 := .int) rfl rfl (mI.ok h)
theorem cm_X3_ofBench {en : yEn} {mb : Nat → Nat} {σ : yH} (hM : mOK en mb σ) {d : Nat} (hd : 1 ≤ d) {ρ : yMS} {x1 : Int32} {x2 : Int32} {K : Int32 → yMS → Prop} {X : String → Addr → yH → Prop}  (h : wpM_X3_ofBench ρ x1 x2 K) : Cx en d 0 0 mX3_ofBench [.ref (mb 0), .int x1, .int x2] (mH en mb ρ σ) (mQ en mb σ (mI K)) X := by
  obtain ⟨d, rfl⟩ : ∃ e, d = e + 1 := ⟨d - 1, by omega⟩
  exact Cx.body (by decide +kernel) rfl (Nat.le_of_ble_eq_true rfl) (okM_X3_ofBench hM (by omega)  h)
/-! seat(II)I -/
def wpM_X3_seat (ρ : yMS) (x1 : Int32) (x2 : Int32) (K : Int32 → yMS → Prop) : Prop :=
  wpM_X3_isBench ρ x1 (fun r2 ρ1 => wpM_X3_fails ρ1 (1 : Int32) (if (r2 = 0) then (1 : Int32) else (0 : Int32)) (fun r5 ρ4 => ((¬ (r5 = 0) → K (0 : Int32) ρ4) ∧ ((r5 = 0) → wpM_X3_isBetween ρ4 x2 (1 : Int32) (6 : Int32) (fun r7 ρ6 => wpM_X3_fails ρ6 (2 : Int32) (if (r7 = 0) then (1 : Int32) else (0 : Int32)) (fun r10 ρ9 => (((r10 = 0) → wpM_X3_ofBench ρ9 x1 (1 : Int32) (fun r12 ρ11 => wpM_X3_refuse ρ11 (if (x2 ≤ ((6 : Int32) - r12)) then (0 : Int32) else (1 : Int32)) (9 : Int32) ((6 : Int32) - r12) (fun r15 ρ14 => wpM_X3_fails ρ14 (3 : Int32) r15 (fun r17 ρ16 => (((r17 = 0) → wpM_X3_change ρ16  (fun ρ18 => mAld ρ18 1 (((118 : Int32) + ((3 : Int32) * x1)) + (1 : Int32)) (fun v19 => mAst ρ18 1 (((118 : Int32) + ((3 : Int32) * x1)) + (1 : Int32)) (v19 + x2) (fun ρ20 => mAld ρ20 1 (((118 : Int32) + ((3 : Int32) * x1)) + (2 : Int32)) (fun v21 => mAst ρ20 1 (((118 : Int32) + ((3 : Int32) * x1)) + (2 : Int32)) (v21 + x2) (fun ρ22 => mAld ρ22 1 (2 : Int32) (fun v23 => mAst ρ22 1 (2 : Int32) (v23 + ((2 : Int32) * x2)) (fun ρ24 => wpM_X3_ofBench ρ24 x1 (1 : Int32) (fun r26 ρ25 => K r26 ρ25))))))))) ∧ (¬ (r17 = 0) → K (0 : Int32) ρ16)))))) ∧ (¬ (r10 = 0) → K (0 : Int32) ρ9))))))))
theorem okM_X3_seat {en : yEn} {mb : Nat → Nat} {σ : yH} (hM : mOK en mb σ) {d : Nat} (hd : 4 ≤ d + 1) {ρ : yMS} {x1 : Int32} {x2 : Int32} {K : Int32 → yMS → Prop} {X : String → Addr → yH → Prop} {k n : Nat}  (h : wpM_X3_seat ρ x1 x2 K) : Wx en (d + 1) mX3_seat 0 [(0, .ref (mb 0)), (1, .int x1), (2, .int x2)] [] (mH en mb ρ σ) k n (mQ en mb σ (mI K)) X := by
  unfold wpM_X3_seat at h
  refine sd_aload_n (pc := 0) dX3_seat_0 rfl 0 rfl ?_
  refine sd_iconst (pc := 1) dX3_seat_1 (v := 1) (by decide) ?_
  refine sd_aload_n (pc := 2) dX3_seat_2 rfl 0 rfl ?_
  refine sd_iload_n (pc := 3) dX3_seat_3 rfl 1 rfl ?_
  refine sd_callV (k := k) (n := n) (d0 := d) (k0 := 0) (n0 := 0) (As := [.int x1]) (st := [.int (1 : Int32), .ref (mb 0)]) (pc := 4) dX3_seat_4 (ci := 2) rfl (mo_isC hM) rfl q2367 q2369 qs51 q91 q2370 1 (by decide +kernel) rfl (Nat.le_refl _) (by decide) (Nat.le_of_ble_eq_true rfl) (Cx.mono (cm_X3_isBench hM (by omega)  h) (mI.to (fun r2 ρ1 h => ?_)) (xo rfl))
  have h30 : Wx en (d + 1) mX3_seat 15 [(0, .ref (mb 0)), (1, .int x1), (2, .int x2)] (.int (if (r2 = 0) then (1 : Int32) else (0 : Int32)) :: .int (1 : Int32) :: .ref (mb 0) :: []) (mH en mb ρ1 σ) k n (mQ en mb σ (mI K)) X := by
    refine sd_callV (k := k) (n := n) (d0 := d) (k0 := 0) (n0 := 0) (As := [.int (1 : Int32), .int (if (r2 = 0) then (1 : Int32) else (0 : Int32))]) (st := []) (pc := 15) dX3_seat_15 (ci := 2) rfl (mo_isC hM) rfl q2170 q2172 qs26 q91 q2173 2 (by decide +kernel) rfl (Nat.le_refl _) (by decide) (Nat.le_of_ble_eq_true rfl) (Cx.mono (cm_X3_fails hM (by omega)  h) (mI.to (fun r5 ρ4 h => ?_)) (xo rfl))
    refine sd_ifne (pc := 18) dX3_seat_18 (tgt := 44) (by decide) ⟨fun c29 => ?_, fun c29 => ?_⟩
    · have h := h.1 c29
      refine sd_iconst (pc := 44) dX3_seat_44 (v := 0) (by decide) ?_
      exact sd_ireturn (pc := 45) dX3_seat_45 (ty0 := .int) rfl rfl (mI.ok h)
    · have h := h.2 c29
      refine sd_aload_n (pc := 21) dX3_seat_21 rfl 0 rfl ?_
      refine sd_iconst (pc := 22) dX3_seat_22 (v := 2) (by decide) ?_
      refine sd_iload_n (pc := 23) dX3_seat_23 rfl 2 rfl ?_
      refine sd_iconst (pc := 24) dX3_seat_24 (v := 1) (by decide) ?_
      refine sd_bipush (pc := 25) dX3_seat_25 (v := 6) (by decide) ?_
      refine sd_callS (k := k) (n := n) (d0 := d) (k0 := 0) (n0 := 0) (As := [.int x2, .int (1 : Int32), .int (6 : Int32)]) (st := [.int (2 : Int32), .ref (mb 0)]) (pc := 27) dX3_seat_27 q2167 q2168 q91 q2169 3 (by decide +kernel) rfl (Nat.le_refl _) (by decide) (Nat.le_of_ble_eq_true rfl) (Cx.mono (cm_X3_isBetween hM (by omega)  h) (mI.to (fun r7 ρ6 h => ?_)) (xo rfl))
      have h31 : Wx en (d + 1) mX3_seat 38 [(0, .ref (mb 0)), (1, .int x1), (2, .int x2)] (.int (if (r7 = 0) then (1 : Int32) else (0 : Int32)) :: .int (2 : Int32) :: .ref (mb 0) :: []) (mH en mb ρ6 σ) k n (mQ en mb σ (mI K)) X := by
        refine sd_callV (k := k) (n := n) (d0 := d) (k0 := 0) (n0 := 0) (As := [.int (2 : Int32), .int (if (r7 = 0) then (1 : Int32) else (0 : Int32))]) (st := []) (pc := 38) dX3_seat_38 (ci := 2) rfl (mo_isC hM) rfl q2170 q2172 qs26 q91 q2173 2 (by decide +kernel) rfl (Nat.le_refl _) (by decide) (Nat.le_of_ble_eq_true rfl) (Cx.mono (cm_X3_fails hM (by omega)  h) (mI.to (fun r10 ρ9 h => ?_)) (xo rfl))
        refine sd_ifeq (pc := 41) dX3_seat_41 (tgt := 46) (by decide) ⟨fun c28 => ?_, fun c28 => ?_⟩
        · have h := h.1 c28
          refine sd_bipush (pc := 46) dX3_seat_46 (v := 6) (by decide) ?_
          refine sd_aload_n (pc := 48) dX3_seat_48 rfl 0 rfl ?_
          refine sd_iload_n (pc := 49) dX3_seat_49 rfl 1 rfl ?_
          refine sd_iconst (pc := 50) dX3_seat_50 (v := 1) (by decide) ?_
          refine sd_callV (k := k) (n := n) (d0 := d) (k0 := 0) (n0 := 0) (As := [.int x1, .int (1 : Int32)]) (st := [.int (6 : Int32)]) (pc := 51) dX3_seat_51 (ci := 2) rfl (mo_isC hM) rfl q2371 q2373 qs52 q91 q2374 2 (by decide +kernel) rfl (Nat.le_refl _) (by decide) (Nat.le_of_ble_eq_true rfl) (Cx.mono (cm_X3_ofBench hM (by omega)  h) (mI.to (fun r12 ρ11 h => ?_)) (xo rfl))
          refine sd_isub (pc := 54) dX3_seat_54 ?_
          refine sd_istore_n (pc := 55) dX3_seat_55 rfl (by decide) (ls' := [(3, .int ((6 : Int32) - r12)), (0, .ref (mb 0)), (1, .int x1), (2, .int x2)]) rfl ?_
          refine sd_aload_n (pc := 56) dX3_seat_56 rfl 1 rfl ?_
          refine sd_iconst (pc := 57) dX3_seat_57 (v := 3) (by decide) ?_
          refine sd_aload_n (pc := 58) dX3_seat_58 rfl 1 rfl ?_
          refine sd_iload_n (pc := 59) dX3_seat_59 rfl 0 rfl ?_
          refine sd_iload_n (pc := 60) dX3_seat_60 rfl 3 rfl ?_
          have h32 : Wx en (d + 1) mX3_seat 69 [(3, .int ((6 : Int32) - r12)), (0, .ref (mb 0)), (1, .int x1), (2, .int x2)] (.int (if (x2 ≤ ((6 : Int32) - r12)) then (0 : Int32) else (1 : Int32)) :: .ref (mb 0) :: .int (3 : Int32) :: .ref (mb 0) :: []) (mH en mb ρ11 σ) k n (mQ en mb σ (mI K)) X := by
            refine sd_bipush (pc := 69) dX3_seat_69 (v := 9) (by decide) ?_
            refine sd_iload_n (pc := 71) dX3_seat_71 rfl 0 rfl ?_
            refine sd_callV (k := k) (n := n) (d0 := d) (k0 := 0) (n0 := 0) (As := [.int (if (x2 ≤ ((6 : Int32) - r12)) then (0 : Int32) else (1 : Int32)), .int (9 : Int32), .int ((6 : Int32) - r12)]) (st := [.int (3 : Int32), .ref (mb 0)]) (pc := 72) dX3_seat_72 (ci := 2) rfl (mo_isC hM) rfl q2185 q2187 qs28 q91 q2188 3 (by decide +kernel) rfl (Nat.le_refl _) (by decide) (Nat.le_of_ble_eq_true rfl) (Cx.mono (cm_X3_refuse hM (by omega)  h) (mI.to (fun r15 ρ14 h => ?_)) (xo rfl))
            refine sd_callV (k := k) (n := n) (d0 := d) (k0 := 0) (n0 := 0) (As := [.int (3 : Int32), .int r15]) (st := []) (pc := 75) dX3_seat_75 (ci := 2) rfl (mo_isC hM) rfl q2170 q2172 qs26 q91 q2173 2 (by decide +kernel) rfl (Nat.le_refl _) (by decide) (Nat.le_of_ble_eq_true rfl) (Cx.mono (cm_X3_fails hM (by omega)  h) (mI.to (fun r17 ρ16 h => ?_)) (xo rfl))
            refine sd_ifeq (pc := 78) dX3_seat_78 (tgt := 83) (by decide) ⟨fun c27 => ?_, fun c27 => ?_⟩
            · have h := h.1 c27
              refine sd_aload_n (pc := 83) dX3_seat_83 rfl 1 rfl ?_
              refine sd_callV (k := k) (n := n) (d0 := d) (k0 := 0) (n0 := 0) (As := []) (st := []) (pc := 84) dX3_seat_84 (ci := 2) rfl (mo_isC hM) rfl q2189 q2191 qs29 q91 q2192 0 (by decide +kernel) rfl (Nat.le_refl _) (by decide) (Nat.le_of_ble_eq_true rfl) (Cx.mono (cm_X3_change hM (by omega)  h) (mV.to (fun ρ18 h => ?_)) (xo rfl))
              refine sd_aload_n (pc := 87) dX3_seat_87 rfl 1 rfl ?_
              refine sd_getR (pc := 88) dX3_seat_88 (ci := 2) rfl in_X3 (kf := 1) (by decide) q2074 (mo_gR hM (j := 1) rfl ?_)
              refine sd_bipush (pc := 91) dX3_seat_91 (v := 118) (by decide) ?_
              refine sd_iconst (pc := 93) dX3_seat_93 (v := 3) (by decide) ?_
              refine sd_iload_n (pc := 94) dX3_seat_94 rfl 2 rfl ?_
              refine sd_imul (pc := 95) dX3_seat_95 ?_
              refine sd_iadd (pc := 96) dX3_seat_96 ?_
              refine sd_iconst (pc := 97) dX3_seat_97 (v := 1) (by decide) ?_
              refine sd_iadd (pc := 98) dX3_seat_98 ?_
              refine sd_dup2 (pc := 99) dX3_seat_99 rfl rfl ?_
              refine sd_iaload (pc := 100) dX3_seat_100 (mAld.to hM h (fun v19 h => ?_))
              refine sd_iload_n (pc := 101) dX3_seat_101 rfl 3 rfl ?_
              refine sd_iadd (pc := 102) dX3_seat_102 ?_
              refine sd_iastore (pc := 103) dX3_seat_103 (mAst.to hM h (fun ρ20 h => ?_))
              refine sd_aload_n (pc := 104) dX3_seat_104 rfl 1 rfl ?_
              refine sd_getR (pc := 105) dX3_seat_105 (ci := 2) rfl in_X3 (kf := 1) (by decide) q2074 (mo_gR hM (j := 1) rfl ?_)
              refine sd_bipush (pc := 108) dX3_seat_108 (v := 118) (by decide) ?_
              refine sd_iconst (pc := 110) dX3_seat_110 (v := 3) (by decide) ?_
              refine sd_iload_n (pc := 111) dX3_seat_111 rfl 2 rfl ?_
              refine sd_imul (pc := 112) dX3_seat_112 ?_
              refine sd_iadd (pc := 113) dX3_seat_113 ?_
              refine sd_iconst (pc := 114) dX3_seat_114 (v := 2) (by decide) ?_
              refine sd_iadd (pc := 115) dX3_seat_115 ?_
              refine sd_dup2 (pc := 116) dX3_seat_116 rfl rfl ?_
              refine sd_iaload (pc := 117) dX3_seat_117 (mAld.to hM h (fun v21 h => ?_))
              refine sd_iload_n (pc := 118) dX3_seat_118 rfl 3 rfl ?_
              refine sd_iadd (pc := 119) dX3_seat_119 ?_
              refine sd_iastore (pc := 120) dX3_seat_120 (mAst.to hM h (fun ρ22 h => ?_))
              refine sd_aload_n (pc := 121) dX3_seat_121 rfl 1 rfl ?_
              refine sd_getR (pc := 122) dX3_seat_122 (ci := 2) rfl in_X3 (kf := 1) (by decide) q2074 (mo_gR hM (j := 1) rfl ?_)
              refine sd_iconst (pc := 125) dX3_seat_125 (v := 2) (by decide) ?_
              refine sd_dup2 (pc := 126) dX3_seat_126 rfl rfl ?_
              refine sd_iaload (pc := 127) dX3_seat_127 (mAld.to hM h (fun v23 h => ?_))
              refine sd_iconst (pc := 128) dX3_seat_128 (v := 2) (by decide) ?_
              refine sd_iload_n (pc := 129) dX3_seat_129 rfl 3 rfl ?_
              refine sd_imul (pc := 130) dX3_seat_130 ?_
              refine sd_iadd (pc := 131) dX3_seat_131 ?_
              refine sd_iastore (pc := 132) dX3_seat_132 (mAst.to hM h (fun ρ24 h => ?_))
              refine sd_aload_n (pc := 133) dX3_seat_133 rfl 1 rfl ?_
              refine sd_iload_n (pc := 134) dX3_seat_134 rfl 2 rfl ?_
              refine sd_iconst (pc := 135) dX3_seat_135 (v := 1) (by decide) ?_
              refine sd_callV (k := k) (n := n) (d0 := d) (k0 := 0) (n0 := 0) (As := [.int x1, .int (1 : Int32)]) (st := []) (pc := 136) dX3_seat_136 (ci := 2) rfl (mo_isC hM) rfl q2371 q2373 qs52 q91 q2374 2 (by decide +kernel) rfl (Nat.le_refl _) (by decide) (Nat.le_of_ble_eq_true rfl) (Cx.mono (cm_X3_ofBench hM (by omega)  h) (mI.to (fun r26 ρ25 h => ?_)) (xo rfl))
              exact sd_ireturn (pc := 139) dX3_seat_139 (ty0 := .int) rfl rfl (mI.ok h)
            · have h := h.2 c27
              refine sd_iconst (pc := 81) dX3_seat_81 (v := 0) (by decide) ?_
              exact sd_ireturn (pc := 82) dX3_seat_82 (ty0 := .int) rfl rfl (mI.ok h)
          have e33 := sd_iteI h32
          refine sd_icmpge (pc := 61) dX3_seat_61 (tgt := 68) (by decide) ⟨fun c13 => ?_, fun c13 => ?_⟩
          · refine sd_iconst (pc := 68) dX3_seat_68 (v := 0) (by decide) ?_
            exact (e33.1 c13)
          · refine sd_iconst (pc := 64) dX3_seat_64 (v := 1) (by decide) ?_
            refine sd_goto (pc := 65) dX3_seat_65 (tgt := 69) (by decide) ?_
            exact (e33.2 c13)
        · have h := h.2 c28
          refine sd_iconst (pc := 44) dX3_seat_44 (v := 0) (by decide) ?_
          exact sd_ireturn (pc := 45) dX3_seat_45 (ty0 := .int) rfl rfl (mI.ok h)
      have e34 := sd_iteIN h31
      refine sd_ifne (pc := 30) dX3_seat_30 (tgt := 37) (by decide) ⟨fun c8 => ?_, fun c8 => ?_⟩
      · refine sd_iconst (pc := 37) dX3_seat_37 (v := 0) (by decide) ?_
        exact (e34.1 c8)
      · refine sd_iconst (pc := 33) dX3_seat_33 (v := 1) (by decide) ?_
        refine sd_goto (pc := 34) dX3_seat_34 (tgt := 38) (by decide) ?_
        exact (e34.2 c8)
  have e35 := sd_iteIN h30
  refine sd_ifne (pc := 7) dX3_seat_7 (tgt := 14) (by decide) ⟨fun c3 => ?_, fun c3 => ?_⟩
  · refine sd_iconst (pc := 14) dX3_seat_14 (v := 0) (by decide) ?_
    exact (e35.1 c3)
  · refine sd_iconst (pc := 10) dX3_seat_10 (v := 1) (by decide) ?_
    refine sd_goto (pc := 11) dX3_seat_11 (tgt := 15) (by decide) ?_
    exact (e35.2 c3)
theorem cm_X3_seat {en : yEn} {mb : Nat → Nat} {σ : yH} (hM : mOK en mb σ) {d : Nat} (hd : 4 ≤ d) {ρ : yMS} {x1 : Int32} {x2 : Int32} {K : Int32 → yMS → Prop} {X : String → Addr → yH → Prop}  (h : wpM_X3_seat ρ x1 x2 K) : Cx en d 0 0 mX3_seat [.ref (mb 0), .int x1, .int x2] (mH en mb ρ σ) (mQ en mb σ (mI K)) X := by
  obtain ⟨d, rfl⟩ : ∃ e, d = e + 1 := ⟨d - 1, by omega⟩
  exact Cx.body (by decide +kernel) rfl (Nat.le_of_ble_eq_true rfl) (okM_X3_seat hM (by omega)  h)
/-! benchOf(II)I -/
def wpM_X3_benchOf (ρ : yMS) (x1 : Int32) (x2 : Int32) (K : Int32 → yMS → Prop) : Prop :=
  wpM_X3_isBench ρ x1 (fun r2 ρ1 => wpM_X3_fails ρ1 (1 : Int32) (if (r2 = 0) then (1 : Int32) else (0 : Int32)) (fun r5 ρ4 => ((¬ (r5 = 0) → K (0 : Int32) ρ4) ∧ ((r5 = 0) → wpM_X3_isBetween ρ4 x2 (0 : Int32) (2 : Int32) (fun r7 ρ6 => wpM_X3_fails ρ6 (2 : Int32) (if (r7 = 0) then (1 : Int32) else (0 : Int32)) (fun r10 ρ9 => (((r10 = 0) → wpM_X3_ofBench ρ9 x1 x2 (fun r12 ρ11 => K r12 ρ11)) ∧ (¬ (r10 = 0) → K (0 : Int32) ρ9))))))))
theorem okM_X3_benchOf {en : yEn} {mb : Nat → Nat} {σ : yH} (hM : mOK en mb σ) {d : Nat} (hd : 3 ≤ d + 1) {ρ : yMS} {x1 : Int32} {x2 : Int32} {K : Int32 → yMS → Prop} {X : String → Addr → yH → Prop} {k n : Nat}  (h : wpM_X3_benchOf ρ x1 x2 K) : Wx en (d + 1) mX3_benchOf 0 [(0, .ref (mb 0)), (1, .int x1), (2, .int x2)] [] (mH en mb ρ σ) k n (mQ en mb σ (mI K)) X := by
  unfold wpM_X3_benchOf at h
  refine sd_aload_n (pc := 0) dX3_benchOf_0 rfl 0 rfl ?_
  refine sd_iconst (pc := 1) dX3_benchOf_1 (v := 1) (by decide) ?_
  refine sd_aload_n (pc := 2) dX3_benchOf_2 rfl 0 rfl ?_
  refine sd_iload_n (pc := 3) dX3_benchOf_3 rfl 1 rfl ?_
  refine sd_callV (k := k) (n := n) (d0 := d) (k0 := 0) (n0 := 0) (As := [.int x1]) (st := [.int (1 : Int32), .ref (mb 0)]) (pc := 4) dX3_benchOf_4 (ci := 2) rfl (mo_isC hM) rfl q2367 q2369 qs51 q91 q2370 1 (by decide +kernel) rfl (Nat.le_refl _) (by decide) (Nat.le_of_ble_eq_true rfl) (Cx.mono (cm_X3_isBench hM (by omega)  h) (mI.to (fun r2 ρ1 h => ?_)) (xo rfl))
  have h15 : Wx en (d + 1) mX3_benchOf 15 [(0, .ref (mb 0)), (1, .int x1), (2, .int x2)] (.int (if (r2 = 0) then (1 : Int32) else (0 : Int32)) :: .int (1 : Int32) :: .ref (mb 0) :: []) (mH en mb ρ1 σ) k n (mQ en mb σ (mI K)) X := by
    refine sd_callV (k := k) (n := n) (d0 := d) (k0 := 0) (n0 := 0) (As := [.int (1 : Int32), .int (if (r2 = 0) then (1 : Int32) else (0 : Int32))]) (st := []) (pc := 15) dX3_benchOf_15 (ci := 2) rfl (mo_isC hM) rfl q2170 q2172 qs26 q91 q2173 2 (by decide +kernel) rfl (Nat.le_refl _) (by decide) (Nat.le_of_ble_eq_true rfl) (Cx.mono (cm_X3_fails hM (by omega)  h) (mI.to (fun r5 ρ4 h => ?_)) (xo rfl))
    refine sd_ifne (pc := 18) dX3_benchOf_18 (tgt := 43) (by decide) ⟨fun c14 => ?_, fun c14 => ?_⟩
    · have h := h.1 c14
      refine sd_iconst (pc := 43) dX3_benchOf_43 (v := 0) (by decide) ?_
      refine sd_goto (pc := 44) dX3_benchOf_44 (tgt := 53) (by decide) ?_
      exact sd_ireturn (pc := 53) dX3_benchOf_53 (ty0 := .int) rfl rfl (mI.ok h)
    · have h := h.2 c14
      refine sd_aload_n (pc := 21) dX3_benchOf_21 rfl 0 rfl ?_
      refine sd_iconst (pc := 22) dX3_benchOf_22 (v := 2) (by decide) ?_
      refine sd_iload_n (pc := 23) dX3_benchOf_23 rfl 2 rfl ?_
      refine sd_iconst (pc := 24) dX3_benchOf_24 (v := 0) (by decide) ?_
      refine sd_iconst (pc := 25) dX3_benchOf_25 (v := 2) (by decide) ?_
      refine sd_callS (k := k) (n := n) (d0 := d) (k0 := 0) (n0 := 0) (As := [.int x2, .int (0 : Int32), .int (2 : Int32)]) (st := [.int (2 : Int32), .ref (mb 0)]) (pc := 26) dX3_benchOf_26 q2167 q2168 q91 q2169 3 (by decide +kernel) rfl (Nat.le_refl _) (by decide) (Nat.le_of_ble_eq_true rfl) (Cx.mono (cm_X3_isBetween hM (by omega)  h) (mI.to (fun r7 ρ6 h => ?_)) (xo rfl))
      have h16 : Wx en (d + 1) mX3_benchOf 37 [(0, .ref (mb 0)), (1, .int x1), (2, .int x2)] (.int (if (r7 = 0) then (1 : Int32) else (0 : Int32)) :: .int (2 : Int32) :: .ref (mb 0) :: []) (mH en mb ρ6 σ) k n (mQ en mb σ (mI K)) X := by
        refine sd_callV (k := k) (n := n) (d0 := d) (k0 := 0) (n0 := 0) (As := [.int (2 : Int32), .int (if (r7 = 0) then (1 : Int32) else (0 : Int32))]) (st := []) (pc := 37) dX3_benchOf_37 (ci := 2) rfl (mo_isC hM) rfl q2170 q2172 qs26 q91 q2173 2 (by decide +kernel) rfl (Nat.le_refl _) (by decide) (Nat.le_of_ble_eq_true rfl) (Cx.mono (cm_X3_fails hM (by omega)  h) (mI.to (fun r10 ρ9 h => ?_)) (xo rfl))
        refine sd_ifeq (pc := 40) dX3_benchOf_40 (tgt := 47) (by decide) ⟨fun c13 => ?_, fun c13 => ?_⟩
        · have h := h.1 c13
          refine sd_aload_n (pc := 47) dX3_benchOf_47 rfl 0 rfl ?_
          refine sd_iload_n (pc := 48) dX3_benchOf_48 rfl 1 rfl ?_
          refine sd_iload_n (pc := 49) dX3_benchOf_49 rfl 2 rfl ?_
          refine sd_callV (k := k) (n := n) (d0 := d) (k0 := 0) (n0 := 0) (As := [.int x1, .int x2]) (st := []) (pc := 50) dX3_benchOf_50 (ci := 2) rfl (mo_isC hM) rfl q2371 q2373 qs52 q91 q2374 2 (by decide +kernel) rfl (Nat.le_refl _) (by decide) (Nat.le_of_ble_eq_true rfl) (Cx.mono (cm_X3_ofBench hM (by omega)  h) (mI.to (fun r12 ρ11 h => ?_)) (xo rfl))
          exact sd_ireturn (pc := 53) dX3_benchOf_53 (ty0 := .int) rfl rfl (mI.ok h)
        · have h := h.2 c13
          refine sd_iconst (pc := 43) dX3_benchOf_43 (v := 0) (by decide) ?_
          refine sd_goto (pc := 44) dX3_benchOf_44 (tgt := 53) (by decide) ?_
          exact sd_ireturn (pc := 53) dX3_benchOf_53 (ty0 := .int) rfl rfl (mI.ok h)
      have e17 := sd_iteIN h16
      refine sd_ifne (pc := 29) dX3_benchOf_29 (tgt := 36) (by decide) ⟨fun c8 => ?_, fun c8 => ?_⟩
      · refine sd_iconst (pc := 36) dX3_benchOf_36 (v := 0) (by decide) ?_
        exact (e17.1 c8)
      · refine sd_iconst (pc := 32) dX3_benchOf_32 (v := 1) (by decide) ?_
        refine sd_goto (pc := 33) dX3_benchOf_33 (tgt := 37) (by decide) ?_
        exact (e17.2 c8)
  have e18 := sd_iteIN h15
  refine sd_ifne (pc := 7) dX3_benchOf_7 (tgt := 14) (by decide) ⟨fun c3 => ?_, fun c3 => ?_⟩
  · refine sd_iconst (pc := 14) dX3_benchOf_14 (v := 0) (by decide) ?_
    exact (e18.1 c3)
  · refine sd_iconst (pc := 10) dX3_benchOf_10 (v := 1) (by decide) ?_
    refine sd_goto (pc := 11) dX3_benchOf_11 (tgt := 15) (by decide) ?_
    exact (e18.2 c3)
theorem cm_X3_benchOf {en : yEn} {mb : Nat → Nat} {σ : yH} (hM : mOK en mb σ) {d : Nat} (hd : 3 ≤ d) {ρ : yMS} {x1 : Int32} {x2 : Int32} {K : Int32 → yMS → Prop} {X : String → Addr → yH → Prop}  (h : wpM_X3_benchOf ρ x1 x2 K) : Cx en d 0 0 mX3_benchOf [.ref (mb 0), .int x1, .int x2] (mH en mb ρ σ) (mQ en mb σ (mI K)) X := by
  obtain ⟨d, rfl⟩ : ∃ e, d = e + 1 := ⟨d - 1, by omega⟩
  exact Cx.body (by decide +kernel) rfl (Nat.le_of_ble_eq_true rfl) (okM_X3_benchOf hM (by omega)  h)
/-! month()I -/
def wpM_X3_month (ρ : yMS)  (K : Int32 → yMS → Prop) : Prop :=
  mAld ρ 1 (0 : Int32) (fun v1 => K ((v1 / (30 : Int32)) - (v1 / (30 : Int32)) / (12 : Int32) * (12 : Int32)) ρ)
theorem okM_X3_month {en : yEn} {mb : Nat → Nat} {σ : yH} (hM : mOK en mb σ) {d : Nat} (hd : 1 ≤ d + 1) {ρ : yMS}  {K : Int32 → yMS → Prop} {X : String → Addr → yH → Prop} {k n : Nat}  (h : wpM_X3_month ρ  K) : Wx en (d + 1) mX3_month 0 [(0, .ref (mb 0))] [] (mH en mb ρ σ) k n (mQ en mb σ (mI K)) X := by
  unfold wpM_X3_month at h
  refine sd_aload_n (pc := 0) dX3_month_0 rfl 0 rfl ?_
  refine sd_getR (pc := 1) dX3_month_1 (ci := 2) rfl in_X3 (kf := 1) (by decide) q2074 (mo_gR hM (j := 1) rfl ?_)
  refine sd_iconst (pc := 4) dX3_month_4 (v := 0) (by decide) ?_
  refine sd_iaload (pc := 5) dX3_month_5 (mAld.to hM h (fun v1 h => ?_))
  refine sd_bipush (pc := 6) dX3_month_6 (v := 30) (by decide) ?_
  refine sd_idiv (pc := 8) dX3_month_8 (by decide) ?_
  refine sd_bipush (pc := 9) dX3_month_9 (v := 12) (by decide) ?_
  refine sd_irem (pc := 11) dX3_month_11 (by decide) ?_
  exact sd_ireturn (pc := 12) dX3_month_12 (ty0 := .int) rfl rfl (mI.ok h)
theorem cm_X3_month {en : yEn} {mb : Nat → Nat} {σ : yH} (hM : mOK en mb σ) {d : Nat} (hd : 1 ≤ d) {ρ : yMS}  {K : Int32 → yMS → Prop} {X : String → Addr → yH → Prop}  (h : wpM_X3_month ρ  K) : Cx en d 0 0 mX3_month [.ref (mb 0)] (mH en mb ρ σ) (mQ en mb σ (mI K)) X := by
  obtain ⟨d, rfl⟩ : ∃ e, d = e + 1 := ⟨d - 1, by omega⟩
  exact Cx.body (by decide +kernel) rfl (Nat.le_of_ble_eq_true rfl) (okM_X3_month hM (by omega)  h)
/-! grow()V -/
def stM_X3_grow_32 (K : yMS → Prop) (rec : Int32 → Int32 → yMS → Prop) (l1 : Int32) (l2 : Int32) (ρ : yMS) : Prop :=
  ((((12 : Int32) ≤ l2) → K ρ) ∧ (¬ ((12 : Int32) ≤ l2) → (((l1 = 0) → K ρ) ∧ (¬ (l1 = 0) → mAld ρ 1 ((22 : Int32) + l2) (fun v10 => mAld ρ 1 ((22 : Int32) + l2) (fun v11 => mAst ρ 1 ((22 : Int32) + l2) (v10 + (if ((20 : Int32) ≤ v11) then (0 : Int32) else (1 : Int32))) (fun ρ13 => rec l1 (l2 + (1 : Int32)) ρ13)))))))
def lpM_X3_grow_32 (K : yMS → Prop) : Nat → Int32 × Int32 × yMS → Prop := lpN (fun r s => stM_X3_grow_32  K (fun l1 l2 ρ => r (l1, l2, ρ)) s.1 s.2.1 s.2.2)
def wpM_X3_grow_32 (l1 : Int32) (l2 : Int32) (ρ : yMS) (K : yMS → Prop) : Prop := ∃ nn, lpM_X3_grow_32  K nn (l1, l2, ρ)
theorem olM_X3_grow_32 {en : yEn} {mb : Nat → Nat} {σ : yH} (hM : mOK en mb σ) {d : Nat} (hd : 2 ≤ d + 1) {K : yMS → Prop} {X : String → Addr → yH → Prop} {k n : Nat} : ∀ (nn : Nat) (l1 : Int32) (l2 : Int32) (ρ : yMS), lpM_X3_grow_32  K nn (l1, l2, ρ) → Wx en (d + 1) mX3_grow 32 [(0, .ref (mb 0)), (1, .int l1), (2, .int l2)] [] (mH en mb ρ σ) k n (mQ en mb σ (mV K)) X := by
  intro nn
  induction nn with
  | zero => intros; rename_i h; exact h.elim
  | succ nn ih =>
    intro l1 l2 ρ h
    replace h : stM_X3_grow_32  K (fun l1 l2 ρ => lpM_X3_grow_32  K nn (l1, l2, ρ)) l1 l2 ρ := h
    unfold stM_X3_grow_32 at h
    refine sd_iload_n (pc := 32) dX3_grow_32 rfl 2 rfl ?_
    refine sd_bipush (pc := 33) dX3_grow_33 (v := 12) (by decide) ?_
    refine sd_icmpge (pc := 35) dX3_grow_35 (tgt := 79) (by decide) ⟨fun c15 => ?_, fun c15 => ?_⟩
    · have h := h.1 c15
      exact sd_return (pc := 79) dX3_grow_79 rfl (mV.ok h)
    · have h := h.2 c15
      refine sd_iload_n (pc := 38) dX3_grow_38 rfl 1 rfl ?_
      refine sd_ifeq (pc := 39) dX3_grow_39 (tgt := 79) (by decide) ⟨fun c14 => ?_, fun c14 => ?_⟩
      · have h := h.1 c14
        exact sd_return (pc := 79) dX3_grow_79 rfl (mV.ok h)
      · have h := h.2 c14
        refine sd_aload_n (pc := 42) dX3_grow_42 rfl 0 rfl ?_
        refine sd_getR (pc := 43) dX3_grow_43 (ci := 2) rfl in_X3 (kf := 1) (by decide) q2074 (mo_gR hM (j := 1) rfl ?_)
        refine sd_bipush (pc := 46) dX3_grow_46 (v := 22) (by decide) ?_
        refine sd_iload_n (pc := 48) dX3_grow_48 rfl 2 rfl ?_
        refine sd_iadd (pc := 49) dX3_grow_49 ?_
        refine sd_dup2 (pc := 50) dX3_grow_50 rfl rfl ?_
        refine sd_iaload (pc := 51) dX3_grow_51 (mAld.to hM h (fun v10 h => ?_))
        refine sd_aload_n (pc := 52) dX3_grow_52 rfl 0 rfl ?_
        refine sd_getR (pc := 53) dX3_grow_53 (ci := 2) rfl in_X3 (kf := 1) (by decide) q2074 (mo_gR hM (j := 1) rfl ?_)
        refine sd_bipush (pc := 56) dX3_grow_56 (v := 22) (by decide) ?_
        refine sd_iload_n (pc := 58) dX3_grow_58 rfl 2 rfl ?_
        refine sd_iadd (pc := 59) dX3_grow_59 ?_
        refine sd_iaload (pc := 60) dX3_grow_60 (mAld.to hM h (fun v11 h => ?_))
        refine sd_bipush (pc := 61) dX3_grow_61 (v := 20) (by decide) ?_
        have h16 : Wx en (d + 1) mX3_grow 71 [(0, .ref (mb 0)), (1, .int l1), (2, .int l2)] (.int (if ((20 : Int32) ≤ v11) then (0 : Int32) else (1 : Int32)) :: .int v10 :: .int ((22 : Int32) + l2) :: .ref (mb 1) :: []) (mH en mb ρ σ) k n (mQ en mb σ (mV K)) X := by
          refine sd_iadd (pc := 71) dX3_grow_71 ?_
          refine sd_iastore (pc := 72) dX3_grow_72 (mAst.to hM h (fun ρ13 h => ?_))
          refine sd_iinc (pc := 73) dX3_grow_73 2 rfl (v := (l2 + (1 : Int32))) rfl (by decide) (ls' := [(2, .int (l2 + (1 : Int32))), (0, .ref (mb 0)), (1, .int l1)]) rfl ?_
          refine sd_goto (pc := 76) dX3_grow_76 (tgt := 32) (by decide) ?_
          exact sd_loc [1, 2, 0] rfl (ih _ _ _ h)
        have e17 := sd_iteI h16
        refine sd_icmpge (pc := 63) dX3_grow_63 (tgt := 70) (by decide) ⟨fun c12 => ?_, fun c12 => ?_⟩
        · refine sd_iconst (pc := 70) dX3_grow_70 (v := 0) (by decide) ?_
          exact (e17.1 c12)
        · refine sd_iconst (pc := 66) dX3_grow_66 (v := 1) (by decide) ?_
          refine sd_goto (pc := 67) dX3_grow_67 (tgt := 71) (by decide) ?_
          exact (e17.2 c12)
theorem okM_X3_grow_32 {en : yEn} {mb : Nat → Nat} {σ : yH} (hM : mOK en mb σ) {d : Nat} (hd : 2 ≤ d + 1) {K : yMS → Prop} {X : String → Addr → yH → Prop} {k n : Nat} (l1 : Int32) (l2 : Int32) (ρ : yMS) (h : wpM_X3_grow_32  l1 l2 ρ K) : Wx en (d + 1) mX3_grow 32 [(0, .ref (mb 0)), (1, .int l1), (2, .int l2)] [] (mH en mb ρ σ) k n (mQ en mb σ (mV K)) X := by
  obtain ⟨nn, h⟩ := h
  exact olM_X3_grow_32 hM hd  nn _ _ _ h
def wpM_X3_grow (ρ : yMS)  (K : yMS → Prop) : Prop :=
  wpM_X3_month ρ  (fun r2 ρ1 => wpM_X3_isBetween ρ1 r2 (2 : Int32) (8 : Int32) (fun r4 ρ3 => (((r4 = 0) → wpM_X3_grow_32  (0 : Int32) (0 : Int32) ρ3 K) ∧ (¬ (r4 = 0) → mAld ρ3 1 (0 : Int32) (fun v5 => wpM_X3_grow_32  (if ((v5 - v5 / (3 : Int32) * (3 : Int32)) = 0) then (1 : Int32) else (0 : Int32)) (0 : Int32) ρ3 K)))))
theorem okM_X3_grow {en : yEn} {mb : Nat → Nat} {σ : yH} (hM : mOK en mb σ) {d : Nat} (hd : 2 ≤ d + 1) {ρ : yMS}  {K : yMS → Prop} {X : String → Addr → yH → Prop} {k n : Nat}  (h : wpM_X3_grow ρ  K) : Wx en (d + 1) mX3_grow 0 [(0, .ref (mb 0))] [] (mH en mb ρ σ) k n (mQ en mb σ (mV K)) X := by
  unfold wpM_X3_grow at h
  refine sd_aload_n (pc := 0) dX3_grow_0 rfl 0 rfl ?_
  refine sd_callV (k := k) (n := n) (d0 := d) (k0 := 0) (n0 := 0) (As := []) (st := []) (pc := 1) dX3_grow_1 (ci := 2) rfl (mo_isC hM) rfl q2391 q2393 qs55 q91 q2394 0 (by decide +kernel) rfl (Nat.le_refl _) (by decide) (Nat.le_of_ble_eq_true rfl) (Cx.mono (cm_X3_month hM (by omega)  h) (mI.to (fun r2 ρ1 h => ?_)) (xo rfl))
  refine sd_iconst (pc := 4) dX3_grow_4 (v := 2) (by decide) ?_
  refine sd_bipush (pc := 5) dX3_grow_5 (v := 8) (by decide) ?_
  refine sd_callS (k := k) (n := n) (d0 := d) (k0 := 0) (n0 := 0) (As := [.int r2, .int (2 : Int32), .int (8 : Int32)]) (st := []) (pc := 7) dX3_grow_7 q2167 q2168 q91 q2169 3 (by decide +kernel) rfl (Nat.le_refl _) (by decide) (Nat.le_of_ble_eq_true rfl) (Cx.mono (cm_X3_isBetween hM (by omega)  h) (mI.to (fun r4 ρ3 h => ?_)) (xo rfl))
  refine sd_ifeq (pc := 10) dX3_grow_10 (tgt := 28) (by decide) ⟨fun c7 => ?_, fun c7 => ?_⟩
  · have h := h.1 c7
    refine sd_iconst (pc := 28) dX3_grow_28 (v := 0) (by decide) ?_
    refine sd_istore_n (pc := 29) dX3_grow_29 rfl (by decide) (ls' := [(1, .int (0 : Int32)), (0, .ref (mb 0))]) rfl ?_
    refine sd_iconst (pc := 30) dX3_grow_30 (v := 0) (by decide) ?_
    refine sd_istore_n (pc := 31) dX3_grow_31 rfl (by decide) (ls' := [(2, .int (0 : Int32)), (1, .int (0 : Int32)), (0, .ref (mb 0))]) rfl ?_
    exact sd_loc [2, 1, 0] rfl (okM_X3_grow_32 hM (by omega)  _ _ _ h)
  · have h := h.2 c7
    refine sd_aload_n (pc := 13) dX3_grow_13 rfl 0 rfl ?_
    refine sd_getR (pc := 14) dX3_grow_14 (ci := 2) rfl in_X3 (kf := 1) (by decide) q2074 (mo_gR hM (j := 1) rfl ?_)
    refine sd_iconst (pc := 17) dX3_grow_17 (v := 0) (by decide) ?_
    refine sd_iaload (pc := 18) dX3_grow_18 (mAld.to hM h (fun v5 h => ?_))
    refine sd_iconst (pc := 19) dX3_grow_19 (v := 3) (by decide) ?_
    refine sd_irem (pc := 20) dX3_grow_20 (by decide) ?_
    have h8 : Wx en (d + 1) mX3_grow 29 [(0, .ref (mb 0))] (.int (if ((v5 - v5 / (3 : Int32) * (3 : Int32)) = 0) then (1 : Int32) else (0 : Int32)) :: []) (mH en mb ρ3 σ) k n (mQ en mb σ (mV K)) X := by
      refine sd_istore_n (pc := 29) dX3_grow_29 rfl (by decide) (ls' := [(1, .int (if ((v5 - v5 / (3 : Int32) * (3 : Int32)) = 0) then (1 : Int32) else (0 : Int32))), (0, .ref (mb 0))]) rfl ?_
      refine sd_iconst (pc := 30) dX3_grow_30 (v := 0) (by decide) ?_
      refine sd_istore_n (pc := 31) dX3_grow_31 rfl (by decide) (ls' := [(2, .int (0 : Int32)), (1, .int (if ((v5 - v5 / (3 : Int32) * (3 : Int32)) = 0) then (1 : Int32) else (0 : Int32))), (0, .ref (mb 0))]) rfl ?_
      exact sd_loc [2, 1, 0] rfl (okM_X3_grow_32 hM (by omega)  _ _ _ h)
    have e9 := sd_iteIN h8
    refine sd_ifne (pc := 21) dX3_grow_21 (tgt := 28) (by decide) ⟨fun c6 => ?_, fun c6 => ?_⟩
    · refine sd_iconst (pc := 28) dX3_grow_28 (v := 0) (by decide) ?_
      exact (e9.1 c6)
    · refine sd_iconst (pc := 24) dX3_grow_24 (v := 1) (by decide) ?_
      refine sd_goto (pc := 25) dX3_grow_25 (tgt := 29) (by decide) ?_
      exact (e9.2 c6)
theorem cm_X3_grow {en : yEn} {mb : Nat → Nat} {σ : yH} (hM : mOK en mb σ) {d : Nat} (hd : 2 ≤ d) {ρ : yMS}  {K : yMS → Prop} {X : String → Addr → yH → Prop}  (h : wpM_X3_grow ρ  K) : Cx en d 0 0 mX3_grow [.ref (mb 0)] (mH en mb ρ σ) (mQ en mb σ (mV K)) X := by
  obtain ⟨d, rfl⟩ : ∃ e, d = e + 1 := ⟨d - 1, by omega⟩
  exact Cx.body (by decide +kernel) rfl (Nat.le_of_ble_eq_true rfl) (okM_X3_grow hM (by omega)  h)
/-! shedOf(I)V -/
def wpM_X3_shedOf_20 (l1 : Int32) (t0 : Int32) (ρ : yMS) (K : yMS → Prop) : Prop :=
  wpM_X3_of ρ l1 (2 : Int32) (fun r7 ρ6 => wpM_X3_put ρ6 l1 (2 : Int32) (r7 - t0) (fun ρ8 => wpM_X3_of ρ8 l1 (5 : Int32) (fun r10 ρ9 => wpM_X3_put ρ9 l1 (5 : Int32) (r10 + t0) (fun ρ11 => wpM_X3_of ρ11 l1 (1 : Int32) (fun r13 ρ12 => mAld ρ12 1 ((13 : Int32) + r13) (fun v14 => mAst ρ12 1 ((13 : Int32) + r13) (v14 + t0) (fun ρ15 => mAld ρ15 1 (9 : Int32) (fun v16 => mAst ρ15 1 (9 : Int32) (v16 + t0) (fun ρ17 => K ρ17)))))))))
theorem okM_X3_shedOf_20 {en : yEn} {mb : Nat → Nat} {σ : yH} (hM : mOK en mb σ) {d : Nat} (hd : 2 ≤ d + 1) {K : yMS → Prop} {X : String → Addr → yH → Prop} {k n : Nat} (l1 : Int32) (t0 : Int32) (ρ : yMS) (h : wpM_X3_shedOf_20  l1 t0 ρ K) : Wx en (d + 1) mX3_shedOf 20 [(0, .ref (mb 0)), (1, .int l1)] [.int t0] (mH en mb ρ σ) k n (mQ en mb σ (mV K)) X := by
  unfold wpM_X3_shedOf_20 at h
  refine sd_istore_n (pc := 20) dX3_shedOf_20 rfl (by decide) (ls' := [(2, .int t0), (0, .ref (mb 0)), (1, .int l1)]) rfl ?_
  refine sd_aload_n (pc := 21) dX3_shedOf_21 rfl 1 rfl ?_
  refine sd_iload_n (pc := 22) dX3_shedOf_22 rfl 2 rfl ?_
  refine sd_iconst (pc := 23) dX3_shedOf_23 (v := 2) (by decide) ?_
  refine sd_aload_n (pc := 24) dX3_shedOf_24 rfl 1 rfl ?_
  refine sd_iload_n (pc := 25) dX3_shedOf_25 rfl 2 rfl ?_
  refine sd_iconst (pc := 26) dX3_shedOf_26 (v := 2) (by decide) ?_
  refine sd_callV (k := k) (n := n) (d0 := d) (k0 := 0) (n0 := 0) (As := [.int l1, .int (2 : Int32)]) (st := [.int (2 : Int32), .int l1, .ref (mb 0)]) (pc := 27) dX3_shedOf_27 (ci := 2) rfl (mo_isC hM) rfl q2228 q2230 qs36 q91 q2231 2 (by decide +kernel) rfl (Nat.le_refl _) (by decide) (Nat.le_of_ble_eq_true rfl) (Cx.mono (cm_X3_of hM (by omega)  h) (mI.to (fun r7 ρ6 h => ?_)) (xo rfl))
  refine sd_iload_n (pc := 30) dX3_shedOf_30 rfl 0 rfl ?_
  refine sd_isub (pc := 31) dX3_shedOf_31 ?_
  refine sd_callV (k := k) (n := n) (d0 := d) (k0 := 0) (n0 := 0) (As := [.int l1, .int (2 : Int32), .int (r7 - t0)]) (st := []) (pc := 32) dX3_shedOf_32 (ci := 2) rfl (mo_isC hM) rfl q2204 q2206 qs32 q91 q2207 3 (by decide +kernel) rfl (Nat.le_refl _) (by decide) (Nat.le_of_ble_eq_true rfl) (Cx.mono (cm_X3_put hM (by omega)  h) (mV.to (fun ρ8 h => ?_)) (xo rfl))
  refine sd_aload_n (pc := 35) dX3_shedOf_35 rfl 1 rfl ?_
  refine sd_iload_n (pc := 36) dX3_shedOf_36 rfl 2 rfl ?_
  refine sd_iconst (pc := 37) dX3_shedOf_37 (v := 5) (by decide) ?_
  refine sd_aload_n (pc := 38) dX3_shedOf_38 rfl 1 rfl ?_
  refine sd_iload_n (pc := 39) dX3_shedOf_39 rfl 2 rfl ?_
  refine sd_iconst (pc := 40) dX3_shedOf_40 (v := 5) (by decide) ?_
  refine sd_callV (k := k) (n := n) (d0 := d) (k0 := 0) (n0 := 0) (As := [.int l1, .int (5 : Int32)]) (st := [.int (5 : Int32), .int l1, .ref (mb 0)]) (pc := 41) dX3_shedOf_41 (ci := 2) rfl (mo_isC hM) rfl q2228 q2230 qs36 q91 q2231 2 (by decide +kernel) rfl (Nat.le_refl _) (by decide) (Nat.le_of_ble_eq_true rfl) (Cx.mono (cm_X3_of hM (by omega)  h) (mI.to (fun r10 ρ9 h => ?_)) (xo rfl))
  refine sd_iload_n (pc := 44) dX3_shedOf_44 rfl 0 rfl ?_
  refine sd_iadd (pc := 45) dX3_shedOf_45 ?_
  refine sd_callV (k := k) (n := n) (d0 := d) (k0 := 0) (n0 := 0) (As := [.int l1, .int (5 : Int32), .int (r10 + t0)]) (st := []) (pc := 46) dX3_shedOf_46 (ci := 2) rfl (mo_isC hM) rfl q2204 q2206 qs32 q91 q2207 3 (by decide +kernel) rfl (Nat.le_refl _) (by decide) (Nat.le_of_ble_eq_true rfl) (Cx.mono (cm_X3_put hM (by omega)  h) (mV.to (fun ρ11 h => ?_)) (xo rfl))
  refine sd_aload_n (pc := 49) dX3_shedOf_49 rfl 1 rfl ?_
  refine sd_getR (pc := 50) dX3_shedOf_50 (ci := 2) rfl in_X3 (kf := 1) (by decide) q2074 (mo_gR hM (j := 1) rfl ?_)
  refine sd_bipush (pc := 53) dX3_shedOf_53 (v := 13) (by decide) ?_
  refine sd_aload_n (pc := 55) dX3_shedOf_55 rfl 1 rfl ?_
  refine sd_iload_n (pc := 56) dX3_shedOf_56 rfl 2 rfl ?_
  refine sd_iconst (pc := 57) dX3_shedOf_57 (v := 1) (by decide) ?_
  refine sd_callV (k := k) (n := n) (d0 := d) (k0 := 0) (n0 := 0) (As := [.int l1, .int (1 : Int32)]) (st := [.int (13 : Int32), .ref (mb 1)]) (pc := 58) dX3_shedOf_58 (ci := 2) rfl (mo_isC hM) rfl q2228 q2230 qs36 q91 q2231 2 (by decide +kernel) rfl (Nat.le_refl _) (by decide) (Nat.le_of_ble_eq_true rfl) (Cx.mono (cm_X3_of hM (by omega)  h) (mI.to (fun r13 ρ12 h => ?_)) (xo rfl))
  refine sd_iadd (pc := 61) dX3_shedOf_61 ?_
  refine sd_dup2 (pc := 62) dX3_shedOf_62 rfl rfl ?_
  refine sd_iaload (pc := 63) dX3_shedOf_63 (mAld.to hM h (fun v14 h => ?_))
  refine sd_iload_n (pc := 64) dX3_shedOf_64 rfl 0 rfl ?_
  refine sd_iadd (pc := 65) dX3_shedOf_65 ?_
  refine sd_iastore (pc := 66) dX3_shedOf_66 (mAst.to hM h (fun ρ15 h => ?_))
  refine sd_aload_n (pc := 67) dX3_shedOf_67 rfl 1 rfl ?_
  refine sd_getR (pc := 68) dX3_shedOf_68 (ci := 2) rfl in_X3 (kf := 1) (by decide) q2074 (mo_gR hM (j := 1) rfl ?_)
  refine sd_bipush (pc := 71) dX3_shedOf_71 (v := 9) (by decide) ?_
  refine sd_dup2 (pc := 73) dX3_shedOf_73 rfl rfl ?_
  refine sd_iaload (pc := 74) dX3_shedOf_74 (mAld.to hM h (fun v16 h => ?_))
  refine sd_iload_n (pc := 75) dX3_shedOf_75 rfl 0 rfl ?_
  refine sd_iadd (pc := 76) dX3_shedOf_76 ?_
  refine sd_iastore (pc := 77) dX3_shedOf_77 (mAst.to hM h (fun ρ17 h => ?_))
  exact sd_return (pc := 78) dX3_shedOf_78 rfl (mV.ok h)
def wpM_X3_shedOf (ρ : yMS) (x1 : Int32) (K : yMS → Prop) : Prop :=
  wpM_X3_of ρ x1 (2 : Int32) (fun r2 ρ1 => ((((5 : Int32) ≤ r2) → wpM_X3_shedOf_20  x1 (5 : Int32) ρ1 K) ∧ (¬ ((5 : Int32) ≤ r2) → wpM_X3_of ρ1 x1 (2 : Int32) (fun r4 ρ3 => wpM_X3_shedOf_20  x1 r4 ρ3 K))))
theorem okM_X3_shedOf {en : yEn} {mb : Nat → Nat} {σ : yH} (hM : mOK en mb σ) {d : Nat} (hd : 2 ≤ d + 1) {ρ : yMS} {x1 : Int32} {K : yMS → Prop} {X : String → Addr → yH → Prop} {k n : Nat}  (h : wpM_X3_shedOf ρ x1 K) : Wx en (d + 1) mX3_shedOf 0 [(0, .ref (mb 0)), (1, .int x1)] [] (mH en mb ρ σ) k n (mQ en mb σ (mV K)) X := by
  unfold wpM_X3_shedOf at h
  refine sd_aload_n (pc := 0) dX3_shedOf_0 rfl 0 rfl ?_
  refine sd_iload_n (pc := 1) dX3_shedOf_1 rfl 1 rfl ?_
  refine sd_iconst (pc := 2) dX3_shedOf_2 (v := 2) (by decide) ?_
  refine sd_callV (k := k) (n := n) (d0 := d) (k0 := 0) (n0 := 0) (As := [.int x1, .int (2 : Int32)]) (st := []) (pc := 3) dX3_shedOf_3 (ci := 2) rfl (mo_isC hM) rfl q2228 q2230 qs36 q91 q2231 2 (by decide +kernel) rfl (Nat.le_refl _) (by decide) (Nat.le_of_ble_eq_true rfl) (Cx.mono (cm_X3_of hM (by omega)  h) (mI.to (fun r2 ρ1 h => ?_)) (xo rfl))
  refine sd_iconst (pc := 6) dX3_shedOf_6 (v := 5) (by decide) ?_
  refine sd_icmpge (pc := 7) dX3_shedOf_7 (tgt := 19) (by decide) ⟨fun c5 => ?_, fun c5 => ?_⟩
  · have h := h.1 c5
    refine sd_iconst (pc := 19) dX3_shedOf_19 (v := 5) (by decide) ?_
    exact (okM_X3_shedOf_20 hM (by omega)  _ _ _ h)
  · have h := h.2 c5
    refine sd_aload_n (pc := 10) dX3_shedOf_10 rfl 0 rfl ?_
    refine sd_iload_n (pc := 11) dX3_shedOf_11 rfl 1 rfl ?_
    refine sd_iconst (pc := 12) dX3_shedOf_12 (v := 2) (by decide) ?_
    refine sd_callV (k := k) (n := n) (d0 := d) (k0 := 0) (n0 := 0) (As := [.int x1, .int (2 : Int32)]) (st := []) (pc := 13) dX3_shedOf_13 (ci := 2) rfl (mo_isC hM) rfl q2228 q2230 qs36 q91 q2231 2 (by decide +kernel) rfl (Nat.le_refl _) (by decide) (Nat.le_of_ble_eq_true rfl) (Cx.mono (cm_X3_of hM (by omega)  h) (mI.to (fun r4 ρ3 h => ?_)) (xo rfl))
    refine sd_goto (pc := 16) dX3_shedOf_16 (tgt := 20) (by decide) ?_
    exact (okM_X3_shedOf_20 hM (by omega)  _ _ _ h)
theorem cm_X3_shedOf {en : yEn} {mb : Nat → Nat} {σ : yH} (hM : mOK en mb σ) {d : Nat} (hd : 2 ≤ d) {ρ : yMS} {x1 : Int32} {K : yMS → Prop} {X : String → Addr → yH → Prop}  (h : wpM_X3_shedOf ρ x1 K) : Cx en d 0 0 mX3_shedOf [.ref (mb 0), .int x1] (mH en mb ρ σ) (mQ en mb σ (mV K)) X := by
  obtain ⟨d, rfl⟩ : ∃ e, d = e + 1 := ⟨d - 1, by omega⟩
  exact Cx.body (by decide +kernel) rfl (Nat.le_of_ble_eq_true rfl) (okM_X3_shedOf hM (by omega)  h)
/-! moult()V -/
def stM_X3_moult_2 (K : yMS → Prop) (rec : Int32 → yMS → Prop) (l1 : Int32) (ρ : yMS) : Prop :=
  mAld ρ 1 (10 : Int32) (fun v1 => (((v1 ≤ l1) → K ρ) ∧ (¬ (v1 ≤ l1) → wpM_X3_isHen ρ l1 (fun r3 ρ2 => ((¬ (r3 = 0) → wpM_X3_isHen ρ2 l1 (fun r5 ρ4 => ((¬ (r5 = 0) → rec (l1 + (1 : Int32)) ρ4) ∧ ((r5 = 0) → wpM_X3_month ρ4  (fun r7 ρ6 => ((((10 : Int32) ≤ r7) → wpM_X3_of ρ6 l1 (2 : Int32) (fun r9 ρ8 => ((((r9 + (2 : Int32)) ≤ (150 : Int32)) → wpM_X3_of ρ8 l1 (2 : Int32) (fun r11 ρ10 => wpM_X3_put ρ10 l1 (2 : Int32) (r11 + (2 : Int32)) (fun ρ12 => rec (l1 + (1 : Int32)) ρ12))) ∧ (¬ ((r9 + (2 : Int32)) ≤ (150 : Int32)) → wpM_X3_put ρ8 l1 (2 : Int32) (150 : Int32) (fun ρ13 => rec (l1 + (1 : Int32)) ρ13))))) ∧ (¬ ((10 : Int32) ≤ r7) → wpM_X3_month ρ6  (fun r16 ρ15 => ((((1 : Int32) < r16) → rec (l1 + (1 : Int32)) ρ15) ∧ (¬ ((1 : Int32) < r16) → wpM_X3_of ρ15 l1 (2 : Int32) (fun r18 ρ17 => ((((r18 + (2 : Int32)) ≤ (150 : Int32)) → wpM_X3_of ρ17 l1 (2 : Int32) (fun r20 ρ19 => wpM_X3_put ρ19 l1 (2 : Int32) (r20 + (2 : Int32)) (fun ρ21 => rec (l1 + (1 : Int32)) ρ21))) ∧ (¬ ((r18 + (2 : Int32)) ≤ (150 : Int32)) → wpM_X3_put ρ17 l1 (2 : Int32) (150 : Int32) (fun ρ22 => rec (l1 + (1 : Int32)) ρ22)))))))))))))) ∧ ((r3 = 0) → wpM_X3_month ρ2  (fun r28 ρ27 => wpM_X3_isBetween ρ27 r28 (6 : Int32) (8 : Int32) (fun r30 ρ29 => (((r30 = 0) → wpM_X3_isHen ρ29 l1 (fun r32 ρ31 => ((¬ (r32 = 0) → rec (l1 + (1 : Int32)) ρ31) ∧ ((r32 = 0) → wpM_X3_month ρ31  (fun r34 ρ33 => ((((10 : Int32) ≤ r34) → wpM_X3_of ρ33 l1 (2 : Int32) (fun r36 ρ35 => ((((r36 + (2 : Int32)) ≤ (150 : Int32)) → wpM_X3_of ρ35 l1 (2 : Int32) (fun r38 ρ37 => wpM_X3_put ρ37 l1 (2 : Int32) (r38 + (2 : Int32)) (fun ρ39 => rec (l1 + (1 : Int32)) ρ39))) ∧ (¬ ((r36 + (2 : Int32)) ≤ (150 : Int32)) → wpM_X3_put ρ35 l1 (2 : Int32) (150 : Int32) (fun ρ40 => rec (l1 + (1 : Int32)) ρ40))))) ∧ (¬ ((10 : Int32) ≤ r34) → wpM_X3_month ρ33  (fun r43 ρ42 => ((((1 : Int32) < r43) → rec (l1 + (1 : Int32)) ρ42) ∧ (¬ ((1 : Int32) < r43) → wpM_X3_of ρ42 l1 (2 : Int32) (fun r45 ρ44 => ((((r45 + (2 : Int32)) ≤ (150 : Int32)) → wpM_X3_of ρ44 l1 (2 : Int32) (fun r47 ρ46 => wpM_X3_put ρ46 l1 (2 : Int32) (r47 + (2 : Int32)) (fun ρ48 => rec (l1 + (1 : Int32)) ρ48))) ∧ (¬ ((r45 + (2 : Int32)) ≤ (150 : Int32)) → wpM_X3_put ρ44 l1 (2 : Int32) (150 : Int32) (fun ρ49 => rec (l1 + (1 : Int32)) ρ49)))))))))))))) ∧ (¬ (r30 = 0) → wpM_X3_shedOf ρ29 l1 (fun ρ54 => rec (l1 + (1 : Int32)) ρ54)))))))))))
def lpM_X3_moult_2 (K : yMS → Prop) : Nat → Int32 × yMS → Prop := lpN (fun r s => stM_X3_moult_2  K (fun l1 ρ => r (l1, ρ)) s.1 s.2)
def wpM_X3_moult_2 (l1 : Int32) (ρ : yMS) (K : yMS → Prop) : Prop := ∃ nn, lpM_X3_moult_2  K nn (l1, ρ)
theorem olM_X3_moult_2 {en : yEn} {mb : Nat → Nat} {σ : yH} (hM : mOK en mb σ) {d : Nat} (hd : 3 ≤ d + 1) {K : yMS → Prop} {X : String → Addr → yH → Prop} {k n : Nat} : ∀ (nn : Nat) (l1 : Int32) (ρ : yMS), lpM_X3_moult_2  K nn (l1, ρ) → Wx en (d + 1) mX3_moult 2 [(0, .ref (mb 0)), (1, .int l1)] [] (mH en mb ρ σ) k n (mQ en mb σ (mV K)) X := by
  intro nn
  induction nn with
  | zero => intros; rename_i h; exact h.elim
  | succ nn ih =>
    intro l1 ρ h
    replace h : stM_X3_moult_2  K (fun l1 ρ => lpM_X3_moult_2  K nn (l1, ρ)) l1 ρ := h
    unfold stM_X3_moult_2 at h
    refine sd_iload_n (pc := 2) dX3_moult_2 rfl 1 rfl ?_
    refine sd_aload_n (pc := 3) dX3_moult_3 rfl 0 rfl ?_
    refine sd_getR (pc := 4) dX3_moult_4 (ci := 2) rfl in_X3 (kf := 1) (by decide) q2074 (mo_gR hM (j := 1) rfl ?_)
    refine sd_bipush (pc := 7) dX3_moult_7 (v := 10) (by decide) ?_
    refine sd_iaload (pc := 9) dX3_moult_9 (mAld.to hM h (fun v1 h => ?_))
    refine sd_icmpge (pc := 10) dX3_moult_10 (tgt := 108) (by decide) ⟨fun c57 => ?_, fun c57 => ?_⟩
    · have h := h.1 c57
      exact sd_return (pc := 108) dX3_moult_108 rfl (mV.ok h)
    · have h := h.2 c57
      refine sd_aload_n (pc := 13) dX3_moult_13 rfl 0 rfl ?_
      refine sd_iload_n (pc := 14) dX3_moult_14 rfl 1 rfl ?_
      refine sd_callV (k := k) (n := n) (d0 := d) (k0 := 0) (n0 := 0) (As := [.int l1]) (st := []) (pc := 15) dX3_moult_15 (ci := 2) rfl (mo_isC hM) rfl q2224 q2226 qs35 q91 q2227 1 (by decide +kernel) rfl (Nat.le_refl _) (by decide) (Nat.le_of_ble_eq_true rfl) (Cx.mono (cm_X3_isHen hM (by omega)  h) (mI.to (fun r3 ρ2 h => ?_)) (xo rfl))
      refine sd_ifne (pc := 18) dX3_moult_18 (tgt := 43) (by decide) ⟨fun c56 => ?_, fun c56 => ?_⟩
      · have h := h.1 c56
        refine sd_aload_n (pc := 43) dX3_moult_43 rfl 0 rfl ?_
        refine sd_iload_n (pc := 44) dX3_moult_44 rfl 1 rfl ?_
        refine sd_callV (k := k) (n := n) (d0 := d) (k0 := 0) (n0 := 0) (As := [.int l1]) (st := []) (pc := 45) dX3_moult_45 (ci := 2) rfl (mo_isC hM) rfl q2224 q2226 qs35 q91 q2227 1 (by decide +kernel) rfl (Nat.le_refl _) (by decide) (Nat.le_of_ble_eq_true rfl) (Cx.mono (cm_X3_isHen hM (by omega)  h) (mI.to (fun r5 ρ4 h => ?_)) (xo rfl))
        refine sd_ifne (pc := 48) dX3_moult_48 (tgt := 102) (by decide) ⟨fun c26 => ?_, fun c26 => ?_⟩
        · have h := h.1 c26
          refine sd_iinc (pc := 102) dX3_moult_102 1 rfl (v := (l1 + (1 : Int32))) rfl (by decide) (ls' := [(1, .int (l1 + (1 : Int32))), (0, .ref (mb 0))]) rfl ?_
          refine sd_goto (pc := 105) dX3_moult_105 (tgt := 2) (by decide) ?_
          exact sd_loc [1, 0] rfl (ih _ _ h)
        · have h := h.2 c26
          refine sd_aload_n (pc := 51) dX3_moult_51 rfl 0 rfl ?_
          refine sd_callV (k := k) (n := n) (d0 := d) (k0 := 0) (n0 := 0) (As := []) (st := []) (pc := 52) dX3_moult_52 (ci := 2) rfl (mo_isC hM) rfl q2391 q2393 qs55 q91 q2394 0 (by decide +kernel) rfl (Nat.le_refl _) (by decide) (Nat.le_of_ble_eq_true rfl) (Cx.mono (cm_X3_month hM (by omega)  h) (mI.to (fun r7 ρ6 h => ?_)) (xo rfl))
          refine sd_bipush (pc := 55) dX3_moult_55 (v := 10) (by decide) ?_
          refine sd_icmpge (pc := 57) dX3_moult_57 (tgt := 68) (by decide) ⟨fun c25 => ?_, fun c25 => ?_⟩
          · have h := h.1 c25
            refine sd_aload_n (pc := 68) dX3_moult_68 rfl 0 rfl ?_
            refine sd_iload_n (pc := 69) dX3_moult_69 rfl 1 rfl ?_
            refine sd_iconst (pc := 70) dX3_moult_70 (v := 2) (by decide) ?_
            refine sd_aload_n (pc := 71) dX3_moult_71 rfl 0 rfl ?_
            refine sd_iload_n (pc := 72) dX3_moult_72 rfl 1 rfl ?_
            refine sd_iconst (pc := 73) dX3_moult_73 (v := 2) (by decide) ?_
            refine sd_callV (k := k) (n := n) (d0 := d) (k0 := 0) (n0 := 0) (As := [.int l1, .int (2 : Int32)]) (st := [.int (2 : Int32), .int l1, .ref (mb 0)]) (pc := 74) dX3_moult_74 (ci := 2) rfl (mo_isC hM) rfl q2228 q2230 qs36 q91 q2231 2 (by decide +kernel) rfl (Nat.le_refl _) (by decide) (Nat.le_of_ble_eq_true rfl) (Cx.mono (cm_X3_of hM (by omega)  h) (mI.to (fun r9 ρ8 h => ?_)) (xo rfl))
            refine sd_iconst (pc := 77) dX3_moult_77 (v := 2) (by decide) ?_
            refine sd_iadd (pc := 78) dX3_moult_78 ?_
            refine sd_sipush (pc := 79) dX3_moult_79 (v := 150) (by decide) ?_
            refine sd_icmple (pc := 82) dX3_moult_82 (tgt := 91) (by decide) ⟨fun c14 => ?_, fun c14 => ?_⟩
            · have h := h.1 c14
              refine sd_aload_n (pc := 91) dX3_moult_91 rfl 0 rfl ?_
              refine sd_iload_n (pc := 92) dX3_moult_92 rfl 1 rfl ?_
              refine sd_iconst (pc := 93) dX3_moult_93 (v := 2) (by decide) ?_
              refine sd_callV (k := k) (n := n) (d0 := d) (k0 := 0) (n0 := 0) (As := [.int l1, .int (2 : Int32)]) (st := [.int (2 : Int32), .int l1, .ref (mb 0)]) (pc := 94) dX3_moult_94 (ci := 2) rfl (mo_isC hM) rfl q2228 q2230 qs36 q91 q2231 2 (by decide +kernel) rfl (Nat.le_refl _) (by decide) (Nat.le_of_ble_eq_true rfl) (Cx.mono (cm_X3_of hM (by omega)  h) (mI.to (fun r11 ρ10 h => ?_)) (xo rfl))
              refine sd_iconst (pc := 97) dX3_moult_97 (v := 2) (by decide) ?_
              refine sd_iadd (pc := 98) dX3_moult_98 ?_
              refine sd_callV (k := k) (n := n) (d0 := d) (k0 := 0) (n0 := 0) (As := [.int l1, .int (2 : Int32), .int (r11 + (2 : Int32))]) (st := []) (pc := 99) dX3_moult_99 (ci := 2) rfl (mo_isC hM) rfl q2204 q2206 qs32 q91 q2207 3 (by decide +kernel) rfl (Nat.le_refl _) (by decide) (Nat.le_of_ble_eq_true rfl) (Cx.mono (cm_X3_put hM (by omega)  h) (mV.to (fun ρ12 h => ?_)) (xo rfl))
              refine sd_iinc (pc := 102) dX3_moult_102 1 rfl (v := (l1 + (1 : Int32))) rfl (by decide) (ls' := [(1, .int (l1 + (1 : Int32))), (0, .ref (mb 0))]) rfl ?_
              refine sd_goto (pc := 105) dX3_moult_105 (tgt := 2) (by decide) ?_
              exact sd_loc [1, 0] rfl (ih _ _ h)
            · have h := h.2 c14
              refine sd_sipush (pc := 85) dX3_moult_85 (v := 150) (by decide) ?_
              refine sd_goto (pc := 88) dX3_moult_88 (tgt := 99) (by decide) ?_
              refine sd_callV (k := k) (n := n) (d0 := d) (k0 := 0) (n0 := 0) (As := [.int l1, .int (2 : Int32), .int (150 : Int32)]) (st := []) (pc := 99) dX3_moult_99 (ci := 2) rfl (mo_isC hM) rfl q2204 q2206 qs32 q91 q2207 3 (by decide +kernel) rfl (Nat.le_refl _) (by decide) (Nat.le_of_ble_eq_true rfl) (Cx.mono (cm_X3_put hM (by omega)  h) (mV.to (fun ρ13 h => ?_)) (xo rfl))
              refine sd_iinc (pc := 102) dX3_moult_102 1 rfl (v := (l1 + (1 : Int32))) rfl (by decide) (ls' := [(1, .int (l1 + (1 : Int32))), (0, .ref (mb 0))]) rfl ?_
              refine sd_goto (pc := 105) dX3_moult_105 (tgt := 2) (by decide) ?_
              exact sd_loc [1, 0] rfl (ih _ _ h)
          · have h := h.2 c25
            refine sd_aload_n (pc := 60) dX3_moult_60 rfl 0 rfl ?_
            refine sd_callV (k := k) (n := n) (d0 := d) (k0 := 0) (n0 := 0) (As := []) (st := []) (pc := 61) dX3_moult_61 (ci := 2) rfl (mo_isC hM) rfl q2391 q2393 qs55 q91 q2394 0 (by decide +kernel) rfl (Nat.le_refl _) (by decide) (Nat.le_of_ble_eq_true rfl) (Cx.mono (cm_X3_month hM (by omega)  h) (mI.to (fun r16 ρ15 h => ?_)) (xo rfl))
            refine sd_iconst (pc := 64) dX3_moult_64 (v := 1) (by decide) ?_
            refine sd_icmpgt (pc := 65) dX3_moult_65 (tgt := 102) (by decide) ⟨fun c24 => ?_, fun c24 => ?_⟩
            · have h := h.1 c24
              refine sd_iinc (pc := 102) dX3_moult_102 1 rfl (v := (l1 + (1 : Int32))) rfl (by decide) (ls' := [(1, .int (l1 + (1 : Int32))), (0, .ref (mb 0))]) rfl ?_
              refine sd_goto (pc := 105) dX3_moult_105 (tgt := 2) (by decide) ?_
              exact sd_loc [1, 0] rfl (ih _ _ h)
            · have h := h.2 c24
              refine sd_aload_n (pc := 68) dX3_moult_68 rfl 0 rfl ?_
              refine sd_iload_n (pc := 69) dX3_moult_69 rfl 1 rfl ?_
              refine sd_iconst (pc := 70) dX3_moult_70 (v := 2) (by decide) ?_
              refine sd_aload_n (pc := 71) dX3_moult_71 rfl 0 rfl ?_
              refine sd_iload_n (pc := 72) dX3_moult_72 rfl 1 rfl ?_
              refine sd_iconst (pc := 73) dX3_moult_73 (v := 2) (by decide) ?_
              refine sd_callV (k := k) (n := n) (d0 := d) (k0 := 0) (n0 := 0) (As := [.int l1, .int (2 : Int32)]) (st := [.int (2 : Int32), .int l1, .ref (mb 0)]) (pc := 74) dX3_moult_74 (ci := 2) rfl (mo_isC hM) rfl q2228 q2230 qs36 q91 q2231 2 (by decide +kernel) rfl (Nat.le_refl _) (by decide) (Nat.le_of_ble_eq_true rfl) (Cx.mono (cm_X3_of hM (by omega)  h) (mI.to (fun r18 ρ17 h => ?_)) (xo rfl))
              refine sd_iconst (pc := 77) dX3_moult_77 (v := 2) (by decide) ?_
              refine sd_iadd (pc := 78) dX3_moult_78 ?_
              refine sd_sipush (pc := 79) dX3_moult_79 (v := 150) (by decide) ?_
              refine sd_icmple (pc := 82) dX3_moult_82 (tgt := 91) (by decide) ⟨fun c23 => ?_, fun c23 => ?_⟩
              · have h := h.1 c23
                refine sd_aload_n (pc := 91) dX3_moult_91 rfl 0 rfl ?_
                refine sd_iload_n (pc := 92) dX3_moult_92 rfl 1 rfl ?_
                refine sd_iconst (pc := 93) dX3_moult_93 (v := 2) (by decide) ?_
                refine sd_callV (k := k) (n := n) (d0 := d) (k0 := 0) (n0 := 0) (As := [.int l1, .int (2 : Int32)]) (st := [.int (2 : Int32), .int l1, .ref (mb 0)]) (pc := 94) dX3_moult_94 (ci := 2) rfl (mo_isC hM) rfl q2228 q2230 qs36 q91 q2231 2 (by decide +kernel) rfl (Nat.le_refl _) (by decide) (Nat.le_of_ble_eq_true rfl) (Cx.mono (cm_X3_of hM (by omega)  h) (mI.to (fun r20 ρ19 h => ?_)) (xo rfl))
                refine sd_iconst (pc := 97) dX3_moult_97 (v := 2) (by decide) ?_
                refine sd_iadd (pc := 98) dX3_moult_98 ?_
                refine sd_callV (k := k) (n := n) (d0 := d) (k0 := 0) (n0 := 0) (As := [.int l1, .int (2 : Int32), .int (r20 + (2 : Int32))]) (st := []) (pc := 99) dX3_moult_99 (ci := 2) rfl (mo_isC hM) rfl q2204 q2206 qs32 q91 q2207 3 (by decide +kernel) rfl (Nat.le_refl _) (by decide) (Nat.le_of_ble_eq_true rfl) (Cx.mono (cm_X3_put hM (by omega)  h) (mV.to (fun ρ21 h => ?_)) (xo rfl))
                refine sd_iinc (pc := 102) dX3_moult_102 1 rfl (v := (l1 + (1 : Int32))) rfl (by decide) (ls' := [(1, .int (l1 + (1 : Int32))), (0, .ref (mb 0))]) rfl ?_
                refine sd_goto (pc := 105) dX3_moult_105 (tgt := 2) (by decide) ?_
                exact sd_loc [1, 0] rfl (ih _ _ h)
              · have h := h.2 c23
                refine sd_sipush (pc := 85) dX3_moult_85 (v := 150) (by decide) ?_
                refine sd_goto (pc := 88) dX3_moult_88 (tgt := 99) (by decide) ?_
                refine sd_callV (k := k) (n := n) (d0 := d) (k0 := 0) (n0 := 0) (As := [.int l1, .int (2 : Int32), .int (150 : Int32)]) (st := []) (pc := 99) dX3_moult_99 (ci := 2) rfl (mo_isC hM) rfl q2204 q2206 qs32 q91 q2207 3 (by decide +kernel) rfl (Nat.le_refl _) (by decide) (Nat.le_of_ble_eq_true rfl) (Cx.mono (cm_X3_put hM (by omega)  h) (mV.to (fun ρ22 h => ?_)) (xo rfl))
                refine sd_iinc (pc := 102) dX3_moult_102 1 rfl (v := (l1 + (1 : Int32))) rfl (by decide) (ls' := [(1, .int (l1 + (1 : Int32))), (0, .ref (mb 0))]) rfl ?_
                refine sd_goto (pc := 105) dX3_moult_105 (tgt := 2) (by decide) ?_
                exact sd_loc [1, 0] rfl (ih _ _ h)
      · have h := h.2 c56
        refine sd_aload_n (pc := 21) dX3_moult_21 rfl 0 rfl ?_
        refine sd_callV (k := k) (n := n) (d0 := d) (k0 := 0) (n0 := 0) (As := []) (st := []) (pc := 22) dX3_moult_22 (ci := 2) rfl (mo_isC hM) rfl q2391 q2393 qs55 q91 q2394 0 (by decide +kernel) rfl (Nat.le_refl _) (by decide) (Nat.le_of_ble_eq_true rfl) (Cx.mono (cm_X3_month hM (by omega)  h) (mI.to (fun r28 ρ27 h => ?_)) (xo rfl))
        refine sd_bipush (pc := 25) dX3_moult_25 (v := 6) (by decide) ?_
        refine sd_bipush (pc := 27) dX3_moult_27 (v := 8) (by decide) ?_
        refine sd_callS (k := k) (n := n) (d0 := d) (k0 := 0) (n0 := 0) (As := [.int r28, .int (6 : Int32), .int (8 : Int32)]) (st := []) (pc := 29) dX3_moult_29 q2167 q2168 q91 q2169 3 (by decide +kernel) rfl (Nat.le_refl _) (by decide) (Nat.le_of_ble_eq_true rfl) (Cx.mono (cm_X3_isBetween hM (by omega)  h) (mI.to (fun r30 ρ29 h => ?_)) (xo rfl))
        refine sd_ifeq (pc := 32) dX3_moult_32 (tgt := 43) (by decide) ⟨fun c55 => ?_, fun c55 => ?_⟩
        · have h := h.1 c55
          refine sd_aload_n (pc := 43) dX3_moult_43 rfl 0 rfl ?_
          refine sd_iload_n (pc := 44) dX3_moult_44 rfl 1 rfl ?_
          refine sd_callV (k := k) (n := n) (d0 := d) (k0 := 0) (n0 := 0) (As := [.int l1]) (st := []) (pc := 45) dX3_moult_45 (ci := 2) rfl (mo_isC hM) rfl q2224 q2226 qs35 q91 q2227 1 (by decide +kernel) rfl (Nat.le_refl _) (by decide) (Nat.le_of_ble_eq_true rfl) (Cx.mono (cm_X3_isHen hM (by omega)  h) (mI.to (fun r32 ρ31 h => ?_)) (xo rfl))
          refine sd_ifne (pc := 48) dX3_moult_48 (tgt := 102) (by decide) ⟨fun c53 => ?_, fun c53 => ?_⟩
          · have h := h.1 c53
            refine sd_iinc (pc := 102) dX3_moult_102 1 rfl (v := (l1 + (1 : Int32))) rfl (by decide) (ls' := [(1, .int (l1 + (1 : Int32))), (0, .ref (mb 0))]) rfl ?_
            refine sd_goto (pc := 105) dX3_moult_105 (tgt := 2) (by decide) ?_
            exact sd_loc [1, 0] rfl (ih _ _ h)
          · have h := h.2 c53
            refine sd_aload_n (pc := 51) dX3_moult_51 rfl 0 rfl ?_
            refine sd_callV (k := k) (n := n) (d0 := d) (k0 := 0) (n0 := 0) (As := []) (st := []) (pc := 52) dX3_moult_52 (ci := 2) rfl (mo_isC hM) rfl q2391 q2393 qs55 q91 q2394 0 (by decide +kernel) rfl (Nat.le_refl _) (by decide) (Nat.le_of_ble_eq_true rfl) (Cx.mono (cm_X3_month hM (by omega)  h) (mI.to (fun r34 ρ33 h => ?_)) (xo rfl))
            refine sd_bipush (pc := 55) dX3_moult_55 (v := 10) (by decide) ?_
            refine sd_icmpge (pc := 57) dX3_moult_57 (tgt := 68) (by decide) ⟨fun c52 => ?_, fun c52 => ?_⟩
            · have h := h.1 c52
              refine sd_aload_n (pc := 68) dX3_moult_68 rfl 0 rfl ?_
              refine sd_iload_n (pc := 69) dX3_moult_69 rfl 1 rfl ?_
              refine sd_iconst (pc := 70) dX3_moult_70 (v := 2) (by decide) ?_
              refine sd_aload_n (pc := 71) dX3_moult_71 rfl 0 rfl ?_
              refine sd_iload_n (pc := 72) dX3_moult_72 rfl 1 rfl ?_
              refine sd_iconst (pc := 73) dX3_moult_73 (v := 2) (by decide) ?_
              refine sd_callV (k := k) (n := n) (d0 := d) (k0 := 0) (n0 := 0) (As := [.int l1, .int (2 : Int32)]) (st := [.int (2 : Int32), .int l1, .ref (mb 0)]) (pc := 74) dX3_moult_74 (ci := 2) rfl (mo_isC hM) rfl q2228 q2230 qs36 q91 q2231 2 (by decide +kernel) rfl (Nat.le_refl _) (by decide) (Nat.le_of_ble_eq_true rfl) (Cx.mono (cm_X3_of hM (by omega)  h) (mI.to (fun r36 ρ35 h => ?_)) (xo rfl))
              refine sd_iconst (pc := 77) dX3_moult_77 (v := 2) (by decide) ?_
              refine sd_iadd (pc := 78) dX3_moult_78 ?_
              refine sd_sipush (pc := 79) dX3_moult_79 (v := 150) (by decide) ?_
              refine sd_icmple (pc := 82) dX3_moult_82 (tgt := 91) (by decide) ⟨fun c41 => ?_, fun c41 => ?_⟩
              · have h := h.1 c41
                refine sd_aload_n (pc := 91) dX3_moult_91 rfl 0 rfl ?_
                refine sd_iload_n (pc := 92) dX3_moult_92 rfl 1 rfl ?_
                refine sd_iconst (pc := 93) dX3_moult_93 (v := 2) (by decide) ?_
                refine sd_callV (k := k) (n := n) (d0 := d) (k0 := 0) (n0 := 0) (As := [.int l1, .int (2 : Int32)]) (st := [.int (2 : Int32), .int l1, .ref (mb 0)]) (pc := 94) dX3_moult_94 (ci := 2) rfl (mo_isC hM) rfl q2228 q2230 qs36 q91 q2231 2 (by decide +kernel) rfl (Nat.le_refl _) (by decide) (Nat.le_of_ble_eq_true rfl) (Cx.mono (cm_X3_of hM (by omega)  h) (mI.to (fun r38 ρ37 h => ?_)) (xo rfl))
                refine sd_iconst (pc := 97) dX3_moult_97 (v := 2) (by decide) ?_
                refine sd_iadd (pc := 98) dX3_moult_98 ?_
                refine sd_callV (k := k) (n := n) (d0 := d) (k0 := 0) (n0 := 0) (As := [.int l1, .int (2 : Int32), .int (r38 + (2 : Int32))]) (st := []) (pc := 99) dX3_moult_99 (ci := 2) rfl (mo_isC hM) rfl q2204 q2206 qs32 q91 q2207 3 (by decide +kernel) rfl (Nat.le_refl _) (by decide) (Nat.le_of_ble_eq_true rfl) (Cx.mono (cm_X3_put hM (by omega)  h) (mV.to (fun ρ39 h => ?_)) (xo rfl))
                refine sd_iinc (pc := 102) dX3_moult_102 1 rfl (v := (l1 + (1 : Int32))) rfl (by decide) (ls' := [(1, .int (l1 + (1 : Int32))), (0, .ref (mb 0))]) rfl ?_
                refine sd_goto (pc := 105) dX3_moult_105 (tgt := 2) (by decide) ?_
                exact sd_loc [1, 0] rfl (ih _ _ h)
              · have h := h.2 c41
                refine sd_sipush (pc := 85) dX3_moult_85 (v := 150) (by decide) ?_
                refine sd_goto (pc := 88) dX3_moult_88 (tgt := 99) (by decide) ?_
                refine sd_callV (k := k) (n := n) (d0 := d) (k0 := 0) (n0 := 0) (As := [.int l1, .int (2 : Int32), .int (150 : Int32)]) (st := []) (pc := 99) dX3_moult_99 (ci := 2) rfl (mo_isC hM) rfl q2204 q2206 qs32 q91 q2207 3 (by decide +kernel) rfl (Nat.le_refl _) (by decide) (Nat.le_of_ble_eq_true rfl) (Cx.mono (cm_X3_put hM (by omega)  h) (mV.to (fun ρ40 h => ?_)) (xo rfl))
                refine sd_iinc (pc := 102) dX3_moult_102 1 rfl (v := (l1 + (1 : Int32))) rfl (by decide) (ls' := [(1, .int (l1 + (1 : Int32))), (0, .ref (mb 0))]) rfl ?_
                refine sd_goto (pc := 105) dX3_moult_105 (tgt := 2) (by decide) ?_
                exact sd_loc [1, 0] rfl (ih _ _ h)
            · have h := h.2 c52
              refine sd_aload_n (pc := 60) dX3_moult_60 rfl 0 rfl ?_
              refine sd_callV (k := k) (n := n) (d0 := d) (k0 := 0) (n0 := 0) (As := []) (st := []) (pc := 61) dX3_moult_61 (ci := 2) rfl (mo_isC hM) rfl q2391 q2393 qs55 q91 q2394 0 (by decide +kernel) rfl (Nat.le_refl _) (by decide) (Nat.le_of_ble_eq_true rfl) (Cx.mono (cm_X3_month hM (by omega)  h) (mI.to (fun r43 ρ42 h => ?_)) (xo rfl))
              refine sd_iconst (pc := 64) dX3_moult_64 (v := 1) (by decide) ?_
              refine sd_icmpgt (pc := 65) dX3_moult_65 (tgt := 102) (by decide) ⟨fun c51 => ?_, fun c51 => ?_⟩
              · have h := h.1 c51
                refine sd_iinc (pc := 102) dX3_moult_102 1 rfl (v := (l1 + (1 : Int32))) rfl (by decide) (ls' := [(1, .int (l1 + (1 : Int32))), (0, .ref (mb 0))]) rfl ?_
                refine sd_goto (pc := 105) dX3_moult_105 (tgt := 2) (by decide) ?_
                exact sd_loc [1, 0] rfl (ih _ _ h)
              · have h := h.2 c51
                refine sd_aload_n (pc := 68) dX3_moult_68 rfl 0 rfl ?_
                refine sd_iload_n (pc := 69) dX3_moult_69 rfl 1 rfl ?_
                refine sd_iconst (pc := 70) dX3_moult_70 (v := 2) (by decide) ?_
                refine sd_aload_n (pc := 71) dX3_moult_71 rfl 0 rfl ?_
                refine sd_iload_n (pc := 72) dX3_moult_72 rfl 1 rfl ?_
                refine sd_iconst (pc := 73) dX3_moult_73 (v := 2) (by decide) ?_
                refine sd_callV (k := k) (n := n) (d0 := d) (k0 := 0) (n0 := 0) (As := [.int l1, .int (2 : Int32)]) (st := [.int (2 : Int32), .int l1, .ref (mb 0)]) (pc := 74) dX3_moult_74 (ci := 2) rfl (mo_isC hM) rfl q2228 q2230 qs36 q91 q2231 2 (by decide +kernel) rfl (Nat.le_refl _) (by decide) (Nat.le_of_ble_eq_true rfl) (Cx.mono (cm_X3_of hM (by omega)  h) (mI.to (fun r45 ρ44 h => ?_)) (xo rfl))
                refine sd_iconst (pc := 77) dX3_moult_77 (v := 2) (by decide) ?_
                refine sd_iadd (pc := 78) dX3_moult_78 ?_
                refine sd_sipush (pc := 79) dX3_moult_79 (v := 150) (by decide) ?_
                refine sd_icmple (pc := 82) dX3_moult_82 (tgt := 91) (by decide) ⟨fun c50 => ?_, fun c50 => ?_⟩
                · have h := h.1 c50
                  refine sd_aload_n (pc := 91) dX3_moult_91 rfl 0 rfl ?_
                  refine sd_iload_n (pc := 92) dX3_moult_92 rfl 1 rfl ?_
                  refine sd_iconst (pc := 93) dX3_moult_93 (v := 2) (by decide) ?_
                  refine sd_callV (k := k) (n := n) (d0 := d) (k0 := 0) (n0 := 0) (As := [.int l1, .int (2 : Int32)]) (st := [.int (2 : Int32), .int l1, .ref (mb 0)]) (pc := 94) dX3_moult_94 (ci := 2) rfl (mo_isC hM) rfl q2228 q2230 qs36 q91 q2231 2 (by decide +kernel) rfl (Nat.le_refl _) (by decide) (Nat.le_of_ble_eq_true rfl) (Cx.mono (cm_X3_of hM (by omega)  h) (mI.to (fun r47 ρ46 h => ?_)) (xo rfl))
                  refine sd_iconst (pc := 97) dX3_moult_97 (v := 2) (by decide) ?_
                  refine sd_iadd (pc := 98) dX3_moult_98 ?_
                  refine sd_callV (k := k) (n := n) (d0 := d) (k0 := 0) (n0 := 0) (As := [.int l1, .int (2 : Int32), .int (r47 + (2 : Int32))]) (st := []) (pc := 99) dX3_moult_99 (ci := 2) rfl (mo_isC hM) rfl q2204 q2206 qs32 q91 q2207 3 (by decide +kernel) rfl (Nat.le_refl _) (by decide) (Nat.le_of_ble_eq_true rfl) (Cx.mono (cm_X3_put hM (by omega)  h) (mV.to (fun ρ48 h => ?_)) (xo rfl))
                  refine sd_iinc (pc := 102) dX3_moult_102 1 rfl (v := (l1 + (1 : Int32))) rfl (by decide) (ls' := [(1, .int (l1 + (1 : Int32))), (0, .ref (mb 0))]) rfl ?_
                  refine sd_goto (pc := 105) dX3_moult_105 (tgt := 2) (by decide) ?_
                  exact sd_loc [1, 0] rfl (ih _ _ h)
                · have h := h.2 c50
                  refine sd_sipush (pc := 85) dX3_moult_85 (v := 150) (by decide) ?_
                  refine sd_goto (pc := 88) dX3_moult_88 (tgt := 99) (by decide) ?_
                  refine sd_callV (k := k) (n := n) (d0 := d) (k0 := 0) (n0 := 0) (As := [.int l1, .int (2 : Int32), .int (150 : Int32)]) (st := []) (pc := 99) dX3_moult_99 (ci := 2) rfl (mo_isC hM) rfl q2204 q2206 qs32 q91 q2207 3 (by decide +kernel) rfl (Nat.le_refl _) (by decide) (Nat.le_of_ble_eq_true rfl) (Cx.mono (cm_X3_put hM (by omega)  h) (mV.to (fun ρ49 h => ?_)) (xo rfl))
                  refine sd_iinc (pc := 102) dX3_moult_102 1 rfl (v := (l1 + (1 : Int32))) rfl (by decide) (ls' := [(1, .int (l1 + (1 : Int32))), (0, .ref (mb 0))]) rfl ?_
                  refine sd_goto (pc := 105) dX3_moult_105 (tgt := 2) (by decide) ?_
                  exact sd_loc [1, 0] rfl (ih _ _ h)
        · have h := h.2 c55
          refine sd_aload_n (pc := 35) dX3_moult_35 rfl 0 rfl ?_
          refine sd_iload_n (pc := 36) dX3_moult_36 rfl 1 rfl ?_
          refine sd_callV (k := k) (n := n) (d0 := d) (k0 := 0) (n0 := 0) (As := [.int l1]) (st := []) (pc := 37) dX3_moult_37 (ci := 2) rfl (mo_isC hM) rfl q2399 q2401 qs57 q91 q2402 1 (by decide +kernel) rfl (Nat.le_refl _) (by decide) (Nat.le_of_ble_eq_true rfl) (Cx.mono (cm_X3_shedOf hM (by omega)  h) (mV.to (fun ρ54 h => ?_)) (xo rfl))
          refine sd_goto (pc := 40) dX3_moult_40 (tgt := 102) (by decide) ?_
          refine sd_iinc (pc := 102) dX3_moult_102 1 rfl (v := (l1 + (1 : Int32))) rfl (by decide) (ls' := [(1, .int (l1 + (1 : Int32))), (0, .ref (mb 0))]) rfl ?_
          refine sd_goto (pc := 105) dX3_moult_105 (tgt := 2) (by decide) ?_
          exact sd_loc [1, 0] rfl (ih _ _ h)
theorem okM_X3_moult_2 {en : yEn} {mb : Nat → Nat} {σ : yH} (hM : mOK en mb σ) {d : Nat} (hd : 3 ≤ d + 1) {K : yMS → Prop} {X : String → Addr → yH → Prop} {k n : Nat} (l1 : Int32) (ρ : yMS) (h : wpM_X3_moult_2  l1 ρ K) : Wx en (d + 1) mX3_moult 2 [(0, .ref (mb 0)), (1, .int l1)] [] (mH en mb ρ σ) k n (mQ en mb σ (mV K)) X := by
  obtain ⟨nn, h⟩ := h
  exact olM_X3_moult_2 hM hd  nn _ _ h
def wpM_X3_moult (ρ : yMS)  (K : yMS → Prop) : Prop :=
  wpM_X3_moult_2  (0 : Int32) ρ K
theorem okM_X3_moult {en : yEn} {mb : Nat → Nat} {σ : yH} (hM : mOK en mb σ) {d : Nat} (hd : 3 ≤ d + 1) {ρ : yMS}  {K : yMS → Prop} {X : String → Addr → yH → Prop} {k n : Nat}  (h : wpM_X3_moult ρ  K) : Wx en (d + 1) mX3_moult 0 [(0, .ref (mb 0))] [] (mH en mb ρ σ) k n (mQ en mb σ (mV K)) X := by
  unfold wpM_X3_moult at h
  refine sd_iconst (pc := 0) dX3_moult_0 (v := 0) (by decide) ?_
  refine sd_istore_n (pc := 1) dX3_moult_1 rfl (by decide) (ls' := [(1, .int (0 : Int32)), (0, .ref (mb 0))]) rfl ?_
  exact sd_loc [1, 0] rfl (okM_X3_moult_2 hM (by omega)  _ _ h)
theorem cm_X3_moult {en : yEn} {mb : Nat → Nat} {σ : yH} (hM : mOK en mb σ) {d : Nat} (hd : 3 ≤ d) {ρ : yMS}  {K : yMS → Prop} {X : String → Addr → yH → Prop}  (h : wpM_X3_moult ρ  K) : Cx en d 0 0 mX3_moult [.ref (mb 0)] (mH en mb ρ σ) (mQ en mb σ (mV K)) X := by
  obtain ⟨d, rfl⟩ : ∃ e, d = e + 1 := ⟨d - 1, by omega⟩
  exact Cx.body (by decide +kernel) rfl (Nat.le_of_ble_eq_true rfl) (okM_X3_moult hM (by omega)  h)
/-! prowl()V -/
def wpM_X3_prowl_42 (l1 : Int32) (ρ : yMS) (K : yMS → Prop) : Prop :=
  mAld ρ 1 (10 : Int32) (fun v10 => (((v10 ≤ l1) → mAld ρ 1 (1 : Int32) (fun v11 => wpM_X3_goes ρ v11 (9 : Int32) (fun r13 ρ12 => mAst ρ12 1 (1 : Int32) r13 (fun ρ14 => K ρ14)))) ∧ (¬ (v10 ≤ l1) → wpM_X3_of ρ l1 (2 : Int32) (fun r16 ρ15 => wpM_X3_put ρ15 l1 (2 : Int32) (r16 - (1 : Int32)) (fun ρ17 => wpM_X3_of ρ17 l1 (2 : Int32) (fun r19 ρ18 => ((¬ (r19 = 0) → wpM_X3_of ρ18 l1 (3 : Int32) (fun r21 ρ20 => wpM_X3_put ρ20 l1 (3 : Int32) r21 (fun ρ22 => mAld ρ22 1 (8 : Int32) (fun v23 => mAst ρ22 1 (8 : Int32) (v23 + (1 : Int32)) (fun ρ24 => mAld ρ24 1 (1 : Int32) (fun v25 => wpM_X3_goes ρ24 v25 (9 : Int32) (fun r27 ρ26 => mAst ρ26 1 (1 : Int32) r27 (fun ρ28 => K ρ28)))))))) ∧ ((r19 = 0) → wpM_X3_put ρ18 l1 (3 : Int32) (0 : Int32) (fun ρ29 => mAld ρ29 1 (8 : Int32) (fun v30 => mAst ρ29 1 (8 : Int32) (v30 + (1 : Int32)) (fun ρ31 => mAld ρ31 1 (1 : Int32) (fun v32 => wpM_X3_goes ρ31 v32 (9 : Int32) (fun r34 ρ33 => mAst ρ33 1 (1 : Int32) r34 (fun ρ35 => K ρ35))))))))))))))
theorem okM_X3_prowl_42 {en : yEn} {mb : Nat → Nat} {σ : yH} (hM : mOK en mb σ) {d : Nat} (hd : 6 ≤ d + 1) {K : yMS → Prop} {X : String → Addr → yH → Prop} {k n : Nat} (l1 : Int32) (ρ : yMS) (h : wpM_X3_prowl_42  l1 ρ K) : Wx en (d + 1) mX3_prowl 42 [(0, .ref (mb 0)), (1, .int l1)] [] (mH en mb ρ σ) k n (mQ en mb σ (mV K)) X := by
  unfold wpM_X3_prowl_42 at h
  refine sd_iload_n (pc := 42) dX3_prowl_42 rfl 1 rfl ?_
  refine sd_aload_n (pc := 43) dX3_prowl_43 rfl 0 rfl ?_
  refine sd_getR (pc := 44) dX3_prowl_44 (ci := 2) rfl in_X3 (kf := 1) (by decide) q2074 (mo_gR hM (j := 1) rfl ?_)
  refine sd_bipush (pc := 47) dX3_prowl_47 (v := 10) (by decide) ?_
  refine sd_iaload (pc := 49) dX3_prowl_49 (mAld.to hM h (fun v10 h => ?_))
  refine sd_icmpge (pc := 50) dX3_prowl_50 (tgt := 103) (by decide) ⟨fun c37 => ?_, fun c37 => ?_⟩
  · have h := h.1 c37
    refine sd_aload_n (pc := 103) dX3_prowl_103 rfl 0 rfl ?_
    refine sd_getR (pc := 104) dX3_prowl_104 (ci := 2) rfl in_X3 (kf := 1) (by decide) q2074 (mo_gR hM (j := 1) rfl ?_)
    refine sd_iconst (pc := 107) dX3_prowl_107 (v := 1) (by decide) ?_
    refine sd_aload_n (pc := 108) dX3_prowl_108 rfl 0 rfl ?_
    refine sd_aload_n (pc := 109) dX3_prowl_109 rfl 0 rfl ?_
    refine sd_getR (pc := 110) dX3_prowl_110 (ci := 2) rfl in_X3 (kf := 1) (by decide) q2074 (mo_gR hM (j := 1) rfl ?_)
    refine sd_iconst (pc := 113) dX3_prowl_113 (v := 1) (by decide) ?_
    refine sd_iaload (pc := 114) dX3_prowl_114 (mAld.to hM h (fun v11 h => ?_))
    refine sd_bipush (pc := 115) dX3_prowl_115 (v := 9) (by decide) ?_
    refine sd_callV (k := k) (n := n) (d0 := d) (k0 := 0) (n0 := 0) (As := [.int v11, .int (9 : Int32)]) (st := [.int (1 : Int32), .ref (mb 1)]) (pc := 117) dX3_prowl_117 (ci := 2) rfl (mo_isC hM) rfl q2252 q2254 qs40 q91 q2255 2 (by decide +kernel) rfl (Nat.le_refl _) (by decide) (Nat.le_of_ble_eq_true rfl) (Cx.mono (cm_X3_goes hM (by omega)  h) (mI.to (fun r13 ρ12 h => ?_)) (xo rfl))
    refine sd_iastore (pc := 120) dX3_prowl_120 (mAst.to hM h (fun ρ14 h => ?_))
    exact sd_return (pc := 121) dX3_prowl_121 rfl (mV.ok h)
  · have h := h.2 c37
    refine sd_aload_n (pc := 53) dX3_prowl_53 rfl 0 rfl ?_
    refine sd_iload_n (pc := 54) dX3_prowl_54 rfl 1 rfl ?_
    refine sd_iconst (pc := 55) dX3_prowl_55 (v := 2) (by decide) ?_
    refine sd_aload_n (pc := 56) dX3_prowl_56 rfl 0 rfl ?_
    refine sd_iload_n (pc := 57) dX3_prowl_57 rfl 1 rfl ?_
    refine sd_iconst (pc := 58) dX3_prowl_58 (v := 2) (by decide) ?_
    refine sd_callV (k := k) (n := n) (d0 := d) (k0 := 0) (n0 := 0) (As := [.int l1, .int (2 : Int32)]) (st := [.int (2 : Int32), .int l1, .ref (mb 0)]) (pc := 59) dX3_prowl_59 (ci := 2) rfl (mo_isC hM) rfl q2228 q2230 qs36 q91 q2231 2 (by decide +kernel) rfl (Nat.le_refl _) (by decide) (Nat.le_of_ble_eq_true rfl) (Cx.mono (cm_X3_of hM (by omega)  h) (mI.to (fun r16 ρ15 h => ?_)) (xo rfl))
    refine sd_iconst (pc := 62) dX3_prowl_62 (v := 1) (by decide) ?_
    refine sd_isub (pc := 63) dX3_prowl_63 ?_
    refine sd_callV (k := k) (n := n) (d0 := d) (k0 := 0) (n0 := 0) (As := [.int l1, .int (2 : Int32), .int (r16 - (1 : Int32))]) (st := []) (pc := 64) dX3_prowl_64 (ci := 2) rfl (mo_isC hM) rfl q2204 q2206 qs32 q91 q2207 3 (by decide +kernel) rfl (Nat.le_refl _) (by decide) (Nat.le_of_ble_eq_true rfl) (Cx.mono (cm_X3_put hM (by omega)  h) (mV.to (fun ρ17 h => ?_)) (xo rfl))
    refine sd_aload_n (pc := 67) dX3_prowl_67 rfl 0 rfl ?_
    refine sd_iload_n (pc := 68) dX3_prowl_68 rfl 1 rfl ?_
    refine sd_iconst (pc := 69) dX3_prowl_69 (v := 3) (by decide) ?_
    refine sd_aload_n (pc := 70) dX3_prowl_70 rfl 0 rfl ?_
    refine sd_iload_n (pc := 71) dX3_prowl_71 rfl 1 rfl ?_
    refine sd_iconst (pc := 72) dX3_prowl_72 (v := 2) (by decide) ?_
    refine sd_callV (k := k) (n := n) (d0 := d) (k0 := 0) (n0 := 0) (As := [.int l1, .int (2 : Int32)]) (st := [.int (3 : Int32), .int l1, .ref (mb 0)]) (pc := 73) dX3_prowl_73 (ci := 2) rfl (mo_isC hM) rfl q2228 q2230 qs36 q91 q2231 2 (by decide +kernel) rfl (Nat.le_refl _) (by decide) (Nat.le_of_ble_eq_true rfl) (Cx.mono (cm_X3_of hM (by omega)  h) (mI.to (fun r19 ρ18 h => ?_)) (xo rfl))
    refine sd_ifne (pc := 76) dX3_prowl_76 (tgt := 83) (by decide) ⟨fun c36 => ?_, fun c36 => ?_⟩
    · have h := h.1 c36
      refine sd_aload_n (pc := 83) dX3_prowl_83 rfl 0 rfl ?_
      refine sd_iload_n (pc := 84) dX3_prowl_84 rfl 1 rfl ?_
      refine sd_iconst (pc := 85) dX3_prowl_85 (v := 3) (by decide) ?_
      refine sd_callV (k := k) (n := n) (d0 := d) (k0 := 0) (n0 := 0) (As := [.int l1, .int (3 : Int32)]) (st := [.int (3 : Int32), .int l1, .ref (mb 0)]) (pc := 86) dX3_prowl_86 (ci := 2) rfl (mo_isC hM) rfl q2228 q2230 qs36 q91 q2231 2 (by decide +kernel) rfl (Nat.le_refl _) (by decide) (Nat.le_of_ble_eq_true rfl) (Cx.mono (cm_X3_of hM (by omega)  h) (mI.to (fun r21 ρ20 h => ?_)) (xo rfl))
      refine sd_callV (k := k) (n := n) (d0 := d) (k0 := 0) (n0 := 0) (As := [.int l1, .int (3 : Int32), .int r21]) (st := []) (pc := 89) dX3_prowl_89 (ci := 2) rfl (mo_isC hM) rfl q2204 q2206 qs32 q91 q2207 3 (by decide +kernel) rfl (Nat.le_refl _) (by decide) (Nat.le_of_ble_eq_true rfl) (Cx.mono (cm_X3_put hM (by omega)  h) (mV.to (fun ρ22 h => ?_)) (xo rfl))
      refine sd_aload_n (pc := 92) dX3_prowl_92 rfl 0 rfl ?_
      refine sd_getR (pc := 93) dX3_prowl_93 (ci := 2) rfl in_X3 (kf := 1) (by decide) q2074 (mo_gR hM (j := 1) rfl ?_)
      refine sd_bipush (pc := 96) dX3_prowl_96 (v := 8) (by decide) ?_
      refine sd_dup2 (pc := 98) dX3_prowl_98 rfl rfl ?_
      refine sd_iaload (pc := 99) dX3_prowl_99 (mAld.to hM h (fun v23 h => ?_))
      refine sd_iconst (pc := 100) dX3_prowl_100 (v := 1) (by decide) ?_
      refine sd_iadd (pc := 101) dX3_prowl_101 ?_
      refine sd_iastore (pc := 102) dX3_prowl_102 (mAst.to hM h (fun ρ24 h => ?_))
      refine sd_aload_n (pc := 103) dX3_prowl_103 rfl 0 rfl ?_
      refine sd_getR (pc := 104) dX3_prowl_104 (ci := 2) rfl in_X3 (kf := 1) (by decide) q2074 (mo_gR hM (j := 1) rfl ?_)
      refine sd_iconst (pc := 107) dX3_prowl_107 (v := 1) (by decide) ?_
      refine sd_aload_n (pc := 108) dX3_prowl_108 rfl 0 rfl ?_
      refine sd_aload_n (pc := 109) dX3_prowl_109 rfl 0 rfl ?_
      refine sd_getR (pc := 110) dX3_prowl_110 (ci := 2) rfl in_X3 (kf := 1) (by decide) q2074 (mo_gR hM (j := 1) rfl ?_)
      refine sd_iconst (pc := 113) dX3_prowl_113 (v := 1) (by decide) ?_
      refine sd_iaload (pc := 114) dX3_prowl_114 (mAld.to hM h (fun v25 h => ?_))
      refine sd_bipush (pc := 115) dX3_prowl_115 (v := 9) (by decide) ?_
      refine sd_callV (k := k) (n := n) (d0 := d) (k0 := 0) (n0 := 0) (As := [.int v25, .int (9 : Int32)]) (st := [.int (1 : Int32), .ref (mb 1)]) (pc := 117) dX3_prowl_117 (ci := 2) rfl (mo_isC hM) rfl q2252 q2254 qs40 q91 q2255 2 (by decide +kernel) rfl (Nat.le_refl _) (by decide) (Nat.le_of_ble_eq_true rfl) (Cx.mono (cm_X3_goes hM (by omega)  h) (mI.to (fun r27 ρ26 h => ?_)) (xo rfl))
      refine sd_iastore (pc := 120) dX3_prowl_120 (mAst.to hM h (fun ρ28 h => ?_))
      exact sd_return (pc := 121) dX3_prowl_121 rfl (mV.ok h)
    · have h := h.2 c36
      refine sd_iconst (pc := 79) dX3_prowl_79 (v := 0) (by decide) ?_
      refine sd_goto (pc := 80) dX3_prowl_80 (tgt := 89) (by decide) ?_
      refine sd_callV (k := k) (n := n) (d0 := d) (k0 := 0) (n0 := 0) (As := [.int l1, .int (3 : Int32), .int (0 : Int32)]) (st := []) (pc := 89) dX3_prowl_89 (ci := 2) rfl (mo_isC hM) rfl q2204 q2206 qs32 q91 q2207 3 (by decide +kernel) rfl (Nat.le_refl _) (by decide) (Nat.le_of_ble_eq_true rfl) (Cx.mono (cm_X3_put hM (by omega)  h) (mV.to (fun ρ29 h => ?_)) (xo rfl))
      refine sd_aload_n (pc := 92) dX3_prowl_92 rfl 0 rfl ?_
      refine sd_getR (pc := 93) dX3_prowl_93 (ci := 2) rfl in_X3 (kf := 1) (by decide) q2074 (mo_gR hM (j := 1) rfl ?_)
      refine sd_bipush (pc := 96) dX3_prowl_96 (v := 8) (by decide) ?_
      refine sd_dup2 (pc := 98) dX3_prowl_98 rfl rfl ?_
      refine sd_iaload (pc := 99) dX3_prowl_99 (mAld.to hM h (fun v30 h => ?_))
      refine sd_iconst (pc := 100) dX3_prowl_100 (v := 1) (by decide) ?_
      refine sd_iadd (pc := 101) dX3_prowl_101 ?_
      refine sd_iastore (pc := 102) dX3_prowl_102 (mAst.to hM h (fun ρ31 h => ?_))
      refine sd_aload_n (pc := 103) dX3_prowl_103 rfl 0 rfl ?_
      refine sd_getR (pc := 104) dX3_prowl_104 (ci := 2) rfl in_X3 (kf := 1) (by decide) q2074 (mo_gR hM (j := 1) rfl ?_)
      refine sd_iconst (pc := 107) dX3_prowl_107 (v := 1) (by decide) ?_
      refine sd_aload_n (pc := 108) dX3_prowl_108 rfl 0 rfl ?_
      refine sd_aload_n (pc := 109) dX3_prowl_109 rfl 0 rfl ?_
      refine sd_getR (pc := 110) dX3_prowl_110 (ci := 2) rfl in_X3 (kf := 1) (by decide) q2074 (mo_gR hM (j := 1) rfl ?_)
      refine sd_iconst (pc := 113) dX3_prowl_113 (v := 1) (by decide) ?_
      refine sd_iaload (pc := 114) dX3_prowl_114 (mAld.to hM h (fun v32 h => ?_))
      refine sd_bipush (pc := 115) dX3_prowl_115 (v := 9) (by decide) ?_
      refine sd_callV (k := k) (n := n) (d0 := d) (k0 := 0) (n0 := 0) (As := [.int v32, .int (9 : Int32)]) (st := [.int (1 : Int32), .ref (mb 1)]) (pc := 117) dX3_prowl_117 (ci := 2) rfl (mo_isC hM) rfl q2252 q2254 qs40 q91 q2255 2 (by decide +kernel) rfl (Nat.le_refl _) (by decide) (Nat.le_of_ble_eq_true rfl) (Cx.mono (cm_X3_goes hM (by omega)  h) (mI.to (fun r34 ρ33 h => ?_)) (xo rfl))
      refine sd_iastore (pc := 120) dX3_prowl_120 (mAst.to hM h (fun ρ35 h => ?_))
      exact sd_return (pc := 121) dX3_prowl_121 rfl (mV.ok h)
def stM_X3_prowl_2 (K : yMS → Prop) (rec : Int32 → yMS → Prop) (l1 : Int32) (ρ : yMS) : Prop :=
  mAld ρ 1 (10 : Int32) (fun v1 => (((v1 ≤ l1) → wpM_X3_prowl_42  l1 ρ K) ∧ (¬ (v1 ≤ l1) → wpM_X3_hasEggs ρ l1 (fun r3 ρ2 => (((r3 = 0) → rec (l1 + (1 : Int32)) ρ2) ∧ (¬ (r3 = 0) → wpM_X3_of ρ2 l1 (1 : Int32) (fun r5 ρ4 => mAld ρ4 1 (1 : Int32) (fun v6 => (((r5 = v6) → wpM_X3_prowl_42  l1 ρ4 K) ∧ (¬ (r5 = v6) → rec (l1 + (1 : Int32)) ρ4))))))))))
def lpM_X3_prowl_2 (K : yMS → Prop) : Nat → Int32 × yMS → Prop := lpN (fun r s => stM_X3_prowl_2  K (fun l1 ρ => r (l1, ρ)) s.1 s.2)
def wpM_X3_prowl_2 (l1 : Int32) (ρ : yMS) (K : yMS → Prop) : Prop := ∃ nn, lpM_X3_prowl_2  K nn (l1, ρ)
theorem olM_X3_prowl_2 {en : yEn} {mb : Nat → Nat} {σ : yH} (hM : mOK en mb σ) {d : Nat} (hd : 6 ≤ d + 1) {K : yMS → Prop} {X : String → Addr → yH → Prop} {k n : Nat} : ∀ (nn : Nat) (l1 : Int32) (ρ : yMS), lpM_X3_prowl_2  K nn (l1, ρ) → Wx en (d + 1) mX3_prowl 2 [(0, .ref (mb 0)), (1, .int l1)] [] (mH en mb ρ σ) k n (mQ en mb σ (mV K)) X := by
  intro nn
  induction nn with
  | zero => intros; rename_i h; exact h.elim
  | succ nn ih =>
    intro l1 ρ h
    replace h : stM_X3_prowl_2  K (fun l1 ρ => lpM_X3_prowl_2  K nn (l1, ρ)) l1 ρ := h
    unfold stM_X3_prowl_2 at h
    refine sd_iload_n (pc := 2) dX3_prowl_2 rfl 1 rfl ?_
    refine sd_aload_n (pc := 3) dX3_prowl_3 rfl 0 rfl ?_
    refine sd_getR (pc := 4) dX3_prowl_4 (ci := 2) rfl in_X3 (kf := 1) (by decide) q2074 (mo_gR hM (j := 1) rfl ?_)
    refine sd_bipush (pc := 7) dX3_prowl_7 (v := 10) (by decide) ?_
    refine sd_iaload (pc := 9) dX3_prowl_9 (mAld.to hM h (fun v1 h => ?_))
    refine sd_icmpge (pc := 10) dX3_prowl_10 (tgt := 42) (by decide) ⟨fun c9 => ?_, fun c9 => ?_⟩
    · have h := h.1 c9
      exact (okM_X3_prowl_42 hM (by omega)  _ _ h)
    · have h := h.2 c9
      refine sd_aload_n (pc := 13) dX3_prowl_13 rfl 0 rfl ?_
      refine sd_iload_n (pc := 14) dX3_prowl_14 rfl 1 rfl ?_
      refine sd_callV (k := k) (n := n) (d0 := d) (k0 := 0) (n0 := 0) (As := [.int l1]) (st := []) (pc := 15) dX3_prowl_15 (ci := 2) rfl (mo_isC hM) rfl q2248 q2250 qs39 q91 q2251 1 (by decide +kernel) rfl (Nat.le_refl _) (by decide) (Nat.le_of_ble_eq_true rfl) (Cx.mono (cm_X3_hasEggs hM (by omega)  h) (mI.to (fun r3 ρ2 h => ?_)) (xo rfl))
      refine sd_ifeq (pc := 18) dX3_prowl_18 (tgt := 36) (by decide) ⟨fun c8 => ?_, fun c8 => ?_⟩
      · have h := h.1 c8
        refine sd_iinc (pc := 36) dX3_prowl_36 1 rfl (v := (l1 + (1 : Int32))) rfl (by decide) (ls' := [(1, .int (l1 + (1 : Int32))), (0, .ref (mb 0))]) rfl ?_
        refine sd_goto (pc := 39) dX3_prowl_39 (tgt := 2) (by decide) ?_
        exact sd_loc [1, 0] rfl (ih _ _ h)
      · have h := h.2 c8
        refine sd_aload_n (pc := 21) dX3_prowl_21 rfl 0 rfl ?_
        refine sd_iload_n (pc := 22) dX3_prowl_22 rfl 1 rfl ?_
        refine sd_iconst (pc := 23) dX3_prowl_23 (v := 1) (by decide) ?_
        refine sd_callV (k := k) (n := n) (d0 := d) (k0 := 0) (n0 := 0) (As := [.int l1, .int (1 : Int32)]) (st := []) (pc := 24) dX3_prowl_24 (ci := 2) rfl (mo_isC hM) rfl q2228 q2230 qs36 q91 q2231 2 (by decide +kernel) rfl (Nat.le_refl _) (by decide) (Nat.le_of_ble_eq_true rfl) (Cx.mono (cm_X3_of hM (by omega)  h) (mI.to (fun r5 ρ4 h => ?_)) (xo rfl))
        refine sd_aload_n (pc := 27) dX3_prowl_27 rfl 0 rfl ?_
        refine sd_getR (pc := 28) dX3_prowl_28 (ci := 2) rfl in_X3 (kf := 1) (by decide) q2074 (mo_gR hM (j := 1) rfl ?_)
        refine sd_iconst (pc := 31) dX3_prowl_31 (v := 1) (by decide) ?_
        refine sd_iaload (pc := 32) dX3_prowl_32 (mAld.to hM h (fun v6 h => ?_))
        refine sd_icmpeq (pc := 33) dX3_prowl_33 (tgt := 42) (by decide) ⟨fun c7 => ?_, fun c7 => ?_⟩
        · have h := h.1 c7
          exact (okM_X3_prowl_42 hM (by omega)  _ _ h)
        · have h := h.2 c7
          refine sd_iinc (pc := 36) dX3_prowl_36 1 rfl (v := (l1 + (1 : Int32))) rfl (by decide) (ls' := [(1, .int (l1 + (1 : Int32))), (0, .ref (mb 0))]) rfl ?_
          refine sd_goto (pc := 39) dX3_prowl_39 (tgt := 2) (by decide) ?_
          exact sd_loc [1, 0] rfl (ih _ _ h)
theorem okM_X3_prowl_2 {en : yEn} {mb : Nat → Nat} {σ : yH} (hM : mOK en mb σ) {d : Nat} (hd : 6 ≤ d + 1) {K : yMS → Prop} {X : String → Addr → yH → Prop} {k n : Nat} (l1 : Int32) (ρ : yMS) (h : wpM_X3_prowl_2  l1 ρ K) : Wx en (d + 1) mX3_prowl 2 [(0, .ref (mb 0)), (1, .int l1)] [] (mH en mb ρ σ) k n (mQ en mb σ (mV K)) X := by
  obtain ⟨nn, h⟩ := h
  exact olM_X3_prowl_2 hM hd  nn _ _ h
def wpM_X3_prowl (ρ : yMS)  (K : yMS → Prop) : Prop :=
  wpM_X3_prowl_2  (0 : Int32) ρ K
theorem okM_X3_prowl {en : yEn} {mb : Nat → Nat} {σ : yH} (hM : mOK en mb σ) {d : Nat} (hd : 6 ≤ d + 1) {ρ : yMS}  {K : yMS → Prop} {X : String → Addr → yH → Prop} {k n : Nat}  (h : wpM_X3_prowl ρ  K) : Wx en (d + 1) mX3_prowl 0 [(0, .ref (mb 0))] [] (mH en mb ρ σ) k n (mQ en mb σ (mV K)) X := by
  unfold wpM_X3_prowl at h
  refine sd_iconst (pc := 0) dX3_prowl_0 (v := 0) (by decide) ?_
  refine sd_istore_n (pc := 1) dX3_prowl_1 rfl (by decide) (ls' := [(1, .int (0 : Int32)), (0, .ref (mb 0))]) rfl ?_
  exact sd_loc [1, 0] rfl (okM_X3_prowl_2 hM (by omega)  _ _ h)
theorem cm_X3_prowl {en : yEn} {mb : Nat → Nat} {σ : yH} (hM : mOK en mb σ) {d : Nat} (hd : 6 ≤ d) {ρ : yMS}  {K : yMS → Prop} {X : String → Addr → yH → Prop}  (h : wpM_X3_prowl ρ  K) : Cx en d 0 0 mX3_prowl [.ref (mb 0)] (mH en mb ρ σ) (mQ en mb σ (mV K)) X := by
  obtain ⟨d, rfl⟩ : ∃ e, d = e + 1 := ⟨d - 1, by omega⟩
  exact Cx.body (by decide +kernel) rfl (Nat.le_of_ble_eq_true rfl) (okM_X3_prowl hM (by omega)  h)
/-! hatch(I)V -/
def stM_X3_hatch_19 (K : yMS → Prop) (rec : Int32 → Int32 → yMS → Prop) (l1 : Int32) (l2 : Int32) (ρ : yMS) : Prop :=
  (((l2 ≤ 0) → wpM_X3_put ρ l1 (2 : Int32) (0 : Int32) (fun ρ4 => wpM_X3_put ρ4 l1 (3 : Int32) (0 : Int32) (fun ρ5 => K ρ5))) ∧ (¬ (l2 ≤ 0) → mAld ρ 1 (10 : Int32) (fun v6 => ((((12 : Int32) ≤ v6) → wpM_X3_put ρ l1 (2 : Int32) (0 : Int32) (fun ρ7 => wpM_X3_put ρ7 l1 (3 : Int32) (0 : Int32) (fun ρ8 => K ρ8))) ∧ (¬ ((12 : Int32) ≤ v6) → mAld ρ 1 (10 : Int32) (fun v9 => wpM_X3_of ρ l1 (1 : Int32) (fun r13 ρ12 => wpM_X3_addBird ρ12 (if ((if ((v9 - v9 / (2 : Int32) * (2 : Int32)) = 0) then (1 : Int32) else (0 : Int32)) = 0) then (1 : Int32) else (0 : Int32)) r13 (0 : Int32) (if ((if ((v9 - v9 / (2 : Int32) * (2 : Int32)) = 0) then (1 : Int32) else (0 : Int32)) = 0) then (0 : Int32) else (1 : Int32)) l1 (fun r16 ρ15 => mAld ρ15 1 (7 : Int32) (fun v17 => mAst ρ15 1 (7 : Int32) (v17 + (1 : Int32)) (fun ρ18 => rec l1 (l2 + (-1)) ρ18))))))))))
def lpM_X3_hatch_19 (K : yMS → Prop) : Nat → Int32 × Int32 × yMS → Prop := lpN (fun r s => stM_X3_hatch_19  K (fun l1 l2 ρ => r (l1, l2, ρ)) s.1 s.2.1 s.2.2)
def wpM_X3_hatch_19 (l1 : Int32) (l2 : Int32) (ρ : yMS) (K : yMS → Prop) : Prop := ∃ nn, lpM_X3_hatch_19  K nn (l1, l2, ρ)
theorem olM_X3_hatch_19 {en : yEn} {mb : Nat → Nat} {σ : yH} (hM : mOK en mb σ) {d : Nat} (hd : 3 ≤ d + 1) {K : yMS → Prop} {X : String → Addr → yH → Prop} {k n : Nat} : ∀ (nn : Nat) (l1 : Int32) (l2 : Int32) (ρ : yMS), lpM_X3_hatch_19  K nn (l1, l2, ρ) → Wx en (d + 1) mX3_hatch 19 [(0, .ref (mb 0)), (1, .int l1), (2, .int l2)] [] (mH en mb ρ σ) k n (mQ en mb σ (mV K)) X := by
  intro nn
  induction nn with
  | zero => intros; rename_i h; exact h.elim
  | succ nn ih =>
    intro l1 l2 ρ h
    replace h : stM_X3_hatch_19  K (fun l1 l2 ρ => lpM_X3_hatch_19  K nn (l1, l2, ρ)) l1 l2 ρ := h
    unfold stM_X3_hatch_19 at h
    refine sd_iload_n (pc := 19) dX3_hatch_19 rfl 2 rfl ?_
    refine sd_ifle (pc := 20) dX3_hatch_20 (tgt := 101) (by decide) ⟨fun c20 => ?_, fun c20 => ?_⟩
    · have h := h.1 c20
      refine sd_aload_n (pc := 101) dX3_hatch_101 rfl 0 rfl ?_
      refine sd_iload_n (pc := 102) dX3_hatch_102 rfl 1 rfl ?_
      refine sd_iconst (pc := 103) dX3_hatch_103 (v := 2) (by decide) ?_
      refine sd_iconst (pc := 104) dX3_hatch_104 (v := 0) (by decide) ?_
      refine sd_callV (k := k) (n := n) (d0 := d) (k0 := 0) (n0 := 0) (As := [.int l1, .int (2 : Int32), .int (0 : Int32)]) (st := []) (pc := 105) dX3_hatch_105 (ci := 2) rfl (mo_isC hM) rfl q2204 q2206 qs32 q91 q2207 3 (by decide +kernel) rfl (Nat.le_refl _) (by decide) (Nat.le_of_ble_eq_true rfl) (Cx.mono (cm_X3_put hM (by omega)  h) (mV.to (fun ρ4 h => ?_)) (xo rfl))
      refine sd_aload_n (pc := 108) dX3_hatch_108 rfl 0 rfl ?_
      refine sd_iload_n (pc := 109) dX3_hatch_109 rfl 1 rfl ?_
      refine sd_iconst (pc := 110) dX3_hatch_110 (v := 3) (by decide) ?_
      refine sd_iconst (pc := 111) dX3_hatch_111 (v := 0) (by decide) ?_
      refine sd_callV (k := k) (n := n) (d0 := d) (k0 := 0) (n0 := 0) (As := [.int l1, .int (3 : Int32), .int (0 : Int32)]) (st := []) (pc := 112) dX3_hatch_112 (ci := 2) rfl (mo_isC hM) rfl q2204 q2206 qs32 q91 q2207 3 (by decide +kernel) rfl (Nat.le_refl _) (by decide) (Nat.le_of_ble_eq_true rfl) (Cx.mono (cm_X3_put hM (by omega)  h) (mV.to (fun ρ5 h => ?_)) (xo rfl))
      exact sd_return (pc := 115) dX3_hatch_115 rfl (mV.ok h)
    · have h := h.2 c20
      refine sd_aload_n (pc := 23) dX3_hatch_23 rfl 0 rfl ?_
      refine sd_getR (pc := 24) dX3_hatch_24 (ci := 2) rfl in_X3 (kf := 1) (by decide) q2074 (mo_gR hM (j := 1) rfl ?_)
      refine sd_bipush (pc := 27) dX3_hatch_27 (v := 10) (by decide) ?_
      refine sd_iaload (pc := 29) dX3_hatch_29 (mAld.to hM h (fun v6 h => ?_))
      refine sd_bipush (pc := 30) dX3_hatch_30 (v := 12) (by decide) ?_
      refine sd_icmpge (pc := 32) dX3_hatch_32 (tgt := 101) (by decide) ⟨fun c19 => ?_, fun c19 => ?_⟩
      · have h := h.1 c19
        refine sd_aload_n (pc := 101) dX3_hatch_101 rfl 0 rfl ?_
        refine sd_iload_n (pc := 102) dX3_hatch_102 rfl 1 rfl ?_
        refine sd_iconst (pc := 103) dX3_hatch_103 (v := 2) (by decide) ?_
        refine sd_iconst (pc := 104) dX3_hatch_104 (v := 0) (by decide) ?_
        refine sd_callV (k := k) (n := n) (d0 := d) (k0 := 0) (n0 := 0) (As := [.int l1, .int (2 : Int32), .int (0 : Int32)]) (st := []) (pc := 105) dX3_hatch_105 (ci := 2) rfl (mo_isC hM) rfl q2204 q2206 qs32 q91 q2207 3 (by decide +kernel) rfl (Nat.le_refl _) (by decide) (Nat.le_of_ble_eq_true rfl) (Cx.mono (cm_X3_put hM (by omega)  h) (mV.to (fun ρ7 h => ?_)) (xo rfl))
        refine sd_aload_n (pc := 108) dX3_hatch_108 rfl 0 rfl ?_
        refine sd_iload_n (pc := 109) dX3_hatch_109 rfl 1 rfl ?_
        refine sd_iconst (pc := 110) dX3_hatch_110 (v := 3) (by decide) ?_
        refine sd_iconst (pc := 111) dX3_hatch_111 (v := 0) (by decide) ?_
        refine sd_callV (k := k) (n := n) (d0 := d) (k0 := 0) (n0 := 0) (As := [.int l1, .int (3 : Int32), .int (0 : Int32)]) (st := []) (pc := 112) dX3_hatch_112 (ci := 2) rfl (mo_isC hM) rfl q2204 q2206 qs32 q91 q2207 3 (by decide +kernel) rfl (Nat.le_refl _) (by decide) (Nat.le_of_ble_eq_true rfl) (Cx.mono (cm_X3_put hM (by omega)  h) (mV.to (fun ρ8 h => ?_)) (xo rfl))
        exact sd_return (pc := 115) dX3_hatch_115 rfl (mV.ok h)
      · have h := h.2 c19
        refine sd_aload_n (pc := 35) dX3_hatch_35 rfl 0 rfl ?_
        refine sd_getR (pc := 36) dX3_hatch_36 (ci := 2) rfl in_X3 (kf := 1) (by decide) q2074 (mo_gR hM (j := 1) rfl ?_)
        refine sd_bipush (pc := 39) dX3_hatch_39 (v := 10) (by decide) ?_
        refine sd_iaload (pc := 41) dX3_hatch_41 (mAld.to hM h (fun v9 h => ?_))
        refine sd_iconst (pc := 42) dX3_hatch_42 (v := 2) (by decide) ?_
        refine sd_irem (pc := 43) dX3_hatch_43 (by decide) ?_
        have h21 : Wx en (d + 1) mX3_hatch 52 [(0, .ref (mb 0)), (1, .int l1), (2, .int l2)] (.int (if ((v9 - v9 / (2 : Int32) * (2 : Int32)) = 0) then (1 : Int32) else (0 : Int32)) :: []) (mH en mb ρ σ) k n (mQ en mb σ (mV K)) X := by
          refine sd_istore_n (pc := 52) dX3_hatch_52 rfl (by decide) (ls' := [(3, .int (if ((v9 - v9 / (2 : Int32) * (2 : Int32)) = 0) then (1 : Int32) else (0 : Int32))), (0, .ref (mb 0)), (1, .int l1), (2, .int l2)]) rfl ?_
          refine sd_aload_n (pc := 53) dX3_hatch_53 rfl 1 rfl ?_
          refine sd_iload_n (pc := 54) dX3_hatch_54 rfl 0 rfl ?_
          have h22 : Wx en (d + 1) mX3_hatch 63 [(3, .int (if ((v9 - v9 / (2 : Int32) * (2 : Int32)) = 0) then (1 : Int32) else (0 : Int32))), (0, .ref (mb 0)), (1, .int l1), (2, .int l2)] (.int (if ((if ((v9 - v9 / (2 : Int32) * (2 : Int32)) = 0) then (1 : Int32) else (0 : Int32)) = 0) then (1 : Int32) else (0 : Int32)) :: .ref (mb 0) :: []) (mH en mb ρ σ) k n (mQ en mb σ (mV K)) X := by
            refine sd_aload_n (pc := 63) dX3_hatch_63 rfl 1 rfl ?_
            refine sd_iload_n (pc := 64) dX3_hatch_64 rfl 2 rfl ?_
            refine sd_iconst (pc := 65) dX3_hatch_65 (v := 1) (by decide) ?_
            refine sd_callV (k := k) (n := n) (d0 := d) (k0 := 0) (n0 := 0) (As := [.int l1, .int (1 : Int32)]) (st := [.int (if ((if ((v9 - v9 / (2 : Int32) * (2 : Int32)) = 0) then (1 : Int32) else (0 : Int32)) = 0) then (1 : Int32) else (0 : Int32)), .ref (mb 0)]) (pc := 66) dX3_hatch_66 (ci := 2) rfl (mo_isC hM) rfl q2228 q2230 qs36 q91 q2231 2 (by decide +kernel) rfl (Nat.le_refl _) (by decide) (Nat.le_of_ble_eq_true rfl) (Cx.mono (cm_X3_of hM (by omega)  h) (mI.to (fun r13 ρ12 h => ?_)) (xo rfl))
            refine sd_iconst (pc := 69) dX3_hatch_69 (v := 0) (by decide) ?_
            refine sd_iload_n (pc := 70) dX3_hatch_70 rfl 0 rfl ?_
            have h23 : Wx en (d + 1) mX3_hatch 79 [(3, .int (if ((v9 - v9 / (2 : Int32) * (2 : Int32)) = 0) then (1 : Int32) else (0 : Int32))), (0, .ref (mb 0)), (1, .int l1), (2, .int l2)] (.int (if ((if ((v9 - v9 / (2 : Int32) * (2 : Int32)) = 0) then (1 : Int32) else (0 : Int32)) = 0) then (0 : Int32) else (1 : Int32)) :: .int (0 : Int32) :: .int r13 :: .int (if ((if ((v9 - v9 / (2 : Int32) * (2 : Int32)) = 0) then (1 : Int32) else (0 : Int32)) = 0) then (1 : Int32) else (0 : Int32)) :: .ref (mb 0) :: []) (mH en mb ρ12 σ) k n (mQ en mb σ (mV K)) X := by
              refine sd_iload_n (pc := 79) dX3_hatch_79 rfl 2 rfl ?_
              refine sd_callV (k := k) (n := n) (d0 := d) (k0 := 0) (n0 := 0) (As := [.int (if ((if ((v9 - v9 / (2 : Int32) * (2 : Int32)) = 0) then (1 : Int32) else (0 : Int32)) = 0) then (1 : Int32) else (0 : Int32)), .int r13, .int (0 : Int32), .int (if ((if ((v9 - v9 / (2 : Int32) * (2 : Int32)) = 0) then (1 : Int32) else (0 : Int32)) = 0) then (0 : Int32) else (1 : Int32)), .int l1]) (st := []) (pc := 80) dX3_hatch_80 (ci := 2) rfl (mo_isC hM) rfl q2200 q2202 qs31 q91 q2203 5 (by decide +kernel) rfl (Nat.le_refl _) (by decide) (Nat.le_of_ble_eq_true rfl) (Cx.mono (cm_X3_addBird hM (by omega)  h) (mI.to (fun r16 ρ15 h => ?_)) (xo rfl))
              refine sd_pop (pc := 83) dX3_hatch_83 rfl ?_
              refine sd_aload_n (pc := 84) dX3_hatch_84 rfl 1 rfl ?_
              refine sd_getR (pc := 85) dX3_hatch_85 (ci := 2) rfl in_X3 (kf := 1) (by decide) q2074 (mo_gR hM (j := 1) rfl ?_)
              refine sd_bipush (pc := 88) dX3_hatch_88 (v := 7) (by decide) ?_
              refine sd_dup2 (pc := 90) dX3_hatch_90 rfl rfl ?_
              refine sd_iaload (pc := 91) dX3_hatch_91 (mAld.to hM h (fun v17 h => ?_))
              refine sd_iconst (pc := 92) dX3_hatch_92 (v := 1) (by decide) ?_
              refine sd_iadd (pc := 93) dX3_hatch_93 ?_
              refine sd_iastore (pc := 94) dX3_hatch_94 (mAst.to hM h (fun ρ18 h => ?_))
              refine sd_iinc (pc := 95) dX3_hatch_95 3 rfl (v := (l2 + (-1))) rfl (by decide) (ls' := [(2, .int (l2 + (-1))), (3, .int (if ((v9 - v9 / (2 : Int32) * (2 : Int32)) = 0) then (1 : Int32) else (0 : Int32))), (0, .ref (mb 0)), (1, .int l1)]) rfl ?_
              refine sd_goto (pc := 98) dX3_hatch_98 (tgt := 19) (by decide) ?_
              exact sd_loc [2, 3, 0] rfl (ih _ _ _ h)
            have e24 := sd_iteI h23
            refine sd_ifeq (pc := 71) dX3_hatch_71 (tgt := 78) (by decide) ⟨fun c14 => ?_, fun c14 => ?_⟩
            · refine sd_iconst (pc := 78) dX3_hatch_78 (v := 0) (by decide) ?_
              exact (e24.1 c14)
            · refine sd_iconst (pc := 74) dX3_hatch_74 (v := 1) (by decide) ?_
              refine sd_goto (pc := 75) dX3_hatch_75 (tgt := 79) (by decide) ?_
              exact (e24.2 c14)
          have e25 := sd_iteI h22
          refine sd_ifeq (pc := 55) dX3_hatch_55 (tgt := 62) (by decide) ⟨fun c11 => ?_, fun c11 => ?_⟩
          · refine sd_iconst (pc := 62) dX3_hatch_62 (v := 1) (by decide) ?_
            exact (e25.1 c11)
          · refine sd_iconst (pc := 58) dX3_hatch_58 (v := 0) (by decide) ?_
            refine sd_goto (pc := 59) dX3_hatch_59 (tgt := 63) (by decide) ?_
            exact (e25.2 c11)
        have e26 := sd_iteIN h21
        refine sd_ifne (pc := 44) dX3_hatch_44 (tgt := 51) (by decide) ⟨fun c10 => ?_, fun c10 => ?_⟩
        · refine sd_iconst (pc := 51) dX3_hatch_51 (v := 0) (by decide) ?_
          exact (e26.1 c10)
        · refine sd_iconst (pc := 47) dX3_hatch_47 (v := 1) (by decide) ?_
          refine sd_goto (pc := 48) dX3_hatch_48 (tgt := 52) (by decide) ?_
          exact (e26.2 c10)
theorem okM_X3_hatch_19 {en : yEn} {mb : Nat → Nat} {σ : yH} (hM : mOK en mb σ) {d : Nat} (hd : 3 ≤ d + 1) {K : yMS → Prop} {X : String → Addr → yH → Prop} {k n : Nat} (l1 : Int32) (l2 : Int32) (ρ : yMS) (h : wpM_X3_hatch_19  l1 l2 ρ K) : Wx en (d + 1) mX3_hatch 19 [(0, .ref (mb 0)), (1, .int l1), (2, .int l2)] [] (mH en mb ρ σ) k n (mQ en mb σ (mV K)) X := by
  obtain ⟨nn, h⟩ := h
  exact olM_X3_hatch_19 hM hd  nn _ _ _ h
def wpM_X3_hatch (ρ : yMS) (x1 : Int32) (K : yMS → Prop) : Prop :=
  (mPut ρ 15 ((ρ.1 15) ||| ((1 : Int32) <<< (x1 &&& 31))) (fun ρ1 => wpM_X3_of ρ1 x1 (2 : Int32) (fun r3 ρ2 => wpM_X3_hatch_19  x1 r3 ρ2 K)))
theorem okM_X3_hatch {en : yEn} {mb : Nat → Nat} {σ : yH} (hM : mOK en mb σ) {d : Nat} (hd : 3 ≤ d + 1) {ρ : yMS} {x1 : Int32} {K : yMS → Prop} {X : String → Addr → yH → Prop} {k n : Nat}  (h : wpM_X3_hatch ρ x1 K) : Wx en (d + 1) mX3_hatch 0 [(0, .ref (mb 0)), (1, .int x1)] [] (mH en mb ρ σ) k n (mQ en mb σ (mV K)) X := by
  unfold wpM_X3_hatch at h
  refine sd_aload_n (pc := 0) dX3_hatch_0 rfl 0 rfl ?_
  refine sd_dup (pc := 1) dX3_hatch_1 rfl ?_
  refine sd_getI (pc := 2) dX3_hatch_2 (ci := 2) rfl in_X3 (kf := 15) (by decide) q2088 (mo_gI hM rfl ?_)
  refine sd_iconst (pc := 5) dX3_hatch_5 (v := 1) (by decide) ?_
  refine sd_iload_n (pc := 6) dX3_hatch_6 rfl 1 rfl ?_
  refine sd_ishl (pc := 7) dX3_hatch_7 ?_
  refine sd_ior (pc := 8) dX3_hatch_8 ?_
  refine sd_putf (pc := 9) dX3_hatch_9 (ci := 2) rfl in_X3 tyX3 tyX3_ok nmX3 (kf := 15) (by decide) q2088 rfl (ty := .int) rfl rfl rfl (mPut.to hM (by decide) rfl h (fun ρ1 h => ?_))
  refine sd_aload_n (pc := 12) dX3_hatch_12 rfl 0 rfl ?_
  refine sd_iload_n (pc := 13) dX3_hatch_13 rfl 1 rfl ?_
  refine sd_iconst (pc := 14) dX3_hatch_14 (v := 2) (by decide) ?_
  refine sd_callV (k := k) (n := n) (d0 := d) (k0 := 0) (n0 := 0) (As := [.int x1, .int (2 : Int32)]) (st := []) (pc := 15) dX3_hatch_15 (ci := 2) rfl (mo_isC hM) rfl q2228 q2230 qs36 q91 q2231 2 (by decide +kernel) rfl (Nat.le_refl _) (by decide) (Nat.le_of_ble_eq_true rfl) (Cx.mono (cm_X3_of hM (by omega)  h) (mI.to (fun r3 ρ2 h => ?_)) (xo rfl))
  refine sd_istore_n (pc := 18) dX3_hatch_18 rfl (by decide) (ls' := [(2, .int r3), (0, .ref (mb 0)), (1, .int x1)]) rfl ?_
  exact sd_loc [1, 2, 0] rfl (okM_X3_hatch_19 hM (by omega)  _ _ _ h)
theorem cm_X3_hatch {en : yEn} {mb : Nat → Nat} {σ : yH} (hM : mOK en mb σ) {d : Nat} (hd : 3 ≤ d) {ρ : yMS} {x1 : Int32} {K : yMS → Prop} {X : String → Addr → yH → Prop}  (h : wpM_X3_hatch ρ x1 K) : Cx en d 0 0 mX3_hatch [.ref (mb 0), .int x1] (mH en mb ρ σ) (mQ en mb σ (mV K)) X := by
  obtain ⟨d, rfl⟩ : ∃ e, d = e + 1 := ⟨d - 1, by omega⟩
  exact Cx.body (by decide +kernel) rfl (Nat.le_of_ble_eq_true rfl) (okM_X3_hatch hM (by omega)  h)
