/-! THE MODEL: walks of its methods as predicate transformers -/
set_option maxRecDepth 100000
theorem yn836 : (Jvm.Cond.exactly (Jvm.Term.string "PeacockLawnsModel" (234 : Nat)) "java/lang/String") ∈ y_nar := List.mem_of_getElem? (i := 836) (by decide +kernel)
theorem yn843 : (Jvm.Cond.exactly (Jvm.Term.string "PeacockLawnsModel" (240 : Nat)) "java/lang/String") ∈ y_nar := List.mem_of_getElem? (i := 843) (by decide +kernel)
theorem yn852 : (Jvm.Cond.exactly (Jvm.Term.string "PeacockLawnsModel" (242 : Nat)) "java/lang/String") ∈ y_nar := List.mem_of_getElem? (i := 852) (by decide +kernel)
theorem yn861 : (Jvm.Cond.exactly (Jvm.Term.string "PeacockLawnsModel" (244 : Nat)) "java/lang/String") ∈ y_nar := List.mem_of_getElem? (i := 861) (by decide +kernel)
theorem yn869 : (Jvm.Cond.exactly (Jvm.Term.string "PeacockLawnsModel" (246 : Nat)) "java/lang/String") ∈ y_nar := List.mem_of_getElem? (i := 869) (by decide +kernel)
theorem yn878 : (Jvm.Cond.exactly (Jvm.Term.string "PeacockLawnsModel" (248 : Nat)) "java/lang/String") ∈ y_nar := List.mem_of_getElem? (i := 878) (by decide +kernel)
theorem yn889 : (Jvm.Cond.exactly (Jvm.Term.string "PeacockLawnsModel" (250 : Nat)) "java/lang/String") ∈ y_nar := List.mem_of_getElem? (i := 889) (by decide +kernel)
theorem yn898 : (Jvm.Cond.exactly (Jvm.Term.string "PeacockLawnsModel" (288 : Nat)) "java/lang/String") ∈ y_nar := List.mem_of_getElem? (i := 898) (by decide +kernel)
theorem yn909 : (Jvm.Cond.exactly (Jvm.Term.string "PeacockLawnsModel" (290 : Nat)) "java/lang/String") ∈ y_nar := List.mem_of_getElem? (i := 909) (by decide +kernel)
theorem yn921 : (Jvm.Cond.exactly (Jvm.Term.string "PeacockLawnsModel" (292 : Nat)) "java/lang/String") ∈ y_nar := List.mem_of_getElem? (i := 921) (by decide +kernel)
theorem yn932 : (Jvm.Cond.exactly (Jvm.Term.string "PeacockLawnsModel" (294 : Nat)) "java/lang/String") ∈ y_nar := List.mem_of_getElem? (i := 932) (by decide +kernel)
theorem yn943 : (Jvm.Cond.exactly (Jvm.Term.string "PeacockLawnsModel" (296 : Nat)) "java/lang/String") ∈ y_nar := List.mem_of_getElem? (i := 943) (by decide +kernel)
theorem yn953 : (Jvm.Cond.exactly (Jvm.Term.string "PeacockLawnsModel" (298 : Nat)) "java/lang/String") ∈ y_nar := List.mem_of_getElem? (i := 953) (by decide +kernel)
theorem yn963 : (Jvm.Cond.exactly (Jvm.Term.string "PeacockLawnsModel" (300 : Nat)) "java/lang/String") ∈ y_nar := List.mem_of_getElem? (i := 963) (by decide +kernel)
/-! thrown()I -/
def wpM_X3_thrown (ρ : yMS)  (K : Int32 → yMS → Prop) : Prop :=
  K (ρ.1 0) ρ
theorem okM_X3_thrown {en : yEn} {mb : Nat → Nat} {σ : yH} (hM : mOK en mb σ) {d : Nat} (hd : 1 ≤ d + 1) {ρ : yMS}  {K : Int32 → yMS → Prop} {X : String → Addr → yH → Prop} {k n : Nat}  (h : wpM_X3_thrown ρ  K) : Wx en (d + 1) mX3_thrown 0 [(0, .ref (mb 0))] [] (mH en mb ρ σ) k n (mQ en mb σ (mI K)) X := by
  unfold wpM_X3_thrown at h
  refine sd_aload_n (pc := 0) dX3_thrown_0 rfl 0 rfl ?_
  refine sd_getI (pc := 1) dX3_thrown_1 (ci := 2) rfl in_X3 (kf := 0) (by decide) q2073 (mo_gI hM rfl ?_)
  exact sd_ireturn (pc := 4) dX3_thrown_4 (ty0 := .int) rfl rfl (mI.ok h)
theorem cm_X3_thrown {en : yEn} {mb : Nat → Nat} {σ : yH} (hM : mOK en mb σ) {d : Nat} (hd : 1 ≤ d) {ρ : yMS}  {K : Int32 → yMS → Prop} {X : String → Addr → yH → Prop}  (h : wpM_X3_thrown ρ  K) : Cx en d 0 0 mX3_thrown [.ref (mb 0)] (mH en mb ρ σ) (mQ en mb σ (mI K)) X := by
  obtain ⟨d, rfl⟩ : ∃ e, d = e + 1 := ⟨d - 1, by omega⟩
  exact Cx.body (by decide +kernel) rfl (Nat.le_of_ble_eq_true rfl) (okM_X3_thrown hM (by omega)  h)
/-! fails(IZ)Z -/
def wpM_X3_fails (ρ : yMS) (x1 : Int32) (x2 : Int32) (K : Int32 → yMS → Prop) : Prop :=
  (mPut ρ 0 (if (x2 = 0) then (0 : Int32) else x1) (fun ρ2 => (narrow .boolean (.int x2) = .int x2 ∧ K x2 ρ2)))
theorem okM_X3_fails {en : yEn} {mb : Nat → Nat} {σ : yH} (hM : mOK en mb σ) {d : Nat} (hd : 1 ≤ d + 1) {ρ : yMS} {x1 : Int32} {x2 : Int32} {K : Int32 → yMS → Prop} {X : String → Addr → yH → Prop} {k n : Nat}  (h : wpM_X3_fails ρ x1 x2 K) : Wx en (d + 1) mX3_fails 0 [(0, .ref (mb 0)), (1, .int x1), (2, .int x2)] [] (mH en mb ρ σ) k n (mQ en mb σ (mI K)) X := by
  unfold wpM_X3_fails at h
  refine sd_aload_n (pc := 0) dX3_fails_0 rfl 0 rfl ?_
  refine sd_iload_n (pc := 1) dX3_fails_1 rfl 2 rfl ?_
  have h3 : Wx en (d + 1) mX3_fails 10 [(0, .ref (mb 0)), (1, .int x1), (2, .int x2)] (.int (if (x2 = 0) then (0 : Int32) else x1) :: .ref (mb 0) :: []) (mH en mb ρ σ) k n (mQ en mb σ (mI K)) X := by
    refine sd_putf (pc := 10) dX3_fails_10 (ci := 2) rfl in_X3 tyX3 tyX3_ok nmX3 (kf := 0) (by decide) q2073 rfl (ty := .int) rfl rfl rfl (mPut.to hM (by decide) rfl h (fun ρ2 h => ?_))
    refine sd_iload_n (pc := 13) dX3_fails_13 rfl 2 rfl ?_
    exact sd_ireturn (pc := 14) dX3_fails_14 (ty0 := .boolean) rfl h.1 (mI.ok h.2)
  have e4 := sd_iteI h3
  refine sd_ifeq (pc := 2) dX3_fails_2 (tgt := 9) (by decide) ⟨fun c1 => ?_, fun c1 => ?_⟩
  · refine sd_iconst (pc := 9) dX3_fails_9 (v := 0) (by decide) ?_
    exact (e4.1 c1)
  · refine sd_iload_n (pc := 5) dX3_fails_5 rfl 1 rfl ?_
    refine sd_goto (pc := 6) dX3_fails_6 (tgt := 10) (by decide) ?_
    exact (e4.2 c1)
theorem cm_X3_fails {en : yEn} {mb : Nat → Nat} {σ : yH} (hM : mOK en mb σ) {d : Nat} (hd : 1 ≤ d) {ρ : yMS} {x1 : Int32} {x2 : Int32} {K : Int32 → yMS → Prop} {X : String → Addr → yH → Prop}  (h : wpM_X3_fails ρ x1 x2 K) : Cx en d 0 0 mX3_fails [.ref (mb 0), .int x1, .int x2] (mH en mb ρ σ) (mQ en mb σ (mI K)) X := by
  obtain ⟨d, rfl⟩ : ∃ e, d = e + 1 := ⟨d - 1, by omega⟩
  exact Cx.body (by decide +kernel) rfl (Nat.le_of_ble_eq_true rfl) (okM_X3_fails hM (by omega)  h)
/-! isBetween(III)Z -/
def wpM_X3_isBetween (ρ : yMS) (x1 : Int32) (x2 : Int32) (x3 : Int32) (K : Int32 → yMS → Prop) : Prop :=
  K (if (x1 < x2) then (0 : Int32) else (if (x3 < x1) then (0 : Int32) else (1 : Int32))) ρ
theorem okM_X3_isBetween {en : yEn} {mb : Nat → Nat} {σ : yH} (hM : mOK en mb σ) {d : Nat} (hd : 1 ≤ d + 1) {ρ : yMS} {x1 : Int32} {x2 : Int32} {x3 : Int32} {K : Int32 → yMS → Prop} {X : String → Addr → yH → Prop} {k n : Nat}  (h : wpM_X3_isBetween ρ x1 x2 x3 K) : Wx en (d + 1) mX3_isBetween 0 [(0, .int x1), (1, .int x2), (2, .int x3)] [] (mH en mb ρ σ) k n (mQ en mb σ (mI K)) X := by
  unfold wpM_X3_isBetween at h
  refine sd_iload_n (pc := 0) dX3_isBetween_0 rfl 0 rfl ?_
  refine sd_iload_n (pc := 1) dX3_isBetween_1 rfl 1 rfl ?_
  have h3 : Wx en (d + 1) mX3_isBetween 15 [(0, .int x1), (1, .int x2), (2, .int x3)] (.int (if (x1 < x2) then (0 : Int32) else (if (x3 < x1) then (0 : Int32) else (1 : Int32))) :: []) (mH en mb ρ σ) k n (mQ en mb σ (mI K)) X := by
    exact sd_ireturn (pc := 15) dX3_isBetween_15 (ty0 := .boolean) rfl (nb_ite rfl (nb_ite rfl rfl)) (mI.ok h)
  have e4 := sd_iteI h3
  refine sd_icmplt (pc := 2) dX3_isBetween_2 (tgt := 14) (by decide) ⟨fun c2 => ?_, fun c2 => ?_⟩
  · refine sd_iconst (pc := 14) dX3_isBetween_14 (v := 0) (by decide) ?_
    exact (e4.1 c2)
  · refine sd_iload_n (pc := 5) dX3_isBetween_5 rfl 0 rfl ?_
    refine sd_iload_n (pc := 6) dX3_isBetween_6 rfl 2 rfl ?_
    have e5 := sd_iteI (e4.2 c2)
    refine sd_icmpgt (pc := 7) dX3_isBetween_7 (tgt := 14) (by decide) ⟨fun c1 => ?_, fun c1 => ?_⟩
    · refine sd_iconst (pc := 14) dX3_isBetween_14 (v := 0) (by decide) ?_
      exact (e5.1 c1)
    · refine sd_iconst (pc := 10) dX3_isBetween_10 (v := 1) (by decide) ?_
      refine sd_goto (pc := 11) dX3_isBetween_11 (tgt := 15) (by decide) ?_
      exact (e5.2 c1)
theorem cm_X3_isBetween {en : yEn} {mb : Nat → Nat} {σ : yH} (hM : mOK en mb σ) {d : Nat} (hd : 1 ≤ d) {ρ : yMS} {x1 : Int32} {x2 : Int32} {x3 : Int32} {K : Int32 → yMS → Prop} {X : String → Addr → yH → Prop}  (h : wpM_X3_isBetween ρ x1 x2 x3 K) : Cx en d 0 0 mX3_isBetween [.int x1, .int x2, .int x3] (mH en mb ρ σ) (mQ en mb σ (mI K)) X := by
  obtain ⟨d, rfl⟩ : ∃ e, d = e + 1 := ⟨d - 1, by omega⟩
  exact Cx.body (by decide +kernel) rfl (Nat.le_of_ble_eq_true rfl) (okM_X3_isBetween hM (by omega)  h)
/-! isHedge(I)Z -/
def wpM_X3_isHedge (ρ : yMS) (x1 : Int32) (K : Int32 → yMS → Prop) : Prop :=
  wpM_X3_isBetween ρ x1 (0 : Int32) (11 : Int32) (fun r2 ρ1 => (narrow .boolean (.int r2) = .int r2 ∧ K r2 ρ1))
theorem okM_X3_isHedge {en : yEn} {mb : Nat → Nat} {σ : yH} (hM : mOK en mb σ) {d : Nat} (hd : 2 ≤ d + 1) {ρ : yMS} {x1 : Int32} {K : Int32 → yMS → Prop} {X : String → Addr → yH → Prop} {k n : Nat}  (h : wpM_X3_isHedge ρ x1 K) : Wx en (d + 1) mX3_isHedge 0 [(0, .int x1)] [] (mH en mb ρ σ) k n (mQ en mb σ (mI K)) X := by
  unfold wpM_X3_isHedge at h
  refine sd_iload_n (pc := 0) dX3_isHedge_0 rfl 0 rfl ?_
  refine sd_iconst (pc := 1) dX3_isHedge_1 (v := 0) (by decide) ?_
  refine sd_bipush (pc := 2) dX3_isHedge_2 (v := 11) (by decide) ?_
  refine sd_callS (k := k) (n := n) (d0 := d) (k0 := 0) (n0 := 0) (As := [.int x1, .int (0 : Int32), .int (11 : Int32)]) (st := []) (pc := 4) dX3_isHedge_4 q2167 q2168 q91 q2169 3 (by decide +kernel) rfl (Nat.le_refl _) (by decide) (Nat.le_of_ble_eq_true rfl) (Cx.mono (cm_X3_isBetween hM (by omega)  h) (mI.to (fun r2 ρ1 h => ?_)) (xo rfl))
  exact sd_ireturn (pc := 7) dX3_isHedge_7 (ty0 := .boolean) rfl h.1 (mI.ok h.2)
theorem cm_X3_isHedge {en : yEn} {mb : Nat → Nat} {σ : yH} (hM : mOK en mb σ) {d : Nat} (hd : 2 ≤ d) {ρ : yMS} {x1 : Int32} {K : Int32 → yMS → Prop} {X : String → Addr → yH → Prop}  (h : wpM_X3_isHedge ρ x1 K) : Cx en d 0 0 mX3_isHedge [.int x1] (mH en mb ρ σ) (mQ en mb σ (mI K)) X := by
  obtain ⟨d, rfl⟩ : ∃ e, d = e + 1 := ⟨d - 1, by omega⟩
  exact Cx.body (by decide +kernel) rfl (Nat.le_of_ble_eq_true rfl) (okM_X3_isHedge hM (by omega)  h)
/-! height(I)I -/
def wpM_X3_height (ρ : yMS) (x1 : Int32) (K : Int32 → yMS → Prop) : Prop :=
  wpM_X3_isHedge ρ x1 (fun r2 ρ1 => wpM_X3_fails ρ1 (1 : Int32) (if (r2 = 0) then (1 : Int32) else (0 : Int32)) (fun r5 ρ4 => (((r5 = 0) → mAld ρ4 1 ((22 : Int32) + x1) (fun v6 => K v6 ρ4)) ∧ (¬ (r5 = 0) → K (0 : Int32) ρ4))))
theorem okM_X3_height {en : yEn} {mb : Nat → Nat} {σ : yH} (hM : mOK en mb σ) {d : Nat} (hd : 3 ≤ d + 1) {ρ : yMS} {x1 : Int32} {K : Int32 → yMS → Prop} {X : String → Addr → yH → Prop} {k n : Nat}  (h : wpM_X3_height ρ x1 K) : Wx en (d + 1) mX3_height 0 [(0, .ref (mb 0)), (1, .int x1)] [] (mH en mb ρ σ) k n (mQ en mb σ (mI K)) X := by
  unfold wpM_X3_height at h
  refine sd_aload_n (pc := 0) dX3_height_0 rfl 0 rfl ?_
  refine sd_iconst (pc := 1) dX3_height_1 (v := 1) (by decide) ?_
  refine sd_iload_n (pc := 2) dX3_height_2 rfl 1 rfl ?_
  refine sd_callS (k := k) (n := n) (d0 := d) (k0 := 0) (n0 := 0) (As := [.int x1]) (st := [.int (1 : Int32), .ref (mb 0)]) (pc := 3) dX3_height_3 q2164 q2165 q91 q2166 1 (by decide +kernel) rfl (Nat.le_refl _) (by decide) (Nat.le_of_ble_eq_true rfl) (Cx.mono (cm_X3_isHedge hM (by omega)  h) (mI.to (fun r2 ρ1 h => ?_)) (xo rfl))
  have h8 : Wx en (d + 1) mX3_height 14 [(0, .ref (mb 0)), (1, .int x1)] (.int (if (r2 = 0) then (1 : Int32) else (0 : Int32)) :: .int (1 : Int32) :: .ref (mb 0) :: []) (mH en mb ρ1 σ) k n (mQ en mb σ (mI K)) X := by
    refine sd_callV (k := k) (n := n) (d0 := d) (k0 := 0) (n0 := 0) (As := [.int (1 : Int32), .int (if (r2 = 0) then (1 : Int32) else (0 : Int32))]) (st := []) (pc := 14) dX3_height_14 (ci := 2) rfl (mo_isC hM) rfl q2170 q2172 qs26 q91 q2173 2 (by decide +kernel) rfl (Nat.le_refl _) (by decide) (Nat.le_of_ble_eq_true rfl) (Cx.mono (cm_X3_fails hM (by omega)  h) (mI.to (fun r5 ρ4 h => ?_)) (xo rfl))
    refine sd_ifeq (pc := 17) dX3_height_17 (tgt := 24) (by decide) ⟨fun c7 => ?_, fun c7 => ?_⟩
    · have h := h.1 c7
      refine sd_aload_n (pc := 24) dX3_height_24 rfl 0 rfl ?_
      refine sd_getR (pc := 25) dX3_height_25 (ci := 2) rfl in_X3 (kf := 1) (by decide) q2074 (mo_gR hM (j := 1) rfl ?_)
      refine sd_bipush (pc := 28) dX3_height_28 (v := 22) (by decide) ?_
      refine sd_iload_n (pc := 30) dX3_height_30 rfl 1 rfl ?_
      refine sd_iadd (pc := 31) dX3_height_31 ?_
      refine sd_iaload (pc := 32) dX3_height_32 (mAld.to hM h (fun v6 h => ?_))
      exact sd_ireturn (pc := 33) dX3_height_33 (ty0 := .int) rfl rfl (mI.ok h)
    · have h := h.2 c7
      refine sd_iconst (pc := 20) dX3_height_20 (v := 0) (by decide) ?_
      refine sd_goto (pc := 21) dX3_height_21 (tgt := 33) (by decide) ?_
      exact sd_ireturn (pc := 33) dX3_height_33 (ty0 := .int) rfl rfl (mI.ok h)
  have e9 := sd_iteIN h8
  refine sd_ifne (pc := 6) dX3_height_6 (tgt := 13) (by decide) ⟨fun c3 => ?_, fun c3 => ?_⟩
  · refine sd_iconst (pc := 13) dX3_height_13 (v := 0) (by decide) ?_
    exact (e9.1 c3)
  · refine sd_iconst (pc := 9) dX3_height_9 (v := 1) (by decide) ?_
    refine sd_goto (pc := 10) dX3_height_10 (tgt := 14) (by decide) ?_
    exact (e9.2 c3)
theorem cm_X3_height {en : yEn} {mb : Nat → Nat} {σ : yH} (hM : mOK en mb σ) {d : Nat} (hd : 3 ≤ d) {ρ : yMS} {x1 : Int32} {K : Int32 → yMS → Prop} {X : String → Addr → yH → Prop}  (h : wpM_X3_height ρ x1 K) : Cx en d 0 0 mX3_height [.ref (mb 0), .int x1] (mH en mb ρ σ) (mQ en mb σ (mI K)) X := by
  obtain ⟨d, rfl⟩ : ∃ e, d = e + 1 := ⟨d - 1, by omega⟩
  exact Cx.body (by decide +kernel) rfl (Nat.le_of_ble_eq_true rfl) (okM_X3_height hM (by omega)  h)
/-! put(III)V -/
def wpM_X3_put (ρ : yMS) (x1 : Int32) (x2 : Int32) (x3 : Int32) (K : yMS → Prop) : Prop :=
  mAst ρ 1 (((34 : Int32) + ((6 : Int32) * x1)) + x2) x3 (fun ρ1 => K ρ1)
theorem okM_X3_put {en : yEn} {mb : Nat → Nat} {σ : yH} (hM : mOK en mb σ) {d : Nat} (hd : 1 ≤ d + 1) {ρ : yMS} {x1 : Int32} {x2 : Int32} {x3 : Int32} {K : yMS → Prop} {X : String → Addr → yH → Prop} {k n : Nat}  (h : wpM_X3_put ρ x1 x2 x3 K) : Wx en (d + 1) mX3_put 0 [(0, .ref (mb 0)), (1, .int x1), (2, .int x2), (3, .int x3)] [] (mH en mb ρ σ) k n (mQ en mb σ (mV K)) X := by
  unfold wpM_X3_put at h
  refine sd_aload_n (pc := 0) dX3_put_0 rfl 0 rfl ?_
  refine sd_getR (pc := 1) dX3_put_1 (ci := 2) rfl in_X3 (kf := 1) (by decide) q2074 (mo_gR hM (j := 1) rfl ?_)
  refine sd_bipush (pc := 4) dX3_put_4 (v := 34) (by decide) ?_
  refine sd_bipush (pc := 6) dX3_put_6 (v := 6) (by decide) ?_
  refine sd_iload_n (pc := 8) dX3_put_8 rfl 1 rfl ?_
  refine sd_imul (pc := 9) dX3_put_9 ?_
  refine sd_iadd (pc := 10) dX3_put_10 ?_
  refine sd_iload_n (pc := 11) dX3_put_11 rfl 2 rfl ?_
  refine sd_iadd (pc := 12) dX3_put_12 ?_
  refine sd_iload_n (pc := 13) dX3_put_13 rfl 3 rfl ?_
  refine sd_iastore (pc := 14) dX3_put_14 (mAst.to hM h (fun ρ1 h => ?_))
  exact sd_return (pc := 15) dX3_put_15 rfl (mV.ok h)
theorem cm_X3_put {en : yEn} {mb : Nat → Nat} {σ : yH} (hM : mOK en mb σ) {d : Nat} (hd : 1 ≤ d) {ρ : yMS} {x1 : Int32} {x2 : Int32} {x3 : Int32} {K : yMS → Prop} {X : String → Addr → yH → Prop}  (h : wpM_X3_put ρ x1 x2 x3 K) : Cx en d 0 0 mX3_put [.ref (mb 0), .int x1, .int x2, .int x3] (mH en mb ρ σ) (mQ en mb σ (mV K)) X := by
  obtain ⟨d, rfl⟩ : ∃ e, d = e + 1 := ⟨d - 1, by omega⟩
  exact Cx.body (by decide +kernel) rfl (Nat.le_of_ble_eq_true rfl) (okM_X3_put hM (by omega)  h)
/-! addBird(IIIII)I -/
def wpM_X3_addBird (ρ : yMS) (x1 : Int32) (x2 : Int32) (x3 : Int32) (x4 : Int32) (x5 : Int32) (K : Int32 → yMS → Prop) : Prop :=
  mAld ρ 1 (10 : Int32) (fun v1 => mAld ρ 1 (10 : Int32) (fun v2 => mAst ρ 1 (10 : Int32) (v2 + (1 : Int32)) (fun ρ3 => wpM_X3_put ρ3 v1 (0 : Int32) x1 (fun ρ4 => wpM_X3_put ρ4 v1 (1 : Int32) x2 (fun ρ5 => wpM_X3_put ρ5 v1 (2 : Int32) x3 (fun ρ6 => wpM_X3_put ρ6 v1 (3 : Int32) x4 (fun ρ7 => wpM_X3_put ρ7 v1 (4 : Int32) x5 (fun ρ8 => wpM_X3_put ρ8 v1 (5 : Int32) (0 : Int32) (fun ρ9 => K v1 ρ9)))))))))
theorem okM_X3_addBird {en : yEn} {mb : Nat → Nat} {σ : yH} (hM : mOK en mb σ) {d : Nat} (hd : 2 ≤ d + 1) {ρ : yMS} {x1 : Int32} {x2 : Int32} {x3 : Int32} {x4 : Int32} {x5 : Int32} {K : Int32 → yMS → Prop} {X : String → Addr → yH → Prop} {k n : Nat}  (h : wpM_X3_addBird ρ x1 x2 x3 x4 x5 K) : Wx en (d + 1) mX3_addBird 0 [(0, .ref (mb 0)), (1, .int x1), (2, .int x2), (3, .int x3), (4, .int x4), (5, .int x5)] [] (mH en mb ρ σ) k n (mQ en mb σ (mI K)) X := by
  unfold wpM_X3_addBird at h
  refine sd_aload_n (pc := 0) dX3_addBird_0 rfl 0 rfl ?_
  refine sd_getR (pc := 1) dX3_addBird_1 (ci := 2) rfl in_X3 (kf := 1) (by decide) q2074 (mo_gR hM (j := 1) rfl ?_)
  refine sd_bipush (pc := 4) dX3_addBird_4 (v := 10) (by decide) ?_
  refine sd_iaload (pc := 6) dX3_addBird_6 (mAld.to hM h (fun v1 h => ?_))
  refine sd_istore (pc := 7) dX3_addBird_7 (by decide) (ls' := [(6, .int v1), (0, .ref (mb 0)), (1, .int x1), (2, .int x2), (3, .int x3), (4, .int x4), (5, .int x5)]) rfl ?_
  refine sd_aload_n (pc := 9) dX3_addBird_9 rfl 1 rfl ?_
  refine sd_getR (pc := 10) dX3_addBird_10 (ci := 2) rfl in_X3 (kf := 1) (by decide) q2074 (mo_gR hM (j := 1) rfl ?_)
  refine sd_bipush (pc := 13) dX3_addBird_13 (v := 10) (by decide) ?_
  refine sd_dup2 (pc := 15) dX3_addBird_15 rfl rfl ?_
  refine sd_iaload (pc := 16) dX3_addBird_16 (mAld.to hM h (fun v2 h => ?_))
  refine sd_iconst (pc := 17) dX3_addBird_17 (v := 1) (by decide) ?_
  refine sd_iadd (pc := 18) dX3_addBird_18 ?_
  refine sd_iastore (pc := 19) dX3_addBird_19 (mAst.to hM h (fun ρ3 h => ?_))
  refine sd_aload_n (pc := 20) dX3_addBird_20 rfl 1 rfl ?_
  refine sd_iload (pc := 21) dX3_addBird_21 0 rfl ?_
  refine sd_iconst (pc := 23) dX3_addBird_23 (v := 0) (by decide) ?_
  refine sd_iload_n (pc := 24) dX3_addBird_24 rfl 2 rfl ?_
  refine sd_callV (k := k) (n := n) (d0 := d) (k0 := 0) (n0 := 0) (As := [.int v1, .int (0 : Int32), .int x1]) (st := []) (pc := 25) dX3_addBird_25 (ci := 2) rfl (mo_isC hM) rfl q2204 q2206 qs32 q91 q2207 3 (by decide +kernel) rfl (Nat.le_refl _) (by decide) (Nat.le_of_ble_eq_true rfl) (Cx.mono (cm_X3_put hM (by omega)  h) (mV.to (fun ρ4 h => ?_)) (xo rfl))
  refine sd_aload_n (pc := 28) dX3_addBird_28 rfl 1 rfl ?_
  refine sd_iload (pc := 29) dX3_addBird_29 0 rfl ?_
  refine sd_iconst (pc := 31) dX3_addBird_31 (v := 1) (by decide) ?_
  refine sd_iload_n (pc := 32) dX3_addBird_32 rfl 3 rfl ?_
  refine sd_callV (k := k) (n := n) (d0 := d) (k0 := 0) (n0 := 0) (As := [.int v1, .int (1 : Int32), .int x2]) (st := []) (pc := 33) dX3_addBird_33 (ci := 2) rfl (mo_isC hM) rfl q2204 q2206 qs32 q91 q2207 3 (by decide +kernel) rfl (Nat.le_refl _) (by decide) (Nat.le_of_ble_eq_true rfl) (Cx.mono (cm_X3_put hM (by omega)  h) (mV.to (fun ρ5 h => ?_)) (xo rfl))
  refine sd_aload_n (pc := 36) dX3_addBird_36 rfl 1 rfl ?_
  refine sd_iload (pc := 37) dX3_addBird_37 0 rfl ?_
  refine sd_iconst (pc := 39) dX3_addBird_39 (v := 2) (by decide) ?_
  refine sd_iload_n (pc := 40) dX3_addBird_40 rfl 4 rfl ?_
  refine sd_callV (k := k) (n := n) (d0 := d) (k0 := 0) (n0 := 0) (As := [.int v1, .int (2 : Int32), .int x3]) (st := []) (pc := 41) dX3_addBird_41 (ci := 2) rfl (mo_isC hM) rfl q2204 q2206 qs32 q91 q2207 3 (by decide +kernel) rfl (Nat.le_refl _) (by decide) (Nat.le_of_ble_eq_true rfl) (Cx.mono (cm_X3_put hM (by omega)  h) (mV.to (fun ρ6 h => ?_)) (xo rfl))
  refine sd_aload_n (pc := 44) dX3_addBird_44 rfl 1 rfl ?_
  refine sd_iload (pc := 45) dX3_addBird_45 0 rfl ?_
  refine sd_iconst (pc := 47) dX3_addBird_47 (v := 3) (by decide) ?_
  refine sd_iload (pc := 48) dX3_addBird_48 5 rfl ?_
  refine sd_callV (k := k) (n := n) (d0 := d) (k0 := 0) (n0 := 0) (As := [.int v1, .int (3 : Int32), .int x4]) (st := []) (pc := 50) dX3_addBird_50 (ci := 2) rfl (mo_isC hM) rfl q2204 q2206 qs32 q91 q2207 3 (by decide +kernel) rfl (Nat.le_refl _) (by decide) (Nat.le_of_ble_eq_true rfl) (Cx.mono (cm_X3_put hM (by omega)  h) (mV.to (fun ρ7 h => ?_)) (xo rfl))
  refine sd_aload_n (pc := 53) dX3_addBird_53 rfl 1 rfl ?_
  refine sd_iload (pc := 54) dX3_addBird_54 0 rfl ?_
  refine sd_iconst (pc := 56) dX3_addBird_56 (v := 4) (by decide) ?_
  refine sd_iload (pc := 57) dX3_addBird_57 6 rfl ?_
  refine sd_callV (k := k) (n := n) (d0 := d) (k0 := 0) (n0 := 0) (As := [.int v1, .int (4 : Int32), .int x5]) (st := []) (pc := 59) dX3_addBird_59 (ci := 2) rfl (mo_isC hM) rfl q2204 q2206 qs32 q91 q2207 3 (by decide +kernel) rfl (Nat.le_refl _) (by decide) (Nat.le_of_ble_eq_true rfl) (Cx.mono (cm_X3_put hM (by omega)  h) (mV.to (fun ρ8 h => ?_)) (xo rfl))
  refine sd_aload_n (pc := 62) dX3_addBird_62 rfl 1 rfl ?_
  refine sd_iload (pc := 63) dX3_addBird_63 0 rfl ?_
  refine sd_iconst (pc := 65) dX3_addBird_65 (v := 5) (by decide) ?_
  refine sd_iconst (pc := 66) dX3_addBird_66 (v := 0) (by decide) ?_
  refine sd_callV (k := k) (n := n) (d0 := d) (k0 := 0) (n0 := 0) (As := [.int v1, .int (5 : Int32), .int (0 : Int32)]) (st := []) (pc := 67) dX3_addBird_67 (ci := 2) rfl (mo_isC hM) rfl q2204 q2206 qs32 q91 q2207 3 (by decide +kernel) rfl (Nat.le_refl _) (by decide) (Nat.le_of_ble_eq_true rfl) (Cx.mono (cm_X3_put hM (by omega)  h) (mV.to (fun ρ9 h => ?_)) (xo rfl))
  refine sd_iload (pc := 70) dX3_addBird_70 0 rfl ?_
  exact sd_ireturn (pc := 72) dX3_addBird_72 (ty0 := .int) rfl rfl (mI.ok h)
theorem cm_X3_addBird {en : yEn} {mb : Nat → Nat} {σ : yH} (hM : mOK en mb σ) {d : Nat} (hd : 2 ≤ d) {ρ : yMS} {x1 : Int32} {x2 : Int32} {x3 : Int32} {x4 : Int32} {x5 : Int32} {K : Int32 → yMS → Prop} {X : String → Addr → yH → Prop}  (h : wpM_X3_addBird ρ x1 x2 x3 x4 x5 K) : Cx en d 0 0 mX3_addBird [.ref (mb 0), .int x1, .int x2, .int x3, .int x4, .int x5] (mH en mb ρ σ) (mQ en mb σ (mI K)) X := by
  obtain ⟨d, rfl⟩ : ∃ e, d = e + 1 := ⟨d - 1, by omega⟩
  exact Cx.body (by decide +kernel) rfl (Nat.le_of_ble_eq_true rfl) (okM_X3_addBird hM (by omega)  h)
/-! copyRow([I[I)V -/
def stM_X3_copyRow_2 (K : yMS → Prop) (rec : Nat → Nat → Int32 → yMS → Prop) (l0 : Nat) (l1 : Nat) (l2 : Int32) (ρ : yMS) : Prop :=
  ((((130 : Int32) ≤ l2) → K ρ) ∧ (¬ ((130 : Int32) ≤ l2) → mAld ρ l0 l2 (fun v1 => mAst ρ l1 l2 v1 (fun ρ2 => rec l0 l1 (l2 + (1 : Int32)) ρ2))))
def lpM_X3_copyRow_2 (K : yMS → Prop) : Nat → Nat × Nat × Int32 × yMS → Prop := lpN (fun r s => stM_X3_copyRow_2  K (fun l0 l1 l2 ρ => r (l0, l1, l2, ρ)) s.1 s.2.1 s.2.2.1 s.2.2.2)
def wpM_X3_copyRow_2 (l0 : Nat) (l1 : Nat) (l2 : Int32) (ρ : yMS) (K : yMS → Prop) : Prop := ∃ nn, lpM_X3_copyRow_2  K nn (l0, l1, l2, ρ)
theorem olM_X3_copyRow_2 {en : yEn} {mb : Nat → Nat} {σ : yH} (hM : mOK en mb σ) {d : Nat} (hd : 1 ≤ d + 1) {K : yMS → Prop} {X : String → Addr → yH → Prop} {k n : Nat} : ∀ (nn : Nat) (l0 : Nat) (l1 : Nat) (l2 : Int32) (ρ : yMS), lpM_X3_copyRow_2  K nn (l0, l1, l2, ρ) → Wx en (d + 1) mX3_copyRow 2 [(0, .ref (mb l0)), (1, .ref (mb l1)), (2, .int l2)] [] (mH en mb ρ σ) k n (mQ en mb σ (mV K)) X := by
  intro nn
  induction nn with
  | zero => intros; rename_i h; exact h.elim
  | succ nn ih =>
    intro l0 l1 l2 ρ h
    replace h : stM_X3_copyRow_2  K (fun l0 l1 l2 ρ => lpM_X3_copyRow_2  K nn (l0, l1, l2, ρ)) l0 l1 l2 ρ := h
    unfold stM_X3_copyRow_2 at h
    refine sd_iload_n (pc := 2) dX3_copyRow_2 rfl 2 rfl ?_
    refine sd_sipush (pc := 3) dX3_copyRow_3 (v := 130) (by decide) ?_
    refine sd_icmpge (pc := 6) dX3_copyRow_6 (tgt := 21) (by decide) ⟨fun c3 => ?_, fun c3 => ?_⟩
    · have h := h.1 c3
      exact sd_return (pc := 21) dX3_copyRow_21 rfl (mV.ok h)
    · have h := h.2 c3
      refine sd_aload_n (pc := 9) dX3_copyRow_9 rfl 1 rfl ?_
      refine sd_iload_n (pc := 10) dX3_copyRow_10 rfl 2 rfl ?_
      refine sd_aload_n (pc := 11) dX3_copyRow_11 rfl 0 rfl ?_
      refine sd_iload_n (pc := 12) dX3_copyRow_12 rfl 2 rfl ?_
      refine sd_iaload (pc := 13) dX3_copyRow_13 (mAld.to hM h (fun v1 h => ?_))
      refine sd_iastore (pc := 14) dX3_copyRow_14 (mAst.to hM h (fun ρ2 h => ?_))
      refine sd_iinc (pc := 15) dX3_copyRow_15 2 rfl (v := (l2 + (1 : Int32))) rfl (by decide) (ls' := [(2, .int (l2 + (1 : Int32))), (0, .ref (mb l0)), (1, .ref (mb l1))]) rfl ?_
      refine sd_goto (pc := 18) dX3_copyRow_18 (tgt := 2) (by decide) ?_
      exact sd_loc [1, 2, 0] rfl (ih _ _ _ _ h)
theorem okM_X3_copyRow_2 {en : yEn} {mb : Nat → Nat} {σ : yH} (hM : mOK en mb σ) {d : Nat} (hd : 1 ≤ d + 1) {K : yMS → Prop} {X : String → Addr → yH → Prop} {k n : Nat} (l0 : Nat) (l1 : Nat) (l2 : Int32) (ρ : yMS) (h : wpM_X3_copyRow_2  l0 l1 l2 ρ K) : Wx en (d + 1) mX3_copyRow 2 [(0, .ref (mb l0)), (1, .ref (mb l1)), (2, .int l2)] [] (mH en mb ρ σ) k n (mQ en mb σ (mV K)) X := by
  obtain ⟨nn, h⟩ := h
  exact olM_X3_copyRow_2 hM hd  nn _ _ _ _ h
def wpM_X3_copyRow (ρ : yMS) (x1 : Nat) (x2 : Nat) (K : yMS → Prop) : Prop :=
  wpM_X3_copyRow_2  x1 x2 (0 : Int32) ρ K
theorem okM_X3_copyRow {en : yEn} {mb : Nat → Nat} {σ : yH} (hM : mOK en mb σ) {d : Nat} (hd : 1 ≤ d + 1) {ρ : yMS} {x1 : Nat} {x2 : Nat} {K : yMS → Prop} {X : String → Addr → yH → Prop} {k n : Nat}  (h : wpM_X3_copyRow ρ x1 x2 K) : Wx en (d + 1) mX3_copyRow 0 [(0, .ref (mb x1)), (1, .ref (mb x2))] [] (mH en mb ρ σ) k n (mQ en mb σ (mV K)) X := by
  unfold wpM_X3_copyRow at h
  refine sd_iconst (pc := 0) dX3_copyRow_0 (v := 0) (by decide) ?_
  refine sd_istore_n (pc := 1) dX3_copyRow_1 rfl (by decide) (ls' := [(2, .int (0 : Int32)), (0, .ref (mb x1)), (1, .ref (mb x2))]) rfl ?_
  exact sd_loc [1, 2, 0] rfl (okM_X3_copyRow_2 hM (by omega)  _ _ _ _ h)
theorem cm_X3_copyRow {en : yEn} {mb : Nat → Nat} {σ : yH} (hM : mOK en mb σ) {d : Nat} (hd : 1 ≤ d) {ρ : yMS} {x1 : Nat} {x2 : Nat} {K : yMS → Prop} {X : String → Addr → yH → Prop}  (h : wpM_X3_copyRow ρ x1 x2 K) : Cx en d 0 0 mX3_copyRow [.ref (mb x1), .ref (mb x2)] (mH en mb ρ σ) (mQ en mb σ (mV K)) X := by
  obtain ⟨d, rfl⟩ : ∃ e, d = e + 1 := ⟨d - 1, by omega⟩
  exact Cx.body (by decide +kernel) rfl (Nat.le_of_ble_eq_true rfl) (okM_X3_copyRow hM (by omega)  h)
/-! remember([I)V -/
def stM_X3_remember_21 (K : yMS → Prop) (rec : Nat → Int32 → yMS → Prop) (l1 : Nat) (l2 : Int32) (ρ : yMS) : Prop :=
  ((((ρ.1 6) ≤ l2) → (vp_in (ρ.1 6) 8 ∧ wpM_X3_copyRow ρ l1 (5 + (ρ.1 6).toNatClampNeg) (fun ρ5 => (mPut ρ5 6 ((ρ5.1 6) + (1 : Int32)) (fun ρ6 => K ρ6))))) ∧ (¬ ((ρ.1 6) ≤ l2) → (vp_in (l2 + (1 : Int32)) 8 ∧ (vp_in l2 8 ∧ wpM_X3_copyRow ρ (5 + (l2 + (1 : Int32)).toNatClampNeg) (5 + l2.toNatClampNeg) (fun ρ7 => rec l1 (l2 + (1 : Int32)) ρ7)))))
def lpM_X3_remember_21 (K : yMS → Prop) : Nat → Nat × Int32 × yMS → Prop := lpN (fun r s => stM_X3_remember_21  K (fun l1 l2 ρ => r (l1, l2, ρ)) s.1 s.2.1 s.2.2)
def wpM_X3_remember_21 (l1 : Nat) (l2 : Int32) (ρ : yMS) (K : yMS → Prop) : Prop := ∃ nn, lpM_X3_remember_21  K nn (l1, l2, ρ)
theorem olM_X3_remember_21 {en : yEn} {mb : Nat → Nat} {σ : yH} (hM : mOK en mb σ) {d : Nat} (hd : 2 ≤ d + 1) {K : yMS → Prop} {X : String → Addr → yH → Prop} {k n : Nat} : ∀ (nn : Nat) (l1 : Nat) (l2 : Int32) (ρ : yMS), lpM_X3_remember_21  K nn (l1, l2, ρ) → Wx en (d + 1) mX3_remember 21 [(0, .ref (mb 0)), (1, .ref (mb l1)), (2, .int l2)] [] (mH en mb ρ σ) k n (mQ en mb σ (mV K)) X := by
  intro nn
  induction nn with
  | zero => intros; rename_i h; exact h.elim
  | succ nn ih =>
    intro l1 l2 ρ h
    replace h : stM_X3_remember_21  K (fun l1 l2 ρ => lpM_X3_remember_21  K nn (l1, l2, ρ)) l1 l2 ρ := h
    unfold stM_X3_remember_21 at h
    refine sd_iload_n (pc := 21) dX3_remember_21 rfl 2 rfl ?_
    refine sd_aload_n (pc := 22) dX3_remember_22 rfl 0 rfl ?_
    refine sd_getI (pc := 23) dX3_remember_23 (ci := 2) rfl in_X3 (kf := 6) (by decide) q2079 (mo_gI hM rfl ?_)
    refine sd_icmpge (pc := 26) dX3_remember_26 (tgt := 52) (by decide) ⟨fun c8 => ?_, fun c8 => ?_⟩
    · have h := h.1 c8
      refine sd_aload_n (pc := 52) dX3_remember_52 rfl 1 rfl ?_
      refine sd_aload_n (pc := 53) dX3_remember_53 rfl 0 rfl ?_
      refine sd_getR (pc := 54) dX3_remember_54 (ci := 2) rfl in_X3 (kf := 5) (by decide) q2078 (mo_gR hM (j := 16) rfl ?_)
      refine sd_aload_n (pc := 57) dX3_remember_57 rfl 0 rfl ?_
      refine sd_getI (pc := 58) dX3_remember_58 (ci := 2) rfl in_X3 (kf := 6) (by decide) q2079 (mo_gI hM rfl ?_)
      refine sd_hist (pc := 61) hM dX3_remember_61 h.1 ?_
      have h := h.2
      refine sd_callS (k := k) (n := n) (d0 := d) (k0 := 0) (n0 := 0) (As := [.ref (mb l1), .ref (mb (5 + (ρ.1 6).toNatClampNeg))]) (st := []) (pc := 62) dX3_remember_62 q2197 q2198 q91 q2199 2 (by decide +kernel) rfl (Nat.le_refl _) (by decide) (Nat.le_of_ble_eq_true rfl) (Cx.mono (cm_X3_copyRow hM (by omega)  h) (mV.to (fun ρ5 h => ?_)) (xo rfl))
      refine sd_aload_n (pc := 65) dX3_remember_65 rfl 0 rfl ?_
      refine sd_dup (pc := 66) dX3_remember_66 rfl ?_
      refine sd_getI (pc := 67) dX3_remember_67 (ci := 2) rfl in_X3 (kf := 6) (by decide) q2079 (mo_gI hM rfl ?_)
      refine sd_iconst (pc := 70) dX3_remember_70 (v := 1) (by decide) ?_
      refine sd_iadd (pc := 71) dX3_remember_71 ?_
      refine sd_putf (pc := 72) dX3_remember_72 (ci := 2) rfl in_X3 tyX3 tyX3_ok nmX3 (kf := 6) (by decide) q2079 rfl (ty := .int) rfl rfl rfl (mPut.to hM (by decide) rfl h (fun ρ6 h => ?_))
      exact sd_return (pc := 75) dX3_remember_75 rfl (mV.ok h)
    · have h := h.2 c8
      refine sd_aload_n (pc := 29) dX3_remember_29 rfl 0 rfl ?_
      refine sd_getR (pc := 30) dX3_remember_30 (ci := 2) rfl in_X3 (kf := 5) (by decide) q2078 (mo_gR hM (j := 16) rfl ?_)
      refine sd_iload_n (pc := 33) dX3_remember_33 rfl 2 rfl ?_
      refine sd_iconst (pc := 34) dX3_remember_34 (v := 1) (by decide) ?_
      refine sd_iadd (pc := 35) dX3_remember_35 ?_
      refine sd_hist (pc := 36) hM dX3_remember_36 h.1 ?_
      have h := h.2
      refine sd_aload_n (pc := 37) dX3_remember_37 rfl 0 rfl ?_
      refine sd_getR (pc := 38) dX3_remember_38 (ci := 2) rfl in_X3 (kf := 5) (by decide) q2078 (mo_gR hM (j := 16) rfl ?_)
      refine sd_iload_n (pc := 41) dX3_remember_41 rfl 2 rfl ?_
      refine sd_hist (pc := 42) hM dX3_remember_42 h.1 ?_
      have h := h.2
      refine sd_callS (k := k) (n := n) (d0 := d) (k0 := 0) (n0 := 0) (As := [.ref (mb (5 + (l2 + (1 : Int32)).toNatClampNeg)), .ref (mb (5 + l2.toNatClampNeg))]) (st := []) (pc := 43) dX3_remember_43 q2197 q2198 q91 q2199 2 (by decide +kernel) rfl (Nat.le_refl _) (by decide) (Nat.le_of_ble_eq_true rfl) (Cx.mono (cm_X3_copyRow hM (by omega)  h) (mV.to (fun ρ7 h => ?_)) (xo rfl))
      refine sd_iinc (pc := 46) dX3_remember_46 2 rfl (v := (l2 + (1 : Int32))) rfl (by decide) (ls' := [(2, .int (l2 + (1 : Int32))), (0, .ref (mb 0)), (1, .ref (mb l1))]) rfl ?_
      refine sd_goto (pc := 49) dX3_remember_49 (tgt := 21) (by decide) ?_
      exact sd_loc [1, 2, 0] rfl (ih _ _ _ h)
theorem okM_X3_remember_21 {en : yEn} {mb : Nat → Nat} {σ : yH} (hM : mOK en mb σ) {d : Nat} (hd : 2 ≤ d + 1) {K : yMS → Prop} {X : String → Addr → yH → Prop} {k n : Nat} (l1 : Nat) (l2 : Int32) (ρ : yMS) (h : wpM_X3_remember_21  l1 l2 ρ K) : Wx en (d + 1) mX3_remember 21 [(0, .ref (mb 0)), (1, .ref (mb l1)), (2, .int l2)] [] (mH en mb ρ σ) k n (mQ en mb σ (mV K)) X := by
  obtain ⟨nn, h⟩ := h
  exact olM_X3_remember_21 hM hd  nn _ _ _ h
def wpM_X3_remember (ρ : yMS) (x1 : Nat) (K : yMS → Prop) : Prop :=
  ((¬ ((ρ.1 6) = (8 : Int32)) → (vp_in (ρ.1 6) 8 ∧ wpM_X3_copyRow ρ x1 (5 + (ρ.1 6).toNatClampNeg) (fun ρ1 => (mPut ρ1 6 ((ρ1.1 6) + (1 : Int32)) (fun ρ2 => K ρ2))))) ∧ (((ρ.1 6) = (8 : Int32)) → (mPut ρ 6 ((ρ.1 6) - (1 : Int32)) (fun ρ3 => wpM_X3_remember_21  x1 (0 : Int32) ρ3 K))))
theorem okM_X3_remember {en : yEn} {mb : Nat → Nat} {σ : yH} (hM : mOK en mb σ) {d : Nat} (hd : 2 ≤ d + 1) {ρ : yMS} {x1 : Nat} {K : yMS → Prop} {X : String → Addr → yH → Prop} {k n : Nat}  (h : wpM_X3_remember ρ x1 K) : Wx en (d + 1) mX3_remember 0 [(0, .ref (mb 0)), (1, .ref (mb x1))] [] (mH en mb ρ σ) k n (mQ en mb σ (mV K)) X := by
  unfold wpM_X3_remember at h
  refine sd_aload_n (pc := 0) dX3_remember_0 rfl 0 rfl ?_
  refine sd_getI (pc := 1) dX3_remember_1 (ci := 2) rfl in_X3 (kf := 6) (by decide) q2079 (mo_gI hM rfl ?_)
  refine sd_bipush (pc := 4) dX3_remember_4 (v := 8) (by decide) ?_
  refine sd_icmpne (pc := 6) dX3_remember_6 (tgt := 52) (by decide) ⟨fun c4 => ?_, fun c4 => ?_⟩
  · have h := h.1 c4
    refine sd_aload_n (pc := 52) dX3_remember_52 rfl 1 rfl ?_
    refine sd_aload_n (pc := 53) dX3_remember_53 rfl 0 rfl ?_
    refine sd_getR (pc := 54) dX3_remember_54 (ci := 2) rfl in_X3 (kf := 5) (by decide) q2078 (mo_gR hM (j := 16) rfl ?_)
    refine sd_aload_n (pc := 57) dX3_remember_57 rfl 0 rfl ?_
    refine sd_getI (pc := 58) dX3_remember_58 (ci := 2) rfl in_X3 (kf := 6) (by decide) q2079 (mo_gI hM rfl ?_)
    refine sd_hist (pc := 61) hM dX3_remember_61 h.1 ?_
    have h := h.2
    refine sd_callS (k := k) (n := n) (d0 := d) (k0 := 0) (n0 := 0) (As := [.ref (mb x1), .ref (mb (5 + (ρ.1 6).toNatClampNeg))]) (st := []) (pc := 62) dX3_remember_62 q2197 q2198 q91 q2199 2 (by decide +kernel) rfl (Nat.le_refl _) (by decide) (Nat.le_of_ble_eq_true rfl) (Cx.mono (cm_X3_copyRow hM (by omega)  h) (mV.to (fun ρ1 h => ?_)) (xo rfl))
    refine sd_aload_n (pc := 65) dX3_remember_65 rfl 0 rfl ?_
    refine sd_dup (pc := 66) dX3_remember_66 rfl ?_
    refine sd_getI (pc := 67) dX3_remember_67 (ci := 2) rfl in_X3 (kf := 6) (by decide) q2079 (mo_gI hM rfl ?_)
    refine sd_iconst (pc := 70) dX3_remember_70 (v := 1) (by decide) ?_
    refine sd_iadd (pc := 71) dX3_remember_71 ?_
    refine sd_putf (pc := 72) dX3_remember_72 (ci := 2) rfl in_X3 tyX3 tyX3_ok nmX3 (kf := 6) (by decide) q2079 rfl (ty := .int) rfl rfl rfl (mPut.to hM (by decide) rfl h (fun ρ2 h => ?_))
    exact sd_return (pc := 75) dX3_remember_75 rfl (mV.ok h)
  · have h := h.2 c4
    refine sd_aload_n (pc := 9) dX3_remember_9 rfl 0 rfl ?_
    refine sd_dup (pc := 10) dX3_remember_10 rfl ?_
    refine sd_getI (pc := 11) dX3_remember_11 (ci := 2) rfl in_X3 (kf := 6) (by decide) q2079 (mo_gI hM rfl ?_)
    refine sd_iconst (pc := 14) dX3_remember_14 (v := 1) (by decide) ?_
    refine sd_isub (pc := 15) dX3_remember_15 ?_
    refine sd_putf (pc := 16) dX3_remember_16 (ci := 2) rfl in_X3 tyX3 tyX3_ok nmX3 (kf := 6) (by decide) q2079 rfl (ty := .int) rfl rfl rfl (mPut.to hM (by decide) rfl h (fun ρ3 h => ?_))
    refine sd_iconst (pc := 19) dX3_remember_19 (v := 0) (by decide) ?_
    refine sd_istore_n (pc := 20) dX3_remember_20 rfl (by decide) (ls' := [(2, .int (0 : Int32)), (0, .ref (mb 0)), (1, .ref (mb x1))]) rfl ?_
    exact sd_loc [1, 2, 0] rfl (okM_X3_remember_21 hM (by omega)  _ _ _ h)
theorem cm_X3_remember {en : yEn} {mb : Nat → Nat} {σ : yH} (hM : mOK en mb σ) {d : Nat} (hd : 2 ≤ d) {ρ : yMS} {x1 : Nat} {K : yMS → Prop} {X : String → Addr → yH → Prop}  (h : wpM_X3_remember ρ x1 K) : Cx en d 0 0 mX3_remember [.ref (mb 0), .ref (mb x1)] (mH en mb ρ σ) (mQ en mb σ (mV K)) X := by
  obtain ⟨d, rfl⟩ : ∃ e, d = e + 1 := ⟨d - 1, by omega⟩
  exact Cx.body (by decide +kernel) rfl (Nat.le_of_ble_eq_true rfl) (okM_X3_remember hM (by omega)  h)
/-! change()V -/
def wpM_X3_change (ρ : yMS)  (K : yMS → Prop) : Prop :=
  ((¬ ((ρ.1 12) = 0) → K ρ) ∧ (((ρ.1 12) = 0) → wpM_X3_remember ρ 1 (fun ρ1 => K ρ1)))
theorem okM_X3_change {en : yEn} {mb : Nat → Nat} {σ : yH} (hM : mOK en mb σ) {d : Nat} (hd : 3 ≤ d + 1) {ρ : yMS}  {K : yMS → Prop} {X : String → Addr → yH → Prop} {k n : Nat}  (h : wpM_X3_change ρ  K) : Wx en (d + 1) mX3_change 0 [(0, .ref (mb 0))] [] (mH en mb ρ σ) k n (mQ en mb σ (mV K)) X := by
  unfold wpM_X3_change at h
  refine sd_aload_n (pc := 0) dX3_change_0 rfl 0 rfl ?_
  refine sd_getI (pc := 1) dX3_change_1 (ci := 2) rfl in_X3 (kf := 12) (by decide) q2085 (mo_gI hM rfl ?_)
  refine sd_ifne (pc := 4) dX3_change_4 (tgt := 15) (by decide) ⟨fun c2 => ?_, fun c2 => ?_⟩
  · have h := h.1 c2
    exact sd_return (pc := 15) dX3_change_15 rfl (mV.ok h)
  · have h := h.2 c2
    refine sd_aload_n (pc := 7) dX3_change_7 rfl 0 rfl ?_
    refine sd_aload_n (pc := 8) dX3_change_8 rfl 0 rfl ?_
    refine sd_getR (pc := 9) dX3_change_9 (ci := 2) rfl in_X3 (kf := 1) (by decide) q2074 (mo_gR hM (j := 1) rfl ?_)
    refine sd_callV (k := k) (n := n) (d0 := d) (k0 := 0) (n0 := 0) (As := [.ref (mb 1)]) (st := []) (pc := 12) dX3_change_12 (ci := 2) rfl (mo_isC hM) rfl q2193 q2195 qs30 q91 q2196 1 (by decide +kernel) rfl (Nat.le_refl _) (by decide) (Nat.le_of_ble_eq_true rfl) (Cx.mono (cm_X3_remember hM (by omega)  h) (mV.to (fun ρ1 h => ?_)) (xo rfl))
    exact sd_return (pc := 15) dX3_change_15 rfl (mV.ok h)
theorem cm_X3_change {en : yEn} {mb : Nat → Nat} {σ : yH} (hM : mOK en mb σ) {d : Nat} (hd : 3 ≤ d) {ρ : yMS}  {K : yMS → Prop} {X : String → Addr → yH → Prop}  (h : wpM_X3_change ρ  K) : Cx en d 0 0 mX3_change [.ref (mb 0)] (mH en mb ρ σ) (mQ en mb σ (mV K)) X := by
  obtain ⟨d, rfl⟩ : ∃ e, d = e + 1 := ⟨d - 1, by omega⟩
  exact Cx.body (by decide +kernel) rfl (Nat.le_of_ble_eq_true rfl) (okM_X3_change hM (by omega)  h)
/-! refuse(ZII)Z -/
def wpM_X3_refuse (ρ : yMS) (x1 : Int32) (x2 : Int32) (x3 : Int32) (K : Int32 → yMS → Prop) : Prop :=
  (((x1 = 0) → (narrow .boolean (.int x1) = .int x1 ∧ K x1 ρ)) ∧ (¬ (x1 = 0) → (mPut ρ 7 x2 (fun ρ1 => (mPut ρ1 8 x3 (fun ρ2 => (mPut ρ2 9 (0 : Int32) (fun ρ3 => (narrow .boolean (.int x1) = .int x1 ∧ K x1 ρ3)))))))))
theorem okM_X3_refuse {en : yEn} {mb : Nat → Nat} {σ : yH} (hM : mOK en mb σ) {d : Nat} (hd : 1 ≤ d + 1) {ρ : yMS} {x1 : Int32} {x2 : Int32} {x3 : Int32} {K : Int32 → yMS → Prop} {X : String → Addr → yH → Prop} {k n : Nat}  (h : wpM_X3_refuse ρ x1 x2 x3 K) : Wx en (d + 1) mX3_refuse 0 [(0, .ref (mb 0)), (1, .int x1), (2, .int x2), (3, .int x3)] [] (mH en mb ρ σ) k n (mQ en mb σ (mI K)) X := by
  unfold wpM_X3_refuse at h
  refine sd_iload_n (pc := 0) dX3_refuse_0 rfl 1 rfl ?_
  refine sd_ifeq (pc := 1) dX3_refuse_1 (tgt := 19) (by decide) ⟨fun c4 => ?_, fun c4 => ?_⟩
  · have h := h.1 c4
    refine sd_iload_n (pc := 19) dX3_refuse_19 rfl 1 rfl ?_
    exact sd_ireturn (pc := 20) dX3_refuse_20 (ty0 := .boolean) rfl h.1 (mI.ok h.2)
  · have h := h.2 c4
    refine sd_aload_n (pc := 4) dX3_refuse_4 rfl 0 rfl ?_
    refine sd_iload_n (pc := 5) dX3_refuse_5 rfl 2 rfl ?_
    refine sd_putf (pc := 6) dX3_refuse_6 (ci := 2) rfl in_X3 tyX3 tyX3_ok nmX3 (kf := 7) (by decide) q2080 rfl (ty := .int) rfl rfl rfl (mPut.to hM (by decide) rfl h (fun ρ1 h => ?_))
    refine sd_aload_n (pc := 9) dX3_refuse_9 rfl 0 rfl ?_
    refine sd_iload_n (pc := 10) dX3_refuse_10 rfl 3 rfl ?_
    refine sd_putf (pc := 11) dX3_refuse_11 (ci := 2) rfl in_X3 tyX3 tyX3_ok nmX3 (kf := 8) (by decide) q2081 rfl (ty := .int) rfl rfl rfl (mPut.to hM (by decide) rfl h (fun ρ2 h => ?_))
    refine sd_aload_n (pc := 14) dX3_refuse_14 rfl 0 rfl ?_
    refine sd_iconst (pc := 15) dX3_refuse_15 (v := 0) (by decide) ?_
    refine sd_putf (pc := 16) dX3_refuse_16 (ci := 2) rfl in_X3 tyX3 tyX3_ok nmX3 (kf := 9) (by decide) q2082 rfl (ty := .int) rfl rfl rfl (mPut.to hM (by decide) rfl h (fun ρ3 h => ?_))
    refine sd_iload_n (pc := 19) dX3_refuse_19 rfl 1 rfl ?_
    exact sd_ireturn (pc := 20) dX3_refuse_20 (ty0 := .boolean) rfl h.1 (mI.ok h.2)
theorem cm_X3_refuse {en : yEn} {mb : Nat → Nat} {σ : yH} (hM : mOK en mb σ) {d : Nat} (hd : 1 ≤ d) {ρ : yMS} {x1 : Int32} {x2 : Int32} {x3 : Int32} {K : Int32 → yMS → Prop} {X : String → Addr → yH → Prop}  (h : wpM_X3_refuse ρ x1 x2 x3 K) : Cx en d 0 0 mX3_refuse [.ref (mb 0), .int x1, .int x2, .int x3] (mH en mb ρ σ) (mQ en mb σ (mI K)) X := by
  obtain ⟨d, rfl⟩ : ∃ e, d = e + 1 := ⟨d - 1, by omega⟩
  exact Cx.body (by decide +kernel) rfl (Nat.le_of_ble_eq_true rfl) (okM_X3_refuse hM (by omega)  h)
/-! isBuyRefused(I)Z -/
def wpM_X3_isBuyRefused (ρ : yMS) (x1 : Int32) (K : Int32 → yMS → Prop) : Prop :=
  mAld ρ 1 (10 : Int32) (fun v1 => wpM_X3_refuse ρ (if (v1 = (12 : Int32)) then (1 : Int32) else (0 : Int32)) (1 : Int32) (12 : Int32) (fun r4 ρ3 => ((¬ (r4 = 0) → K (1 : Int32) ρ3) ∧ ((r4 = 0) → mAld ρ3 1 (2 : Int32) (fun v5 => mAld ρ3 1 (2 : Int32) (fun v7 => wpM_X3_refuse ρ3 (if (x1 ≤ v5) then (0 : Int32) else (1 : Int32)) (10 : Int32) (x1 - v7) (fun r9 ρ8 => K (if (r9 = 0) then (0 : Int32) else (1 : Int32)) ρ8)))))))
theorem okM_X3_isBuyRefused {en : yEn} {mb : Nat → Nat} {σ : yH} (hM : mOK en mb σ) {d : Nat} (hd : 2 ≤ d + 1) {ρ : yMS} {x1 : Int32} {K : Int32 → yMS → Prop} {X : String → Addr → yH → Prop} {k n : Nat}  (h : wpM_X3_isBuyRefused ρ x1 K) : Wx en (d + 1) mX3_isBuyRefused 0 [(0, .ref (mb 0)), (1, .int x1)] [] (mH en mb ρ σ) k n (mQ en mb σ (mI K)) X := by
  unfold wpM_X3_isBuyRefused at h
  refine sd_aload_n (pc := 0) dX3_isBuyRefused_0 rfl 0 rfl ?_
  refine sd_aload_n (pc := 1) dX3_isBuyRefused_1 rfl 0 rfl ?_
  refine sd_getR (pc := 2) dX3_isBuyRefused_2 (ci := 2) rfl in_X3 (kf := 1) (by decide) q2074 (mo_gR hM (j := 1) rfl ?_)
  refine sd_bipush (pc := 5) dX3_isBuyRefused_5 (v := 10) (by decide) ?_
  refine sd_iaload (pc := 7) dX3_isBuyRefused_7 (mAld.to hM h (fun v1 h => ?_))
  refine sd_bipush (pc := 8) dX3_isBuyRefused_8 (v := 12) (by decide) ?_
  have h12 : Wx en (d + 1) mX3_isBuyRefused 18 [(0, .ref (mb 0)), (1, .int x1)] (.int (if (v1 = (12 : Int32)) then (1 : Int32) else (0 : Int32)) :: .ref (mb 0) :: []) (mH en mb ρ σ) k n (mQ en mb σ (mI K)) X := by
    refine sd_iconst (pc := 18) dX3_isBuyRefused_18 (v := 1) (by decide) ?_
    refine sd_bipush (pc := 19) dX3_isBuyRefused_19 (v := 12) (by decide) ?_
    refine sd_callV (k := k) (n := n) (d0 := d) (k0 := 0) (n0 := 0) (As := [.int (if (v1 = (12 : Int32)) then (1 : Int32) else (0 : Int32)), .int (1 : Int32), .int (12 : Int32)]) (st := []) (pc := 21) dX3_isBuyRefused_21 (ci := 2) rfl (mo_isC hM) rfl q2185 q2187 qs28 q91 q2188 3 (by decide +kernel) rfl (Nat.le_refl _) (by decide) (Nat.le_of_ble_eq_true rfl) (Cx.mono (cm_X3_refuse hM (by omega)  h) (mI.to (fun r4 ρ3 h => ?_)) (xo rfl))
    refine sd_ifne (pc := 24) dX3_isBuyRefused_24 (tgt := 59) (by decide) ⟨fun c11 => ?_, fun c11 => ?_⟩
    · have h := h.1 c11
      refine sd_iconst (pc := 59) dX3_isBuyRefused_59 (v := 1) (by decide) ?_
      refine sd_goto (pc := 60) dX3_isBuyRefused_60 (tgt := 64) (by decide) ?_
      exact sd_ireturn (pc := 64) dX3_isBuyRefused_64 (ty0 := .boolean) rfl rfl (mI.ok h)
    · have h := h.2 c11
      refine sd_aload_n (pc := 27) dX3_isBuyRefused_27 rfl 0 rfl ?_
      refine sd_aload_n (pc := 28) dX3_isBuyRefused_28 rfl 0 rfl ?_
      refine sd_getR (pc := 29) dX3_isBuyRefused_29 (ci := 2) rfl in_X3 (kf := 1) (by decide) q2074 (mo_gR hM (j := 1) rfl ?_)
      refine sd_iconst (pc := 32) dX3_isBuyRefused_32 (v := 2) (by decide) ?_
      refine sd_iaload (pc := 33) dX3_isBuyRefused_33 (mAld.to hM h (fun v5 h => ?_))
      refine sd_iload_n (pc := 34) dX3_isBuyRefused_34 rfl 1 rfl ?_
      have h13 : Wx en (d + 1) mX3_isBuyRefused 43 [(0, .ref (mb 0)), (1, .int x1)] (.int (if (x1 ≤ v5) then (0 : Int32) else (1 : Int32)) :: .ref (mb 0) :: []) (mH en mb ρ3 σ) k n (mQ en mb σ (mI K)) X := by
        refine sd_bipush (pc := 43) dX3_isBuyRefused_43 (v := 10) (by decide) ?_
        refine sd_iload_n (pc := 45) dX3_isBuyRefused_45 rfl 1 rfl ?_
        refine sd_aload_n (pc := 46) dX3_isBuyRefused_46 rfl 0 rfl ?_
        refine sd_getR (pc := 47) dX3_isBuyRefused_47 (ci := 2) rfl in_X3 (kf := 1) (by decide) q2074 (mo_gR hM (j := 1) rfl ?_)
        refine sd_iconst (pc := 50) dX3_isBuyRefused_50 (v := 2) (by decide) ?_
        refine sd_iaload (pc := 51) dX3_isBuyRefused_51 (mAld.to hM h (fun v7 h => ?_))
        refine sd_isub (pc := 52) dX3_isBuyRefused_52 ?_
        refine sd_callV (k := k) (n := n) (d0 := d) (k0 := 0) (n0 := 0) (As := [.int (if (x1 ≤ v5) then (0 : Int32) else (1 : Int32)), .int (10 : Int32), .int (x1 - v7)]) (st := []) (pc := 53) dX3_isBuyRefused_53 (ci := 2) rfl (mo_isC hM) rfl q2185 q2187 qs28 q91 q2188 3 (by decide +kernel) rfl (Nat.le_refl _) (by decide) (Nat.le_of_ble_eq_true rfl) (Cx.mono (cm_X3_refuse hM (by omega)  h) (mI.to (fun r9 ρ8 h => ?_)) (xo rfl))
        have h14 : Wx en (d + 1) mX3_isBuyRefused 64 [(0, .ref (mb 0)), (1, .int x1)] (.int (if (r9 = 0) then (0 : Int32) else (1 : Int32)) :: []) (mH en mb ρ8 σ) k n (mQ en mb σ (mI K)) X := by
          exact sd_ireturn (pc := 64) dX3_isBuyRefused_64 (ty0 := .boolean) rfl (nb_ite rfl rfl) (mI.ok h)
        have e15 := sd_iteI h14
        refine sd_ifeq (pc := 56) dX3_isBuyRefused_56 (tgt := 63) (by decide) ⟨fun c10 => ?_, fun c10 => ?_⟩
        · refine sd_iconst (pc := 63) dX3_isBuyRefused_63 (v := 0) (by decide) ?_
          exact (e15.1 c10)
        · refine sd_iconst (pc := 59) dX3_isBuyRefused_59 (v := 1) (by decide) ?_
          refine sd_goto (pc := 60) dX3_isBuyRefused_60 (tgt := 64) (by decide) ?_
          exact (e15.2 c10)
      have e16 := sd_iteI h13
      refine sd_icmpge (pc := 35) dX3_isBuyRefused_35 (tgt := 42) (by decide) ⟨fun c6 => ?_, fun c6 => ?_⟩
      · refine sd_iconst (pc := 42) dX3_isBuyRefused_42 (v := 0) (by decide) ?_
        exact (e16.1 c6)
      · refine sd_iconst (pc := 38) dX3_isBuyRefused_38 (v := 1) (by decide) ?_
        refine sd_goto (pc := 39) dX3_isBuyRefused_39 (tgt := 43) (by decide) ?_
        exact (e16.2 c6)
  have e17 := sd_iteIN h12
  refine sd_icmpne (pc := 10) dX3_isBuyRefused_10 (tgt := 17) (by decide) ⟨fun c2 => ?_, fun c2 => ?_⟩
  · refine sd_iconst (pc := 17) dX3_isBuyRefused_17 (v := 0) (by decide) ?_
    exact (e17.1 c2)
  · refine sd_iconst (pc := 13) dX3_isBuyRefused_13 (v := 1) (by decide) ?_
    refine sd_goto (pc := 14) dX3_isBuyRefused_14 (tgt := 18) (by decide) ?_
    exact (e17.2 c2)
theorem cm_X3_isBuyRefused {en : yEn} {mb : Nat → Nat} {σ : yH} (hM : mOK en mb σ) {d : Nat} (hd : 2 ≤ d) {ρ : yMS} {x1 : Int32} {K : Int32 → yMS → Prop} {X : String → Addr → yH → Prop}  (h : wpM_X3_isBuyRefused ρ x1 K) : Cx en d 0 0 mX3_isBuyRefused [.ref (mb 0), .int x1] (mH en mb ρ σ) (mQ en mb σ (mI K)) X := by
  obtain ⟨d, rfl⟩ : ∃ e, d = e + 1 := ⟨d - 1, by omega⟩
  exact Cx.body (by decide +kernel) rfl (Nat.le_of_ble_eq_true rfl) (okM_X3_isBuyRefused hM (by omega)  h)
/-! isLawn(I)Z -/
def wpM_X3_isLawn (ρ : yMS) (x1 : Int32) (K : Int32 → yMS → Prop) : Prop :=
  wpM_X3_isBetween ρ x1 (0 : Int32) (8 : Int32) (fun r2 ρ1 => (narrow .boolean (.int r2) = .int r2 ∧ K r2 ρ1))
theorem okM_X3_isLawn {en : yEn} {mb : Nat → Nat} {σ : yH} (hM : mOK en mb σ) {d : Nat} (hd : 2 ≤ d + 1) {ρ : yMS} {x1 : Int32} {K : Int32 → yMS → Prop} {X : String → Addr → yH → Prop} {k n : Nat}  (h : wpM_X3_isLawn ρ x1 K) : Wx en (d + 1) mX3_isLawn 0 [(0, .int x1)] [] (mH en mb ρ σ) k n (mQ en mb σ (mI K)) X := by
  unfold wpM_X3_isLawn at h
  refine sd_iload_n (pc := 0) dX3_isLawn_0 rfl 0 rfl ?_
  refine sd_iconst (pc := 1) dX3_isLawn_1 (v := 0) (by decide) ?_
  refine sd_bipush (pc := 2) dX3_isLawn_2 (v := 8) (by decide) ?_
  refine sd_callS (k := k) (n := n) (d0 := d) (k0 := 0) (n0 := 0) (As := [.int x1, .int (0 : Int32), .int (8 : Int32)]) (st := []) (pc := 4) dX3_isLawn_4 q2167 q2168 q91 q2169 3 (by decide +kernel) rfl (Nat.le_refl _) (by decide) (Nat.le_of_ble_eq_true rfl) (Cx.mono (cm_X3_isBetween hM (by omega)  h) (mI.to (fun r2 ρ1 h => ?_)) (xo rfl))
  exact sd_ireturn (pc := 7) dX3_isLawn_7 (ty0 := .boolean) rfl h.1 (mI.ok h.2)
theorem cm_X3_isLawn {en : yEn} {mb : Nat → Nat} {σ : yH} (hM : mOK en mb σ) {d : Nat} (hd : 2 ≤ d) {ρ : yMS} {x1 : Int32} {K : Int32 → yMS → Prop} {X : String → Addr → yH → Prop}  (h : wpM_X3_isLawn ρ x1 K) : Cx en d 0 0 mX3_isLawn [.int x1] (mH en mb ρ σ) (mQ en mb σ (mI K)) X := by
  obtain ⟨d, rfl⟩ : ∃ e, d = e + 1 := ⟨d - 1, by omega⟩
  exact Cx.body (by decide +kernel) rfl (Nat.le_of_ble_eq_true rfl) (okM_X3_isLawn hM (by omega)  h)
/-! cock(III)I -/
def wpM_X3_cock (ρ : yMS) (x1 : Int32) (x2 : Int32) (x3 : Int32) (K : Int32 → yMS → Prop) : Prop :=
  wpM_X3_isLawn ρ x1 (fun r2 ρ1 => wpM_X3_fails ρ1 (1 : Int32) (if (r2 = 0) then (1 : Int32) else (0 : Int32)) (fun r5 ρ4 => ((¬ (r5 = 0) → K (0 : Int32) ρ4) ∧ ((r5 = 0) → wpM_X3_isBetween ρ4 x2 (0 : Int32) (150 : Int32) (fun r7 ρ6 => (((r7 = 0) → wpM_X3_fails ρ6 (2 : Int32) (1 : Int32) (fun r9 ρ8 => ((¬ (r9 = 0) → K (0 : Int32) ρ8) ∧ ((r9 = 0) → wpM_X3_isBuyRefused ρ8 (8 : Int32) (fun r11 ρ10 => wpM_X3_fails ρ10 (3 : Int32) r11 (fun r13 ρ12 => (((r13 = 0) → wpM_X3_change ρ12  (fun ρ14 => mAld ρ14 1 (2 : Int32) (fun v15 => mAst ρ14 1 (2 : Int32) (v15 - (8 : Int32)) (fun ρ16 => wpM_X3_addBird ρ16 (0 : Int32) x1 x2 x3 (-1 : Int32) (fun r18 ρ17 => K r18 ρ17))))) ∧ (¬ (r13 = 0) → K (0 : Int32) ρ12)))))))) ∧ (¬ (r7 = 0) → wpM_X3_isBetween ρ6 x3 (1 : Int32) (9 : Int32) (fun r22 ρ21 => wpM_X3_fails ρ21 (2 : Int32) (if (r22 = 0) then (1 : Int32) else (0 : Int32)) (fun r25 ρ24 => ((¬ (r25 = 0) → K (0 : Int32) ρ24) ∧ ((r25 = 0) → wpM_X3_isBuyRefused ρ24 (8 : Int32) (fun r27 ρ26 => wpM_X3_fails ρ26 (3 : Int32) r27 (fun r29 ρ28 => (((r29 = 0) → wpM_X3_change ρ28  (fun ρ30 => mAld ρ30 1 (2 : Int32) (fun v31 => mAst ρ30 1 (2 : Int32) (v31 - (8 : Int32)) (fun ρ32 => wpM_X3_addBird ρ32 (0 : Int32) x1 x2 x3 (-1 : Int32) (fun r34 ρ33 => K r34 ρ33))))) ∧ (¬ (r29 = 0) → K (0 : Int32) ρ28)))))))))))))))
theorem okM_X3_cock {en : yEn} {mb : Nat → Nat} {σ : yH} (hM : mOK en mb σ) {d : Nat} (hd : 4 ≤ d + 1) {ρ : yMS} {x1 : Int32} {x2 : Int32} {x3 : Int32} {K : Int32 → yMS → Prop} {X : String → Addr → yH → Prop} {k n : Nat}  (h : wpM_X3_cock ρ x1 x2 x3 K) : Wx en (d + 1) mX3_cock 0 [(0, .ref (mb 0)), (1, .int x1), (2, .int x2), (3, .int x3)] [] (mH en mb ρ σ) k n (mQ en mb σ (mI K)) X := by
  unfold wpM_X3_cock at h
  refine sd_aload_n (pc := 0) dX3_cock_0 rfl 0 rfl ?_
  refine sd_iconst (pc := 1) dX3_cock_1 (v := 1) (by decide) ?_
  refine sd_iload_n (pc := 2) dX3_cock_2 rfl 1 rfl ?_
  refine sd_callS (k := k) (n := n) (d0 := d) (k0 := 0) (n0 := 0) (As := [.int x1]) (st := [.int (1 : Int32), .ref (mb 0)]) (pc := 3) dX3_cock_3 q2178 q2179 q91 q2180 1 (by decide +kernel) rfl (Nat.le_refl _) (by decide) (Nat.le_of_ble_eq_true rfl) (Cx.mono (cm_X3_isLawn hM (by omega)  h) (mI.to (fun r2 ρ1 h => ?_)) (xo rfl))
  have h39 : Wx en (d + 1) mX3_cock 14 [(0, .ref (mb 0)), (1, .int x1), (2, .int x2), (3, .int x3)] (.int (if (r2 = 0) then (1 : Int32) else (0 : Int32)) :: .int (1 : Int32) :: .ref (mb 0) :: []) (mH en mb ρ1 σ) k n (mQ en mb σ (mI K)) X := by
    refine sd_callV (k := k) (n := n) (d0 := d) (k0 := 0) (n0 := 0) (As := [.int (1 : Int32), .int (if (r2 = 0) then (1 : Int32) else (0 : Int32))]) (st := []) (pc := 14) dX3_cock_14 (ci := 2) rfl (mo_isC hM) rfl q2170 q2172 qs26 q91 q2173 2 (by decide +kernel) rfl (Nat.le_refl _) (by decide) (Nat.le_of_ble_eq_true rfl) (Cx.mono (cm_X3_fails hM (by omega)  h) (mI.to (fun r5 ρ4 h => ?_)) (xo rfl))
    refine sd_ifne (pc := 17) dX3_cock_17 (tgt := 68) (by decide) ⟨fun c38 => ?_, fun c38 => ?_⟩
    · have h := h.1 c38
      refine sd_iconst (pc := 68) dX3_cock_68 (v := 0) (by decide) ?_
      exact sd_ireturn (pc := 69) dX3_cock_69 (ty0 := .int) rfl rfl (mI.ok h)
    · have h := h.2 c38
      refine sd_aload_n (pc := 20) dX3_cock_20 rfl 0 rfl ?_
      refine sd_iconst (pc := 21) dX3_cock_21 (v := 2) (by decide) ?_
      refine sd_iload_n (pc := 22) dX3_cock_22 rfl 2 rfl ?_
      refine sd_iconst (pc := 23) dX3_cock_23 (v := 0) (by decide) ?_
      refine sd_sipush (pc := 24) dX3_cock_24 (v := 150) (by decide) ?_
      refine sd_callS (k := k) (n := n) (d0 := d) (k0 := 0) (n0 := 0) (As := [.int x2, .int (0 : Int32), .int (150 : Int32)]) (st := [.int (2 : Int32), .ref (mb 0)]) (pc := 27) dX3_cock_27 q2167 q2168 q91 q2169 3 (by decide +kernel) rfl (Nat.le_refl _) (by decide) (Nat.le_of_ble_eq_true rfl) (Cx.mono (cm_X3_isBetween hM (by omega)  h) (mI.to (fun r7 ρ6 h => ?_)) (xo rfl))
      refine sd_ifeq (pc := 30) dX3_cock_30 (tgt := 43) (by decide) ⟨fun c37 => ?_, fun c37 => ?_⟩
      · have h := h.1 c37
        refine sd_iconst (pc := 43) dX3_cock_43 (v := 1) (by decide) ?_
        refine sd_goto (pc := 44) dX3_cock_44 (tgt := 48) (by decide) ?_
        refine sd_callV (k := k) (n := n) (d0 := d) (k0 := 0) (n0 := 0) (As := [.int (2 : Int32), .int (1 : Int32)]) (st := []) (pc := 48) dX3_cock_48 (ci := 2) rfl (mo_isC hM) rfl q2170 q2172 qs26 q91 q2173 2 (by decide +kernel) rfl (Nat.le_refl _) (by decide) (Nat.le_of_ble_eq_true rfl) (Cx.mono (cm_X3_fails hM (by omega)  h) (mI.to (fun r9 ρ8 h => ?_)) (xo rfl))
        refine sd_ifne (pc := 51) dX3_cock_51 (tgt := 68) (by decide) ⟨fun c20 => ?_, fun c20 => ?_⟩
        · have h := h.1 c20
          refine sd_iconst (pc := 68) dX3_cock_68 (v := 0) (by decide) ?_
          exact sd_ireturn (pc := 69) dX3_cock_69 (ty0 := .int) rfl rfl (mI.ok h)
        · have h := h.2 c20
          refine sd_aload_n (pc := 54) dX3_cock_54 rfl 0 rfl ?_
          refine sd_iconst (pc := 55) dX3_cock_55 (v := 3) (by decide) ?_
          refine sd_aload_n (pc := 56) dX3_cock_56 rfl 0 rfl ?_
          refine sd_bipush (pc := 57) dX3_cock_57 (v := 8) (by decide) ?_
          refine sd_callV (k := k) (n := n) (d0 := d) (k0 := 0) (n0 := 0) (As := [.int (8 : Int32)]) (st := [.int (3 : Int32), .ref (mb 0)]) (pc := 59) dX3_cock_59 (ci := 2) rfl (mo_isC hM) rfl q2181 q2183 qs27 q91 q2184 1 (by decide +kernel) rfl (Nat.le_refl _) (by decide) (Nat.le_of_ble_eq_true rfl) (Cx.mono (cm_X3_isBuyRefused hM (by omega)  h) (mI.to (fun r11 ρ10 h => ?_)) (xo rfl))
          refine sd_callV (k := k) (n := n) (d0 := d) (k0 := 0) (n0 := 0) (As := [.int (3 : Int32), .int r11]) (st := []) (pc := 62) dX3_cock_62 (ci := 2) rfl (mo_isC hM) rfl q2170 q2172 qs26 q91 q2173 2 (by decide +kernel) rfl (Nat.le_refl _) (by decide) (Nat.le_of_ble_eq_true rfl) (Cx.mono (cm_X3_fails hM (by omega)  h) (mI.to (fun r13 ρ12 h => ?_)) (xo rfl))
          refine sd_ifeq (pc := 65) dX3_cock_65 (tgt := 70) (by decide) ⟨fun c19 => ?_, fun c19 => ?_⟩
          · have h := h.1 c19
            refine sd_aload_n (pc := 70) dX3_cock_70 rfl 0 rfl ?_
            refine sd_callV (k := k) (n := n) (d0 := d) (k0 := 0) (n0 := 0) (As := []) (st := []) (pc := 71) dX3_cock_71 (ci := 2) rfl (mo_isC hM) rfl q2189 q2191 qs29 q91 q2192 0 (by decide +kernel) rfl (Nat.le_refl _) (by decide) (Nat.le_of_ble_eq_true rfl) (Cx.mono (cm_X3_change hM (by omega)  h) (mV.to (fun ρ14 h => ?_)) (xo rfl))
            refine sd_aload_n (pc := 74) dX3_cock_74 rfl 0 rfl ?_
            refine sd_getR (pc := 75) dX3_cock_75 (ci := 2) rfl in_X3 (kf := 1) (by decide) q2074 (mo_gR hM (j := 1) rfl ?_)
            refine sd_iconst (pc := 78) dX3_cock_78 (v := 2) (by decide) ?_
            refine sd_dup2 (pc := 79) dX3_cock_79 rfl rfl ?_
            refine sd_iaload (pc := 80) dX3_cock_80 (mAld.to hM h (fun v15 h => ?_))
            refine sd_bipush (pc := 81) dX3_cock_81 (v := 8) (by decide) ?_
            refine sd_isub (pc := 83) dX3_cock_83 ?_
            refine sd_iastore (pc := 84) dX3_cock_84 (mAst.to hM h (fun ρ16 h => ?_))
            refine sd_aload_n (pc := 85) dX3_cock_85 rfl 0 rfl ?_
            refine sd_iconst (pc := 86) dX3_cock_86 (v := 0) (by decide) ?_
            refine sd_iload_n (pc := 87) dX3_cock_87 rfl 1 rfl ?_
            refine sd_iload_n (pc := 88) dX3_cock_88 rfl 2 rfl ?_
            refine sd_iload_n (pc := 89) dX3_cock_89 rfl 3 rfl ?_
            refine sd_iconst (pc := 90) dX3_cock_90 (v := -1) (by decide) ?_
            refine sd_callV (k := k) (n := n) (d0 := d) (k0 := 0) (n0 := 0) (As := [.int (0 : Int32), .int x1, .int x2, .int x3, .int (-1 : Int32)]) (st := []) (pc := 91) dX3_cock_91 (ci := 2) rfl (mo_isC hM) rfl q2200 q2202 qs31 q91 q2203 5 (by decide +kernel) rfl (Nat.le_refl _) (by decide) (Nat.le_of_ble_eq_true rfl) (Cx.mono (cm_X3_addBird hM (by omega)  h) (mI.to (fun r18 ρ17 h => ?_)) (xo rfl))
            exact sd_ireturn (pc := 94) dX3_cock_94 (ty0 := .int) rfl rfl (mI.ok h)
          · have h := h.2 c19
            refine sd_iconst (pc := 68) dX3_cock_68 (v := 0) (by decide) ?_
            exact sd_ireturn (pc := 69) dX3_cock_69 (ty0 := .int) rfl rfl (mI.ok h)
      · have h := h.2 c37
        refine sd_iload_n (pc := 33) dX3_cock_33 rfl 3 rfl ?_
        refine sd_iconst (pc := 34) dX3_cock_34 (v := 1) (by decide) ?_
        refine sd_bipush (pc := 35) dX3_cock_35 (v := 9) (by decide) ?_
        refine sd_callS (k := k) (n := n) (d0 := d) (k0 := 0) (n0 := 0) (As := [.int x3, .int (1 : Int32), .int (9 : Int32)]) (st := [.int (2 : Int32), .ref (mb 0)]) (pc := 37) dX3_cock_37 q2167 q2168 q91 q2169 3 (by decide +kernel) rfl (Nat.le_refl _) (by decide) (Nat.le_of_ble_eq_true rfl) (Cx.mono (cm_X3_isBetween hM (by omega)  h) (mI.to (fun r22 ρ21 h => ?_)) (xo rfl))
        have h40 : Wx en (d + 1) mX3_cock 48 [(0, .ref (mb 0)), (1, .int x1), (2, .int x2), (3, .int x3)] (.int (if (r22 = 0) then (1 : Int32) else (0 : Int32)) :: .int (2 : Int32) :: .ref (mb 0) :: []) (mH en mb ρ21 σ) k n (mQ en mb σ (mI K)) X := by
          refine sd_callV (k := k) (n := n) (d0 := d) (k0 := 0) (n0 := 0) (As := [.int (2 : Int32), .int (if (r22 = 0) then (1 : Int32) else (0 : Int32))]) (st := []) (pc := 48) dX3_cock_48 (ci := 2) rfl (mo_isC hM) rfl q2170 q2172 qs26 q91 q2173 2 (by decide +kernel) rfl (Nat.le_refl _) (by decide) (Nat.le_of_ble_eq_true rfl) (Cx.mono (cm_X3_fails hM (by omega)  h) (mI.to (fun r25 ρ24 h => ?_)) (xo rfl))
          refine sd_ifne (pc := 51) dX3_cock_51 (tgt := 68) (by decide) ⟨fun c36 => ?_, fun c36 => ?_⟩
          · have h := h.1 c36
            refine sd_iconst (pc := 68) dX3_cock_68 (v := 0) (by decide) ?_
            exact sd_ireturn (pc := 69) dX3_cock_69 (ty0 := .int) rfl rfl (mI.ok h)
          · have h := h.2 c36
            refine sd_aload_n (pc := 54) dX3_cock_54 rfl 0 rfl ?_
            refine sd_iconst (pc := 55) dX3_cock_55 (v := 3) (by decide) ?_
            refine sd_aload_n (pc := 56) dX3_cock_56 rfl 0 rfl ?_
            refine sd_bipush (pc := 57) dX3_cock_57 (v := 8) (by decide) ?_
            refine sd_callV (k := k) (n := n) (d0 := d) (k0 := 0) (n0 := 0) (As := [.int (8 : Int32)]) (st := [.int (3 : Int32), .ref (mb 0)]) (pc := 59) dX3_cock_59 (ci := 2) rfl (mo_isC hM) rfl q2181 q2183 qs27 q91 q2184 1 (by decide +kernel) rfl (Nat.le_refl _) (by decide) (Nat.le_of_ble_eq_true rfl) (Cx.mono (cm_X3_isBuyRefused hM (by omega)  h) (mI.to (fun r27 ρ26 h => ?_)) (xo rfl))
            refine sd_callV (k := k) (n := n) (d0 := d) (k0 := 0) (n0 := 0) (As := [.int (3 : Int32), .int r27]) (st := []) (pc := 62) dX3_cock_62 (ci := 2) rfl (mo_isC hM) rfl q2170 q2172 qs26 q91 q2173 2 (by decide +kernel) rfl (Nat.le_refl _) (by decide) (Nat.le_of_ble_eq_true rfl) (Cx.mono (cm_X3_fails hM (by omega)  h) (mI.to (fun r29 ρ28 h => ?_)) (xo rfl))
            refine sd_ifeq (pc := 65) dX3_cock_65 (tgt := 70) (by decide) ⟨fun c35 => ?_, fun c35 => ?_⟩
            · have h := h.1 c35
              refine sd_aload_n (pc := 70) dX3_cock_70 rfl 0 rfl ?_
              refine sd_callV (k := k) (n := n) (d0 := d) (k0 := 0) (n0 := 0) (As := []) (st := []) (pc := 71) dX3_cock_71 (ci := 2) rfl (mo_isC hM) rfl q2189 q2191 qs29 q91 q2192 0 (by decide +kernel) rfl (Nat.le_refl _) (by decide) (Nat.le_of_ble_eq_true rfl) (Cx.mono (cm_X3_change hM (by omega)  h) (mV.to (fun ρ30 h => ?_)) (xo rfl))
              refine sd_aload_n (pc := 74) dX3_cock_74 rfl 0 rfl ?_
              refine sd_getR (pc := 75) dX3_cock_75 (ci := 2) rfl in_X3 (kf := 1) (by decide) q2074 (mo_gR hM (j := 1) rfl ?_)
              refine sd_iconst (pc := 78) dX3_cock_78 (v := 2) (by decide) ?_
              refine sd_dup2 (pc := 79) dX3_cock_79 rfl rfl ?_
              refine sd_iaload (pc := 80) dX3_cock_80 (mAld.to hM h (fun v31 h => ?_))
              refine sd_bipush (pc := 81) dX3_cock_81 (v := 8) (by decide) ?_
              refine sd_isub (pc := 83) dX3_cock_83 ?_
              refine sd_iastore (pc := 84) dX3_cock_84 (mAst.to hM h (fun ρ32 h => ?_))
              refine sd_aload_n (pc := 85) dX3_cock_85 rfl 0 rfl ?_
              refine sd_iconst (pc := 86) dX3_cock_86 (v := 0) (by decide) ?_
              refine sd_iload_n (pc := 87) dX3_cock_87 rfl 1 rfl ?_
              refine sd_iload_n (pc := 88) dX3_cock_88 rfl 2 rfl ?_
              refine sd_iload_n (pc := 89) dX3_cock_89 rfl 3 rfl ?_
              refine sd_iconst (pc := 90) dX3_cock_90 (v := -1) (by decide) ?_
              refine sd_callV (k := k) (n := n) (d0 := d) (k0 := 0) (n0 := 0) (As := [.int (0 : Int32), .int x1, .int x2, .int x3, .int (-1 : Int32)]) (st := []) (pc := 91) dX3_cock_91 (ci := 2) rfl (mo_isC hM) rfl q2200 q2202 qs31 q91 q2203 5 (by decide +kernel) rfl (Nat.le_refl _) (by decide) (Nat.le_of_ble_eq_true rfl) (Cx.mono (cm_X3_addBird hM (by omega)  h) (mI.to (fun r34 ρ33 h => ?_)) (xo rfl))
              exact sd_ireturn (pc := 94) dX3_cock_94 (ty0 := .int) rfl rfl (mI.ok h)
            · have h := h.2 c35
              refine sd_iconst (pc := 68) dX3_cock_68 (v := 0) (by decide) ?_
              exact sd_ireturn (pc := 69) dX3_cock_69 (ty0 := .int) rfl rfl (mI.ok h)
        have e41 := sd_iteIN h40
        refine sd_ifne (pc := 40) dX3_cock_40 (tgt := 47) (by decide) ⟨fun c23 => ?_, fun c23 => ?_⟩
        · refine sd_iconst (pc := 47) dX3_cock_47 (v := 0) (by decide) ?_
          exact (e41.1 c23)
        · refine sd_iconst (pc := 43) dX3_cock_43 (v := 1) (by decide) ?_
          refine sd_goto (pc := 44) dX3_cock_44 (tgt := 48) (by decide) ?_
          exact (e41.2 c23)
  have e42 := sd_iteIN h39
  refine sd_ifne (pc := 6) dX3_cock_6 (tgt := 13) (by decide) ⟨fun c3 => ?_, fun c3 => ?_⟩
  · refine sd_iconst (pc := 13) dX3_cock_13 (v := 0) (by decide) ?_
    exact (e42.1 c3)
  · refine sd_iconst (pc := 9) dX3_cock_9 (v := 1) (by decide) ?_
    refine sd_goto (pc := 10) dX3_cock_10 (tgt := 14) (by decide) ?_
    exact (e42.2 c3)
theorem cm_X3_cock {en : yEn} {mb : Nat → Nat} {σ : yH} (hM : mOK en mb σ) {d : Nat} (hd : 4 ≤ d) {ρ : yMS} {x1 : Int32} {x2 : Int32} {x3 : Int32} {K : Int32 → yMS → Prop} {X : String → Addr → yH → Prop}  (h : wpM_X3_cock ρ x1 x2 x3 K) : Cx en d 0 0 mX3_cock [.ref (mb 0), .int x1, .int x2, .int x3] (mH en mb ρ σ) (mQ en mb σ (mI K)) X := by
  obtain ⟨d, rfl⟩ : ∃ e, d = e + 1 := ⟨d - 1, by omega⟩
  exact Cx.body (by decide +kernel) rfl (Nat.le_of_ble_eq_true rfl) (okM_X3_cock hM (by omega)  h)
/-! hen(I)I -/
def wpM_X3_hen (ρ : yMS) (x1 : Int32) (K : Int32 → yMS → Prop) : Prop :=
  wpM_X3_isLawn ρ x1 (fun r2 ρ1 => wpM_X3_fails ρ1 (1 : Int32) (if (r2 = 0) then (1 : Int32) else (0 : Int32)) (fun r5 ρ4 => ((¬ (r5 = 0) → K (0 : Int32) ρ4) ∧ ((r5 = 0) → wpM_X3_isBuyRefused ρ4 (5 : Int32) (fun r7 ρ6 => wpM_X3_fails ρ6 (2 : Int32) r7 (fun r9 ρ8 => (((r9 = 0) → wpM_X3_change ρ8  (fun ρ10 => mAld ρ10 1 (2 : Int32) (fun v11 => mAst ρ10 1 (2 : Int32) (v11 - (5 : Int32)) (fun ρ12 => wpM_X3_addBird ρ12 (1 : Int32) x1 (0 : Int32) (0 : Int32) (-1 : Int32) (fun r14 ρ13 => K r14 ρ13))))) ∧ (¬ (r9 = 0) → K (0 : Int32) ρ8))))))))
theorem okM_X3_hen {en : yEn} {mb : Nat → Nat} {σ : yH} (hM : mOK en mb σ) {d : Nat} (hd : 4 ≤ d + 1) {ρ : yMS} {x1 : Int32} {K : Int32 → yMS → Prop} {X : String → Addr → yH → Prop} {k n : Nat}  (h : wpM_X3_hen ρ x1 K) : Wx en (d + 1) mX3_hen 0 [(0, .ref (mb 0)), (1, .int x1)] [] (mH en mb ρ σ) k n (mQ en mb σ (mI K)) X := by
  unfold wpM_X3_hen at h
  refine sd_aload_n (pc := 0) dX3_hen_0 rfl 0 rfl ?_
  refine sd_iconst (pc := 1) dX3_hen_1 (v := 1) (by decide) ?_
  refine sd_iload_n (pc := 2) dX3_hen_2 rfl 1 rfl ?_
  refine sd_callS (k := k) (n := n) (d0 := d) (k0 := 0) (n0 := 0) (As := [.int x1]) (st := [.int (1 : Int32), .ref (mb 0)]) (pc := 3) dX3_hen_3 q2178 q2179 q91 q2180 1 (by decide +kernel) rfl (Nat.le_refl _) (by decide) (Nat.le_of_ble_eq_true rfl) (Cx.mono (cm_X3_isLawn hM (by omega)  h) (mI.to (fun r2 ρ1 h => ?_)) (xo rfl))
  have h17 : Wx en (d + 1) mX3_hen 14 [(0, .ref (mb 0)), (1, .int x1)] (.int (if (r2 = 0) then (1 : Int32) else (0 : Int32)) :: .int (1 : Int32) :: .ref (mb 0) :: []) (mH en mb ρ1 σ) k n (mQ en mb σ (mI K)) X := by
    refine sd_callV (k := k) (n := n) (d0 := d) (k0 := 0) (n0 := 0) (As := [.int (1 : Int32), .int (if (r2 = 0) then (1 : Int32) else (0 : Int32))]) (st := []) (pc := 14) dX3_hen_14 (ci := 2) rfl (mo_isC hM) rfl q2170 q2172 qs26 q91 q2173 2 (by decide +kernel) rfl (Nat.le_refl _) (by decide) (Nat.le_of_ble_eq_true rfl) (Cx.mono (cm_X3_fails hM (by omega)  h) (mI.to (fun r5 ρ4 h => ?_)) (xo rfl))
    refine sd_ifne (pc := 17) dX3_hen_17 (tgt := 33) (by decide) ⟨fun c16 => ?_, fun c16 => ?_⟩
    · have h := h.1 c16
      refine sd_iconst (pc := 33) dX3_hen_33 (v := 0) (by decide) ?_
      exact sd_ireturn (pc := 34) dX3_hen_34 (ty0 := .int) rfl rfl (mI.ok h)
    · have h := h.2 c16
      refine sd_aload_n (pc := 20) dX3_hen_20 rfl 0 rfl ?_
      refine sd_iconst (pc := 21) dX3_hen_21 (v := 2) (by decide) ?_
      refine sd_aload_n (pc := 22) dX3_hen_22 rfl 0 rfl ?_
      refine sd_iconst (pc := 23) dX3_hen_23 (v := 5) (by decide) ?_
      refine sd_callV (k := k) (n := n) (d0 := d) (k0 := 0) (n0 := 0) (As := [.int (5 : Int32)]) (st := [.int (2 : Int32), .ref (mb 0)]) (pc := 24) dX3_hen_24 (ci := 2) rfl (mo_isC hM) rfl q2181 q2183 qs27 q91 q2184 1 (by decide +kernel) rfl (Nat.le_refl _) (by decide) (Nat.le_of_ble_eq_true rfl) (Cx.mono (cm_X3_isBuyRefused hM (by omega)  h) (mI.to (fun r7 ρ6 h => ?_)) (xo rfl))
      refine sd_callV (k := k) (n := n) (d0 := d) (k0 := 0) (n0 := 0) (As := [.int (2 : Int32), .int r7]) (st := []) (pc := 27) dX3_hen_27 (ci := 2) rfl (mo_isC hM) rfl q2170 q2172 qs26 q91 q2173 2 (by decide +kernel) rfl (Nat.le_refl _) (by decide) (Nat.le_of_ble_eq_true rfl) (Cx.mono (cm_X3_fails hM (by omega)  h) (mI.to (fun r9 ρ8 h => ?_)) (xo rfl))
      refine sd_ifeq (pc := 30) dX3_hen_30 (tgt := 35) (by decide) ⟨fun c15 => ?_, fun c15 => ?_⟩
      · have h := h.1 c15
        refine sd_aload_n (pc := 35) dX3_hen_35 rfl 0 rfl ?_
        refine sd_callV (k := k) (n := n) (d0 := d) (k0 := 0) (n0 := 0) (As := []) (st := []) (pc := 36) dX3_hen_36 (ci := 2) rfl (mo_isC hM) rfl q2189 q2191 qs29 q91 q2192 0 (by decide +kernel) rfl (Nat.le_refl _) (by decide) (Nat.le_of_ble_eq_true rfl) (Cx.mono (cm_X3_change hM (by omega)  h) (mV.to (fun ρ10 h => ?_)) (xo rfl))
        refine sd_aload_n (pc := 39) dX3_hen_39 rfl 0 rfl ?_
        refine sd_getR (pc := 40) dX3_hen_40 (ci := 2) rfl in_X3 (kf := 1) (by decide) q2074 (mo_gR hM (j := 1) rfl ?_)
        refine sd_iconst (pc := 43) dX3_hen_43 (v := 2) (by decide) ?_
        refine sd_dup2 (pc := 44) dX3_hen_44 rfl rfl ?_
        refine sd_iaload (pc := 45) dX3_hen_45 (mAld.to hM h (fun v11 h => ?_))
        refine sd_iconst (pc := 46) dX3_hen_46 (v := 5) (by decide) ?_
        refine sd_isub (pc := 47) dX3_hen_47 ?_
        refine sd_iastore (pc := 48) dX3_hen_48 (mAst.to hM h (fun ρ12 h => ?_))
        refine sd_aload_n (pc := 49) dX3_hen_49 rfl 0 rfl ?_
        refine sd_iconst (pc := 50) dX3_hen_50 (v := 1) (by decide) ?_
        refine sd_iload_n (pc := 51) dX3_hen_51 rfl 1 rfl ?_
        refine sd_iconst (pc := 52) dX3_hen_52 (v := 0) (by decide) ?_
        refine sd_iconst (pc := 53) dX3_hen_53 (v := 0) (by decide) ?_
        refine sd_iconst (pc := 54) dX3_hen_54 (v := -1) (by decide) ?_
        refine sd_callV (k := k) (n := n) (d0 := d) (k0 := 0) (n0 := 0) (As := [.int (1 : Int32), .int x1, .int (0 : Int32), .int (0 : Int32), .int (-1 : Int32)]) (st := []) (pc := 55) dX3_hen_55 (ci := 2) rfl (mo_isC hM) rfl q2200 q2202 qs31 q91 q2203 5 (by decide +kernel) rfl (Nat.le_refl _) (by decide) (Nat.le_of_ble_eq_true rfl) (Cx.mono (cm_X3_addBird hM (by omega)  h) (mI.to (fun r14 ρ13 h => ?_)) (xo rfl))
        exact sd_ireturn (pc := 58) dX3_hen_58 (ty0 := .int) rfl rfl (mI.ok h)
      · have h := h.2 c15
        refine sd_iconst (pc := 33) dX3_hen_33 (v := 0) (by decide) ?_
        exact sd_ireturn (pc := 34) dX3_hen_34 (ty0 := .int) rfl rfl (mI.ok h)
  have e18 := sd_iteIN h17
  refine sd_ifne (pc := 6) dX3_hen_6 (tgt := 13) (by decide) ⟨fun c3 => ?_, fun c3 => ?_⟩
  · refine sd_iconst (pc := 13) dX3_hen_13 (v := 0) (by decide) ?_
    exact (e18.1 c3)
  · refine sd_iconst (pc := 9) dX3_hen_9 (v := 1) (by decide) ?_
    refine sd_goto (pc := 10) dX3_hen_10 (tgt := 14) (by decide) ?_
    exact (e18.2 c3)
theorem cm_X3_hen {en : yEn} {mb : Nat → Nat} {σ : yH} (hM : mOK en mb σ) {d : Nat} (hd : 4 ≤ d) {ρ : yMS} {x1 : Int32} {K : Int32 → yMS → Prop} {X : String → Addr → yH → Prop}  (h : wpM_X3_hen ρ x1 K) : Cx en d 0 0 mX3_hen [.ref (mb 0), .int x1] (mH en mb ρ σ) (mQ en mb σ (mI K)) X := by
  obtain ⟨d, rfl⟩ : ∃ e, d = e + 1 := ⟨d - 1, by omega⟩
  exact Cx.body (by decide +kernel) rfl (Nat.le_of_ble_eq_true rfl) (okM_X3_hen hM (by omega)  h)
/-! isBird(I)Z -/
def wpM_X3_isBird (ρ : yMS) (x1 : Int32) (K : Int32 → yMS → Prop) : Prop :=
  mAld ρ 1 (10 : Int32) (fun v1 => wpM_X3_isBetween ρ x1 (0 : Int32) (v1 - (1 : Int32)) (fun r3 ρ2 => (narrow .boolean (.int r3) = .int r3 ∧ K r3 ρ2)))
theorem okM_X3_isBird {en : yEn} {mb : Nat → Nat} {σ : yH} (hM : mOK en mb σ) {d : Nat} (hd : 2 ≤ d + 1) {ρ : yMS} {x1 : Int32} {K : Int32 → yMS → Prop} {X : String → Addr → yH → Prop} {k n : Nat}  (h : wpM_X3_isBird ρ x1 K) : Wx en (d + 1) mX3_isBird 0 [(0, .ref (mb 0)), (1, .int x1)] [] (mH en mb ρ σ) k n (mQ en mb σ (mI K)) X := by
  unfold wpM_X3_isBird at h
  refine sd_iload_n (pc := 0) dX3_isBird_0 rfl 1 rfl ?_
  refine sd_iconst (pc := 1) dX3_isBird_1 (v := 0) (by decide) ?_
  refine sd_aload_n (pc := 2) dX3_isBird_2 rfl 0 rfl ?_
  refine sd_getR (pc := 3) dX3_isBird_3 (ci := 2) rfl in_X3 (kf := 1) (by decide) q2074 (mo_gR hM (j := 1) rfl ?_)
  refine sd_bipush (pc := 6) dX3_isBird_6 (v := 10) (by decide) ?_
  refine sd_iaload (pc := 8) dX3_isBird_8 (mAld.to hM h (fun v1 h => ?_))
  refine sd_iconst (pc := 9) dX3_isBird_9 (v := 1) (by decide) ?_
  refine sd_isub (pc := 10) dX3_isBird_10 ?_
  refine sd_callS (k := k) (n := n) (d0 := d) (k0 := 0) (n0 := 0) (As := [.int x1, .int (0 : Int32), .int (v1 - (1 : Int32))]) (st := []) (pc := 11) dX3_isBird_11 q2167 q2168 q91 q2169 3 (by decide +kernel) rfl (Nat.le_refl _) (by decide) (Nat.le_of_ble_eq_true rfl) (Cx.mono (cm_X3_isBetween hM (by omega)  h) (mI.to (fun r3 ρ2 h => ?_)) (xo rfl))
  exact sd_ireturn (pc := 14) dX3_isBird_14 (ty0 := .boolean) rfl h.1 (mI.ok h.2)
theorem cm_X3_isBird {en : yEn} {mb : Nat → Nat} {σ : yH} (hM : mOK en mb σ) {d : Nat} (hd : 2 ≤ d) {ρ : yMS} {x1 : Int32} {K : Int32 → yMS → Prop} {X : String → Addr → yH → Prop}  (h : wpM_X3_isBird ρ x1 K) : Cx en d 0 0 mX3_isBird [.ref (mb 0), .int x1] (mH en mb ρ σ) (mQ en mb σ (mI K)) X := by
  obtain ⟨d, rfl⟩ : ∃ e, d = e + 1 := ⟨d - 1, by omega⟩
  exact Cx.body (by decide +kernel) rfl (Nat.le_of_ble_eq_true rfl) (okM_X3_isBird hM (by omega)  h)
/-! of(II)I -/
def wpM_X3_of (ρ : yMS) (x1 : Int32) (x2 : Int32) (K : Int32 → yMS → Prop) : Prop :=
  mAld ρ 1 (((34 : Int32) + ((6 : Int32) * x1)) + x2) (fun v1 => K v1 ρ)
theorem okM_X3_of {en : yEn} {mb : Nat → Nat} {σ : yH} (hM : mOK en mb σ) {d : Nat} (hd : 1 ≤ d + 1) {ρ : yMS} {x1 : Int32} {x2 : Int32} {K : Int32 → yMS → Prop} {X : String → Addr → yH → Prop} {k n : Nat}  (h : wpM_X3_of ρ x1 x2 K) : Wx en (d + 1) mX3_of 0 [(0, .ref (mb 0)), (1, .int x1), (2, .int x2)] [] (mH en mb ρ σ) k n (mQ en mb σ (mI K)) X := by
  unfold wpM_X3_of at h
  refine sd_aload_n (pc := 0) dX3_of_0 rfl 0 rfl ?_
  refine sd_getR (pc := 1) dX3_of_1 (ci := 2) rfl in_X3 (kf := 1) (by decide) q2074 (mo_gR hM (j := 1) rfl ?_)
  refine sd_bipush (pc := 4) dX3_of_4 (v := 34) (by decide) ?_
  refine sd_bipush (pc := 6) dX3_of_6 (v := 6) (by decide) ?_
  refine sd_iload_n (pc := 8) dX3_of_8 rfl 1 rfl ?_
  refine sd_imul (pc := 9) dX3_of_9 ?_
  refine sd_iadd (pc := 10) dX3_of_10 ?_
  refine sd_iload_n (pc := 11) dX3_of_11 rfl 2 rfl ?_
  refine sd_iadd (pc := 12) dX3_of_12 ?_
  refine sd_iaload (pc := 13) dX3_of_13 (mAld.to hM h (fun v1 h => ?_))
  exact sd_ireturn (pc := 14) dX3_of_14 (ty0 := .int) rfl rfl (mI.ok h)
theorem cm_X3_of {en : yEn} {mb : Nat → Nat} {σ : yH} (hM : mOK en mb σ) {d : Nat} (hd : 1 ≤ d) {ρ : yMS} {x1 : Int32} {x2 : Int32} {K : Int32 → yMS → Prop} {X : String → Addr → yH → Prop}  (h : wpM_X3_of ρ x1 x2 K) : Cx en d 0 0 mX3_of [.ref (mb 0), .int x1, .int x2] (mH en mb ρ σ) (mQ en mb σ (mI K)) X := by
  obtain ⟨d, rfl⟩ : ∃ e, d = e + 1 := ⟨d - 1, by omega⟩
  exact Cx.body (by decide +kernel) rfl (Nat.le_of_ble_eq_true rfl) (okM_X3_of hM (by omega)  h)
/-! isHen(I)Z -/
def wpM_X3_isHen (ρ : yMS) (x1 : Int32) (K : Int32 → yMS → Prop) : Prop :=
  wpM_X3_of ρ x1 (0 : Int32) (fun r2 ρ1 => K (if (r2 = (1 : Int32)) then (1 : Int32) else (0 : Int32)) ρ1)
theorem okM_X3_isHen {en : yEn} {mb : Nat → Nat} {σ : yH} (hM : mOK en mb σ) {d : Nat} (hd : 2 ≤ d + 1) {ρ : yMS} {x1 : Int32} {K : Int32 → yMS → Prop} {X : String → Addr → yH → Prop} {k n : Nat}  (h : wpM_X3_isHen ρ x1 K) : Wx en (d + 1) mX3_isHen 0 [(0, .ref (mb 0)), (1, .int x1)] [] (mH en mb ρ σ) k n (mQ en mb σ (mI K)) X := by
  unfold wpM_X3_isHen at h
  refine sd_aload_n (pc := 0) dX3_isHen_0 rfl 0 rfl ?_
  refine sd_iload_n (pc := 1) dX3_isHen_1 rfl 1 rfl ?_
  refine sd_iconst (pc := 2) dX3_isHen_2 (v := 0) (by decide) ?_
  refine sd_callV (k := k) (n := n) (d0 := d) (k0 := 0) (n0 := 0) (As := [.int x1, .int (0 : Int32)]) (st := []) (pc := 3) dX3_isHen_3 (ci := 2) rfl (mo_isC hM) rfl q2228 q2230 qs36 q91 q2231 2 (by decide +kernel) rfl (Nat.le_refl _) (by decide) (Nat.le_of_ble_eq_true rfl) (Cx.mono (cm_X3_of hM (by omega)  h) (mI.to (fun r2 ρ1 h => ?_)) (xo rfl))
  refine sd_iconst (pc := 6) dX3_isHen_6 (v := 1) (by decide) ?_
  have h4 : Wx en (d + 1) mX3_isHen 15 [(0, .ref (mb 0)), (1, .int x1)] (.int (if (r2 = (1 : Int32)) then (1 : Int32) else (0 : Int32)) :: []) (mH en mb ρ1 σ) k n (mQ en mb σ (mI K)) X := by
    exact sd_ireturn (pc := 15) dX3_isHen_15 (ty0 := .boolean) rfl (nb_ite rfl rfl) (mI.ok h)
  have e5 := sd_iteIN h4
  refine sd_icmpne (pc := 7) dX3_isHen_7 (tgt := 14) (by decide) ⟨fun c3 => ?_, fun c3 => ?_⟩
  · refine sd_iconst (pc := 14) dX3_isHen_14 (v := 0) (by decide) ?_
    exact (e5.1 c3)
  · refine sd_iconst (pc := 10) dX3_isHen_10 (v := 1) (by decide) ?_
    refine sd_goto (pc := 11) dX3_isHen_11 (tgt := 15) (by decide) ?_
    exact (e5.2 c3)
theorem cm_X3_isHen {en : yEn} {mb : Nat → Nat} {σ : yH} (hM : mOK en mb σ) {d : Nat} (hd : 2 ≤ d) {ρ : yMS} {x1 : Int32} {K : Int32 → yMS → Prop} {X : String → Addr → yH → Prop}  (h : wpM_X3_isHen ρ x1 K) : Cx en d 0 0 mX3_isHen [.ref (mb 0), .int x1] (mH en mb ρ σ) (mQ en mb σ (mI K)) X := by
  obtain ⟨d, rfl⟩ : ∃ e, d = e + 1 := ⟨d - 1, by omega⟩
  exact Cx.body (by decide +kernel) rfl (Nat.le_of_ble_eq_true rfl) (okM_X3_isHen hM (by omega)  h)
/-! isLayRefused(I)Z -/
def wpM_X3_isLayRefused (ρ : yMS) (x1 : Int32) (K : Int32 → yMS → Prop) : Prop :=
  wpM_X3_isHen ρ x1 (fun r2 ρ1 => wpM_X3_refuse ρ1 (if (r2 = 0) then (1 : Int32) else (0 : Int32)) (2 : Int32) x1 (fun r5 ρ4 => ((¬ (r5 = 0) → K (1 : Int32) ρ4) ∧ ((r5 = 0) → wpM_X3_of ρ4 x1 (2 : Int32) (fun r7 ρ6 => wpM_X3_refuse ρ6 (if (r7 = (6 : Int32)) then (1 : Int32) else (0 : Int32)) (3 : Int32) (6 : Int32) (fun r10 ρ9 => K (if (r10 = 0) then (0 : Int32) else (1 : Int32)) ρ9))))))
theorem okM_X3_isLayRefused {en : yEn} {mb : Nat → Nat} {σ : yH} (hM : mOK en mb σ) {d : Nat} (hd : 3 ≤ d + 1) {ρ : yMS} {x1 : Int32} {K : Int32 → yMS → Prop} {X : String → Addr → yH → Prop} {k n : Nat}  (h : wpM_X3_isLayRefused ρ x1 K) : Wx en (d + 1) mX3_isLayRefused 0 [(0, .ref (mb 0)), (1, .int x1)] [] (mH en mb ρ σ) k n (mQ en mb σ (mI K)) X := by
  unfold wpM_X3_isLayRefused at h
  refine sd_aload_n (pc := 0) dX3_isLayRefused_0 rfl 0 rfl ?_
  refine sd_aload_n (pc := 1) dX3_isLayRefused_1 rfl 0 rfl ?_
  refine sd_iload_n (pc := 2) dX3_isLayRefused_2 rfl 1 rfl ?_
  refine sd_callV (k := k) (n := n) (d0 := d) (k0 := 0) (n0 := 0) (As := [.int x1]) (st := [.ref (mb 0)]) (pc := 3) dX3_isLayRefused_3 (ci := 2) rfl (mo_isC hM) rfl q2224 q2226 qs35 q91 q2227 1 (by decide +kernel) rfl (Nat.le_refl _) (by decide) (Nat.le_of_ble_eq_true rfl) (Cx.mono (cm_X3_isHen hM (by omega)  h) (mI.to (fun r2 ρ1 h => ?_)) (xo rfl))
  have h13 : Wx en (d + 1) mX3_isLayRefused 14 [(0, .ref (mb 0)), (1, .int x1)] (.int (if (r2 = 0) then (1 : Int32) else (0 : Int32)) :: .ref (mb 0) :: []) (mH en mb ρ1 σ) k n (mQ en mb σ (mI K)) X := by
    refine sd_iconst (pc := 14) dX3_isLayRefused_14 (v := 2) (by decide) ?_
    refine sd_iload_n (pc := 15) dX3_isLayRefused_15 rfl 1 rfl ?_
    refine sd_callV (k := k) (n := n) (d0 := d) (k0 := 0) (n0 := 0) (As := [.int (if (r2 = 0) then (1 : Int32) else (0 : Int32)), .int (2 : Int32), .int x1]) (st := []) (pc := 16) dX3_isLayRefused_16 (ci := 2) rfl (mo_isC hM) rfl q2185 q2187 qs28 q91 q2188 3 (by decide +kernel) rfl (Nat.le_refl _) (by decide) (Nat.le_of_ble_eq_true rfl) (Cx.mono (cm_X3_refuse hM (by omega)  h) (mI.to (fun r5 ρ4 h => ?_)) (xo rfl))
    refine sd_ifne (pc := 19) dX3_isLayRefused_19 (tgt := 48) (by decide) ⟨fun c12 => ?_, fun c12 => ?_⟩
    · have h := h.1 c12
      refine sd_iconst (pc := 48) dX3_isLayRefused_48 (v := 1) (by decide) ?_
      refine sd_goto (pc := 49) dX3_isLayRefused_49 (tgt := 53) (by decide) ?_
      exact sd_ireturn (pc := 53) dX3_isLayRefused_53 (ty0 := .boolean) rfl rfl (mI.ok h)
    · have h := h.2 c12
      refine sd_aload_n (pc := 22) dX3_isLayRefused_22 rfl 0 rfl ?_
      refine sd_aload_n (pc := 23) dX3_isLayRefused_23 rfl 0 rfl ?_
      refine sd_iload_n (pc := 24) dX3_isLayRefused_24 rfl 1 rfl ?_
      refine sd_iconst (pc := 25) dX3_isLayRefused_25 (v := 2) (by decide) ?_
      refine sd_callV (k := k) (n := n) (d0 := d) (k0 := 0) (n0 := 0) (As := [.int x1, .int (2 : Int32)]) (st := [.ref (mb 0)]) (pc := 26) dX3_isLayRefused_26 (ci := 2) rfl (mo_isC hM) rfl q2228 q2230 qs36 q91 q2231 2 (by decide +kernel) rfl (Nat.le_refl _) (by decide) (Nat.le_of_ble_eq_true rfl) (Cx.mono (cm_X3_of hM (by omega)  h) (mI.to (fun r7 ρ6 h => ?_)) (xo rfl))
      refine sd_bipush (pc := 29) dX3_isLayRefused_29 (v := 6) (by decide) ?_
      have h14 : Wx en (d + 1) mX3_isLayRefused 39 [(0, .ref (mb 0)), (1, .int x1)] (.int (if (r7 = (6 : Int32)) then (1 : Int32) else (0 : Int32)) :: .ref (mb 0) :: []) (mH en mb ρ6 σ) k n (mQ en mb σ (mI K)) X := by
        refine sd_iconst (pc := 39) dX3_isLayRefused_39 (v := 3) (by decide) ?_
        refine sd_bipush (pc := 40) dX3_isLayRefused_40 (v := 6) (by decide) ?_
        refine sd_callV (k := k) (n := n) (d0 := d) (k0 := 0) (n0 := 0) (As := [.int (if (r7 = (6 : Int32)) then (1 : Int32) else (0 : Int32)), .int (3 : Int32), .int (6 : Int32)]) (st := []) (pc := 42) dX3_isLayRefused_42 (ci := 2) rfl (mo_isC hM) rfl q2185 q2187 qs28 q91 q2188 3 (by decide +kernel) rfl (Nat.le_refl _) (by decide) (Nat.le_of_ble_eq_true rfl) (Cx.mono (cm_X3_refuse hM (by omega)  h) (mI.to (fun r10 ρ9 h => ?_)) (xo rfl))
        have h15 : Wx en (d + 1) mX3_isLayRefused 53 [(0, .ref (mb 0)), (1, .int x1)] (.int (if (r10 = 0) then (0 : Int32) else (1 : Int32)) :: []) (mH en mb ρ9 σ) k n (mQ en mb σ (mI K)) X := by
          exact sd_ireturn (pc := 53) dX3_isLayRefused_53 (ty0 := .boolean) rfl (nb_ite rfl rfl) (mI.ok h)
        have e16 := sd_iteI h15
        refine sd_ifeq (pc := 45) dX3_isLayRefused_45 (tgt := 52) (by decide) ⟨fun c11 => ?_, fun c11 => ?_⟩
        · refine sd_iconst (pc := 52) dX3_isLayRefused_52 (v := 0) (by decide) ?_
          exact (e16.1 c11)
        · refine sd_iconst (pc := 48) dX3_isLayRefused_48 (v := 1) (by decide) ?_
          refine sd_goto (pc := 49) dX3_isLayRefused_49 (tgt := 53) (by decide) ?_
          exact (e16.2 c11)
      have e17 := sd_iteIN h14
      refine sd_icmpne (pc := 31) dX3_isLayRefused_31 (tgt := 38) (by decide) ⟨fun c8 => ?_, fun c8 => ?_⟩
      · refine sd_iconst (pc := 38) dX3_isLayRefused_38 (v := 0) (by decide) ?_
        exact (e17.1 c8)
      · refine sd_iconst (pc := 34) dX3_isLayRefused_34 (v := 1) (by decide) ?_
        refine sd_goto (pc := 35) dX3_isLayRefused_35 (tgt := 39) (by decide) ?_
        exact (e17.2 c8)
  have e18 := sd_iteIN h13
  refine sd_ifne (pc := 6) dX3_isLayRefused_6 (tgt := 13) (by decide) ⟨fun c3 => ?_, fun c3 => ?_⟩
  · refine sd_iconst (pc := 13) dX3_isLayRefused_13 (v := 0) (by decide) ?_
    exact (e18.1 c3)
  · refine sd_iconst (pc := 9) dX3_isLayRefused_9 (v := 1) (by decide) ?_
    refine sd_goto (pc := 10) dX3_isLayRefused_10 (tgt := 14) (by decide) ?_
    exact (e18.2 c3)
theorem cm_X3_isLayRefused {en : yEn} {mb : Nat → Nat} {σ : yH} (hM : mOK en mb σ) {d : Nat} (hd : 3 ≤ d) {ρ : yMS} {x1 : Int32} {K : Int32 → yMS → Prop} {X : String → Addr → yH → Prop}  (h : wpM_X3_isLayRefused ρ x1 K) : Cx en d 0 0 mX3_isLayRefused [.ref (mb 0), .int x1] (mH en mb ρ σ) (mQ en mb σ (mI K)) X := by
  obtain ⟨d, rfl⟩ : ∃ e, d = e + 1 := ⟨d - 1, by omega⟩
  exact Cx.body (by decide +kernel) rfl (Nat.le_of_ble_eq_true rfl) (okM_X3_isLayRefused hM (by omega)  h)
/-! lay(I)I -/
def wpM_X3_lay (ρ : yMS) (x1 : Int32) (K : Int32 → yMS → Prop) : Prop :=
  wpM_X3_isBird ρ x1 (fun r2 ρ1 => wpM_X3_fails ρ1 (1 : Int32) (if (r2 = 0) then (1 : Int32) else (0 : Int32)) (fun r5 ρ4 => ((¬ (r5 = 0) → K (0 : Int32) ρ4) ∧ ((r5 = 0) → wpM_X3_isLayRefused ρ4 x1 (fun r7 ρ6 => wpM_X3_fails ρ6 (2 : Int32) r7 (fun r9 ρ8 => (((r9 = 0) → wpM_X3_change ρ8  (fun ρ10 => wpM_X3_of ρ10 x1 (2 : Int32) (fun r12 ρ11 => wpM_X3_put ρ11 x1 (2 : Int32) (r12 + (1 : Int32)) (fun ρ13 => wpM_X3_of ρ13 x1 (2 : Int32) (fun r15 ρ14 => K r15 ρ14))))) ∧ (¬ (r9 = 0) → K (0 : Int32) ρ8))))))))
theorem okM_X3_lay {en : yEn} {mb : Nat → Nat} {σ : yH} (hM : mOK en mb σ) {d : Nat} (hd : 4 ≤ d + 1) {ρ : yMS} {x1 : Int32} {K : Int32 → yMS → Prop} {X : String → Addr → yH → Prop} {k n : Nat}  (h : wpM_X3_lay ρ x1 K) : Wx en (d + 1) mX3_lay 0 [(0, .ref (mb 0)), (1, .int x1)] [] (mH en mb ρ σ) k n (mQ en mb σ (mI K)) X := by
  unfold wpM_X3_lay at h
  refine sd_aload_n (pc := 0) dX3_lay_0 rfl 0 rfl ?_
  refine sd_iconst (pc := 1) dX3_lay_1 (v := 1) (by decide) ?_
  refine sd_aload_n (pc := 2) dX3_lay_2 rfl 0 rfl ?_
  refine sd_iload_n (pc := 3) dX3_lay_3 rfl 1 rfl ?_
  refine sd_callV (k := k) (n := n) (d0 := d) (k0 := 0) (n0 := 0) (As := [.int x1]) (st := [.int (1 : Int32), .ref (mb 0)]) (pc := 4) dX3_lay_4 (ci := 2) rfl (mo_isC hM) rfl q2216 q2218 qs33 q91 q2219 1 (by decide +kernel) rfl (Nat.le_refl _) (by decide) (Nat.le_of_ble_eq_true rfl) (Cx.mono (cm_X3_isBird hM (by omega)  h) (mI.to (fun r2 ρ1 h => ?_)) (xo rfl))
  have h18 : Wx en (d + 1) mX3_lay 15 [(0, .ref (mb 0)), (1, .int x1)] (.int (if (r2 = 0) then (1 : Int32) else (0 : Int32)) :: .int (1 : Int32) :: .ref (mb 0) :: []) (mH en mb ρ1 σ) k n (mQ en mb σ (mI K)) X := by
    refine sd_callV (k := k) (n := n) (d0 := d) (k0 := 0) (n0 := 0) (As := [.int (1 : Int32), .int (if (r2 = 0) then (1 : Int32) else (0 : Int32))]) (st := []) (pc := 15) dX3_lay_15 (ci := 2) rfl (mo_isC hM) rfl q2170 q2172 qs26 q91 q2173 2 (by decide +kernel) rfl (Nat.le_refl _) (by decide) (Nat.le_of_ble_eq_true rfl) (Cx.mono (cm_X3_fails hM (by omega)  h) (mI.to (fun r5 ρ4 h => ?_)) (xo rfl))
    refine sd_ifne (pc := 18) dX3_lay_18 (tgt := 34) (by decide) ⟨fun c17 => ?_, fun c17 => ?_⟩
    · have h := h.1 c17
      refine sd_iconst (pc := 34) dX3_lay_34 (v := 0) (by decide) ?_
      exact sd_ireturn (pc := 35) dX3_lay_35 (ty0 := .int) rfl rfl (mI.ok h)
    · have h := h.2 c17
      refine sd_aload_n (pc := 21) dX3_lay_21 rfl 0 rfl ?_
      refine sd_iconst (pc := 22) dX3_lay_22 (v := 2) (by decide) ?_
      refine sd_aload_n (pc := 23) dX3_lay_23 rfl 0 rfl ?_
      refine sd_iload_n (pc := 24) dX3_lay_24 rfl 1 rfl ?_
      refine sd_callV (k := k) (n := n) (d0 := d) (k0 := 0) (n0 := 0) (As := [.int x1]) (st := [.int (2 : Int32), .ref (mb 0)]) (pc := 25) dX3_lay_25 (ci := 2) rfl (mo_isC hM) rfl q2220 q2222 qs34 q91 q2223 1 (by decide +kernel) rfl (Nat.le_refl _) (by decide) (Nat.le_of_ble_eq_true rfl) (Cx.mono (cm_X3_isLayRefused hM (by omega)  h) (mI.to (fun r7 ρ6 h => ?_)) (xo rfl))
      refine sd_callV (k := k) (n := n) (d0 := d) (k0 := 0) (n0 := 0) (As := [.int (2 : Int32), .int r7]) (st := []) (pc := 28) dX3_lay_28 (ci := 2) rfl (mo_isC hM) rfl q2170 q2172 qs26 q91 q2173 2 (by decide +kernel) rfl (Nat.le_refl _) (by decide) (Nat.le_of_ble_eq_true rfl) (Cx.mono (cm_X3_fails hM (by omega)  h) (mI.to (fun r9 ρ8 h => ?_)) (xo rfl))
      refine sd_ifeq (pc := 31) dX3_lay_31 (tgt := 36) (by decide) ⟨fun c16 => ?_, fun c16 => ?_⟩
      · have h := h.1 c16
        refine sd_aload_n (pc := 36) dX3_lay_36 rfl 0 rfl ?_
        refine sd_callV (k := k) (n := n) (d0 := d) (k0 := 0) (n0 := 0) (As := []) (st := []) (pc := 37) dX3_lay_37 (ci := 2) rfl (mo_isC hM) rfl q2189 q2191 qs29 q91 q2192 0 (by decide +kernel) rfl (Nat.le_refl _) (by decide) (Nat.le_of_ble_eq_true rfl) (Cx.mono (cm_X3_change hM (by omega)  h) (mV.to (fun ρ10 h => ?_)) (xo rfl))
        refine sd_aload_n (pc := 40) dX3_lay_40 rfl 0 rfl ?_
        refine sd_iload_n (pc := 41) dX3_lay_41 rfl 1 rfl ?_
        refine sd_iconst (pc := 42) dX3_lay_42 (v := 2) (by decide) ?_
        refine sd_aload_n (pc := 43) dX3_lay_43 rfl 0 rfl ?_
        refine sd_iload_n (pc := 44) dX3_lay_44 rfl 1 rfl ?_
        refine sd_iconst (pc := 45) dX3_lay_45 (v := 2) (by decide) ?_
        refine sd_callV (k := k) (n := n) (d0 := d) (k0 := 0) (n0 := 0) (As := [.int x1, .int (2 : Int32)]) (st := [.int (2 : Int32), .int x1, .ref (mb 0)]) (pc := 46) dX3_lay_46 (ci := 2) rfl (mo_isC hM) rfl q2228 q2230 qs36 q91 q2231 2 (by decide +kernel) rfl (Nat.le_refl _) (by decide) (Nat.le_of_ble_eq_true rfl) (Cx.mono (cm_X3_of hM (by omega)  h) (mI.to (fun r12 ρ11 h => ?_)) (xo rfl))
        refine sd_iconst (pc := 49) dX3_lay_49 (v := 1) (by decide) ?_
        refine sd_iadd (pc := 50) dX3_lay_50 ?_
        refine sd_callV (k := k) (n := n) (d0 := d) (k0 := 0) (n0 := 0) (As := [.int x1, .int (2 : Int32), .int (r12 + (1 : Int32))]) (st := []) (pc := 51) dX3_lay_51 (ci := 2) rfl (mo_isC hM) rfl q2204 q2206 qs32 q91 q2207 3 (by decide +kernel) rfl (Nat.le_refl _) (by decide) (Nat.le_of_ble_eq_true rfl) (Cx.mono (cm_X3_put hM (by omega)  h) (mV.to (fun ρ13 h => ?_)) (xo rfl))
        refine sd_aload_n (pc := 54) dX3_lay_54 rfl 0 rfl ?_
        refine sd_iload_n (pc := 55) dX3_lay_55 rfl 1 rfl ?_
        refine sd_iconst (pc := 56) dX3_lay_56 (v := 2) (by decide) ?_
        refine sd_callV (k := k) (n := n) (d0 := d) (k0 := 0) (n0 := 0) (As := [.int x1, .int (2 : Int32)]) (st := []) (pc := 57) dX3_lay_57 (ci := 2) rfl (mo_isC hM) rfl q2228 q2230 qs36 q91 q2231 2 (by decide +kernel) rfl (Nat.le_refl _) (by decide) (Nat.le_of_ble_eq_true rfl) (Cx.mono (cm_X3_of hM (by omega)  h) (mI.to (fun r15 ρ14 h => ?_)) (xo rfl))
        exact sd_ireturn (pc := 60) dX3_lay_60 (ty0 := .int) rfl rfl (mI.ok h)
      · have h := h.2 c16
        refine sd_iconst (pc := 34) dX3_lay_34 (v := 0) (by decide) ?_
        exact sd_ireturn (pc := 35) dX3_lay_35 (ty0 := .int) rfl rfl (mI.ok h)
  have e19 := sd_iteIN h18
  refine sd_ifne (pc := 7) dX3_lay_7 (tgt := 14) (by decide) ⟨fun c3 => ?_, fun c3 => ?_⟩
  · refine sd_iconst (pc := 14) dX3_lay_14 (v := 0) (by decide) ?_
    exact (e19.1 c3)
  · refine sd_iconst (pc := 10) dX3_lay_10 (v := 1) (by decide) ?_
    refine sd_goto (pc := 11) dX3_lay_11 (tgt := 15) (by decide) ?_
    exact (e19.2 c3)
theorem cm_X3_lay {en : yEn} {mb : Nat → Nat} {σ : yH} (hM : mOK en mb σ) {d : Nat} (hd : 4 ≤ d) {ρ : yMS} {x1 : Int32} {K : Int32 → yMS → Prop} {X : String → Addr → yH → Prop}  (h : wpM_X3_lay ρ x1 K) : Cx en d 0 0 mX3_lay [.ref (mb 0), .int x1] (mH en mb ρ σ) (mQ en mb σ (mI K)) X := by
  obtain ⟨d, rfl⟩ : ∃ e, d = e + 1 := ⟨d - 1, by omega⟩
  exact Cx.body (by decide +kernel) rfl (Nat.le_of_ble_eq_true rfl) (okM_X3_lay hM (by omega)  h)
/-! below(I)I -/
def stM_X3_below_6 (R : yMS → Int32 → (Int32 → yMS → Prop) → Prop) (K : Int32 → yMS → Prop) (rec : Int32 → Int32 → Int32 → yMS → Prop) (l1 : Int32) (l2 : Int32) (l3 : Int32) (ρ : yMS) : Prop :=
  mAld ρ 1 (10 : Int32) (fun v1 => (((v1 ≤ l3) → K l2 ρ) ∧ (¬ (v1 ≤ l3) → wpM_X3_of ρ l3 (4 : Int32) (fun r3 ρ2 => ((¬ (r3 = l1) → rec l1 (l2 + (0 : Int32)) (l3 + (1 : Int32)) ρ2) ∧ ((r3 = l1) → R ρ2 l3 (fun r5 ρ4 => rec l1 (l2 + ((1 : Int32) + r5)) (l3 + (1 : Int32)) ρ4)))))))
def lpM_X3_below_6 (R : yMS → Int32 → (Int32 → yMS → Prop) → Prop) (K : Int32 → yMS → Prop) : Nat → Int32 × Int32 × Int32 × yMS → Prop := lpN (fun r s => stM_X3_below_6 R  K (fun l1 l2 l3 ρ => r (l1, l2, l3, ρ)) s.1 s.2.1 s.2.2.1 s.2.2.2)
def wpM_X3_below_6 (R : yMS → Int32 → (Int32 → yMS → Prop) → Prop) (l1 : Int32) (l2 : Int32) (l3 : Int32) (ρ : yMS) (K : Int32 → yMS → Prop) : Prop := ∃ nn, lpM_X3_below_6 R  K nn (l1, l2, l3, ρ)
theorem olM_X3_below_6 {en : yEn} {mb : Nat → Nat} {σ : yH} (hM : mOK en mb σ) {d : Nat} (hd : 2 ≤ d + 1) {K : Int32 → yMS → Prop} {X : String → Addr → yH → Prop} {k n : Nat} {R : yMS → Int32 → (Int32 → yMS → Prop) → Prop} (hR : ∀ (ρ : yMS) (x1 : Int32) (K : Int32 → yMS → Prop) (X : String → Addr → yH → Prop), R ρ x1 K → Cx en d 0 0 mX3_below [.ref (mb 0), .int x1] (mH en mb ρ σ) (mQ en mb σ (mI K)) X) : ∀ (nn : Nat) (l1 : Int32) (l2 : Int32) (l3 : Int32) (ρ : yMS), lpM_X3_below_6 R  K nn (l1, l2, l3, ρ) → Wx en (d + 1) mX3_below 6 [(0, .ref (mb 0)), (1, .int l1), (2, .int l2), (3, .int l3)] [] (mH en mb ρ σ) k n (mQ en mb σ (mI K)) X := by
  intro nn
  induction nn with
  | zero => intros; rename_i h; exact h.elim
  | succ nn ih =>
    intro l1 l2 l3 ρ h
    replace h : stM_X3_below_6 R  K (fun l1 l2 l3 ρ => lpM_X3_below_6 R  K nn (l1, l2, l3, ρ)) l1 l2 l3 ρ := h
    unfold stM_X3_below_6 at h
    refine sd_iload_n (pc := 6) dX3_below_6 rfl 3 rfl ?_
    refine sd_aload_n (pc := 7) dX3_below_7 rfl 0 rfl ?_
    refine sd_getR (pc := 8) dX3_below_8 (ci := 2) rfl in_X3 (kf := 1) (by decide) q2074 (mo_gR hM (j := 1) rfl ?_)
    refine sd_bipush (pc := 11) dX3_below_11 (v := 10) (by decide) ?_
    refine sd_iaload (pc := 13) dX3_below_13 (mAld.to hM h (fun v1 h => ?_))
    refine sd_icmpge (pc := 14) dX3_below_14 (tgt := 47) (by decide) ⟨fun c7 => ?_, fun c7 => ?_⟩
    · have h := h.1 c7
      refine sd_iload_n (pc := 47) dX3_below_47 rfl 2 rfl ?_
      exact sd_ireturn (pc := 48) dX3_below_48 (ty0 := .int) rfl rfl (mI.ok h)
    · have h := h.2 c7
      refine sd_iload_n (pc := 17) dX3_below_17 rfl 2 rfl ?_
      refine sd_aload_n (pc := 18) dX3_below_18 rfl 0 rfl ?_
      refine sd_iload_n (pc := 19) dX3_below_19 rfl 3 rfl ?_
      refine sd_iconst (pc := 20) dX3_below_20 (v := 4) (by decide) ?_
      refine sd_callV (k := k) (n := n) (d0 := d) (k0 := 0) (n0 := 0) (As := [.int l3, .int (4 : Int32)]) (st := [.int l2]) (pc := 21) dX3_below_21 (ci := 2) rfl (mo_isC hM) rfl q2228 q2230 qs36 q91 q2231 2 (by decide +kernel) rfl (Nat.le_refl _) (by decide) (Nat.le_of_ble_eq_true rfl) (Cx.mono (cm_X3_of hM (by omega)  h) (mI.to (fun r3 ρ2 h => ?_)) (xo rfl))
      refine sd_iload_n (pc := 24) dX3_below_24 rfl 1 rfl ?_
      refine sd_icmpne (pc := 25) dX3_below_25 (tgt := 38) (by decide) ⟨fun c6 => ?_, fun c6 => ?_⟩
      · have h := h.1 c6
        refine sd_iconst (pc := 38) dX3_below_38 (v := 0) (by decide) ?_
        refine sd_iadd (pc := 39) dX3_below_39 ?_
        refine sd_istore_n (pc := 40) dX3_below_40 rfl (by decide) (ls' := [(2, .int (l2 + (0 : Int32))), (0, .ref (mb 0)), (1, .int l1), (3, .int l3)]) rfl ?_
        refine sd_iinc (pc := 41) dX3_below_41 3 rfl (v := (l3 + (1 : Int32))) rfl (by decide) (ls' := [(3, .int (l3 + (1 : Int32))), (2, .int (l2 + (0 : Int32))), (0, .ref (mb 0)), (1, .int l1)]) rfl ?_
        refine sd_goto (pc := 44) dX3_below_44 (tgt := 6) (by decide) ?_
        exact sd_loc [2, 3, 1, 0] rfl (ih _ _ _ _ h)
      · have h := h.2 c6
        refine sd_iconst (pc := 28) dX3_below_28 (v := 1) (by decide) ?_
        refine sd_aload_n (pc := 29) dX3_below_29 rfl 0 rfl ?_
        refine sd_iload_n (pc := 30) dX3_below_30 rfl 3 rfl ?_
        refine sd_callV (k := k) (n := n) (d0 := d) (k0 := 0) (n0 := 0) (As := [.int l3]) (st := [.int (1 : Int32), .int l2]) (pc := 31) dX3_below_31 (ci := 2) rfl (mo_isC hM) rfl q2236 q2238 qs37 q91 q2239 1 (by decide +kernel) rfl (Nat.le_refl _) (by decide) (Nat.le_of_ble_eq_true rfl) (Cx.mono (hR _ _ _ _ h) (mI.to (fun r5 ρ4 h => ?_)) (xo rfl))
        refine sd_iadd (pc := 34) dX3_below_34 ?_
        refine sd_goto (pc := 35) dX3_below_35 (tgt := 39) (by decide) ?_
        refine sd_iadd (pc := 39) dX3_below_39 ?_
        refine sd_istore_n (pc := 40) dX3_below_40 rfl (by decide) (ls' := [(2, .int (l2 + ((1 : Int32) + r5))), (0, .ref (mb 0)), (1, .int l1), (3, .int l3)]) rfl ?_
        refine sd_iinc (pc := 41) dX3_below_41 3 rfl (v := (l3 + (1 : Int32))) rfl (by decide) (ls' := [(3, .int (l3 + (1 : Int32))), (2, .int (l2 + ((1 : Int32) + r5))), (0, .ref (mb 0)), (1, .int l1)]) rfl ?_
        refine sd_goto (pc := 44) dX3_below_44 (tgt := 6) (by decide) ?_
        exact sd_loc [2, 3, 1, 0] rfl (ih _ _ _ _ h)
theorem okM_X3_below_6 {en : yEn} {mb : Nat → Nat} {σ : yH} (hM : mOK en mb σ) {d : Nat} (hd : 2 ≤ d + 1) {K : Int32 → yMS → Prop} {X : String → Addr → yH → Prop} {k n : Nat} {R : yMS → Int32 → (Int32 → yMS → Prop) → Prop} (hR : ∀ (ρ : yMS) (x1 : Int32) (K : Int32 → yMS → Prop) (X : String → Addr → yH → Prop), R ρ x1 K → Cx en d 0 0 mX3_below [.ref (mb 0), .int x1] (mH en mb ρ σ) (mQ en mb σ (mI K)) X) (l1 : Int32) (l2 : Int32) (l3 : Int32) (ρ : yMS) (h : wpM_X3_below_6 R  l1 l2 l3 ρ K) : Wx en (d + 1) mX3_below 6 [(0, .ref (mb 0)), (1, .int l1), (2, .int l2), (3, .int l3)] [] (mH en mb ρ σ) k n (mQ en mb σ (mI K)) X := by
  obtain ⟨nn, h⟩ := h
  exact olM_X3_below_6 hM hd hR  nn _ _ _ _ h
def bdM_X3_below (R : yMS → Int32 → (Int32 → yMS → Prop) → Prop) (ρ : yMS) (x1 : Int32) (K : Int32 → yMS → Prop) : Prop :=
  wpM_X3_below_6 R x1 (0 : Int32) (x1 + (1 : Int32)) ρ K
def wpM_X3_below : Nat → yMS → Int32 → (Int32 → yMS → Prop) → Prop
  | 0, _ , _ , _ => False
  | f+1, ρ, x1, K => bdM_X3_below (fun ρ x1 K => wpM_X3_below f ρ x1 K) ρ x1 K
theorem okM_X3_below {en : yEn} {mb : Nat → Nat} {σ : yH} (hM : mOK en mb σ) {d : Nat} (hd : 2 ≤ d + 1) {K : Int32 → yMS → Prop} {X : String → Addr → yH → Prop} {k n : Nat} {R : yMS → Int32 → (Int32 → yMS → Prop) → Prop} (hR : ∀ (ρ : yMS) (x1 : Int32) (K : Int32 → yMS → Prop) (X : String → Addr → yH → Prop), R ρ x1 K → Cx en d 0 0 mX3_below [.ref (mb 0), .int x1] (mH en mb ρ σ) (mQ en mb σ (mI K)) X) {ρ : yMS} {x1 : Int32}  (h : bdM_X3_below R ρ x1 K) : Wx en (d + 1) mX3_below 0 [(0, .ref (mb 0)), (1, .int x1)] [] (mH en mb ρ σ) k n (mQ en mb σ (mI K)) X := by
  unfold bdM_X3_below at h
  refine sd_iconst (pc := 0) dX3_below_0 (v := 0) (by decide) ?_
  refine sd_istore_n (pc := 1) dX3_below_1 rfl (by decide) (ls' := [(2, .int (0 : Int32)), (0, .ref (mb 0)), (1, .int x1)]) rfl ?_
  refine sd_iload_n (pc := 2) dX3_below_2 rfl 2 rfl ?_
  refine sd_iconst (pc := 3) dX3_below_3 (v := 1) (by decide) ?_
  refine sd_iadd (pc := 4) dX3_below_4 ?_
  refine sd_istore_n (pc := 5) dX3_below_5 rfl (by decide) (ls' := [(3, .int (x1 + (1 : Int32))), (2, .int (0 : Int32)), (0, .ref (mb 0)), (1, .int x1)]) rfl ?_
  exact sd_loc [2, 3, 1, 0] rfl (okM_X3_below_6 hM (by omega) hR  _ _ _ _ h)
theorem cm_X3_below {en : yEn} {mb : Nat → Nat} {σ : yH} (hM : mOK en mb σ) : ∀ {f d : Nat} (_ : 2 + f ≤ d) {ρ : yMS} {x1 : Int32} {K : Int32 → yMS → Prop} {X : String → Addr → yH → Prop} (_ : wpM_X3_below f ρ x1 K), Cx en d 0 0 mX3_below [.ref (mb 0), .int x1] (mH en mb ρ σ) (mQ en mb σ (mI K)) X := by
  intro f
  induction f with
  | zero => intros; rename_i h; exact h.elim
  | succ f ih =>
    intro d hd ρ x1 K X h
    obtain ⟨d, rfl⟩ : ∃ e, d = e + 1 := ⟨d - 1, by omega⟩
    exact Cx.body (by decide +kernel) rfl (Nat.le_of_ble_eq_true rfl) (okM_X3_below hM (by omega) (fun ρ x1 K X h => ih (by omega) h) h)
/-! birdOf(II)I -/
def wpM_X3_birdOf (ρ : yMS) (x1 : Int32) (x2 : Int32) (K : Int32 → yMS → Prop) : Prop :=
  wpM_X3_isBird ρ x1 (fun r2 ρ1 => wpM_X3_fails ρ1 (1 : Int32) (if (r2 = 0) then (1 : Int32) else (0 : Int32)) (fun r5 ρ4 => ((¬ (r5 = 0) → K (0 : Int32) ρ4) ∧ ((r5 = 0) → wpM_X3_isBetween ρ4 x2 (0 : Int32) (6 : Int32) (fun r7 ρ6 => wpM_X3_fails ρ6 (2 : Int32) (if (r7 = 0) then (1 : Int32) else (0 : Int32)) (fun r10 ρ9 => (((r10 = 0) → ((¬ (x2 = (6 : Int32)) → wpM_X3_of ρ9 x1 x2 (fun r12 ρ11 => K r12 ρ11)) ∧ ((x2 = (6 : Int32)) → wpM_X3_below 14 ρ9 x1 (fun r14 ρ13 => K r14 ρ13)))) ∧ (¬ (r10 = 0) → K (0 : Int32) ρ9))))))))
theorem okM_X3_birdOf {en : yEn} {mb : Nat → Nat} {σ : yH} (hM : mOK en mb σ) {d : Nat} (hd : 17 ≤ d + 1) {ρ : yMS} {x1 : Int32} {x2 : Int32} {K : Int32 → yMS → Prop} {X : String → Addr → yH → Prop} {k n : Nat}  (h : wpM_X3_birdOf ρ x1 x2 K) : Wx en (d + 1) mX3_birdOf 0 [(0, .ref (mb 0)), (1, .int x1), (2, .int x2)] [] (mH en mb ρ σ) k n (mQ en mb σ (mI K)) X := by
  unfold wpM_X3_birdOf at h
  refine sd_aload_n (pc := 0) dX3_birdOf_0 rfl 0 rfl ?_
  refine sd_iconst (pc := 1) dX3_birdOf_1 (v := 1) (by decide) ?_
  refine sd_aload_n (pc := 2) dX3_birdOf_2 rfl 0 rfl ?_
  refine sd_iload_n (pc := 3) dX3_birdOf_3 rfl 1 rfl ?_
  refine sd_callV (k := k) (n := n) (d0 := d) (k0 := 0) (n0 := 0) (As := [.int x1]) (st := [.int (1 : Int32), .ref (mb 0)]) (pc := 4) dX3_birdOf_4 (ci := 2) rfl (mo_isC hM) rfl q2216 q2218 qs33 q91 q2219 1 (by decide +kernel) rfl (Nat.le_refl _) (by decide) (Nat.le_of_ble_eq_true rfl) (Cx.mono (cm_X3_isBird hM (by omega)  h) (mI.to (fun r2 ρ1 h => ?_)) (xo rfl))
  have h18 : Wx en (d + 1) mX3_birdOf 15 [(0, .ref (mb 0)), (1, .int x1), (2, .int x2)] (.int (if (r2 = 0) then (1 : Int32) else (0 : Int32)) :: .int (1 : Int32) :: .ref (mb 0) :: []) (mH en mb ρ1 σ) k n (mQ en mb σ (mI K)) X := by
    refine sd_callV (k := k) (n := n) (d0 := d) (k0 := 0) (n0 := 0) (As := [.int (1 : Int32), .int (if (r2 = 0) then (1 : Int32) else (0 : Int32))]) (st := []) (pc := 15) dX3_birdOf_15 (ci := 2) rfl (mo_isC hM) rfl q2170 q2172 qs26 q91 q2173 2 (by decide +kernel) rfl (Nat.le_refl _) (by decide) (Nat.le_of_ble_eq_true rfl) (Cx.mono (cm_X3_fails hM (by omega)  h) (mI.to (fun r5 ρ4 h => ?_)) (xo rfl))
    refine sd_ifne (pc := 18) dX3_birdOf_18 (tgt := 44) (by decide) ⟨fun c17 => ?_, fun c17 => ?_⟩
    · have h := h.1 c17
      refine sd_iconst (pc := 44) dX3_birdOf_44 (v := 0) (by decide) ?_
      exact sd_ireturn (pc := 45) dX3_birdOf_45 (ty0 := .int) rfl rfl (mI.ok h)
    · have h := h.2 c17
      refine sd_aload_n (pc := 21) dX3_birdOf_21 rfl 0 rfl ?_
      refine sd_iconst (pc := 22) dX3_birdOf_22 (v := 2) (by decide) ?_
      refine sd_iload_n (pc := 23) dX3_birdOf_23 rfl 2 rfl ?_
      refine sd_iconst (pc := 24) dX3_birdOf_24 (v := 0) (by decide) ?_
      refine sd_bipush (pc := 25) dX3_birdOf_25 (v := 6) (by decide) ?_
      refine sd_callS (k := k) (n := n) (d0 := d) (k0 := 0) (n0 := 0) (As := [.int x2, .int (0 : Int32), .int (6 : Int32)]) (st := [.int (2 : Int32), .ref (mb 0)]) (pc := 27) dX3_birdOf_27 q2167 q2168 q91 q2169 3 (by decide +kernel) rfl (Nat.le_refl _) (by decide) (Nat.le_of_ble_eq_true rfl) (Cx.mono (cm_X3_isBetween hM (by omega)  h) (mI.to (fun r7 ρ6 h => ?_)) (xo rfl))
      have h19 : Wx en (d + 1) mX3_birdOf 38 [(0, .ref (mb 0)), (1, .int x1), (2, .int x2)] (.int (if (r7 = 0) then (1 : Int32) else (0 : Int32)) :: .int (2 : Int32) :: .ref (mb 0) :: []) (mH en mb ρ6 σ) k n (mQ en mb σ (mI K)) X := by
        refine sd_callV (k := k) (n := n) (d0 := d) (k0 := 0) (n0 := 0) (As := [.int (2 : Int32), .int (if (r7 = 0) then (1 : Int32) else (0 : Int32))]) (st := []) (pc := 38) dX3_birdOf_38 (ci := 2) rfl (mo_isC hM) rfl q2170 q2172 qs26 q91 q2173 2 (by decide +kernel) rfl (Nat.le_refl _) (by decide) (Nat.le_of_ble_eq_true rfl) (Cx.mono (cm_X3_fails hM (by omega)  h) (mI.to (fun r10 ρ9 h => ?_)) (xo rfl))
        refine sd_ifeq (pc := 41) dX3_birdOf_41 (tgt := 46) (by decide) ⟨fun c16 => ?_, fun c16 => ?_⟩
        · have h := h.1 c16
          refine sd_iload_n (pc := 46) dX3_birdOf_46 rfl 2 rfl ?_
          refine sd_bipush (pc := 47) dX3_birdOf_47 (v := 6) (by decide) ?_
          refine sd_icmpne (pc := 49) dX3_birdOf_49 (tgt := 60) (by decide) ⟨fun c15 => ?_, fun c15 => ?_⟩
          · have h := h.1 c15
            refine sd_aload_n (pc := 60) dX3_birdOf_60 rfl 0 rfl ?_
            refine sd_iload_n (pc := 61) dX3_birdOf_61 rfl 1 rfl ?_
            refine sd_iload_n (pc := 62) dX3_birdOf_62 rfl 2 rfl ?_
            refine sd_callV (k := k) (n := n) (d0 := d) (k0 := 0) (n0 := 0) (As := [.int x1, .int x2]) (st := []) (pc := 63) dX3_birdOf_63 (ci := 2) rfl (mo_isC hM) rfl q2228 q2230 qs36 q91 q2231 2 (by decide +kernel) rfl (Nat.le_refl _) (by decide) (Nat.le_of_ble_eq_true rfl) (Cx.mono (cm_X3_of hM (by omega)  h) (mI.to (fun r12 ρ11 h => ?_)) (xo rfl))
            exact sd_ireturn (pc := 66) dX3_birdOf_66 (ty0 := .int) rfl rfl (mI.ok h)
          · have h := h.2 c15
            refine sd_aload_n (pc := 52) dX3_birdOf_52 rfl 0 rfl ?_
            refine sd_iload_n (pc := 53) dX3_birdOf_53 rfl 1 rfl ?_
            refine sd_callV (k := k) (n := n) (d0 := d) (k0 := 0) (n0 := 0) (As := [.int x1]) (st := []) (pc := 54) dX3_birdOf_54 (ci := 2) rfl (mo_isC hM) rfl q2236 q2238 qs37 q91 q2239 1 (by decide +kernel) rfl (Nat.le_refl _) (by decide) (Nat.le_of_ble_eq_true rfl) (Cx.mono (cm_X3_below hM (by omega)  h) (mI.to (fun r14 ρ13 h => ?_)) (xo rfl))
            refine sd_goto (pc := 57) dX3_birdOf_57 (tgt := 66) (by decide) ?_
            exact sd_ireturn (pc := 66) dX3_birdOf_66 (ty0 := .int) rfl rfl (mI.ok h)
        · have h := h.2 c16
          refine sd_iconst (pc := 44) dX3_birdOf_44 (v := 0) (by decide) ?_
          exact sd_ireturn (pc := 45) dX3_birdOf_45 (ty0 := .int) rfl rfl (mI.ok h)
      have e20 := sd_iteIN h19
      refine sd_ifne (pc := 30) dX3_birdOf_30 (tgt := 37) (by decide) ⟨fun c8 => ?_, fun c8 => ?_⟩
      · refine sd_iconst (pc := 37) dX3_birdOf_37 (v := 0) (by decide) ?_
        exact (e20.1 c8)
      · refine sd_iconst (pc := 33) dX3_birdOf_33 (v := 1) (by decide) ?_
        refine sd_goto (pc := 34) dX3_birdOf_34 (tgt := 38) (by decide) ?_
        exact (e20.2 c8)
  have e21 := sd_iteIN h18
  refine sd_ifne (pc := 7) dX3_birdOf_7 (tgt := 14) (by decide) ⟨fun c3 => ?_, fun c3 => ?_⟩
  · refine sd_iconst (pc := 14) dX3_birdOf_14 (v := 0) (by decide) ?_
    exact (e21.1 c3)
  · refine sd_iconst (pc := 10) dX3_birdOf_10 (v := 1) (by decide) ?_
    refine sd_goto (pc := 11) dX3_birdOf_11 (tgt := 15) (by decide) ?_
    exact (e21.2 c3)
theorem cm_X3_birdOf {en : yEn} {mb : Nat → Nat} {σ : yH} (hM : mOK en mb σ) {d : Nat} (hd : 17 ≤ d) {ρ : yMS} {x1 : Int32} {x2 : Int32} {K : Int32 → yMS → Prop} {X : String → Addr → yH → Prop}  (h : wpM_X3_birdOf ρ x1 x2 K) : Cx en d 0 0 mX3_birdOf [.ref (mb 0), .int x1, .int x2] (mH en mb ρ σ) (mQ en mb σ (mI K)) X := by
  obtain ⟨d, rfl⟩ : ∃ e, d = e + 1 := ⟨d - 1, by omega⟩
  exact Cx.body (by decide +kernel) rfl (Nat.le_of_ble_eq_true rfl) (okM_X3_birdOf hM (by omega)  h)
/-! firstLawn(I)I -/
def wpM_X3_firstLawn (ρ : yMS) (x1 : Int32) (K : Int32 → yMS → Prop) : Prop :=
  ((((6 : Int32) ≤ x1) → K (x1 - (6 : Int32)) ρ) ∧ (¬ ((6 : Int32) ≤ x1) → K (((3 : Int32) * (x1 / (2 : Int32))) + (x1 - x1 / (2 : Int32) * (2 : Int32))) ρ))
theorem okM_X3_firstLawn {en : yEn} {mb : Nat → Nat} {σ : yH} (hM : mOK en mb σ) {d : Nat} (hd : 1 ≤ d + 1) {ρ : yMS} {x1 : Int32} {K : Int32 → yMS → Prop} {X : String → Addr → yH → Prop} {k n : Nat}  (h : wpM_X3_firstLawn ρ x1 K) : Wx en (d + 1) mX3_firstLawn 0 [(0, .int x1)] [] (mH en mb ρ σ) k n (mQ en mb σ (mI K)) X := by
  unfold wpM_X3_firstLawn at h
  refine sd_iload_n (pc := 0) dX3_firstLawn_0 rfl 0 rfl ?_
  refine sd_bipush (pc := 1) dX3_firstLawn_1 (v := 6) (by decide) ?_
  refine sd_icmpge (pc := 3) dX3_firstLawn_3 (tgt := 18) (by decide) ⟨fun c1 => ?_, fun c1 => ?_⟩
  · have h := h.1 c1
    refine sd_iload_n (pc := 18) dX3_firstLawn_18 rfl 0 rfl ?_
    refine sd_bipush (pc := 19) dX3_firstLawn_19 (v := 6) (by decide) ?_
    refine sd_isub (pc := 21) dX3_firstLawn_21 ?_
    exact sd_ireturn (pc := 22) dX3_firstLawn_22 (ty0 := .int) rfl rfl (mI.ok h)
  · have h := h.2 c1
    refine sd_iconst (pc := 6) dX3_firstLawn_6 (v := 3) (by decide) ?_
    refine sd_iload_n (pc := 7) dX3_firstLawn_7 rfl 0 rfl ?_
    refine sd_iconst (pc := 8) dX3_firstLawn_8 (v := 2) (by decide) ?_
    refine sd_idiv (pc := 9) dX3_firstLawn_9 (by decide) ?_
    refine sd_imul (pc := 10) dX3_firstLawn_10 ?_
    refine sd_iload_n (pc := 11) dX3_firstLawn_11 rfl 0 rfl ?_
    refine sd_iconst (pc := 12) dX3_firstLawn_12 (v := 2) (by decide) ?_
    refine sd_irem (pc := 13) dX3_firstLawn_13 (by decide) ?_
    refine sd_iadd (pc := 14) dX3_firstLawn_14 ?_
    refine sd_goto (pc := 15) dX3_firstLawn_15 (tgt := 22) (by decide) ?_
    exact sd_ireturn (pc := 22) dX3_firstLawn_22 (ty0 := .int) rfl rfl (mI.ok h)
theorem cm_X3_firstLawn {en : yEn} {mb : Nat → Nat} {σ : yH} (hM : mOK en mb σ) {d : Nat} (hd : 1 ≤ d) {ρ : yMS} {x1 : Int32} {K : Int32 → yMS → Prop} {X : String → Addr → yH → Prop}  (h : wpM_X3_firstLawn ρ x1 K) : Cx en d 0 0 mX3_firstLawn [.int x1] (mH en mb ρ σ) (mQ en mb σ (mI K)) X := by
  obtain ⟨d, rfl⟩ : ∃ e, d = e + 1 := ⟨d - 1, by omega⟩
  exact Cx.body (by decide +kernel) rfl (Nat.le_of_ble_eq_true rfl) (okM_X3_firstLawn hM (by omega)  h)
