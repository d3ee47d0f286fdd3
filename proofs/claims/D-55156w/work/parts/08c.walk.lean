/-! WALKS 08c.walk -/
set_option maxRecDepth 100000
theorem yn9 : (Jvm.Cond.isRef (Jvm.Term.static "java/lang/Throwable" "UNASSIGNED_STACK" "[Ljava/lang/StackTraceElement;")) ∈ y_nar := List.mem_of_getElem? (i := 9) (by decide +kernel)
theorem yn10 : (Jvm.Cond.isRef (Jvm.Term.static "java/lang/Throwable" "SUPPRESSED_SENTINEL" "Ljava/util/List;")) ∈ y_nar := List.mem_of_getElem? (i := 10) (by decide +kernel)
/-! java/lang/Throwable.<init>()V -/
def wp_J9_init (en : yEn) (d : Nat) (x0 : Nat) (σ : yH) (k n : Nat) (K : Option Value → yH → Prop) (X : String → Addr → yH → Prop) : Prop :=
  (putV σ x0 4 0 (.ref x0) (fun σ1 => (putV σ1 x0 4 1 (va_rf (y_sr en "java/lang/Throwable" "UNASSIGNED_STACK" "[Ljava/lang/StackTraceElement;")) (fun σ2 => (putV σ2 x0 4 2 (va_rf (y_sr en "java/lang/Throwable" "SUPPRESSED_SENTINEL" "Ljava/util/List;")) (fun σ3 => False))))))
set_option maxHeartbeats 4000000 in
theorem ok_J9_init {en : yEn} {d : Nat} {x0 : Nat} {σ : yH} {k n : Nat} {K : Option Value → yH → Prop} {X : String → Addr → yH → Prop} (h : wp_J9_init en d  x0 σ k n K X) : Wx en (d + 1) mJ9_init 0 [(0, .ref x0)] [] σ k n K X := by
  unfold wp_J9_init at h
  refine sd_aload_n (pc := 0) dJ9_init_0 rfl 0 rfl ?_
  refine sd_objInit (pc := 1) dJ9_init_1 q402 q126 q127 (by omega) (Nat.le_of_ble_eq_true rfl) ?_
  refine sd_aload_n (pc := 4) dJ9_init_4 rfl 0 rfl ?_
  refine sd_aload_n (pc := 5) dJ9_init_5 rfl 0 rfl ?_
  refine sd_putf (pc := 6) dJ9_init_6 (ci := 4) rfl in_X5 tyX5 tyX5_ok nmX5 (kf := 0) (by decide) q437 rfl (ty := (.object "java/lang/Throwable")) rfl rfl rfl (putV.mono h (fun σ1 h => ?_))
  refine sd_aload_n (pc := 9) dJ9_init_9 rfl 0 rfl ?_
  refine sd_getsQ (pc := 10) dJ9_init_10 q403 q404 (lw_all_tbl q92) yn9 ?_
  refine sd_putf (pc := 13) dJ9_init_13 (ci := 4) rfl in_X5 tyX5 tyX5_ok nmX5 (kf := 1) (by decide) q438 rfl (ty := (.array (.object "java/lang/StackTraceElement"))) rfl (nr_rf _ (by decide)) (ft_rf _ (by decide)) (putV.mono h (fun σ2 h => ?_))
  refine sd_aload_n (pc := 16) dJ9_init_16 rfl 0 rfl ?_
  refine sd_getsQ (pc := 17) dJ9_init_17 q405 q406 (lw_all_tbl q92) yn10 ?_
  refine sd_putf (pc := 20) dJ9_init_20 (ci := 4) rfl in_X5 tyX5 tyX5_ok nmX5 (kf := 2) (by decide) q439 rfl (ty := (.object "java/util/List")) rfl (nr_rf _ (by decide)) (ft_rf _ (by decide)) (putV.mono h (fun σ3 h => ?_))
  refine sd_aload_n (pc := 23) dJ9_init_23 rfl 0 rfl ?_
  exact h.elim
theorem cx_J9_init {en : yEn} {d : Nat} {x0 : Nat} {σ : yH} {k n : Nat} {K : Option Value → yH → Prop} {X : String → Addr → yH → Prop} (h : wp_J9_init en d  x0 σ k n K X) : Cx en (d + 1) k n mJ9_init [.ref x0] σ K X := Cx.body (by decide +kernel) rfl (Nat.le_of_ble_eq_true rfl) (ok_J9_init h)
/-! java/lang/Exception.<init>()V -/
def wp_J10_init (en : yEn) (d : Nat) (x0 : Nat) (σ : yH) (k n : Nat) (K : Option Value → yH → Prop) (X : String → Addr → yH → Prop) : Prop :=
  Cx en d 0 0 mJ9_init [.ref x0] σ (kV (fun σ1 => K none σ1)) X
set_option maxHeartbeats 4000000 in
theorem ok_J10_init {en : yEn} {d : Nat} {x0 : Nat} {σ : yH} {k n : Nat} {K : Option Value → yH → Prop} {X : String → Addr → yH → Prop} (h : wp_J10_init en d  x0 σ k n K X) : Wx en (d + 1) mJ10_init 0 [(0, .ref x0)] [] σ k n K X := by
  unfold wp_J10_init at h
  refine sd_aload_n (pc := 0) dJ10_init_0 rfl 0 rfl ?_
  refine sd_callI (k := k) (n := n) (As := []) (st := []) (pc := 1) dJ10_init_1 q434 q400 q92 q401 rfl 0 (by decide +kernel) rfl (Nat.le_refl _) (by decide) (Nat.le_of_ble_eq_true rfl) (Cx.mono h (kV.to (fun σ1 h => ?_)) (xo rfl))
  exact sd_return (pc := 4) dJ10_init_4 rfl h
theorem cx_J10_init {en : yEn} {d : Nat} {x0 : Nat} {σ : yH} {k n : Nat} {K : Option Value → yH → Prop} {X : String → Addr → yH → Prop} (h : wp_J10_init en d  x0 σ k n K X) : Cx en (d + 1) k n mJ10_init [.ref x0] σ K X := Cx.body (by decide +kernel) rfl (Nat.le_of_ble_eq_true rfl) (ok_J10_init h)
/-! java/lang/Throwable.<init>(Ljava/lang/String;)V -/
def wp_J9_init_2 (en : yEn) (d : Nat) (x0 : Nat) (x1 : Nat) (σ : yH) (k n : Nat) (K : Option Value → yH → Prop) (X : String → Addr → yH → Prop) : Prop :=
  (putV σ x0 4 0 (.ref x0) (fun σ1 => (putV σ1 x0 4 1 (va_rf (y_sr en "java/lang/Throwable" "UNASSIGNED_STACK" "[Ljava/lang/StackTraceElement;")) (fun σ2 => (putV σ2 x0 4 2 (va_rf (y_sr en "java/lang/Throwable" "SUPPRESSED_SENTINEL" "Ljava/util/List;")) (fun σ3 => False))))))
set_option maxHeartbeats 4000000 in
theorem ok_J9_init_2 {en : yEn} {d : Nat} {x0 : Nat} {x1 : Nat} {σ : yH} {k n : Nat} {K : Option Value → yH → Prop} {X : String → Addr → yH → Prop} (h : wp_J9_init_2 en d  x0 x1 σ k n K X) : Wx en (d + 1) mJ9_init_2 0 [(0, .ref x0), (1, .ref x1)] [] σ k n K X := by
  unfold wp_J9_init_2 at h
  refine sd_aload_n (pc := 0) dJ9_init_2_0 rfl 0 rfl ?_
  refine sd_objInit (pc := 1) dJ9_init_2_1 q402 q126 q127 (by omega) (Nat.le_of_ble_eq_true rfl) ?_
  refine sd_aload_n (pc := 4) dJ9_init_2_4 rfl 0 rfl ?_
  refine sd_aload_n (pc := 5) dJ9_init_2_5 rfl 0 rfl ?_
  refine sd_putf (pc := 6) dJ9_init_2_6 (ci := 4) rfl in_X5 tyX5 tyX5_ok nmX5 (kf := 0) (by decide) q437 rfl (ty := (.object "java/lang/Throwable")) rfl rfl rfl (putV.mono h (fun σ1 h => ?_))
  refine sd_aload_n (pc := 9) dJ9_init_2_9 rfl 0 rfl ?_
  refine sd_getsQ (pc := 10) dJ9_init_2_10 q403 q404 (lw_all_tbl q92) yn9 ?_
  refine sd_putf (pc := 13) dJ9_init_2_13 (ci := 4) rfl in_X5 tyX5 tyX5_ok nmX5 (kf := 1) (by decide) q438 rfl (ty := (.array (.object "java/lang/StackTraceElement"))) rfl (nr_rf _ (by decide)) (ft_rf _ (by decide)) (putV.mono h (fun σ2 h => ?_))
  refine sd_aload_n (pc := 16) dJ9_init_2_16 rfl 0 rfl ?_
  refine sd_getsQ (pc := 17) dJ9_init_2_17 q405 q406 (lw_all_tbl q92) yn10 ?_
  refine sd_putf (pc := 20) dJ9_init_2_20 (ci := 4) rfl in_X5 tyX5 tyX5_ok nmX5 (kf := 2) (by decide) q439 rfl (ty := (.object "java/util/List")) rfl (nr_rf _ (by decide)) (ft_rf _ (by decide)) (putV.mono h (fun σ3 h => ?_))
  refine sd_aload_n (pc := 23) dJ9_init_2_23 rfl 0 rfl ?_
  exact h.elim
theorem cx_J9_init_2 {en : yEn} {d : Nat} {x0 : Nat} {x1 : Nat} {σ : yH} {k n : Nat} {K : Option Value → yH → Prop} {X : String → Addr → yH → Prop} (h : wp_J9_init_2 en d  x0 x1 σ k n K X) : Cx en (d + 1) k n mJ9_init_2 [.ref x0, .ref x1] σ K X := Cx.body (by decide +kernel) rfl (Nat.le_of_ble_eq_true rfl) (ok_J9_init_2 h)
/-! java/lang/Exception.<init>(Ljava/lang/String;)V -/
def wp_J10_init_2 (en : yEn) (d : Nat) (x0 : Nat) (x1 : Nat) (σ : yH) (k n : Nat) (K : Option Value → yH → Prop) (X : String → Addr → yH → Prop) : Prop :=
  Cx en d 0 0 mJ9_init_2 [.ref x0, .ref x1] σ (kV (fun σ1 => K none σ1)) X
set_option maxHeartbeats 4000000 in
theorem ok_J10_init_2 {en : yEn} {d : Nat} {x0 : Nat} {x1 : Nat} {σ : yH} {k n : Nat} {K : Option Value → yH → Prop} {X : String → Addr → yH → Prop} (h : wp_J10_init_2 en d  x0 x1 σ k n K X) : Wx en (d + 1) mJ10_init_2 0 [(0, .ref x0), (1, .ref x1)] [] σ k n K X := by
  unfold wp_J10_init_2 at h
  refine sd_aload_n (pc := 0) dJ10_init_2_0 rfl 0 rfl ?_
  refine sd_aload_n (pc := 1) dJ10_init_2_1 rfl 1 rfl ?_
  refine sd_callI (k := k) (n := n) (As := [.ref x1]) (st := []) (pc := 2) dJ10_init_2_2 q706 q707 q92 q708 rfl 1 (by decide +kernel) rfl (Nat.le_refl _) (by decide) (Nat.le_of_ble_eq_true rfl) (Cx.mono h (kV.to (fun σ1 h => ?_)) (xo rfl))
  exact sd_return (pc := 5) dJ10_init_2_5 rfl h
theorem cx_J10_init_2 {en : yEn} {d : Nat} {x0 : Nat} {x1 : Nat} {σ : yH} {k n : Nat} {K : Option Value → yH → Prop} {X : String → Addr → yH → Prop} (h : wp_J10_init_2 en d  x0 x1 σ k n K X) : Cx en (d + 1) k n mJ10_init_2 [.ref x0, .ref x1] σ K X := Cx.body (by decide +kernel) rfl (Nat.le_of_ble_eq_true rfl) (ok_J10_init_2 h)
/-! java/lang/Throwable.<init>(Ljava/lang/String;Ljava/lang/Throwable;ZZ)V -/
def wp_J9_init_3 (en : yEn) (d : Nat) (x0 : Nat) (x1 : Nat) (x2 : Nat) (x3 : Int32) (x4 : Int32) (σ : yH) (k n : Nat) (K : Option Value → yH → Prop) (X : String → Addr → yH → Prop) : Prop :=
  (putV σ x0 4 0 (.ref x0) (fun σ1 => (putV σ1 x0 4 1 (va_rf (y_sr en "java/lang/Throwable" "UNASSIGNED_STACK" "[Ljava/lang/StackTraceElement;")) (fun σ2 => (putV σ2 x0 4 2 (va_rf (y_sr en "java/lang/Throwable" "SUPPRESSED_SENTINEL" "Ljava/util/List;")) (fun σ3 => (((x4 = 0) → (putV σ3 x0 4 1 (.null) (fun σ4 => (putV σ4 x0 4 3 (.ref x1) (fun σ5 => (putV σ5 x0 4 0 (.ref x2) (fun σ6 => ((¬ (x3 = 0) → K none σ6) ∧ ((x3 = 0) → (putV σ6 x0 4 2 (.null) (fun σ7 => K none σ7))))))))))) ∧ (¬ (x4 = 0) → False))))))))
set_option maxHeartbeats 4000000 in
theorem ok_J9_init_3 {en : yEn} {d : Nat} {x0 : Nat} {x1 : Nat} {x2 : Nat} {x3 : Int32} {x4 : Int32} {σ : yH} {k n : Nat} {K : Option Value → yH → Prop} {X : String → Addr → yH → Prop} (h : wp_J9_init_3 en d  x0 x1 x2 x3 x4 σ k n K X) : Wx en (d + 1) mJ9_init_3 0 [(0, .ref x0), (1, .ref x1), (2, .ref x2), (3, .int x3), (4, .int x4)] [] σ k n K X := by
  unfold wp_J9_init_3 at h
  refine sd_aload_n (pc := 0) dJ9_init_3_0 rfl 0 rfl ?_
  refine sd_objInit (pc := 1) dJ9_init_3_1 q402 q126 q127 (by omega) (Nat.le_of_ble_eq_true rfl) ?_
  refine sd_aload_n (pc := 4) dJ9_init_3_4 rfl 0 rfl ?_
  refine sd_aload_n (pc := 5) dJ9_init_3_5 rfl 0 rfl ?_
  refine sd_putf (pc := 6) dJ9_init_3_6 (ci := 4) rfl in_X5 tyX5 tyX5_ok nmX5 (kf := 0) (by decide) q437 rfl (ty := (.object "java/lang/Throwable")) rfl rfl rfl (putV.mono h (fun σ1 h => ?_))
  refine sd_aload_n (pc := 9) dJ9_init_3_9 rfl 0 rfl ?_
  refine sd_getsQ (pc := 10) dJ9_init_3_10 q403 q404 (lw_all_tbl q92) yn9 ?_
  refine sd_putf (pc := 13) dJ9_init_3_13 (ci := 4) rfl in_X5 tyX5 tyX5_ok nmX5 (kf := 1) (by decide) q438 rfl (ty := (.array (.object "java/lang/StackTraceElement"))) rfl (nr_rf _ (by decide)) (ft_rf _ (by decide)) (putV.mono h (fun σ2 h => ?_))
  refine sd_aload_n (pc := 16) dJ9_init_3_16 rfl 0 rfl ?_
  refine sd_getsQ (pc := 17) dJ9_init_3_17 q405 q406 (lw_all_tbl q92) yn10 ?_
  refine sd_putf (pc := 20) dJ9_init_3_20 (ci := 4) rfl in_X5 tyX5 tyX5_ok nmX5 (kf := 2) (by decide) q439 rfl (ty := (.object "java/util/List")) rfl (nr_rf _ (by decide)) (ft_rf _ (by decide)) (putV.mono h (fun σ3 h => ?_))
  refine sd_iload (pc := 23) dJ9_init_3_23 4 rfl ?_
  refine sd_ifeq (pc := 25) dJ9_init_3_25 (tgt := 36) (by decide) ⟨fun c9 => ?_, fun c9 => ?_⟩
  · have h := h.1 c9
    refine sd_aload_n (pc := 36) dJ9_init_3_36 rfl 0 rfl ?_
    refine sd_null (pc := 37) dJ9_init_3_37 ?_
    refine sd_putf (pc := 38) dJ9_init_3_38 (ci := 4) rfl in_X5 tyX5 tyX5_ok nmX5 (kf := 1) (by decide) q438 rfl (ty := (.array (.object "java/lang/StackTraceElement"))) rfl rfl rfl (putV.mono h (fun σ4 h => ?_))
    refine sd_aload_n (pc := 41) dJ9_init_3_41 rfl 0 rfl ?_
    refine sd_aload_n (pc := 42) dJ9_init_3_42 rfl 1 rfl ?_
    refine sd_putf (pc := 43) dJ9_init_3_43 (ci := 4) rfl in_X5 tyX5 tyX5_ok nmX5 (kf := 3) (by decide) q436 rfl (ty := (.object "java/lang/String")) rfl rfl rfl (putV.mono h (fun σ5 h => ?_))
    refine sd_aload_n (pc := 46) dJ9_init_3_46 rfl 0 rfl ?_
    refine sd_aload_n (pc := 47) dJ9_init_3_47 rfl 2 rfl ?_
    refine sd_putf (pc := 48) dJ9_init_3_48 (ci := 4) rfl in_X5 tyX5 tyX5_ok nmX5 (kf := 0) (by decide) q437 rfl (ty := (.object "java/lang/Throwable")) rfl rfl rfl (putV.mono h (fun σ6 h => ?_))
    refine sd_iload_n (pc := 51) dJ9_init_3_51 rfl 3 rfl ?_
    refine sd_ifne (pc := 52) dJ9_init_3_52 (tgt := 60) (by decide) ⟨fun c8 => ?_, fun c8 => ?_⟩
    · have h := h.1 c8
      exact sd_return (pc := 60) dJ9_init_3_60 rfl h
    · have h := h.2 c8
      refine sd_aload_n (pc := 55) dJ9_init_3_55 rfl 0 rfl ?_
      refine sd_null (pc := 56) dJ9_init_3_56 ?_
      refine sd_putf (pc := 57) dJ9_init_3_57 (ci := 4) rfl in_X5 tyX5 tyX5_ok nmX5 (kf := 2) (by decide) q439 rfl (ty := (.object "java/util/List")) rfl rfl rfl (putV.mono h (fun σ7 h => ?_))
      exact sd_return (pc := 60) dJ9_init_3_60 rfl h
  · have h := h.2 c9
    refine sd_aload_n (pc := 28) dJ9_init_3_28 rfl 0 rfl ?_
    exact h.elim
theorem cx_J9_init_3 {en : yEn} {d : Nat} {x0 : Nat} {x1 : Nat} {x2 : Nat} {x3 : Int32} {x4 : Int32} {σ : yH} {k n : Nat} {K : Option Value → yH → Prop} {X : String → Addr → yH → Prop} (h : wp_J9_init_3 en d  x0 x1 x2 x3 x4 σ k n K X) : Cx en (d + 1) k n mJ9_init_3 [.ref x0, .ref x1, .ref x2, .int x3, .int x4] σ K X := Cx.body (by decide +kernel) rfl (Nat.le_of_ble_eq_true rfl) (ok_J9_init_3 h)
/-! java/lang/Exception.<init>(Ljava/lang/String;Ljava/lang/Throwable;ZZ)V -/
def wp_J10_init_3 (en : yEn) (d : Nat) (x0 : Nat) (x1 : Nat) (x2 : Nat) (x3 : Int32) (x4 : Int32) (σ : yH) (k n : Nat) (K : Option Value → yH → Prop) (X : String → Addr → yH → Prop) : Prop :=
  Cx en d 0 0 mJ9_init_3 [.ref x0, .ref x1, .ref x2, .int x3, .int x4] σ (kV (fun σ1 => K none σ1)) X
set_option maxHeartbeats 4000000 in
theorem ok_J10_init_3 {en : yEn} {d : Nat} {x0 : Nat} {x1 : Nat} {x2 : Nat} {x3 : Int32} {x4 : Int32} {σ : yH} {k n : Nat} {K : Option Value → yH → Prop} {X : String → Addr → yH → Prop} (h : wp_J10_init_3 en d  x0 x1 x2 x3 x4 σ k n K X) : Wx en (d + 1) mJ10_init_3 0 [(0, .ref x0), (1, .ref x1), (2, .ref x2), (3, .int x3), (4, .int x4)] [] σ k n K X := by
  unfold wp_J10_init_3 at h
  refine sd_aload_n (pc := 0) dJ10_init_3_0 rfl 0 rfl ?_
  refine sd_aload_n (pc := 1) dJ10_init_3_1 rfl 1 rfl ?_
  refine sd_aload_n (pc := 2) dJ10_init_3_2 rfl 2 rfl ?_
  refine sd_iload_n (pc := 3) dJ10_init_3_3 rfl 3 rfl ?_
  refine sd_iload (pc := 4) dJ10_init_3_4 4 rfl ?_
  refine sd_callI (k := k) (n := n) (As := [.ref x1, .ref x2, .int x3, .int x4]) (st := []) (pc := 6) dJ10_init_3_6 q930 q931 q92 q932 rfl 4 (by decide +kernel) rfl (Nat.le_refl _) (by decide) (Nat.le_of_ble_eq_true rfl) (Cx.mono h (kV.to (fun σ1 h => ?_)) (xo rfl))
  exact sd_return (pc := 9) dJ10_init_3_9 rfl h
theorem cx_J10_init_3 {en : yEn} {d : Nat} {x0 : Nat} {x1 : Nat} {x2 : Nat} {x3 : Int32} {x4 : Int32} {σ : yH} {k n : Nat} {K : Option Value → yH → Prop} {X : String → Addr → yH → Prop} (h : wp_J10_init_3 en d  x0 x1 x2 x3 x4 σ k n K X) : Cx en (d + 1) k n mJ10_init_3 [.ref x0, .ref x1, .ref x2, .int x3, .int x4] σ K X := Cx.body (by decide +kernel) rfl (Nat.le_of_ble_eq_true rfl) (ok_J10_init_3 h)
/-! PeacockLawns$Refusal.<init>(IILjava/lang/Exception;)V -/
def wp_X5_init_2 (en : yEn) (d : Nat) (x0 : Nat) (x1 : Int32) (x2 : Int32) (x3 : Nat) (σ : yH) (k n : Nat) (K : Option Value → yH → Prop) (X : String → Addr → yH → Prop) : Prop :=
  Cx en d 0 0 mJ10_init_3 [.ref x0, .null, .ref x3, .int (0 : Int32), .int (0 : Int32)] σ (kV (fun σ1 => (putV σ1 x0 4 6 (.int x1) (fun σ2 => (putV σ2 x0 4 7 (.int x2) (fun σ3 => K none σ3)))))) X
set_option maxHeartbeats 4000000 in
theorem ok_X5_init_2 {en : yEn} {d : Nat} {x0 : Nat} {x1 : Int32} {x2 : Int32} {x3 : Nat} {σ : yH} {k n : Nat} {K : Option Value → yH → Prop} {X : String → Addr → yH → Prop} (h : wp_X5_init_2 en d  x0 x1 x2 x3 σ k n K X) : Wx en (d + 1) mX5_init_2 0 [(0, .ref x0), (1, .int x1), (2, .int x2), (3, .ref x3)] [] σ k n K X := by
  unfold wp_X5_init_2 at h
  refine sd_aload_n (pc := 0) dX5_init_2_0 rfl 0 rfl ?_
  refine sd_null (pc := 1) dX5_init_2_1 ?_
  refine sd_aload_n (pc := 2) dX5_init_2_2 rfl 3 rfl ?_
  refine sd_iconst (pc := 3) dX5_init_2_3 (v := 0) (by decide) ?_
  refine sd_iconst (pc := 4) dX5_init_2_4 (v := 0) (by decide) ?_
  refine sd_callI (k := k) (n := n) (As := [.null, .ref x3, .int (0 : Int32), .int (0 : Int32)]) (st := []) (pc := 5) dX5_init_2_5 q927 q928 q93 q929 rfl 4 (by decide +kernel) rfl (Nat.le_refl _) (by decide) (Nat.le_of_ble_eq_true rfl) (Cx.mono h (kV.to (fun σ1 h => ?_)) (xo rfl))
  refine sd_aload_n (pc := 8) dX5_init_2_8 rfl 0 rfl ?_
  refine sd_iload_n (pc := 9) dX5_init_2_9 rfl 1 rfl ?_
  refine sd_putfF (pc := 10) dX5_init_2_10 (ci := 4) rfl in_X5 tyX5 tyX5_ok nmX5 (kf := 6) (by decide) q933 rfl rfl rfl (ty := .int) rfl rfl rfl (putV.mono h (fun σ2 h => ?_))
  refine sd_aload_n (pc := 13) dX5_init_2_13 rfl 0 rfl ?_
  refine sd_iload_n (pc := 14) dX5_init_2_14 rfl 2 rfl ?_
  refine sd_putfF (pc := 15) dX5_init_2_15 (ci := 4) rfl in_X5 tyX5 tyX5_ok nmX5 (kf := 7) (by decide) q935 rfl rfl rfl (ty := .int) rfl rfl rfl (putV.mono h (fun σ3 h => ?_))
  exact sd_return (pc := 18) dX5_init_2_18 rfl h
theorem cx_X5_init_2 {en : yEn} {d : Nat} {x0 : Nat} {x1 : Int32} {x2 : Int32} {x3 : Nat} {σ : yH} {k n : Nat} {K : Option Value → yH → Prop} {X : String → Addr → yH → Prop} (h : wp_X5_init_2 en d  x0 x1 x2 x3 σ k n K X) : Cx en (d + 1) k n mX5_init_2 [.ref x0, .int x1, .int x2, .ref x3] σ K X := Cx.body (by decide +kernel) rfl (Nat.le_of_ble_eq_true rfl) (ok_X5_init_2 h)
/-! PeacockLawns$Refusal.<init>(II)V -/
def wp_X5_init (en : yEn) (d : Nat) (x0 : Nat) (x1 : Int32) (x2 : Int32) (σ : yH) (k n : Nat) (K : Option Value → yH → Prop) (X : String → Addr → yH → Prop) : Prop :=
  Cx en d 0 0 mX5_init_2 [.ref x0, .int x1, .int x2, .null] σ (kV (fun σ1 => K none σ1)) X
set_option maxHeartbeats 4000000 in
theorem ok_X5_init {en : yEn} {d : Nat} {x0 : Nat} {x1 : Int32} {x2 : Int32} {σ : yH} {k n : Nat} {K : Option Value → yH → Prop} {X : String → Addr → yH → Prop} (h : wp_X5_init en d  x0 x1 x2 σ k n K X) : Wx en (d + 1) mX5_init 0 [(0, .ref x0), (1, .int x1), (2, .int x2)] [] σ k n K X := by
  unfold wp_X5_init at h
  refine sd_aload_n (pc := 0) dX5_init_0 rfl 0 rfl ?_
  refine sd_iload_n (pc := 1) dX5_init_1 rfl 1 rfl ?_
  refine sd_iload_n (pc := 2) dX5_init_2 rfl 2 rfl ?_
  refine sd_null (pc := 3) dX5_init_3 ?_
  refine sd_callI (k := k) (n := n) (As := [.int x1, .int x2, .null]) (st := []) (pc := 4) dX5_init_4 q924 q925 q99 q926 rfl 3 (by decide +kernel) rfl (Nat.le_refl _) (by decide) (Nat.le_of_ble_eq_true rfl) (Cx.mono h (kV.to (fun σ1 h => ?_)) (xo rfl))
  exact sd_return (pc := 7) dX5_init_7 rfl h
theorem cx_X5_init {en : yEn} {d : Nat} {x0 : Nat} {x1 : Int32} {x2 : Int32} {σ : yH} {k n : Nat} {K : Option Value → yH → Prop} {X : String → Addr → yH → Prop} (h : wp_X5_init en d  x0 x1 x2 σ k n K X) : Cx en (d + 1) k n mX5_init [.ref x0, .int x1, .int x2] σ K X := Cx.body (by decide +kernel) rfl (Nat.le_of_ble_eq_true rfl) (ok_X5_init h)
/-! PeacockLawns$Bird.<init>(ZIIIII)V -/
def wp_X4_init_2 (en : yEn) (d : Nat) (x0 : Nat) (x1 : Int32) (x2 : Int32) (x3 : Int32) (x4 : Int32) (x5 : Int32) (x6 : Int32) (σ : yH) (k n : Nat) (K : Option Value → yH → Prop) (X : String → Addr → yH → Prop) : Prop :=
  (narrow .boolean (.int x1) = .int x1 ∧ fits .boolean (.int x1) = true ∧ putV σ x0 3 0 (.int x1) (fun σ1 => (putV σ1 x0 3 1 (.int x2) (fun σ2 => (putV σ2 x0 3 2 (.int x3) (fun σ3 => (putV σ3 x0 3 3 (.int x4) (fun σ4 => (putV σ4 x0 3 4 (.int x5) (fun σ5 => (putV σ5 x0 3 5 (.int x6) (fun σ6 => K none σ6))))))))))))
set_option maxHeartbeats 4000000 in
theorem ok_X4_init_2 {en : yEn} {d : Nat} {x0 : Nat} {x1 : Int32} {x2 : Int32} {x3 : Int32} {x4 : Int32} {x5 : Int32} {x6 : Int32} {σ : yH} {k n : Nat} {K : Option Value → yH → Prop} {X : String → Addr → yH → Prop} (h : wp_X4_init_2 en d  x0 x1 x2 x3 x4 x5 x6 σ k n K X) : Wx en (d + 1) mX4_init_2 0 [(0, .ref x0), (1, .int x1), (2, .int x2), (3, .int x3), (4, .int x4), (5, .int x5), (6, .int x6)] [] σ k n K X := by
  unfold wp_X4_init_2 at h
  refine sd_aload_n (pc := 0) dX4_init_2_0 rfl 0 rfl ?_
  refine sd_objInit (pc := 1) dX4_init_2_1 q872 q126 q127 (by omega) (Nat.le_of_ble_eq_true rfl) ?_
  refine sd_aload_n (pc := 4) dX4_init_2_4 rfl 0 rfl ?_
  refine sd_iload_n (pc := 5) dX4_init_2_5 rfl 1 rfl ?_
  refine sd_putfF (pc := 6) dX4_init_2_6 (ci := 3) rfl in_X4 tyX4 tyX4_ok nmX4 (kf := 0) (by decide) q873 rfl rfl rfl (ty := .boolean) rfl h.1 h.2.1 (putV.mono h.2.2 (fun σ1 h => ?_))
  refine sd_aload_n (pc := 9) dX4_init_2_9 rfl 0 rfl ?_
  refine sd_iload_n (pc := 10) dX4_init_2_10 rfl 2 rfl ?_
  refine sd_putfF (pc := 11) dX4_init_2_11 (ci := 3) rfl in_X4 tyX4 tyX4_ok nmX4 (kf := 1) (by decide) q876 rfl rfl rfl (ty := .int) rfl rfl rfl (putV.mono h (fun σ2 h => ?_))
  refine sd_aload_n (pc := 14) dX4_init_2_14 rfl 0 rfl ?_
  refine sd_iload_n (pc := 15) dX4_init_2_15 rfl 3 rfl ?_
  refine sd_putfF (pc := 16) dX4_init_2_16 (ci := 3) rfl in_X4 tyX4 tyX4_ok nmX4 (kf := 2) (by decide) q879 rfl rfl rfl (ty := .int) rfl rfl rfl (putV.mono h (fun σ3 h => ?_))
  refine sd_aload_n (pc := 19) dX4_init_2_19 rfl 0 rfl ?_
  refine sd_iload (pc := 20) dX4_init_2_20 4 rfl ?_
  refine sd_putfF (pc := 22) dX4_init_2_22 (ci := 3) rfl in_X4 tyX4 tyX4_ok nmX4 (kf := 3) (by decide) q882 rfl rfl rfl (ty := .int) rfl rfl rfl (putV.mono h (fun σ4 h => ?_))
  refine sd_aload_n (pc := 25) dX4_init_2_25 rfl 0 rfl ?_
  refine sd_iload (pc := 26) dX4_init_2_26 5 rfl ?_
  refine sd_putfF (pc := 28) dX4_init_2_28 (ci := 3) rfl in_X4 tyX4 tyX4_ok nmX4 (kf := 4) (by decide) q886 rfl rfl rfl (ty := .int) rfl rfl rfl (putV.mono h (fun σ5 h => ?_))
  refine sd_aload_n (pc := 31) dX4_init_2_31 rfl 0 rfl ?_
  refine sd_iload (pc := 32) dX4_init_2_32 6 rfl ?_
  refine sd_putfF (pc := 34) dX4_init_2_34 (ci := 3) rfl in_X4 tyX4 tyX4_ok nmX4 (kf := 5) (by decide) q888 rfl rfl rfl (ty := .int) rfl rfl rfl (putV.mono h (fun σ6 h => ?_))
  exact sd_return (pc := 37) dX4_init_2_37 rfl h
theorem cx_X4_init_2 {en : yEn} {d : Nat} {x0 : Nat} {x1 : Int32} {x2 : Int32} {x3 : Int32} {x4 : Int32} {x5 : Int32} {x6 : Int32} {σ : yH} {k n : Nat} {K : Option Value → yH → Prop} {X : String → Addr → yH → Prop} (h : wp_X4_init_2 en d  x0 x1 x2 x3 x4 x5 x6 σ k n K X) : Cx en (d + 1) k n mX4_init_2 [.ref x0, .int x1, .int x2, .int x3, .int x4, .int x5, .int x6] σ K X := Cx.body (by decide +kernel) rfl (Nat.le_of_ble_eq_true rfl) (ok_X4_init_2 h)
/-! PeacockLawns$Bird.<init>(ZIII)V -/
def wp_X4_init (en : yEn) (d : Nat) (x0 : Nat) (x1 : Int32) (x2 : Int32) (x3 : Int32) (x4 : Int32) (σ : yH) (k n : Nat) (K : Option Value → yH → Prop) (X : String → Addr → yH → Prop) : Prop :=
  Cx en d 0 0 mX4_init_2 [.ref x0, .int x1, .int x2, .int x3, .int x4, .int (-1 : Int32), .int (0 : Int32)] σ (kV (fun σ1 => K none σ1)) X
set_option maxHeartbeats 4000000 in
theorem ok_X4_init {en : yEn} {d : Nat} {x0 : Nat} {x1 : Int32} {x2 : Int32} {x3 : Int32} {x4 : Int32} {σ : yH} {k n : Nat} {K : Option Value → yH → Prop} {X : String → Addr → yH → Prop} (h : wp_X4_init en d  x0 x1 x2 x3 x4 σ k n K X) : Wx en (d + 1) mX4_init 0 [(0, .ref x0), (1, .int x1), (2, .int x2), (3, .int x3), (4, .int x4)] [] σ k n K X := by
  unfold wp_X4_init at h
  refine sd_aload_n (pc := 0) dX4_init_0 rfl 0 rfl ?_
  refine sd_iload_n (pc := 1) dX4_init_1 rfl 1 rfl ?_
  refine sd_iload_n (pc := 2) dX4_init_2 rfl 2 rfl ?_
  refine sd_iload_n (pc := 3) dX4_init_3 rfl 3 rfl ?_
  refine sd_iload (pc := 4) dX4_init_4 4 rfl ?_
  refine sd_iconst (pc := 6) dX4_init_6 (v := -1) (by decide) ?_
  refine sd_iconst (pc := 7) dX4_init_7 (v := 0) (by decide) ?_
  refine sd_callI (k := k) (n := n) (As := [.int x1, .int x2, .int x3, .int x4, .int (-1 : Int32), .int (0 : Int32)]) (st := []) (pc := 8) dX4_init_8 q869 q870 q98 q871 rfl 6 (by decide +kernel) rfl (Nat.le_refl _) (by decide) (Nat.le_of_ble_eq_true rfl) (Cx.mono h (kV.to (fun σ1 h => ?_)) (xo rfl))
  exact sd_return (pc := 11) dX4_init_11 rfl h
theorem cx_X4_init {en : yEn} {d : Nat} {x0 : Nat} {x1 : Int32} {x2 : Int32} {x3 : Int32} {x4 : Int32} {σ : yH} {k n : Nat} {K : Option Value → yH → Prop} {X : String → Addr → yH → Prop} (h : wp_X4_init en d  x0 x1 x2 x3 x4 σ k n K X) : Cx en (d + 1) k n mX4_init [.ref x0, .int x1, .int x2, .int x3, .int x4] σ K X := Cx.body (by decide +kernel) rfl (Nat.le_of_ble_eq_true rfl) (ok_X4_init h)
/-! PeacockLawns$Bird.with(II)LPeacockLawns$Bird; -/
def wp_X4_with (en : yEn) (d : Nat) (x0 : Nat) (x1 : Int32) (x2 : Int32) (σ : yH) (k n : Nat) (K : Option Value → yH → Prop) (X : String → Addr → yH → Prop) : Prop :=
  newV σ (.inr (3, [.int 0, .int 0, .int 0, .int 0, .int 0, .int 0])) (fun a1 σ2 => getI σ2 x0 3 0 (fun v3 => getI σ2 x0 3 1 (fun v4 => getI σ2 x0 3 4 (fun v6 => getI σ2 x0 3 5 (fun v7 => Cx en d 0 0 mX4_init_2 [.ref a1, .int v3, .int v4, .int x1, .int (if (x1 = 0) then (0 : Int32) else x2), .int v6, .int v7] σ2 (kV (fun σ8 => K (some (.ref a1)) σ8)) X)))))
set_option maxHeartbeats 4000000 in
theorem ok_X4_with {en : yEn} {d : Nat} {x0 : Nat} {x1 : Int32} {x2 : Int32} {σ : yH} {k n : Nat} {K : Option Value → yH → Prop} {X : String → Addr → yH → Prop} (h : wp_X4_with en d  x0 x1 x2 σ k n K X) : Wx en (d + 1) mX4_with 0 [(0, .ref x0), (1, .int x1), (2, .int x2)] [] σ (k + 1) (n + 6) K X := by
  unfold wp_X4_with at h
  refine sd_new (k := k) (n := n) (pc := 0) dX4_with_0 (ci := 3) rfl in_X4 tyX4 tyX4_ok q1104 q865 q98 (fs := [.int 0, .int 0, .int 0, .int 0, .int 0, .int 0]) (fun j hj => by rcases (show j = 0 ∨ j = 1 ∨ j = 2 ∨ j = 3 ∨ j = 4 ∨ j = 5 by omega) with rfl | rfl | rfl | rfl | rfl | rfl <;> rfl) (h.mono (fun a1 σ2 h => ?_))
  refine sd_dup (pc := 3) dX4_with_3 rfl ?_
  refine sd_aload_n (pc := 4) dX4_with_4 rfl 0 rfl ?_
  refine sd_getI (pc := 5) dX4_with_5 (ci := 3) rfl in_X4 (kf := 0) (by decide) q873 (h.mono (fun v3 h => ?_))
  refine sd_aload_n (pc := 8) dX4_with_8 rfl 0 rfl ?_
  refine sd_getI (pc := 9) dX4_with_9 (ci := 3) rfl in_X4 (kf := 1) (by decide) q876 (h.mono (fun v4 h => ?_))
  refine sd_iload_n (pc := 12) dX4_with_12 rfl 1 rfl ?_
  refine sd_iload_n (pc := 13) dX4_with_13 rfl 1 rfl ?_
  have h9 : Wx en (d + 1) mX4_with 22 [(0, .ref x0), (1, .int x1), (2, .int x2)] (.int (if (x1 = 0) then (0 : Int32) else x2) :: .int x1 :: .int v4 :: .int v3 :: .ref a1 :: .ref a1 :: []) σ2 k n K X := by
    refine sd_aload_n (pc := 22) dX4_with_22 rfl 0 rfl ?_
    refine sd_getI (pc := 23) dX4_with_23 (ci := 3) rfl in_X4 (kf := 4) (by decide) q886 (h.mono (fun v6 h => ?_))
    refine sd_aload_n (pc := 26) dX4_with_26 rfl 0 rfl ?_
    refine sd_getI (pc := 27) dX4_with_27 (ci := 3) rfl in_X4 (kf := 5) (by decide) q888 (h.mono (fun v7 h => ?_))
    refine sd_callI (k := k) (n := n) (As := [.int v3, .int v4, .int x1, .int (if (x1 = 0) then (0 : Int32) else x2), .int v6, .int v7]) (st := [.ref a1]) (pc := 30) dX4_with_30 q869 q870 q98 q871 rfl 6 (by decide +kernel) rfl (Nat.le_refl _) (by decide) (Nat.le_of_ble_eq_true rfl) (Cx.mono h (kV.to (fun σ8 h => ?_)) (xo rfl))
    exact sd_areturn (r := (some a1)) (pc := 33) dX4_with_33 rfl (Or.inl ⟨_, rfl⟩) h
  have e10 := sd_iteIN h9
  refine sd_ifne (pc := 14) dX4_with_14 (tgt := 21) (by decide) ⟨fun c5 => ?_, fun c5 => ?_⟩
  · refine sd_iload_n (pc := 21) dX4_with_21 rfl 2 rfl ?_
    exact (e10.1 c5)
  · refine sd_iconst (pc := 17) dX4_with_17 (v := 0) (by decide) ?_
    refine sd_goto (pc := 18) dX4_with_18 (tgt := 22) (by decide) ?_
    exact (e10.2 c5)
theorem cx_X4_with {en : yEn} {d : Nat} {x0 : Nat} {x1 : Int32} {x2 : Int32} {σ : yH} {k n : Nat} {K : Option Value → yH → Prop} {X : String → Addr → yH → Prop} (h : wp_X4_with en d  x0 x1 x2 σ k n K X) : Cx en (d + 1) (k + 1) (n + 6) mX4_with [.ref x0, .int x1, .int x2] σ K X := Cx.body (by decide +kernel) rfl (Nat.le_of_ble_eq_true rfl) (ok_X4_with h)
/-! PeacockLawns$Node.<init>(ILjava/util/List;)V -/
def wp_X6_init_22 (en : yEn) (d : Nat) (p59 : Nat × Nat) (p62 : Nat × Nat) (l0 : Nat) (l1 : Int32) (l2 : Nat) (l3 : Int32) (σ : yH) (k n : Nat) (K : Option Value → yH → Prop) (X : String → Addr → yH → Prop) : Prop :=
  (isC σ l2 11 ∧ Cx en d 0 0 mJ2_size [.ref l2] σ (kI (fun r7 σ6 => (((r7 ≤ l3) → K none σ6) ∧ (¬ (r7 ≤ l3) → (isC σ6 l2 11 ∧ Cx en d 0 0 mJ2_get [.ref l2, .int l3] σ6 (kA (fun r9 σ8 => (isC σ8 r9 3 ∧ getI σ8 r9 3 4 (fun v10 => ((¬ (v10 = l1) → Wx en (d + 1) mX6_init 22 [(0, .ref l0), (1, .int l1), (2, .ref l2), (3, .int (l3 + (1 : Int32)))] [] σ8 k n K X) ∧ ((v10 = l1) → getR σ8 l0 5 1 (fun v11 => newV σ8 (.inr (5, [.int 0, .null])) (fun a12 σ13 => Cx en d p59.1 p59.2 mX6_init [.ref a12, .int l3, .ref l2] σ13 (kV (fun σ14 => (isC σ14 v11 11 ∧ Cx en d p62.1 p62.2 mJ2_add [.ref v11, .ref a12] σ14 (kI (fun r16 σ15 => Wx en (d + 1) mX6_init 22 [(0, .ref l0), (1, .int l1), (2, .ref l2), (3, .int (l3 + (1 : Int32)))] [] σ15 k n K X)) X))) X)))))))) X))))) X)
set_option maxHeartbeats 4000000 in
theorem ok_X6_init_22 {en : yEn} {d : Nat} {p59 : Nat × Nat} {p62 : Nat × Nat} {l0 : Nat} {l1 : Int32} {l2 : Nat} {l3 : Int32} {σ : yH} {k n : Nat} {K : Option Value → yH → Prop} {X : String → Addr → yH → Prop} (h : wp_X6_init_22 en d p59 p62 l0 l1 l2 l3 σ k n K X) : Wx en (d + 1) mX6_init 22 [(0, .ref l0), (1, .int l1), (2, .ref l2), (3, .int l3)] [] σ (k + 1 + p62.1 + p59.1) (n + 2 + p62.2 + p59.2) K X := by
  unfold wp_X6_init_22 at h
  refine sd_iload_n (pc := 22) dX6_init_22 rfl 3 rfl ?_
  refine sd_aload_n (pc := 23) dX6_init_23 rfl 2 rfl ?_
  refine sd_callF (k := (k + 1 + p62.1 + p59.1)) (n := (n + 2 + p62.2 + p59.2)) (As := []) (st := [.int l3]) (pc := 24) dX6_init_24 (ci := 11) rfl h.1 (x := ⟨"java/util/List", "size", "()I"⟩) q1138 q794 q796 q84 q798 q793 q792 q797 q795 q329 0 (by decide +kernel) rfl 0 (by decide +kernel) rfl (Nat.le_refl _) (by decide) (Nat.le_of_ble_eq_true rfl) (Cx.mono h.2 (kI.to (fun r7 σ6 h => ?_)) (xo rfl))
  refine sd_icmpge (pc := 29) dX6_init_29 (tgt := 74) (by decide) ⟨fun c18 => ?_, fun c18 => ?_⟩
  · have h := h.1 c18
    refine Wx.more (k' := k) (n' := n) ?_ (by omega) (by omega)
    exact sd_return (pc := 74) dX6_init_74 rfl h
  · have h := h.2 c18
    refine sd_aload_n (pc := 32) dX6_init_32 rfl 2 rfl ?_
    refine sd_iload_n (pc := 33) dX6_init_33 rfl 3 rfl ?_
    refine sd_callF (k := (k + 1 + p62.1 + p59.1)) (n := (n + 2 + p62.2 + p59.2)) (As := [.int l3]) (st := []) (pc := 34) dX6_init_34 (ci := 11) rfl h.1 (x := ⟨"java/util/List", "get", "(I)Ljava/lang/Object;"⟩) q1140 q1085 q1087 q84 q1089 q1084 q1083 q1088 q1086 q329 1 (by decide +kernel) rfl 1 (by decide +kernel) rfl (Nat.le_refl _) (by decide) (Nat.le_of_ble_eq_true rfl) (Cx.mono h.2 (kA.to (fun r9 σ8 h => ?_)) (xo rfl))
    refine sd_castE (r := (RX4, TX4, 6)) (pc := 39) dX6_init_39 q1141 (ci := 3) rfl h.1 ?_
    have h := h.2
    refine sd_getIN (pc := 42) dX6_init_42 (ci := 3) rfl in_X4 (kf := 4) (by decide) q885 (h.mono (fun v10 h => ?_))
    refine sd_iload_n (pc := 45) dX6_init_45 rfl 1 rfl ?_
    refine sd_icmpne (pc := 46) dX6_init_46 (tgt := 68) (by decide) ⟨fun c17 => ?_, fun c17 => ?_⟩
    · have h := h.1 c17
      refine Wx.more (k' := k) (n' := n) ?_ (by omega) (by omega)
      refine sd_iinc (pc := 68) dX6_init_68 3 rfl (v := (l3 + (1 : Int32))) rfl (by decide) (ls' := [(3, .int (l3 + (1 : Int32))), (0, .ref l0), (1, .int l1), (2, .ref l2)]) rfl ?_
      refine sd_goto (pc := 71) dX6_init_71 (tgt := 22) (by decide) ?_
      exact sd_loc [1, 2, 3, 0] rfl h
    · have h := h.2 c17
      refine sd_aload_n (pc := 49) dX6_init_49 rfl 0 rfl ?_
      refine sd_getR (pc := 50) dX6_init_50 (ci := 5) rfl in_X6 (kf := 1) (by decide) q1145 (h.mono (fun v11 h => ?_))
      refine Wx.more (k' := (k + p62.1 + p59.1) + 1) (n' := (n + p62.2 + p59.2) + 2) ?_ (by omega) (by omega)
      refine sd_new (k := (k + p62.1 + p59.1)) (n := (n + p62.2 + p59.2)) (pc := 53) dX6_init_53 (ci := 5) rfl in_X6 tyX6 tyX6_ok q1142 q1130 q111 (fs := [.int 0, .null]) (fun j hj => by rcases (show j = 0 ∨ j = 1 by omega) with rfl | rfl <;> rfl) (h.mono (fun a12 σ13 h => ?_))
      refine sd_dup (pc := 56) dX6_init_56 rfl ?_
      refine sd_iload_n (pc := 57) dX6_init_57 rfl 3 rfl ?_
      refine sd_aload_n (pc := 58) dX6_init_58 rfl 2 rfl ?_
      refine sd_callI (k := (k + p62.1)) (n := (n + p62.2)) (As := [.int l3, .ref l2]) (st := [.ref a12, .ref v11]) (pc := 59) dX6_init_59 q1143 q1132 q111 q1133 rfl 2 (by decide +kernel) rfl (Nat.le_refl _) (by decide) (Nat.le_of_ble_eq_true rfl) (Cx.mono h (kV.to (fun σ14 h => ?_)) (xo rfl))
      refine sd_callF (k := k) (n := n) (As := [.ref a12]) (st := []) (pc := 62) dX6_init_62 (ci := 11) rfl h.1 (x := ⟨"java/util/List", "add", "(Ljava/lang/Object;)Z"⟩) q1152 q950 q952 q84 q954 q949 q948 q953 q951 q329 1 (by decide +kernel) rfl 1 (by decide +kernel) rfl (Nat.le_refl _) (by decide) (Nat.le_of_ble_eq_true rfl) (Cx.mono h.2 (kI.to (fun r16 σ15 h => ?_)) (xo rfl))
      refine sd_pop (pc := 67) dX6_init_67 rfl ?_
      refine sd_iinc (pc := 68) dX6_init_68 3 rfl (v := (l3 + (1 : Int32))) rfl (by decide) (ls' := [(3, .int (l3 + (1 : Int32))), (0, .ref l0), (1, .int l1), (2, .ref l2)]) rfl ?_
      refine sd_goto (pc := 71) dX6_init_71 (tgt := 22) (by decide) ?_
      exact sd_loc [1, 2, 3, 0] rfl h
def wp_X6_init (en : yEn) (d : Nat) (x0 : Nat) (x1 : Int32) (x2 : Nat) (σ : yH) (k n : Nat) (K : Option Value → yH → Prop) (X : String → Addr → yH → Prop) : Prop :=
  newV σ (.inr (11, [.int 0, .null, .int 0])) (fun a1 σ2 => Cx en d 0 0 mJ2_init [.ref a1] σ2 (kV (fun σ3 => (putV σ3 x0 5 1 (.ref a1) (fun σ4 => (putV σ4 x0 5 0 (.int x1) (fun σ5 => Wx en (d + 1) mX6_init 22 [(0, .ref x0), (1, .int x1), (2, .ref x2), (3, .int (0 : Int32))] [] σ5 k n K X)))))) X)
set_option maxHeartbeats 4000000 in
theorem ok_X6_init {en : yEn} {d : Nat} {x0 : Nat} {x1 : Int32} {x2 : Nat} {σ : yH} {k n : Nat} {K : Option Value → yH → Prop} {X : String → Addr → yH → Prop} (h : wp_X6_init en d  x0 x1 x2 σ k n K X) : Wx en (d + 1) mX6_init 0 [(0, .ref x0), (1, .int x1), (2, .ref x2)] [] σ (k + 1) (n + 3) K X := by
  unfold wp_X6_init at h
  refine sd_aload_n (pc := 0) dX6_init_0 rfl 0 rfl ?_
  refine sd_objInit (pc := 1) dX6_init_1 q1134 q126 q127 (by omega) (Nat.le_of_ble_eq_true rfl) ?_
  refine sd_aload_n (pc := 4) dX6_init_4 rfl 0 rfl ?_
  refine sd_new (k := k) (n := n) (pc := 5) dX6_init_5 (ci := 11) rfl in_J2 tyJ2 tyJ2_ok q1135 q135 q84 (fs := [.int 0, .null, .int 0]) (fun j hj => by rcases (show j = 0 ∨ j = 1 ∨ j = 2 by omega) with rfl | rfl | rfl <;> rfl) (h.mono (fun a1 σ2 h => ?_))
  refine sd_dup (pc := 8) dX6_init_8 rfl ?_
  refine sd_callI (k := k) (n := n) (As := []) (st := [.ref a1, .ref x0]) (pc := 9) dX6_init_9 q1136 q137 q84 q138 rfl 0 (by decide +kernel) rfl (Nat.le_refl _) (by decide) (Nat.le_of_ble_eq_true rfl) (Cx.mono h (kV.to (fun σ3 h => ?_)) (xo rfl))
  refine sd_putfF (pc := 12) dX6_init_12 (ci := 5) rfl in_X6 tyX6 tyX6_ok nmX6 (kf := 1) (by decide) q1145 rfl rfl rfl (ty := (.object "java/util/List")) rfl rfl rfl (putV.mono h (fun σ4 h => ?_))
  refine sd_aload_n (pc := 15) dX6_init_15 rfl 0 rfl ?_
  refine sd_iload_n (pc := 16) dX6_init_16 rfl 1 rfl ?_
  refine sd_putfF (pc := 17) dX6_init_17 (ci := 5) rfl in_X6 tyX6 tyX6_ok nmX6 (kf := 0) (by decide) q1144 rfl rfl rfl (ty := .int) rfl rfl rfl (putV.mono h (fun σ5 h => ?_))
  refine sd_iconst (pc := 20) dX6_init_20 (v := 0) (by decide) ?_
  refine sd_istore_n (pc := 21) dX6_init_21 rfl (by decide) (ls' := [(3, .int (0 : Int32)), (0, .ref x0), (1, .int x1), (2, .ref x2)]) rfl ?_
  exact sd_loc [1, 2, 3, 0] rfl h
theorem cx_X6_init {en : yEn} {d : Nat} {x0 : Nat} {x1 : Int32} {x2 : Nat} {σ : yH} {k n : Nat} {K : Option Value → yH → Prop} {X : String → Addr → yH → Prop} (h : wp_X6_init en d  x0 x1 x2 σ k n K X) : Cx en (d + 1) (k + 1) (n + 3) mX6_init [.ref x0, .int x1, .ref x2] σ K X := Cx.body (by decide +kernel) rfl (Nat.le_of_ble_eq_true rfl) (ok_X6_init h)
/-! PeacockLawns$Node.size()I -/
def wp_X6_size_20 (en : yEn) (d : Nat) (p30 : Nat × Nat) (p41 : Nat × Nat) (l1 : Int32) (l2 : Nat) (σ : yH) (k n : Nat) (K : Option Value → yH → Prop) (X : String → Addr → yH → Prop) : Prop :=
  (isC σ l2 12 ∧ Cx en d 0 0 mJ25_hasNext [.ref l2] σ (kI (fun r8 σ7 => (((r8 = 0) → K (some (.int l1)) σ7) ∧ (¬ (r8 = 0) → (isC σ7 l2 12 ∧ Cx en d p30.1 p30.2 mJ25_next [.ref l2] σ7 (kA (fun r10 σ9 => (isC σ9 r10 5 ∧ (isC σ9 r10 5 ∧ Cx en d p41.1 p41.2 mX6_size [.ref r10] σ9 (kI (fun r12 σ11 => Wx en (d + 1) mX6_size 20 [(1, .int (l1 + r12)), (2, .ref l2)] [] σ11 k n K X)) X)))) X))))) X)
set_option maxHeartbeats 4000000 in
theorem ok_X6_size_20 {en : yEn} {d : Nat} {p30 : Nat × Nat} {p41 : Nat × Nat} {l1 : Int32} {l2 : Nat} {σ : yH} {k n : Nat} {K : Option Value → yH → Prop} {X : String → Addr → yH → Prop} (h : wp_X6_size_20 en d p30 p41 l1 l2 σ k n K X) : Wx en (d + 1) mX6_size 20 [(1, .int l1), (2, .ref l2)] [] σ (k + p41.1 + p30.1) (n + p41.2 + p30.2) K X := by
  unfold wp_X6_size_20 at h
  refine sd_aload_n (pc := 20) dX6_size_20 rfl 1 rfl ?_
  refine sd_callF (k := (k + p41.1 + p30.1)) (n := (n + p41.2 + p30.2)) (As := []) (st := []) (pc := 21) dX6_size_21 (ci := 12) rfl h.1 (x := ⟨"java/util/Iterator", "hasNext", "()Z"⟩) q1160 q359 q361 q112 q363 q357 q356 q362 q360 q358 0 (by decide +kernel) rfl 0 (by decide +kernel) rfl (Nat.le_refl _) (by decide) (Nat.le_of_ble_eq_true rfl) (Cx.mono h.2 (kI.to (fun r8 σ7 h => ?_)) (xo rfl))
  refine sd_ifeq (pc := 26) dX6_size_26 (tgt := 49) (by decide) ⟨fun c13 => ?_, fun c13 => ?_⟩
  · have h := h.1 c13
    refine Wx.more (k' := k) (n' := n) ?_ (by omega) (by omega)
    refine sd_iload_n (pc := 49) dX6_size_49 rfl 0 rfl ?_
    exact sd_ireturn (pc := 50) dX6_size_50 (ty0 := .int) rfl rfl h
  · have h := h.2 c13
    refine sd_aload_n (pc := 29) dX6_size_29 rfl 1 rfl ?_
    refine sd_callF (k := (k + p41.1)) (n := (n + p41.2)) (As := []) (st := []) (pc := 30) dX6_size_30 (ci := 12) rfl h.1 (x := ⟨"java/util/Iterator", "next", "()Ljava/lang/Object;"⟩) q1162 q368 q370 q112 q372 q367 q366 q371 q369 q358 0 (by decide +kernel) rfl 0 (by decide +kernel) rfl (Nat.le_refl _) (by decide) (Nat.le_of_ble_eq_true rfl) (Cx.mono h.2 (kA.to (fun r10 σ9 h => ?_)) (xo rfl))
    refine sd_castE (r := (RX6, TX6, 2)) (pc := 35) dX6_size_35 q1142 (ci := 5) rfl h.1 ?_
    have h := h.2
    refine sd_astore_n (pc := 38) dX6_size_38 rfl (by decide) (ls' := [(3, .ref r10), (1, .int l1), (2, .ref l2)]) rfl ?_
    refine sd_iload_n (pc := 39) dX6_size_39 rfl 1 rfl ?_
    refine sd_aload_n (pc := 40) dX6_size_40 rfl 0 rfl ?_
    refine sd_callV (k := k) (n := n) (As := []) (st := [.int l1]) (pc := 41) dX6_size_41 (ci := 5) rfl h.1 rfl q1163 q1154 q1155 q111 q1156 0 (by decide +kernel) rfl (Nat.le_refl _) (by decide) (Nat.le_of_ble_eq_true rfl) (Cx.mono h.2 (kI.to (fun r12 σ11 h => ?_)) (xo rfl))
    refine sd_iadd (pc := 44) dX6_size_44 ?_
    refine sd_istore_n (pc := 45) dX6_size_45 rfl (by decide) (ls' := [(1, .int (l1 + r12)), (3, .ref r10), (2, .ref l2)]) rfl ?_
    refine sd_goto (pc := 46) dX6_size_46 (tgt := 20) (by decide) ?_
    exact sd_loc [0, 2] rfl h
def wp_X6_size (en : yEn) (d : Nat) (x0 : Nat) (σ : yH) (k n : Nat) (K : Option Value → yH → Prop) (X : String → Addr → yH → Prop) : Prop :=
  getR σ x0 5 1 (fun v1 => (isC σ v1 11 ∧ Cx en d 0 0 mJ2_size [.ref v1] σ (kI (fun r3 σ2 => getR σ2 x0 5 1 (fun v4 => (isC σ2 v4 11 ∧ Cx en d 1 4 mJ2_iterator [.ref v4] σ2 (kA (fun r6 σ5 => Wx en (d + 1) mX6_size 20 [(1, .int r3), (2, .ref r6)] [] σ5 k n K X)) X)))) X))
set_option maxHeartbeats 4000000 in
theorem ok_X6_size {en : yEn} {d : Nat} {x0 : Nat} {σ : yH} {k n : Nat} {K : Option Value → yH → Prop} {X : String → Addr → yH → Prop} (h : wp_X6_size en d  x0 σ k n K X) : Wx en (d + 1) mX6_size 0 [(0, .ref x0)] [] σ (k + 1) (n + 4) K X := by
  unfold wp_X6_size at h
  refine sd_aload_n (pc := 0) dX6_size_0 rfl 0 rfl ?_
  refine sd_getR (pc := 1) dX6_size_1 (ci := 5) rfl in_X6 (kf := 1) (by decide) q1145 (h.mono (fun v1 h => ?_))
  refine sd_callF (k := (k + 1)) (n := (n + 4)) (As := []) (st := []) (pc := 4) dX6_size_4 (ci := 11) rfl h.1 (x := ⟨"java/util/List", "size", "()I"⟩) q1138 q794 q796 q84 q798 q793 q792 q797 q795 q329 0 (by decide +kernel) rfl 0 (by decide +kernel) rfl (Nat.le_refl _) (by decide) (Nat.le_of_ble_eq_true rfl) (Cx.mono h.2 (kI.to (fun r3 σ2 h => ?_)) (xo rfl))
  refine sd_istore_n (pc := 9) dX6_size_9 rfl (by decide) (ls' := [(1, .int r3), (0, .ref x0)]) rfl ?_
  refine sd_aload_n (pc := 10) dX6_size_10 rfl 1 rfl ?_
  refine sd_getR (pc := 11) dX6_size_11 (ci := 5) rfl in_X6 (kf := 1) (by decide) q1145 (h.mono (fun v4 h => ?_))
  refine sd_callF (k := k) (n := n) (As := []) (st := []) (pc := 14) dX6_size_14 (ci := 11) rfl h.1 (x := ⟨"java/util/List", "iterator", "()Ljava/util/Iterator;"⟩) q1158 q330 q332 q84 q334 q328 q327 q333 q331 q329 0 (by decide +kernel) rfl 0 (by decide +kernel) rfl (Nat.le_refl _) (by decide) (Nat.le_of_ble_eq_true rfl) (Cx.mono h.2 (kA.to (fun r6 σ5 h => ?_)) (xo rfl))
  refine sd_astore_n (pc := 19) dX6_size_19 rfl (by decide) (ls' := [(2, .ref r6), (1, .int r3), (0, .ref x0)]) rfl ?_
  exact sd_loc [1, 0] rfl h
theorem cx_X6_size {en : yEn} {d : Nat} {x0 : Nat} {σ : yH} {k n : Nat} {K : Option Value → yH → Prop} {X : String → Addr → yH → Prop} (h : wp_X6_size en d  x0 σ k n K X) : Cx en (d + 1) (k + 1) (n + 4) mX6_size [.ref x0] σ K X := Cx.body (by decide +kernel) rfl (Nat.le_of_ble_eq_true rfl) (ok_X6_size h)
/-! PeacockLawns$Bird.isSitting()Z -/
def wp_X4_isSitting (en : yEn) (d : Nat) (x0 : Nat) (σ : yH) (k n : Nat) (K : Option Value → yH → Prop) (X : String → Addr → yH → Prop) : Prop :=
  getI σ x0 3 0 (fun v1 => (((v1 = 0) → K (some (.int (0 : Int32))) σ) ∧ (¬ (v1 = 0) → getI σ x0 3 2 (fun v2 => K (some (.int (if (v2 ≤ 0) then (0 : Int32) else (1 : Int32)))) σ))))
set_option maxHeartbeats 4000000 in
theorem ok_X4_isSitting {en : yEn} {d : Nat} {x0 : Nat} {σ : yH} {k n : Nat} {K : Option Value → yH → Prop} {X : String → Addr → yH → Prop} (h : wp_X4_isSitting en d  x0 σ k n K X) : Wx en (d + 1) mX4_isSitting 0 [(0, .ref x0)] [] σ k n K X := by
  unfold wp_X4_isSitting at h
  refine sd_aload_n (pc := 0) dX4_isSitting_0 rfl 0 rfl ?_
  refine sd_getI (pc := 1) dX4_isSitting_1 (ci := 3) rfl in_X4 (kf := 0) (by decide) q873 (h.mono (fun v1 h => ?_))
  refine sd_ifeq (pc := 4) dX4_isSitting_4 (tgt := 18) (by decide) ⟨fun c4 => ?_, fun c4 => ?_⟩
  · have h := h.1 c4
    refine sd_iconst (pc := 18) dX4_isSitting_18 (v := 0) (by decide) ?_
    exact sd_ireturn (pc := 19) dX4_isSitting_19 (ty0 := .boolean) rfl rfl h
  · have h := h.2 c4
    refine sd_aload_n (pc := 7) dX4_isSitting_7 rfl 0 rfl ?_
    refine sd_getI (pc := 8) dX4_isSitting_8 (ci := 3) rfl in_X4 (kf := 2) (by decide) q879 (h.mono (fun v2 h => ?_))
    have h5 : Wx en (d + 1) mX4_isSitting 19 [(0, .ref x0)] (.int (if (v2 ≤ 0) then (0 : Int32) else (1 : Int32)) :: []) σ k n K X := by
      exact sd_ireturn (pc := 19) dX4_isSitting_19 (ty0 := .boolean) rfl (nb_ite rfl rfl) h
    have e6 := sd_iteI h5
    refine sd_ifle (pc := 11) dX4_isSitting_11 (tgt := 18) (by decide) ⟨fun c3 => ?_, fun c3 => ?_⟩
    · refine sd_iconst (pc := 18) dX4_isSitting_18 (v := 0) (by decide) ?_
      exact (e6.1 c3)
    · refine sd_iconst (pc := 14) dX4_isSitting_14 (v := 1) (by decide) ?_
      refine sd_goto (pc := 15) dX4_isSitting_15 (tgt := 19) (by decide) ?_
      exact (e6.2 c3)
theorem cx_X4_isSitting {en : yEn} {d : Nat} {x0 : Nat} {σ : yH} {k n : Nat} {K : Option Value → yH → Prop} {X : String → Addr → yH → Prop} (h : wp_X4_isSitting en d  x0 σ k n K X) : Cx en (d + 1) k n mX4_isSitting [.ref x0] σ K X := Cx.body (by decide +kernel) rfl (Nat.le_of_ble_eq_true rfl) (ok_X4_isSitting h)
/-! PeacockLawns$Node.list(Ljava/util/List;)V -/
def wp_X6_list_10 (en : yEn) (d : Nat) (p20 : Nat × Nat) (p37 : Nat × Nat) (p45 : Nat × Nat) (l1 : Nat) (l2 : Nat) (σ : yH) (k n : Nat) (K : Option Value → yH → Prop) (X : String → Addr → yH → Prop) : Prop :=
  (isC σ l2 12 ∧ Cx en d 0 0 mJ25_hasNext [.ref l2] σ (kI (fun r5 σ4 => (((r5 = 0) → K none σ4) ∧ (¬ (r5 = 0) → (isC σ4 l2 12 ∧ Cx en d p20.1 p20.2 mJ25_next [.ref l2] σ4 (kA (fun r7 σ6 => (isC σ6 r7 5 ∧ getI σ6 r7 5 0 (fun v8 => Cx en d 1 1 mJ18_valueOf [.int v8] σ6 (kA (fun r10 σ9 => (isC σ9 l1 11 ∧ Cx en d p37.1 p37.2 mJ2_add [.ref l1, .ref r10] σ9 (kI (fun r12 σ11 => (isC σ11 r7 5 ∧ Cx en d p45.1 p45.2 mX6_list [.ref r7, .ref l1] σ11 (kV (fun σ13 => Wx en (d + 1) mX6_list 10 [(1, .ref l1), (2, .ref l2)] [] σ13 k n K X)) X))) X))) X)))) X))))) X)
set_option maxHeartbeats 4000000 in
theorem ok_X6_list_10 {en : yEn} {d : Nat} {p20 : Nat × Nat} {p37 : Nat × Nat} {p45 : Nat × Nat} {l1 : Nat} {l2 : Nat} {σ : yH} {k n : Nat} {K : Option Value → yH → Prop} {X : String → Addr → yH → Prop} (h : wp_X6_list_10 en d p20 p37 p45 l1 l2 σ k n K X) : Wx en (d + 1) mX6_list 10 [(1, .ref l1), (2, .ref l2)] [] σ (k + 1 + p45.1 + p37.1 + p20.1) (n + 1 + p45.2 + p37.2 + p20.2) K X := by
  unfold wp_X6_list_10 at h
  refine sd_aload_n (pc := 10) dX6_list_10 rfl 1 rfl ?_
  refine sd_callF (k := (k + 1 + p45.1 + p37.1 + p20.1)) (n := (n + 1 + p45.2 + p37.2 + p20.2)) (As := []) (st := []) (pc := 11) dX6_list_11 (ci := 12) rfl h.1 (x := ⟨"java/util/Iterator", "hasNext", "()Z"⟩) q1160 q359 q361 q112 q363 q357 q356 q362 q360 q358 0 (by decide +kernel) rfl 0 (by decide +kernel) rfl (Nat.le_refl _) (by decide) (Nat.le_of_ble_eq_true rfl) (Cx.mono h.2 (kI.to (fun r5 σ4 h => ?_)) (xo rfl))
  refine sd_ifeq (pc := 16) dX6_list_16 (tgt := 51) (by decide) ⟨fun c14 => ?_, fun c14 => ?_⟩
  · have h := h.1 c14
    refine Wx.more (k' := k) (n' := n) ?_ (by omega) (by omega)
    exact sd_return (pc := 51) dX6_list_51 rfl h
  · have h := h.2 c14
    refine sd_aload_n (pc := 19) dX6_list_19 rfl 1 rfl ?_
    refine sd_callF (k := (k + 1 + p45.1 + p37.1)) (n := (n + 1 + p45.2 + p37.2)) (As := []) (st := []) (pc := 20) dX6_list_20 (ci := 12) rfl h.1 (x := ⟨"java/util/Iterator", "next", "()Ljava/lang/Object;"⟩) q1162 q368 q370 q112 q372 q367 q366 q371 q369 q358 0 (by decide +kernel) rfl 0 (by decide +kernel) rfl (Nat.le_refl _) (by decide) (Nat.le_of_ble_eq_true rfl) (Cx.mono h.2 (kA.to (fun r7 σ6 h => ?_)) (xo rfl))
    refine sd_castE (r := (RX6, TX6, 2)) (pc := 25) dX6_list_25 q1142 (ci := 5) rfl h.1 ?_
    have h := h.2
    refine sd_astore_n (pc := 28) dX6_list_28 rfl (by decide) (ls' := [(3, .ref r7), (1, .ref l1), (2, .ref l2)]) rfl ?_
    refine sd_aload_n (pc := 29) dX6_list_29 rfl 1 rfl ?_
    refine sd_aload_n (pc := 30) dX6_list_30 rfl 0 rfl ?_
    refine sd_getI (pc := 31) dX6_list_31 (ci := 5) rfl in_X6 (kf := 0) (by decide) q1144 (h.mono (fun v8 h => ?_))
    refine Wx.more (k' := (k + p45.1 + p37.1) + 1) (n' := (n + p45.2 + p37.2) + 1) ?_ (by omega) (by omega)
    refine sd_callS (k := (k + p45.1 + p37.1)) (n := (n + p45.2 + p37.2)) (As := [.int v8]) (st := [.ref l1]) (pc := 34) dX6_list_34 q1202 q1203 q104 q1204 1 (by decide +kernel) rfl (Nat.le_refl _) (by decide) (Nat.le_of_ble_eq_true rfl) (Cx.mono h (kA.to (fun r10 σ9 h => ?_)) (xo rfl))
    refine sd_callF (k := (k + p45.1)) (n := (n + p45.2)) (As := [.ref r10]) (st := []) (pc := 37) dX6_list_37 (ci := 11) rfl h.1 (x := ⟨"java/util/List", "add", "(Ljava/lang/Object;)Z"⟩) q1152 q950 q952 q84 q954 q949 q948 q953 q951 q329 1 (by decide +kernel) rfl 1 (by decide +kernel) rfl (Nat.le_refl _) (by decide) (Nat.le_of_ble_eq_true rfl) (Cx.mono h.2 (kI.to (fun r12 σ11 h => ?_)) (xo rfl))
    refine sd_pop (pc := 42) dX6_list_42 rfl ?_
    refine sd_aload_n (pc := 43) dX6_list_43 rfl 0 rfl ?_
    refine sd_aload_n (pc := 44) dX6_list_44 rfl 1 rfl ?_
    refine sd_callV (k := k) (n := n) (As := [.ref l1]) (st := []) (pc := 45) dX6_list_45 (ci := 5) rfl h.1 rfl q1222 q1199 q1200 q111 q1201 1 (by decide +kernel) rfl (Nat.le_refl _) (by decide) (Nat.le_of_ble_eq_true rfl) (Cx.mono h.2 (kV.to (fun σ13 h => ?_)) (xo rfl))
    refine sd_goto (pc := 48) dX6_list_48 (tgt := 10) (by decide) ?_
    exact sd_loc [1, 2] rfl h
def wp_X6_list (en : yEn) (d : Nat) (x0 : Nat) (x1 : Nat) (σ : yH) (k n : Nat) (K : Option Value → yH → Prop) (X : String → Addr → yH → Prop) : Prop :=
  getR σ x0 5 1 (fun v1 => (isC σ v1 11 ∧ Cx en d 1 4 mJ2_iterator [.ref v1] σ (kA (fun r3 σ2 => Wx en (d + 1) mX6_list 10 [(1, .ref x1), (2, .ref r3)] [] σ2 k n K X)) X))
set_option maxHeartbeats 4000000 in
theorem ok_X6_list {en : yEn} {d : Nat} {x0 : Nat} {x1 : Nat} {σ : yH} {k n : Nat} {K : Option Value → yH → Prop} {X : String → Addr → yH → Prop} (h : wp_X6_list en d  x0 x1 σ k n K X) : Wx en (d + 1) mX6_list 0 [(0, .ref x0), (1, .ref x1)] [] σ (k + 1) (n + 4) K X := by
  unfold wp_X6_list at h
  refine sd_aload_n (pc := 0) dX6_list_0 rfl 0 rfl ?_
  refine sd_getR (pc := 1) dX6_list_1 (ci := 5) rfl in_X6 (kf := 1) (by decide) q1145 (h.mono (fun v1 h => ?_))
  refine sd_callF (k := k) (n := n) (As := []) (st := []) (pc := 4) dX6_list_4 (ci := 11) rfl h.1 (x := ⟨"java/util/List", "iterator", "()Ljava/util/Iterator;"⟩) q1158 q330 q332 q84 q334 q328 q327 q333 q331 q329 0 (by decide +kernel) rfl 0 (by decide +kernel) rfl (Nat.le_refl _) (by decide) (Nat.le_of_ble_eq_true rfl) (Cx.mono h.2 (kA.to (fun r3 σ2 h => ?_)) (xo rfl))
  refine sd_astore_n (pc := 9) dX6_list_9 rfl (by decide) (ls' := [(2, .ref r3), (0, .ref x0), (1, .ref x1)]) rfl ?_
  exact sd_loc [2, 0] rfl h
theorem cx_X6_list {en : yEn} {d : Nat} {x0 : Nat} {x1 : Nat} {σ : yH} {k n : Nat} {K : Option Value → yH → Prop} {X : String → Addr → yH → Prop} (h : wp_X6_list en d  x0 x1 σ k n K X) : Cx en (d + 1) (k + 1) (n + 4) mX6_list [.ref x0, .ref x1] σ K X := Cx.body (by decide +kernel) rfl (Nat.le_of_ble_eq_true rfl) (ok_X6_list h)
/-! PeacockLawns$Keeper.<init>(IIII)V -/
def wp_X7_init_2 (en : yEn) (d : Nat) (x0 : Nat) (x1 : Int32) (x2 : Int32) (x3 : Int32) (x4 : Int32) (σ : yH) (k n : Nat) (K : Option Value → yH → Prop) (X : String → Addr → yH → Prop) : Prop :=
  (putV σ x0 6 0 (.int x1) (fun σ1 => (putV σ1 x0 6 1 (.int x2) (fun σ2 => (putV σ2 x0 6 2 (.int x3) (fun σ3 => (putV σ3 x0 6 3 (.int x4) (fun σ4 => K none σ4))))))))
set_option maxHeartbeats 4000000 in
theorem ok_X7_init_2 {en : yEn} {d : Nat} {x0 : Nat} {x1 : Int32} {x2 : Int32} {x3 : Int32} {x4 : Int32} {σ : yH} {k n : Nat} {K : Option Value → yH → Prop} {X : String → Addr → yH → Prop} (h : wp_X7_init_2 en d  x0 x1 x2 x3 x4 σ k n K X) : Wx en (d + 1) mX7_init_2 0 [(0, .ref x0), (1, .int x1), (2, .int x2), (3, .int x3), (4, .int x4)] [] σ k n K X := by
  unfold wp_X7_init_2 at h
  refine sd_aload_n (pc := 0) dX7_init_2_0 rfl 0 rfl ?_
  refine sd_objInit (pc := 1) dX7_init_2_1 q1317 q126 q127 (by omega) (Nat.le_of_ble_eq_true rfl) ?_
  refine sd_aload_n (pc := 4) dX7_init_2_4 rfl 0 rfl ?_
  refine sd_iload_n (pc := 5) dX7_init_2_5 rfl 1 rfl ?_
  refine sd_putfF (pc := 6) dX7_init_2_6 (ci := 6) rfl in_X7 tyX7 tyX7_ok nmX7 (kf := 0) (by decide) q1318 rfl rfl rfl (ty := .int) rfl rfl rfl (putV.mono h (fun σ1 h => ?_))
  refine sd_aload_n (pc := 9) dX7_init_2_9 rfl 0 rfl ?_
  refine sd_iload_n (pc := 10) dX7_init_2_10 rfl 2 rfl ?_
  refine sd_putfF (pc := 11) dX7_init_2_11 (ci := 6) rfl in_X7 tyX7 tyX7_ok nmX7 (kf := 1) (by decide) q1321 rfl rfl rfl (ty := .int) rfl rfl rfl (putV.mono h (fun σ2 h => ?_))
  refine sd_aload_n (pc := 14) dX7_init_2_14 rfl 0 rfl ?_
  refine sd_iload_n (pc := 15) dX7_init_2_15 rfl 3 rfl ?_
  refine sd_putfF (pc := 16) dX7_init_2_16 (ci := 6) rfl in_X7 tyX7 tyX7_ok nmX7 (kf := 2) (by decide) q1324 rfl rfl rfl (ty := .int) rfl rfl rfl (putV.mono h (fun σ3 h => ?_))
  refine sd_aload_n (pc := 19) dX7_init_2_19 rfl 0 rfl ?_
  refine sd_iload (pc := 20) dX7_init_2_20 4 rfl ?_
  refine sd_putfF (pc := 22) dX7_init_2_22 (ci := 6) rfl in_X7 tyX7 tyX7_ok nmX7 (kf := 3) (by decide) q1326 rfl rfl rfl (ty := .int) rfl rfl rfl (putV.mono h (fun σ4 h => ?_))
  exact sd_return (pc := 25) dX7_init_2_25 rfl h
theorem cx_X7_init_2 {en : yEn} {d : Nat} {x0 : Nat} {x1 : Int32} {x2 : Int32} {x3 : Int32} {x4 : Int32} {σ : yH} {k n : Nat} {K : Option Value → yH → Prop} {X : String → Addr → yH → Prop} (h : wp_X7_init_2 en d  x0 x1 x2 x3 x4 σ k n K X) : Cx en (d + 1) k n mX7_init_2 [.ref x0, .int x1, .int x2, .int x3, .int x4] σ K X := Cx.body (by decide +kernel) rfl (Nat.le_of_ble_eq_true rfl) (ok_X7_init_2 h)
/-! PeacockLawns$Keeper.<init>()V -/
def wp_X7_init (en : yEn) (d : Nat) (x0 : Nat) (σ : yH) (k n : Nat) (K : Option Value → yH → Prop) (X : String → Addr → yH → Prop) : Prop :=
  Cx en d 0 0 mX7_init_2 [.ref x0, .int (4 : Int32), .int (6 : Int32), .int (0 : Int32), .int (0 : Int32)] σ (kV (fun σ1 => K none σ1)) X
set_option maxHeartbeats 4000000 in
theorem ok_X7_init {en : yEn} {d : Nat} {x0 : Nat} {σ : yH} {k n : Nat} {K : Option Value → yH → Prop} {X : String → Addr → yH → Prop} (h : wp_X7_init en d  x0 σ k n K X) : Wx en (d + 1) mX7_init 0 [(0, .ref x0)] [] σ k n K X := by
  unfold wp_X7_init at h
  refine sd_aload_n (pc := 0) dX7_init_0 rfl 0 rfl ?_
  refine sd_iconst (pc := 1) dX7_init_1 (v := 4) (by decide) ?_
  refine sd_bipush (pc := 2) dX7_init_2 (v := 6) (by decide) ?_
  refine sd_iconst (pc := 4) dX7_init_4 (v := 0) (by decide) ?_
  refine sd_iconst (pc := 5) dX7_init_5 (v := 0) (by decide) ?_
  refine sd_callI (k := k) (n := n) (As := [.int (4 : Int32), .int (6 : Int32), .int (0 : Int32), .int (0 : Int32)]) (st := []) (pc := 6) dX7_init_6 q1314 q1315 q114 q1316 rfl 4 (by decide +kernel) rfl (Nat.le_refl _) (by decide) (Nat.le_of_ble_eq_true rfl) (Cx.mono h (kV.to (fun σ1 h => ?_)) (xo rfl))
  exact sd_return (pc := 9) dX7_init_9 rfl h
theorem cx_X7_init {en : yEn} {d : Nat} {x0 : Nat} {σ : yH} {k n : Nat} {K : Option Value → yH → Prop} {X : String → Addr → yH → Prop} (h : wp_X7_init en d  x0 σ k n K X) : Cx en (d + 1) k n mX7_init [.ref x0] σ K X := Cx.body (by decide +kernel) rfl (Nat.le_of_ble_eq_true rfl) (ok_X7_init h)
/-! PeacockLawns$Keeper.walked(II)LPeacockLawns$Keeper; -/
def wp_X7_walked (en : yEn) (d : Nat) (x0 : Nat) (x1 : Int32) (x2 : Int32) (σ : yH) (k n : Nat) (K : Option Value → yH → Prop) (X : String → Addr → yH → Prop) : Prop :=
  newV σ (.inr (6, [.int 0, .int 0, .int 0, .int 0])) (fun a1 σ2 => getI σ2 x0 6 1 (fun v3 => getI σ2 x0 6 2 (fun v4 => getI σ2 x0 6 3 (fun v5 => Cx en d 0 0 mX7_init_2 [.ref a1, .int x1, .int (v3 - x2), .int v4, .int v5] σ2 (kV (fun σ6 => K (some (.ref a1)) σ6)) X))))
set_option maxHeartbeats 4000000 in
theorem ok_X7_walked {en : yEn} {d : Nat} {x0 : Nat} {x1 : Int32} {x2 : Int32} {σ : yH} {k n : Nat} {K : Option Value → yH → Prop} {X : String → Addr → yH → Prop} (h : wp_X7_walked en d  x0 x1 x2 σ k n K X) : Wx en (d + 1) mX7_walked 0 [(0, .ref x0), (1, .int x1), (2, .int x2)] [] σ (k + 1) (n + 4) K X := by
  unfold wp_X7_walked at h
  refine sd_new (k := k) (n := n) (pc := 0) dX7_walked_0 (ci := 6) rfl in_X7 tyX7 tyX7_ok q1366 q1310 q114 (fs := [.int 0, .int 0, .int 0, .int 0]) (fun j hj => by rcases (show j = 0 ∨ j = 1 ∨ j = 2 ∨ j = 3 by omega) with rfl | rfl | rfl | rfl <;> rfl) (h.mono (fun a1 σ2 h => ?_))
  refine sd_dup (pc := 3) dX7_walked_3 rfl ?_
  refine sd_iload_n (pc := 4) dX7_walked_4 rfl 1 rfl ?_
  refine sd_aload_n (pc := 5) dX7_walked_5 rfl 0 rfl ?_
  refine sd_getI (pc := 6) dX7_walked_6 (ci := 6) rfl in_X7 (kf := 1) (by decide) q1321 (h.mono (fun v3 h => ?_))
  refine sd_iload_n (pc := 9) dX7_walked_9 rfl 2 rfl ?_
  refine sd_isub (pc := 10) dX7_walked_10 ?_
  refine sd_aload_n (pc := 11) dX7_walked_11 rfl 0 rfl ?_
  refine sd_getI (pc := 12) dX7_walked_12 (ci := 6) rfl in_X7 (kf := 2) (by decide) q1324 (h.mono (fun v4 h => ?_))
  refine sd_aload_n (pc := 15) dX7_walked_15 rfl 0 rfl ?_
  refine sd_getI (pc := 16) dX7_walked_16 (ci := 6) rfl in_X7 (kf := 3) (by decide) q1326 (h.mono (fun v5 h => ?_))
  refine sd_callI (k := k) (n := n) (As := [.int x1, .int (v3 - x2), .int v4, .int v5]) (st := [.ref a1]) (pc := 19) dX7_walked_19 q1314 q1315 q114 q1316 rfl 4 (by decide +kernel) rfl (Nat.le_refl _) (by decide) (Nat.le_of_ble_eq_true rfl) (Cx.mono h (kV.to (fun σ6 h => ?_)) (xo rfl))
  exact sd_areturn (r := (some a1)) (pc := 22) dX7_walked_22 rfl (Or.inl ⟨_, rfl⟩) h
theorem cx_X7_walked {en : yEn} {d : Nat} {x0 : Nat} {x1 : Int32} {x2 : Int32} {σ : yH} {k n : Nat} {K : Option Value → yH → Prop} {X : String → Addr → yH → Prop} (h : wp_X7_walked en d  x0 x1 x2 σ k n K X) : Cx en (d + 1) (k + 1) (n + 4) mX7_walked [.ref x0, .int x1, .int x2] σ K X := Cx.body (by decide +kernel) rfl (Nat.le_of_ble_eq_true rfl) (ok_X7_walked h)
/-! PeacockLawns$Keeper.sheared(II)LPeacockLawns$Keeper; -/
def wp_X7_sheared (en : yEn) (d : Nat) (x0 : Nat) (x1 : Int32) (x2 : Int32) (σ : yH) (k n : Nat) (K : Option Value → yH → Prop) (X : String → Addr → yH → Prop) : Prop :=
  newV σ (.inr (6, [.int 0, .int 0, .int 0, .int 0])) (fun a1 σ2 => getI σ2 x0 6 0 (fun v3 => getI σ2 x0 6 1 (fun v4 => getI σ2 x0 6 2 (fun v5 => getI σ2 x0 6 3 (fun v6 => Cx en d 0 0 mX7_init_2 [.ref a1, .int v3, .int (v4 - x2), .int v5, .int (v6 + x1)] σ2 (kV (fun σ7 => K (some (.ref a1)) σ7)) X)))))
set_option maxHeartbeats 4000000 in
theorem ok_X7_sheared {en : yEn} {d : Nat} {x0 : Nat} {x1 : Int32} {x2 : Int32} {σ : yH} {k n : Nat} {K : Option Value → yH → Prop} {X : String → Addr → yH → Prop} (h : wp_X7_sheared en d  x0 x1 x2 σ k n K X) : Wx en (d + 1) mX7_sheared 0 [(0, .ref x0), (1, .int x1), (2, .int x2)] [] σ (k + 1) (n + 4) K X := by
  unfold wp_X7_sheared at h
  refine sd_new (k := k) (n := n) (pc := 0) dX7_sheared_0 (ci := 6) rfl in_X7 tyX7 tyX7_ok q1366 q1310 q114 (fs := [.int 0, .int 0, .int 0, .int 0]) (fun j hj => by rcases (show j = 0 ∨ j = 1 ∨ j = 2 ∨ j = 3 by omega) with rfl | rfl | rfl | rfl <;> rfl) (h.mono (fun a1 σ2 h => ?_))
  refine sd_dup (pc := 3) dX7_sheared_3 rfl ?_
  refine sd_aload_n (pc := 4) dX7_sheared_4 rfl 0 rfl ?_
  refine sd_getI (pc := 5) dX7_sheared_5 (ci := 6) rfl in_X7 (kf := 0) (by decide) q1318 (h.mono (fun v3 h => ?_))
  refine sd_aload_n (pc := 8) dX7_sheared_8 rfl 0 rfl ?_
  refine sd_getI (pc := 9) dX7_sheared_9 (ci := 6) rfl in_X7 (kf := 1) (by decide) q1321 (h.mono (fun v4 h => ?_))
  refine sd_iload_n (pc := 12) dX7_sheared_12 rfl 2 rfl ?_
  refine sd_isub (pc := 13) dX7_sheared_13 ?_
  refine sd_aload_n (pc := 14) dX7_sheared_14 rfl 0 rfl ?_
  refine sd_getI (pc := 15) dX7_sheared_15 (ci := 6) rfl in_X7 (kf := 2) (by decide) q1324 (h.mono (fun v5 h => ?_))
  refine sd_aload_n (pc := 18) dX7_sheared_18 rfl 0 rfl ?_
  refine sd_getI (pc := 19) dX7_sheared_19 (ci := 6) rfl in_X7 (kf := 3) (by decide) q1326 (h.mono (fun v6 h => ?_))
  refine sd_iload_n (pc := 22) dX7_sheared_22 rfl 1 rfl ?_
  refine sd_iadd (pc := 23) dX7_sheared_23 ?_
  refine sd_callI (k := k) (n := n) (As := [.int v3, .int (v4 - x2), .int v5, .int (v6 + x1)]) (st := [.ref a1]) (pc := 24) dX7_sheared_24 q1314 q1315 q114 q1316 rfl 4 (by decide +kernel) rfl (Nat.le_refl _) (by decide) (Nat.le_of_ble_eq_true rfl) (Cx.mono h (kV.to (fun σ7 h => ?_)) (xo rfl))
  exact sd_areturn (r := (some a1)) (pc := 27) dX7_sheared_27 rfl (Or.inl ⟨_, rfl⟩) h
theorem cx_X7_sheared {en : yEn} {d : Nat} {x0 : Nat} {x1 : Int32} {x2 : Int32} {σ : yH} {k n : Nat} {K : Option Value → yH → Prop} {X : String → Addr → yH → Prop} (h : wp_X7_sheared en d  x0 x1 x2 σ k n K X) : Cx en (d + 1) (k + 1) (n + 4) mX7_sheared [.ref x0, .int x1, .int x2] σ K X := Cx.body (by decide +kernel) rfl (Nat.le_of_ble_eq_true rfl) (ok_X7_sheared h)
/-! PeacockLawns$Keeper.finding(I)LPeacockLawns$Keeper; -/
def wp_X7_finding (en : yEn) (d : Nat) (x0 : Nat) (x1 : Int32) (σ : yH) (k n : Nat) (K : Option Value → yH → Prop) (X : String → Addr → yH → Prop) : Prop :=
  newV σ (.inr (6, [.int 0, .int 0, .int 0, .int 0])) (fun a1 σ2 => getI σ2 x0 6 0 (fun v3 => getI σ2 x0 6 1 (fun v4 => getI σ2 x0 6 2 (fun v5 => getI σ2 x0 6 3 (fun v6 => Cx en d 0 0 mX7_init_2 [.ref a1, .int v3, .int (v4 - (1 : Int32)), .int (v5 + x1), .int v6] σ2 (kV (fun σ7 => K (some (.ref a1)) σ7)) X)))))
set_option maxHeartbeats 4000000 in
theorem ok_X7_finding {en : yEn} {d : Nat} {x0 : Nat} {x1 : Int32} {σ : yH} {k n : Nat} {K : Option Value → yH → Prop} {X : String → Addr → yH → Prop} (h : wp_X7_finding en d  x0 x1 σ k n K X) : Wx en (d + 1) mX7_finding 0 [(0, .ref x0), (1, .int x1)] [] σ (k + 1) (n + 4) K X := by
  unfold wp_X7_finding at h
  refine sd_new (k := k) (n := n) (pc := 0) dX7_finding_0 (ci := 6) rfl in_X7 tyX7 tyX7_ok q1366 q1310 q114 (fs := [.int 0, .int 0, .int 0, .int 0]) (fun j hj => by rcases (show j = 0 ∨ j = 1 ∨ j = 2 ∨ j = 3 by omega) with rfl | rfl | rfl | rfl <;> rfl) (h.mono (fun a1 σ2 h => ?_))
  refine sd_dup (pc := 3) dX7_finding_3 rfl ?_
  refine sd_aload_n (pc := 4) dX7_finding_4 rfl 0 rfl ?_
  refine sd_getI (pc := 5) dX7_finding_5 (ci := 6) rfl in_X7 (kf := 0) (by decide) q1318 (h.mono (fun v3 h => ?_))
  refine sd_aload_n (pc := 8) dX7_finding_8 rfl 0 rfl ?_
  refine sd_getI (pc := 9) dX7_finding_9 (ci := 6) rfl in_X7 (kf := 1) (by decide) q1321 (h.mono (fun v4 h => ?_))
  refine sd_iconst (pc := 12) dX7_finding_12 (v := 1) (by decide) ?_
  refine sd_isub (pc := 13) dX7_finding_13 ?_
  refine sd_aload_n (pc := 14) dX7_finding_14 rfl 0 rfl ?_
  refine sd_getI (pc := 15) dX7_finding_15 (ci := 6) rfl in_X7 (kf := 2) (by decide) q1324 (h.mono (fun v5 h => ?_))
  refine sd_iload_n (pc := 18) dX7_finding_18 rfl 1 rfl ?_
  refine sd_iadd (pc := 19) dX7_finding_19 ?_
  refine sd_aload_n (pc := 20) dX7_finding_20 rfl 0 rfl ?_
  refine sd_getI (pc := 21) dX7_finding_21 (ci := 6) rfl in_X7 (kf := 3) (by decide) q1326 (h.mono (fun v6 h => ?_))
  refine sd_callI (k := k) (n := n) (As := [.int v3, .int (v4 - (1 : Int32)), .int (v5 + x1), .int v6]) (st := [.ref a1]) (pc := 24) dX7_finding_24 q1314 q1315 q114 q1316 rfl 4 (by decide +kernel) rfl (Nat.le_refl _) (by decide) (Nat.le_of_ble_eq_true rfl) (Cx.mono h (kV.to (fun σ7 h => ?_)) (xo rfl))
  exact sd_areturn (r := (some a1)) (pc := 27) dX7_finding_27 rfl (Or.inl ⟨_, rfl⟩) h
theorem cx_X7_finding {en : yEn} {d : Nat} {x0 : Nat} {x1 : Int32} {σ : yH} {k n : Nat} {K : Option Value → yH → Prop} {X : String → Addr → yH → Prop} (h : wp_X7_finding en d  x0 x1 σ k n K X) : Cx en (d + 1) (k + 1) (n + 4) mX7_finding [.ref x0, .int x1] σ K X := Cx.body (by decide +kernel) rfl (Nat.le_of_ble_eq_true rfl) (ok_X7_finding h)
/-! PeacockLawns$Bench.<init>(III)V -/
def wp_X8_init_2 (en : yEn) (d : Nat) (x0 : Nat) (x1 : Int32) (x2 : Int32) (x3 : Int32) (σ : yH) (k n : Nat) (K : Option Value → yH → Prop) (X : String → Addr → yH → Prop) : Prop :=
  (putV σ x0 7 0 (.int x1) (fun σ1 => (putV σ1 x0 7 1 (.int x2) (fun σ2 => (putV σ2 x0 7 2 (.int x3) (fun σ3 => K none σ3))))))
set_option maxHeartbeats 4000000 in
theorem ok_X8_init_2 {en : yEn} {d : Nat} {x0 : Nat} {x1 : Int32} {x2 : Int32} {x3 : Int32} {σ : yH} {k n : Nat} {K : Option Value → yH → Prop} {X : String → Addr → yH → Prop} (h : wp_X8_init_2 en d  x0 x1 x2 x3 σ k n K X) : Wx en (d + 1) mX8_init_2 0 [(0, .ref x0), (1, .int x1), (2, .int x2), (3, .int x3)] [] σ k n K X := by
  unfold wp_X8_init_2 at h
  refine sd_aload_n (pc := 0) dX8_init_2_0 rfl 0 rfl ?_
  refine sd_objInit (pc := 1) dX8_init_2_1 q1433 q126 q127 (by omega) (Nat.le_of_ble_eq_true rfl) ?_
  refine sd_aload_n (pc := 4) dX8_init_2_4 rfl 0 rfl ?_
  refine sd_iload_n (pc := 5) dX8_init_2_5 rfl 1 rfl ?_
  refine sd_putfF (pc := 6) dX8_init_2_6 (ci := 7) rfl in_X8 tyX8 tyX8_ok nmX8 (kf := 0) (by decide) q1434 rfl rfl rfl (ty := .int) rfl rfl rfl (putV.mono h (fun σ1 h => ?_))
  refine sd_aload_n (pc := 9) dX8_init_2_9 rfl 0 rfl ?_
  refine sd_iload_n (pc := 10) dX8_init_2_10 rfl 2 rfl ?_
  refine sd_putfF (pc := 11) dX8_init_2_11 (ci := 7) rfl in_X8 tyX8 tyX8_ok nmX8 (kf := 1) (by decide) q1437 rfl rfl rfl (ty := .int) rfl rfl rfl (putV.mono h (fun σ2 h => ?_))
  refine sd_aload_n (pc := 14) dX8_init_2_14 rfl 0 rfl ?_
  refine sd_iload_n (pc := 15) dX8_init_2_15 rfl 3 rfl ?_
  refine sd_putfF (pc := 16) dX8_init_2_16 (ci := 7) rfl in_X8 tyX8 tyX8_ok nmX8 (kf := 2) (by decide) q1440 rfl rfl rfl (ty := .int) rfl rfl rfl (putV.mono h (fun σ3 h => ?_))
  exact sd_return (pc := 19) dX8_init_2_19 rfl h
theorem cx_X8_init_2 {en : yEn} {d : Nat} {x0 : Nat} {x1 : Int32} {x2 : Int32} {x3 : Int32} {σ : yH} {k n : Nat} {K : Option Value → yH → Prop} {X : String → Addr → yH → Prop} (h : wp_X8_init_2 en d  x0 x1 x2 x3 σ k n K X) : Cx en (d + 1) k n mX8_init_2 [.ref x0, .int x1, .int x2, .int x3] σ K X := Cx.body (by decide +kernel) rfl (Nat.le_of_ble_eq_true rfl) (ok_X8_init_2 h)
/-! PeacockLawns$Bench.<init>(I)V -/
def wp_X8_init (en : yEn) (d : Nat) (x0 : Nat) (x1 : Int32) (σ : yH) (k n : Nat) (K : Option Value → yH → Prop) (X : String → Addr → yH → Prop) : Prop :=
  Cx en d 0 0 mX8_init_2 [.ref x0, .int x1, .int (0 : Int32), .int (0 : Int32)] σ (kV (fun σ1 => K none σ1)) X
set_option maxHeartbeats 4000000 in
theorem ok_X8_init {en : yEn} {d : Nat} {x0 : Nat} {x1 : Int32} {σ : yH} {k n : Nat} {K : Option Value → yH → Prop} {X : String → Addr → yH → Prop} (h : wp_X8_init en d  x0 x1 σ k n K X) : Wx en (d + 1) mX8_init 0 [(0, .ref x0), (1, .int x1)] [] σ k n K X := by
  unfold wp_X8_init at h
  refine sd_aload_n (pc := 0) dX8_init_0 rfl 0 rfl ?_
  refine sd_iload_n (pc := 1) dX8_init_1 rfl 1 rfl ?_
  refine sd_iconst (pc := 2) dX8_init_2 (v := 0) (by decide) ?_
  refine sd_iconst (pc := 3) dX8_init_3 (v := 0) (by decide) ?_
  refine sd_callI (k := k) (n := n) (As := [.int x1, .int (0 : Int32), .int (0 : Int32)]) (st := []) (pc := 4) dX8_init_4 q1430 q1431 q115 q1432 rfl 3 (by decide +kernel) rfl (Nat.le_refl _) (by decide) (Nat.le_of_ble_eq_true rfl) (Cx.mono h (kV.to (fun σ1 h => ?_)) (xo rfl))
  exact sd_return (pc := 7) dX8_init_7 rfl h
theorem cx_X8_init {en : yEn} {d : Nat} {x0 : Nat} {x1 : Int32} {σ : yH} {k n : Nat} {K : Option Value → yH → Prop} {X : String → Addr → yH → Prop} (h : wp_X8_init en d  x0 x1 σ k n K X) : Cx en (d + 1) k n mX8_init [.ref x0, .int x1] σ K X := Cx.body (by decide +kernel) rfl (Nat.le_of_ble_eq_true rfl) (ok_X8_init h)
/-! PeacockLawns$Bench.seating(I)LPeacockLawns$Bench; -/
def wp_X8_seating (en : yEn) (d : Nat) (x0 : Nat) (x1 : Int32) (σ : yH) (k n : Nat) (K : Option Value → yH → Prop) (X : String → Addr → yH → Prop) : Prop :=
  newV σ (.inr (7, [.int 0, .int 0, .int 0])) (fun a1 σ2 => getI σ2 x0 7 0 (fun v3 => getI σ2 x0 7 1 (fun v4 => getI σ2 x0 7 2 (fun v5 => Cx en d 0 0 mX8_init_2 [.ref a1, .int v3, .int (v4 + x1), .int (v5 + x1)] σ2 (kV (fun σ6 => K (some (.ref a1)) σ6)) X))))
set_option maxHeartbeats 4000000 in
theorem ok_X8_seating {en : yEn} {d : Nat} {x0 : Nat} {x1 : Int32} {σ : yH} {k n : Nat} {K : Option Value → yH → Prop} {X : String → Addr → yH → Prop} (h : wp_X8_seating en d  x0 x1 σ k n K X) : Wx en (d + 1) mX8_seating 0 [(0, .ref x0), (1, .int x1)] [] σ (k + 1) (n + 3) K X := by
  unfold wp_X8_seating at h
  refine sd_new (k := k) (n := n) (pc := 0) dX8_seating_0 (ci := 7) rfl in_X8 tyX8 tyX8_ok q1467 q1426 q115 (fs := [.int 0, .int 0, .int 0]) (fun j hj => by rcases (show j = 0 ∨ j = 1 ∨ j = 2 by omega) with rfl | rfl | rfl <;> rfl) (h.mono (fun a1 σ2 h => ?_))
  refine sd_dup (pc := 3) dX8_seating_3 rfl ?_
  refine sd_aload_n (pc := 4) dX8_seating_4 rfl 0 rfl ?_
  refine sd_getI (pc := 5) dX8_seating_5 (ci := 7) rfl in_X8 (kf := 0) (by decide) q1434 (h.mono (fun v3 h => ?_))
  refine sd_aload_n (pc := 8) dX8_seating_8 rfl 0 rfl ?_
  refine sd_getI (pc := 9) dX8_seating_9 (ci := 7) rfl in_X8 (kf := 1) (by decide) q1437 (h.mono (fun v4 h => ?_))
  refine sd_iload_n (pc := 12) dX8_seating_12 rfl 1 rfl ?_
  refine sd_iadd (pc := 13) dX8_seating_13 ?_
  refine sd_aload_n (pc := 14) dX8_seating_14 rfl 0 rfl ?_
  refine sd_getI (pc := 15) dX8_seating_15 (ci := 7) rfl in_X8 (kf := 2) (by decide) q1440 (h.mono (fun v5 h => ?_))
  refine sd_iload_n (pc := 18) dX8_seating_18 rfl 1 rfl ?_
  refine sd_iadd (pc := 19) dX8_seating_19 ?_
  refine sd_callI (k := k) (n := n) (As := [.int v3, .int (v4 + x1), .int (v5 + x1)]) (st := [.ref a1]) (pc := 20) dX8_seating_20 q1430 q1431 q115 q1432 rfl 3 (by decide +kernel) rfl (Nat.le_refl _) (by decide) (Nat.le_of_ble_eq_true rfl) (Cx.mono h (kV.to (fun σ6 h => ?_)) (xo rfl))
  exact sd_areturn (r := (some a1)) (pc := 23) dX8_seating_23 rfl (Or.inl ⟨_, rfl⟩) h
theorem cx_X8_seating {en : yEn} {d : Nat} {x0 : Nat} {x1 : Int32} {σ : yH} {k n : Nat} {K : Option Value → yH → Prop} {X : String → Addr → yH → Prop} (h : wp_X8_seating en d  x0 x1 σ k n K X) : Cx en (d + 1) (k + 1) (n + 3) mX8_seating [.ref x0, .int x1] σ K X := Cx.body (by decide +kernel) rfl (Nat.le_of_ble_eq_true rfl) (ok_X8_seating h)
/-! PeacockLawns$Bird.growing()LPeacockLawns$Bird; -/
def wp_X4_growing (en : yEn) (d : Nat) (x0 : Nat) (σ : yH) (k n : Nat) (K : Option Value → yH → Prop) (X : String → Addr → yH → Prop) : Prop :=
  getI σ x0 3 2 (fun v1 => ((¬ (v1 = (150 : Int32)) → newV σ (.inr (3, [.int 0, .int 0, .int 0, .int 0, .int 0, .int 0])) (fun a2 σ3 => getI σ3 x0 3 0 (fun v4 => getI σ3 x0 3 1 (fun v5 => getI σ3 x0 3 2 (fun v6 => yLet (if (v6 + (2 : Int32)) < (150 : Int32) then (v6 + (2 : Int32)) else (150 : Int32)) (fun r7 => getI σ3 x0 3 3 (fun v8 => getI σ3 x0 3 4 (fun v9 => getI σ3 x0 3 5 (fun v10 => Cx en d 0 0 mX4_init_2 [.ref a2, .int v4, .int v5, .int r7, .int v8, .int v9, .int v10] σ3 (kV (fun σ11 => K (some (.ref a2)) σ11)) X))))))))) ∧ ((v1 = (150 : Int32)) → K (some (.ref x0)) σ)))
set_option maxHeartbeats 4000000 in
theorem ok_X4_growing {en : yEn} {d : Nat} {x0 : Nat} {σ : yH} {k n : Nat} {K : Option Value → yH → Prop} {X : String → Addr → yH → Prop} (h : wp_X4_growing en d  x0 σ k n K X) : Wx en (d + 1) mX4_growing 0 [(0, .ref x0)] [] σ (k + 1) (n + 6) K X := by
  unfold wp_X4_growing at h
  refine sd_aload_n (pc := 0) dX4_growing_0 rfl 0 rfl ?_
  refine sd_getI (pc := 1) dX4_growing_1 (ci := 3) rfl in_X4 (kf := 2) (by decide) q879 (h.mono (fun v1 h => ?_))
  refine sd_sipush (pc := 4) dX4_growing_4 (v := 150) (by decide) ?_
  refine sd_icmpne (pc := 7) dX4_growing_7 (tgt := 14) (by decide) ⟨fun c12 => ?_, fun c12 => ?_⟩
  · have h := h.1 c12
    refine sd_new (k := k) (n := n) (pc := 14) dX4_growing_14 (ci := 3) rfl in_X4 tyX4 tyX4_ok q1104 q865 q98 (fs := [.int 0, .int 0, .int 0, .int 0, .int 0, .int 0]) (fun j hj => by rcases (show j = 0 ∨ j = 1 ∨ j = 2 ∨ j = 3 ∨ j = 4 ∨ j = 5 by omega) with rfl | rfl | rfl | rfl | rfl | rfl <;> rfl) (h.mono (fun a2 σ3 h => ?_))
    refine sd_dup (pc := 17) dX4_growing_17 rfl ?_
    refine sd_aload_n (pc := 18) dX4_growing_18 rfl 0 rfl ?_
    refine sd_getI (pc := 19) dX4_growing_19 (ci := 3) rfl in_X4 (kf := 0) (by decide) q873 (h.mono (fun v4 h => ?_))
    refine sd_aload_n (pc := 22) dX4_growing_22 rfl 0 rfl ?_
    refine sd_getI (pc := 23) dX4_growing_23 (ci := 3) rfl in_X4 (kf := 1) (by decide) q876 (h.mono (fun v5 h => ?_))
    refine sd_sipush (pc := 26) dX4_growing_26 (v := 150) (by decide) ?_
    refine sd_aload_n (pc := 29) dX4_growing_29 rfl 0 rfl ?_
    refine sd_getI (pc := 30) dX4_growing_30 (ci := 3) rfl in_X4 (kf := 2) (by decide) q879 (h.mono (fun v6 h => ?_))
    refine sd_iconst (pc := 33) dX4_growing_33 (v := 2) (by decide) ?_
    refine sd_iadd (pc := 34) dX4_growing_34 ?_
    refine sd_mminL (pc := 35) dX4_growing_35 q1508 q555 q101 q556 (by omega) (Nat.le_of_ble_eq_true rfl) (h.mono (fun r7 h => ?_))
    refine sd_aload_n (pc := 38) dX4_growing_38 rfl 0 rfl ?_
    refine sd_getI (pc := 39) dX4_growing_39 (ci := 3) rfl in_X4 (kf := 3) (by decide) q882 (h.mono (fun v8 h => ?_))
    refine sd_aload_n (pc := 42) dX4_growing_42 rfl 0 rfl ?_
    refine sd_getI (pc := 43) dX4_growing_43 (ci := 3) rfl in_X4 (kf := 4) (by decide) q886 (h.mono (fun v9 h => ?_))
    refine sd_aload_n (pc := 46) dX4_growing_46 rfl 0 rfl ?_
    refine sd_getI (pc := 47) dX4_growing_47 (ci := 3) rfl in_X4 (kf := 5) (by decide) q888 (h.mono (fun v10 h => ?_))
    refine sd_callI (k := k) (n := n) (As := [.int v4, .int v5, .int r7, .int v8, .int v9, .int v10]) (st := [.ref a2]) (pc := 50) dX4_growing_50 q869 q870 q98 q871 rfl 6 (by decide +kernel) rfl (Nat.le_refl _) (by decide) (Nat.le_of_ble_eq_true rfl) (Cx.mono h (kV.to (fun σ11 h => ?_)) (xo rfl))
    exact sd_areturn (r := (some a2)) (pc := 53) dX4_growing_53 rfl (Or.inl ⟨_, rfl⟩) h
  · have h := h.2 c12
    refine Wx.more (k' := k) (n' := n) ?_ (by omega) (by omega)
    refine sd_aload_n (pc := 10) dX4_growing_10 rfl 0 rfl ?_
    refine sd_goto (pc := 11) dX4_growing_11 (tgt := 53) (by decide) ?_
    exact sd_areturn (r := (some x0)) (pc := 53) dX4_growing_53 rfl (Or.inl ⟨_, rfl⟩) h
theorem cx_X4_growing {en : yEn} {d : Nat} {x0 : Nat} {σ : yH} {k n : Nat} {K : Option Value → yH → Prop} {X : String → Addr → yH → Prop} (h : wp_X4_growing en d  x0 σ k n K X) : Cx en (d + 1) (k + 1) (n + 6) mX4_growing [.ref x0] σ K X := Cx.body (by decide +kernel) rfl (Nat.le_of_ble_eq_true rfl) (ok_X4_growing h)
/-! PeacockLawns$Bird.isCock()Z -/
def wp_X4_isCock (en : yEn) (d : Nat) (x0 : Nat) (σ : yH) (k n : Nat) (K : Option Value → yH → Prop) (X : String → Addr → yH → Prop) : Prop :=
  getI σ x0 3 0 (fun v1 => K (some (.int (if (v1 = 0) then (1 : Int32) else (0 : Int32)))) σ)
set_option maxHeartbeats 4000000 in
theorem ok_X4_isCock {en : yEn} {d : Nat} {x0 : Nat} {σ : yH} {k n : Nat} {K : Option Value → yH → Prop} {X : String → Addr → yH → Prop} (h : wp_X4_isCock en d  x0 σ k n K X) : Wx en (d + 1) mX4_isCock 0 [(0, .ref x0)] [] σ k n K X := by
  unfold wp_X4_isCock at h
  refine sd_aload_n (pc := 0) dX4_isCock_0 rfl 0 rfl ?_
  refine sd_getI (pc := 1) dX4_isCock_1 (ci := 3) rfl in_X4 (kf := 0) (by decide) q873 (h.mono (fun v1 h => ?_))
  have h3 : Wx en (d + 1) mX4_isCock 12 [(0, .ref x0)] (.int (if (v1 = 0) then (1 : Int32) else (0 : Int32)) :: []) σ k n K X := by
    exact sd_ireturn (pc := 12) dX4_isCock_12 (ty0 := .boolean) rfl (nb_ite rfl rfl) h
  have e4 := sd_iteIN h3
  refine sd_ifne (pc := 4) dX4_isCock_4 (tgt := 11) (by decide) ⟨fun c2 => ?_, fun c2 => ?_⟩
  · refine sd_iconst (pc := 11) dX4_isCock_11 (v := 0) (by decide) ?_
    exact (e4.1 c2)
  · refine sd_iconst (pc := 7) dX4_isCock_7 (v := 1) (by decide) ?_
    refine sd_goto (pc := 8) dX4_isCock_8 (tgt := 12) (by decide) ?_
    exact (e4.2 c2)
theorem cx_X4_isCock {en : yEn} {d : Nat} {x0 : Nat} {σ : yH} {k n : Nat} {K : Option Value → yH → Prop} {X : String → Addr → yH → Prop} (h : wp_X4_isCock en d  x0 σ k n K X) : Cx en (d + 1) k n mX4_isCock [.ref x0] σ K X := Cx.body (by decide +kernel) rfl (Nat.le_of_ble_eq_true rfl) (ok_X4_isCock h)
/-! PeacockLawns$Bird.shedding(I)LPeacockLawns$Bird; -/
def wp_X4_shedding (en : yEn) (d : Nat) (x0 : Nat) (x1 : Int32) (σ : yH) (k n : Nat) (K : Option Value → yH → Prop) (X : String → Addr → yH → Prop) : Prop :=
  ((¬ (x1 = 0) → newV σ (.inr (3, [.int 0, .int 0, .int 0, .int 0, .int 0, .int 0])) (fun a1 σ2 => getI σ2 x0 3 0 (fun v3 => getI σ2 x0 3 1 (fun v4 => getI σ2 x0 3 2 (fun v5 => getI σ2 x0 3 3 (fun v6 => getI σ2 x0 3 4 (fun v7 => getI σ2 x0 3 5 (fun v8 => Cx en d 0 0 mX4_init_2 [.ref a1, .int v3, .int v4, .int (v5 - x1), .int v6, .int v7, .int (v8 + x1)] σ2 (kV (fun σ9 => K (some (.ref a1)) σ9)) X)))))))) ∧ ((x1 = 0) → K (some (.ref x0)) σ))
set_option maxHeartbeats 4000000 in
theorem ok_X4_shedding {en : yEn} {d : Nat} {x0 : Nat} {x1 : Int32} {σ : yH} {k n : Nat} {K : Option Value → yH → Prop} {X : String → Addr → yH → Prop} (h : wp_X4_shedding en d  x0 x1 σ k n K X) : Wx en (d + 1) mX4_shedding 0 [(0, .ref x0), (1, .int x1)] [] σ (k + 1) (n + 6) K X := by
  unfold wp_X4_shedding at h
  refine sd_iload_n (pc := 0) dX4_shedding_0 rfl 1 rfl ?_
  refine sd_ifne (pc := 1) dX4_shedding_1 (tgt := 8) (by decide) ⟨fun c10 => ?_, fun c10 => ?_⟩
  · have h := h.1 c10
    refine sd_new (k := k) (n := n) (pc := 8) dX4_shedding_8 (ci := 3) rfl in_X4 tyX4 tyX4_ok q1104 q865 q98 (fs := [.int 0, .int 0, .int 0, .int 0, .int 0, .int 0]) (fun j hj => by rcases (show j = 0 ∨ j = 1 ∨ j = 2 ∨ j = 3 ∨ j = 4 ∨ j = 5 by omega) with rfl | rfl | rfl | rfl | rfl | rfl <;> rfl) (h.mono (fun a1 σ2 h => ?_))
    refine sd_dup (pc := 11) dX4_shedding_11 rfl ?_
    refine sd_aload_n (pc := 12) dX4_shedding_12 rfl 0 rfl ?_
    refine sd_getI (pc := 13) dX4_shedding_13 (ci := 3) rfl in_X4 (kf := 0) (by decide) q873 (h.mono (fun v3 h => ?_))
    refine sd_aload_n (pc := 16) dX4_shedding_16 rfl 0 rfl ?_
    refine sd_getI (pc := 17) dX4_shedding_17 (ci := 3) rfl in_X4 (kf := 1) (by decide) q876 (h.mono (fun v4 h => ?_))
    refine sd_aload_n (pc := 20) dX4_shedding_20 rfl 0 rfl ?_
    refine sd_getI (pc := 21) dX4_shedding_21 (ci := 3) rfl in_X4 (kf := 2) (by decide) q879 (h.mono (fun v5 h => ?_))
    refine sd_iload_n (pc := 24) dX4_shedding_24 rfl 1 rfl ?_
    refine sd_isub (pc := 25) dX4_shedding_25 ?_
    refine sd_aload_n (pc := 26) dX4_shedding_26 rfl 0 rfl ?_
    refine sd_getI (pc := 27) dX4_shedding_27 (ci := 3) rfl in_X4 (kf := 3) (by decide) q882 (h.mono (fun v6 h => ?_))
    refine sd_aload_n (pc := 30) dX4_shedding_30 rfl 0 rfl ?_
    refine sd_getI (pc := 31) dX4_shedding_31 (ci := 3) rfl in_X4 (kf := 4) (by decide) q886 (h.mono (fun v7 h => ?_))
    refine sd_aload_n (pc := 34) dX4_shedding_34 rfl 0 rfl ?_
    refine sd_getI (pc := 35) dX4_shedding_35 (ci := 3) rfl in_X4 (kf := 5) (by decide) q888 (h.mono (fun v8 h => ?_))
    refine sd_iload_n (pc := 38) dX4_shedding_38 rfl 1 rfl ?_
    refine sd_iadd (pc := 39) dX4_shedding_39 ?_
    refine sd_callI (k := k) (n := n) (As := [.int v3, .int v4, .int (v5 - x1), .int v6, .int v7, .int (v8 + x1)]) (st := [.ref a1]) (pc := 40) dX4_shedding_40 q869 q870 q98 q871 rfl 6 (by decide +kernel) rfl (Nat.le_refl _) (by decide) (Nat.le_of_ble_eq_true rfl) (Cx.mono h (kV.to (fun σ9 h => ?_)) (xo rfl))
    exact sd_areturn (r := (some a1)) (pc := 43) dX4_shedding_43 rfl (Or.inl ⟨_, rfl⟩) h
  · have h := h.2 c10
    refine Wx.more (k' := k) (n' := n) ?_ (by omega) (by omega)
    refine sd_aload_n (pc := 4) dX4_shedding_4 rfl 0 rfl ?_
    refine sd_goto (pc := 5) dX4_shedding_5 (tgt := 43) (by decide) ?_
    exact sd_areturn (r := (some x0)) (pc := 43) dX4_shedding_43 rfl (Or.inl ⟨_, rfl⟩) h
theorem cx_X4_shedding {en : yEn} {d : Nat} {x0 : Nat} {x1 : Int32} {σ : yH} {k n : Nat} {K : Option Value → yH → Prop} {X : String → Addr → yH → Prop} (h : wp_X4_shedding en d  x0 x1 σ k n K X) : Cx en (d + 1) (k + 1) (n + 6) mX4_shedding [.ref x0, .int x1] σ K X := Cx.body (by decide +kernel) rfl (Nat.le_of_ble_eq_true rfl) (ok_X4_shedding h)
/-! PeacockLawns$Bird.chick(III)LPeacockLawns$Bird; -/
def wp_X4_chick (en : yEn) (d : Nat) (x0 : Int32) (x1 : Int32) (x2 : Int32) (σ : yH) (k n : Nat) (K : Option Value → yH → Prop) (X : String → Addr → yH → Prop) : Prop :=
  newV σ (.inr (3, [.int 0, .int 0, .int 0, .int 0, .int 0, .int 0])) (fun a2 σ3 => Cx en d 0 0 mX4_init_2 [.ref a2, .int (if ((x0 - x0 / (2 : Int32) * (2 : Int32)) = (1 : Int32)) then (1 : Int32) else (0 : Int32)), .int x1, .int (0 : Int32), .int (if ((if ((x0 - x0 / (2 : Int32) * (2 : Int32)) = (1 : Int32)) then (1 : Int32) else (0 : Int32)) = 0) then (1 : Int32) else (0 : Int32)), .int x2, .int (0 : Int32)] σ3 (kV (fun σ5 => K (some (.ref a2)) σ5)) X)
set_option maxHeartbeats 4000000 in
theorem ok_X4_chick {en : yEn} {d : Nat} {x0 : Int32} {x1 : Int32} {x2 : Int32} {σ : yH} {k n : Nat} {K : Option Value → yH → Prop} {X : String → Addr → yH → Prop} (h : wp_X4_chick en d  x0 x1 x2 σ k n K X) : Wx en (d + 1) mX4_chick 0 [(0, .int x0), (1, .int x1), (2, .int x2)] [] σ (k + 1) (n + 6) K X := by
  unfold wp_X4_chick at h
  refine sd_iload_n (pc := 0) dX4_chick_0 rfl 0 rfl ?_
  refine sd_iconst (pc := 1) dX4_chick_1 (v := 2) (by decide) ?_
  refine sd_irem (pc := 2) dX4_chick_2 (by decide) ?_
  refine sd_iconst (pc := 3) dX4_chick_3 (v := 1) (by decide) ?_
  have h6 : Wx en (d + 1) mX4_chick 12 [(0, .int x0), (1, .int x1), (2, .int x2)] (.int (if ((x0 - x0 / (2 : Int32) * (2 : Int32)) = (1 : Int32)) then (1 : Int32) else (0 : Int32)) :: []) σ (k + 1) (n + 6) K X := by
    refine sd_istore_n (pc := 12) dX4_chick_12 rfl (by decide) (ls' := [(3, .int (if ((x0 - x0 / (2 : Int32) * (2 : Int32)) = (1 : Int32)) then (1 : Int32) else (0 : Int32))), (0, .int x0), (1, .int x1), (2, .int x2)]) rfl ?_
    refine sd_new (k := k) (n := n) (pc := 13) dX4_chick_13 (ci := 3) rfl in_X4 tyX4 tyX4_ok q1104 q865 q98 (fs := [.int 0, .int 0, .int 0, .int 0, .int 0, .int 0]) (fun j hj => by rcases (show j = 0 ∨ j = 1 ∨ j = 2 ∨ j = 3 ∨ j = 4 ∨ j = 5 by omega) with rfl | rfl | rfl | rfl | rfl | rfl <;> rfl) (h.mono (fun a2 σ3 h => ?_))
    refine sd_dup (pc := 16) dX4_chick_16 rfl ?_
    refine sd_iload_n (pc := 17) dX4_chick_17 rfl 0 rfl ?_
    refine sd_iload_n (pc := 18) dX4_chick_18 rfl 2 rfl ?_
    refine sd_iconst (pc := 19) dX4_chick_19 (v := 0) (by decide) ?_
    refine sd_iload_n (pc := 20) dX4_chick_20 rfl 0 rfl ?_
    have h7 : Wx en (d + 1) mX4_chick 29 [(3, .int (if ((x0 - x0 / (2 : Int32) * (2 : Int32)) = (1 : Int32)) then (1 : Int32) else (0 : Int32))), (0, .int x0), (1, .int x1), (2, .int x2)] (.int (if ((if ((x0 - x0 / (2 : Int32) * (2 : Int32)) = (1 : Int32)) then (1 : Int32) else (0 : Int32)) = 0) then (1 : Int32) else (0 : Int32)) :: .int (0 : Int32) :: .int x1 :: .int (if ((x0 - x0 / (2 : Int32) * (2 : Int32)) = (1 : Int32)) then (1 : Int32) else (0 : Int32)) :: .ref a2 :: .ref a2 :: []) σ3 k n K X := by
      refine sd_iload_n (pc := 29) dX4_chick_29 rfl 3 rfl ?_
      refine sd_iconst (pc := 30) dX4_chick_30 (v := 0) (by decide) ?_
      refine sd_callI (k := k) (n := n) (As := [.int (if ((x0 - x0 / (2 : Int32) * (2 : Int32)) = (1 : Int32)) then (1 : Int32) else (0 : Int32)), .int x1, .int (0 : Int32), .int (if ((if ((x0 - x0 / (2 : Int32) * (2 : Int32)) = (1 : Int32)) then (1 : Int32) else (0 : Int32)) = 0) then (1 : Int32) else (0 : Int32)), .int x2, .int (0 : Int32)]) (st := [.ref a2]) (pc := 31) dX4_chick_31 q869 q870 q98 q871 rfl 6 (by decide +kernel) rfl (Nat.le_refl _) (by decide) (Nat.le_of_ble_eq_true rfl) (Cx.mono h (kV.to (fun σ5 h => ?_)) (xo rfl))
      exact sd_areturn (r := (some a2)) (pc := 34) dX4_chick_34 rfl (Or.inl ⟨_, rfl⟩) h
    have e8 := sd_iteI h7
    refine sd_ifeq (pc := 21) dX4_chick_21 (tgt := 28) (by decide) ⟨fun c4 => ?_, fun c4 => ?_⟩
    · refine sd_iconst (pc := 28) dX4_chick_28 (v := 1) (by decide) ?_
      exact (e8.1 c4)
    · refine sd_iconst (pc := 24) dX4_chick_24 (v := 0) (by decide) ?_
      refine sd_goto (pc := 25) dX4_chick_25 (tgt := 29) (by decide) ?_
      exact (e8.2 c4)
  have e9 := sd_iteIN h6
  refine sd_icmpne (pc := 4) dX4_chick_4 (tgt := 11) (by decide) ⟨fun c1 => ?_, fun c1 => ?_⟩
  · refine sd_iconst (pc := 11) dX4_chick_11 (v := 0) (by decide) ?_
    exact (e9.1 c1)
  · refine sd_iconst (pc := 7) dX4_chick_7 (v := 1) (by decide) ?_
    refine sd_goto (pc := 8) dX4_chick_8 (tgt := 12) (by decide) ?_
    exact (e9.2 c1)
theorem cx_X4_chick {en : yEn} {d : Nat} {x0 : Int32} {x1 : Int32} {x2 : Int32} {σ : yH} {k n : Nat} {K : Option Value → yH → Prop} {X : String → Addr → yH → Prop} (h : wp_X4_chick en d  x0 x1 x2 σ k n K X) : Cx en (d + 1) (k + 1) (n + 6) mX4_chick [.int x0, .int x1, .int x2] σ K X := Cx.body (by decide +kernel) rfl (Nat.le_of_ble_eq_true rfl) (ok_X4_chick h)
/-! PeacockLawns$Bench.emptied()LPeacockLawns$Bench; -/
def wp_X8_emptied (en : yEn) (d : Nat) (x0 : Nat) (σ : yH) (k n : Nat) (K : Option Value → yH → Prop) (X : String → Addr → yH → Prop) : Prop :=
  getI σ x0 7 1 (fun v1 => ((¬ (v1 = 0) → newV σ (.inr (7, [.int 0, .int 0, .int 0])) (fun a2 σ3 => getI σ3 x0 7 0 (fun v4 => getI σ3 x0 7 2 (fun v5 => Cx en d 0 0 mX8_init_2 [.ref a2, .int v4, .int (0 : Int32), .int v5] σ3 (kV (fun σ6 => K (some (.ref a2)) σ6)) X)))) ∧ ((v1 = 0) → K (some (.ref x0)) σ)))
set_option maxHeartbeats 4000000 in
theorem ok_X8_emptied {en : yEn} {d : Nat} {x0 : Nat} {σ : yH} {k n : Nat} {K : Option Value → yH → Prop} {X : String → Addr → yH → Prop} (h : wp_X8_emptied en d  x0 σ k n K X) : Wx en (d + 1) mX8_emptied 0 [(0, .ref x0)] [] σ (k + 1) (n + 3) K X := by
  unfold wp_X8_emptied at h
  refine sd_aload_n (pc := 0) dX8_emptied_0 rfl 0 rfl ?_
  refine sd_getI (pc := 1) dX8_emptied_1 (ci := 7) rfl in_X8 (kf := 1) (by decide) q1437 (h.mono (fun v1 h => ?_))
  refine sd_ifne (pc := 4) dX8_emptied_4 (tgt := 11) (by decide) ⟨fun c7 => ?_, fun c7 => ?_⟩
  · have h := h.1 c7
    refine sd_new (k := k) (n := n) (pc := 11) dX8_emptied_11 (ci := 7) rfl in_X8 tyX8 tyX8_ok q1467 q1426 q115 (fs := [.int 0, .int 0, .int 0]) (fun j hj => by rcases (show j = 0 ∨ j = 1 ∨ j = 2 by omega) with rfl | rfl | rfl <;> rfl) (h.mono (fun a2 σ3 h => ?_))
    refine sd_dup (pc := 14) dX8_emptied_14 rfl ?_
    refine sd_aload_n (pc := 15) dX8_emptied_15 rfl 0 rfl ?_
    refine sd_getI (pc := 16) dX8_emptied_16 (ci := 7) rfl in_X8 (kf := 0) (by decide) q1434 (h.mono (fun v4 h => ?_))
    refine sd_iconst (pc := 19) dX8_emptied_19 (v := 0) (by decide) ?_
    refine sd_aload_n (pc := 20) dX8_emptied_20 rfl 0 rfl ?_
    refine sd_getI (pc := 21) dX8_emptied_21 (ci := 7) rfl in_X8 (kf := 2) (by decide) q1440 (h.mono (fun v5 h => ?_))
    refine sd_callI (k := k) (n := n) (As := [.int v4, .int (0 : Int32), .int v5]) (st := [.ref a2]) (pc := 24) dX8_emptied_24 q1430 q1431 q115 q1432 rfl 3 (by decide +kernel) rfl (Nat.le_refl _) (by decide) (Nat.le_of_ble_eq_true rfl) (Cx.mono h (kV.to (fun σ6 h => ?_)) (xo rfl))
    exact sd_areturn (r := (some a2)) (pc := 27) dX8_emptied_27 rfl (Or.inl ⟨_, rfl⟩) h
  · have h := h.2 c7
    refine Wx.more (k' := k) (n' := n) ?_ (by omega) (by omega)
    refine sd_aload_n (pc := 7) dX8_emptied_7 rfl 0 rfl ?_
    refine sd_goto (pc := 8) dX8_emptied_8 (tgt := 27) (by decide) ?_
    exact sd_areturn (r := (some x0)) (pc := 27) dX8_emptied_27 rfl (Or.inl ⟨_, rfl⟩) h
theorem cx_X8_emptied {en : yEn} {d : Nat} {x0 : Nat} {σ : yH} {k n : Nat} {K : Option Value → yH → Prop} {X : String → Addr → yH → Prop} (h : wp_X8_emptied en d  x0 σ k n K X) : Cx en (d + 1) (k + 1) (n + 3) mX8_emptied [.ref x0] σ K X := Cx.body (by decide +kernel) rfl (Nat.le_of_ble_eq_true rfl) (ok_X8_emptied h)
/-! PeacockLawns$Bird.at(I)LPeacockLawns$Bird; -/
def wp_X4_at (en : yEn) (d : Nat) (x0 : Nat) (x1 : Int32) (σ : yH) (k n : Nat) (K : Option Value → yH → Prop) (X : String → Addr → yH → Prop) : Prop :=
  getI σ x0 3 1 (fun v1 => ((¬ (x1 = v1) → newV σ (.inr (3, [.int 0, .int 0, .int 0, .int 0, .int 0, .int 0])) (fun a2 σ3 => getI σ3 x0 3 0 (fun v4 => getI σ3 x0 3 2 (fun v5 => getI σ3 x0 3 3 (fun v6 => getI σ3 x0 3 4 (fun v7 => getI σ3 x0 3 5 (fun v8 => Cx en d 0 0 mX4_init_2 [.ref a2, .int v4, .int x1, .int v5, .int v6, .int v7, .int v8] σ3 (kV (fun σ9 => K (some (.ref a2)) σ9)) X))))))) ∧ ((x1 = v1) → K (some (.ref x0)) σ)))
set_option maxHeartbeats 4000000 in
theorem ok_X4_at {en : yEn} {d : Nat} {x0 : Nat} {x1 : Int32} {σ : yH} {k n : Nat} {K : Option Value → yH → Prop} {X : String → Addr → yH → Prop} (h : wp_X4_at en d  x0 x1 σ k n K X) : Wx en (d + 1) mX4_at 0 [(0, .ref x0), (1, .int x1)] [] σ (k + 1) (n + 6) K X := by
  unfold wp_X4_at at h
  refine sd_iload_n (pc := 0) dX4_at_0 rfl 1 rfl ?_
  refine sd_aload_n (pc := 1) dX4_at_1 rfl 0 rfl ?_
  refine sd_getI (pc := 2) dX4_at_2 (ci := 3) rfl in_X4 (kf := 1) (by decide) q876 (h.mono (fun v1 h => ?_))
  refine sd_icmpne (pc := 5) dX4_at_5 (tgt := 12) (by decide) ⟨fun c10 => ?_, fun c10 => ?_⟩
  · have h := h.1 c10
    refine sd_new (k := k) (n := n) (pc := 12) dX4_at_12 (ci := 3) rfl in_X4 tyX4 tyX4_ok q1104 q865 q98 (fs := [.int 0, .int 0, .int 0, .int 0, .int 0, .int 0]) (fun j hj => by rcases (show j = 0 ∨ j = 1 ∨ j = 2 ∨ j = 3 ∨ j = 4 ∨ j = 5 by omega) with rfl | rfl | rfl | rfl | rfl | rfl <;> rfl) (h.mono (fun a2 σ3 h => ?_))
    refine sd_dup (pc := 15) dX4_at_15 rfl ?_
    refine sd_aload_n (pc := 16) dX4_at_16 rfl 0 rfl ?_
    refine sd_getI (pc := 17) dX4_at_17 (ci := 3) rfl in_X4 (kf := 0) (by decide) q873 (h.mono (fun v4 h => ?_))
    refine sd_iload_n (pc := 20) dX4_at_20 rfl 1 rfl ?_
    refine sd_aload_n (pc := 21) dX4_at_21 rfl 0 rfl ?_
    refine sd_getI (pc := 22) dX4_at_22 (ci := 3) rfl in_X4 (kf := 2) (by decide) q879 (h.mono (fun v5 h => ?_))
    refine sd_aload_n (pc := 25) dX4_at_25 rfl 0 rfl ?_
    refine sd_getI (pc := 26) dX4_at_26 (ci := 3) rfl in_X4 (kf := 3) (by decide) q882 (h.mono (fun v6 h => ?_))
    refine sd_aload_n (pc := 29) dX4_at_29 rfl 0 rfl ?_
    refine sd_getI (pc := 30) dX4_at_30 (ci := 3) rfl in_X4 (kf := 4) (by decide) q886 (h.mono (fun v7 h => ?_))
    refine sd_aload_n (pc := 33) dX4_at_33 rfl 0 rfl ?_
    refine sd_getI (pc := 34) dX4_at_34 (ci := 3) rfl in_X4 (kf := 5) (by decide) q888 (h.mono (fun v8 h => ?_))
    refine sd_callI (k := k) (n := n) (As := [.int v4, .int x1, .int v5, .int v6, .int v7, .int v8]) (st := [.ref a2]) (pc := 37) dX4_at_37 q869 q870 q98 q871 rfl 6 (by decide +kernel) rfl (Nat.le_refl _) (by decide) (Nat.le_of_ble_eq_true rfl) (Cx.mono h (kV.to (fun σ9 h => ?_)) (xo rfl))
    exact sd_areturn (r := (some a2)) (pc := 40) dX4_at_40 rfl (Or.inl ⟨_, rfl⟩) h
  · have h := h.2 c10
    refine Wx.more (k' := k) (n' := n) ?_ (by omega) (by omega)
    refine sd_aload_n (pc := 8) dX4_at_8 rfl 0 rfl ?_
    refine sd_goto (pc := 9) dX4_at_9 (tgt := 40) (by decide) ?_
    exact sd_areturn (r := (some x0)) (pc := 40) dX4_at_40 rfl (Or.inl ⟨_, rfl⟩) h
theorem cx_X4_at {en : yEn} {d : Nat} {x0 : Nat} {x1 : Int32} {σ : yH} {k n : Nat} {K : Option Value → yH → Prop} {X : String → Addr → yH → Prop} (h : wp_X4_at en d  x0 x1 σ k n K X) : Cx en (d + 1) (k + 1) (n + 6) mX4_at [.ref x0, .int x1] σ K X := Cx.body (by decide +kernel) rfl (Nat.le_of_ble_eq_true rfl) (ok_X4_at h)
/-! PeacockLawns$Keeper.rested()LPeacockLawns$Keeper; -/
def wp_X7_rested (en : yEn) (d : Nat) (x0 : Nat) (σ : yH) (k n : Nat) (K : Option Value → yH → Prop) (X : String → Addr → yH → Prop) : Prop :=
  getI σ x0 6 1 (fun v1 => ((¬ (v1 = (6 : Int32)) → newV σ (.inr (6, [.int 0, .int 0, .int 0, .int 0])) (fun a2 σ3 => getI σ3 x0 6 0 (fun v4 => getI σ3 x0 6 2 (fun v5 => getI σ3 x0 6 3 (fun v6 => Cx en d 0 0 mX7_init_2 [.ref a2, .int v4, .int (6 : Int32), .int v5, .int v6] σ3 (kV (fun σ7 => K (some (.ref a2)) σ7)) X))))) ∧ ((v1 = (6 : Int32)) → K (some (.ref x0)) σ)))
set_option maxHeartbeats 4000000 in
theorem ok_X7_rested {en : yEn} {d : Nat} {x0 : Nat} {σ : yH} {k n : Nat} {K : Option Value → yH → Prop} {X : String → Addr → yH → Prop} (h : wp_X7_rested en d  x0 σ k n K X) : Wx en (d + 1) mX7_rested 0 [(0, .ref x0)] [] σ (k + 1) (n + 4) K X := by
  unfold wp_X7_rested at h
  refine sd_aload_n (pc := 0) dX7_rested_0 rfl 0 rfl ?_
  refine sd_getI (pc := 1) dX7_rested_1 (ci := 6) rfl in_X7 (kf := 1) (by decide) q1321 (h.mono (fun v1 h => ?_))
  refine sd_bipush (pc := 4) dX7_rested_4 (v := 6) (by decide) ?_
  refine sd_icmpne (pc := 6) dX7_rested_6 (tgt := 13) (by decide) ⟨fun c8 => ?_, fun c8 => ?_⟩
  · have h := h.1 c8
    refine sd_new (k := k) (n := n) (pc := 13) dX7_rested_13 (ci := 6) rfl in_X7 tyX7 tyX7_ok q1366 q1310 q114 (fs := [.int 0, .int 0, .int 0, .int 0]) (fun j hj => by rcases (show j = 0 ∨ j = 1 ∨ j = 2 ∨ j = 3 by omega) with rfl | rfl | rfl | rfl <;> rfl) (h.mono (fun a2 σ3 h => ?_))
    refine sd_dup (pc := 16) dX7_rested_16 rfl ?_
    refine sd_aload_n (pc := 17) dX7_rested_17 rfl 0 rfl ?_
    refine sd_getI (pc := 18) dX7_rested_18 (ci := 6) rfl in_X7 (kf := 0) (by decide) q1318 (h.mono (fun v4 h => ?_))
    refine sd_bipush (pc := 21) dX7_rested_21 (v := 6) (by decide) ?_
    refine sd_aload_n (pc := 23) dX7_rested_23 rfl 0 rfl ?_
    refine sd_getI (pc := 24) dX7_rested_24 (ci := 6) rfl in_X7 (kf := 2) (by decide) q1324 (h.mono (fun v5 h => ?_))
    refine sd_aload_n (pc := 27) dX7_rested_27 rfl 0 rfl ?_
    refine sd_getI (pc := 28) dX7_rested_28 (ci := 6) rfl in_X7 (kf := 3) (by decide) q1326 (h.mono (fun v6 h => ?_))
    refine sd_callI (k := k) (n := n) (As := [.int v4, .int (6 : Int32), .int v5, .int v6]) (st := [.ref a2]) (pc := 31) dX7_rested_31 q1314 q1315 q114 q1316 rfl 4 (by decide +kernel) rfl (Nat.le_refl _) (by decide) (Nat.le_of_ble_eq_true rfl) (Cx.mono h (kV.to (fun σ7 h => ?_)) (xo rfl))
    exact sd_areturn (r := (some a2)) (pc := 34) dX7_rested_34 rfl (Or.inl ⟨_, rfl⟩) h
  · have h := h.2 c8
    refine Wx.more (k' := k) (n' := n) ?_ (by omega) (by omega)
    refine sd_aload_n (pc := 9) dX7_rested_9 rfl 0 rfl ?_
    refine sd_goto (pc := 10) dX7_rested_10 (tgt := 34) (by decide) ?_
    exact sd_areturn (r := (some x0)) (pc := 34) dX7_rested_34 rfl (Or.inl ⟨_, rfl⟩) h
theorem cx_X7_rested {en : yEn} {d : Nat} {x0 : Nat} {σ : yH} {k n : Nat} {K : Option Value → yH → Prop} {X : String → Addr → yH → Prop} (h : wp_X7_rested en d  x0 σ k n K X) : Cx en (d + 1) (k + 1) (n + 4) mX7_rested [.ref x0] σ K X := Cx.body (by decide +kernel) rfl (Nat.le_of_ble_eq_true rfl) (ok_X7_rested h)
/-! PeacockLawns$FaultException.<init>(I)V -/
def wp_X10_init (en : yEn) (d : Nat) (x0 : Nat) (x1 : Int32) (σ : yH) (k n : Nat) (K : Option Value → yH → Prop) (X : String → Addr → yH → Prop) : Prop :=
  Cx en d 0 0 mJ10_init_3 [.ref x0, .null, .null, .int (0 : Int32), .int (0 : Int32)] σ (kV (fun σ1 => (putV σ1 x0 9 6 (.int x1) (fun σ2 => K none σ2)))) X
set_option maxHeartbeats 4000000 in
theorem ok_X10_init {en : yEn} {d : Nat} {x0 : Nat} {x1 : Int32} {σ : yH} {k n : Nat} {K : Option Value → yH → Prop} {X : String → Addr → yH → Prop} (h : wp_X10_init en d  x0 x1 σ k n K X) : Wx en (d + 1) mX10_init 0 [(0, .ref x0), (1, .int x1)] [] σ k n K X := by
  unfold wp_X10_init at h
  refine sd_aload_n (pc := 0) dX10_init_0 rfl 0 rfl ?_
  refine sd_null (pc := 1) dX10_init_1 ?_
  refine sd_null (pc := 2) dX10_init_2 ?_
  refine sd_iconst (pc := 3) dX10_init_3 (v := 0) (by decide) ?_
  refine sd_iconst (pc := 4) dX10_init_4 (v := 0) (by decide) ?_
  refine sd_callI (k := k) (n := n) (As := [.null, .null, .int (0 : Int32), .int (0 : Int32)]) (st := []) (pc := 5) dX10_init_5 q1811 q928 q93 q929 rfl 4 (by decide +kernel) rfl (Nat.le_refl _) (by decide) (Nat.le_of_ble_eq_true rfl) (Cx.mono h (kV.to (fun σ1 h => ?_)) (xo rfl))
  refine sd_aload_n (pc := 8) dX10_init_8 rfl 0 rfl ?_
  refine sd_iload_n (pc := 9) dX10_init_9 rfl 1 rfl ?_
  refine sd_putfF (pc := 10) dX10_init_10 (ci := 9) rfl in_X10 tyX10 tyX10_ok nmX10 (kf := 6) (by decide) q1812 rfl rfl rfl (ty := .int) rfl rfl rfl (putV.mono h (fun σ2 h => ?_))
  exact sd_return (pc := 13) dX10_init_13 rfl h
theorem cx_X10_init {en : yEn} {d : Nat} {x0 : Nat} {x1 : Int32} {σ : yH} {k n : Nat} {K : Option Value → yH → Prop} {X : String → Addr → yH → Prop} (h : wp_X10_init en d  x0 x1 σ k n K X) : Cx en (d + 1) k n mX10_init [.ref x0, .int x1] σ K X := Cx.body (by decide +kernel) rfl (Nat.le_of_ble_eq_true rfl) (ok_X10_init h)
