/-! WALKS 08b.walk -/
set_option maxRecDepth 100000
theorem yn8 : (Jvm.Cond.eq (Jvm.Term.static "java/lang/String" "COMPACT_STRINGS" "Z") (Jvm.Term.int (1 : Int32))) ∈ y_nar := List.mem_of_getElem? (i := 8) (by decide +kernel)
theorem yn217 : (Jvm.Cond.isRef (Jvm.Term.static "jdk/internal/util/Preconditions" "SIOOBE_FORMATTER" "Ljava/util/function/BiFunction;")) ∈ y_nar := List.mem_of_getElem? (i := 217) (by decide +kernel)
theorem yn624 : (Jvm.Cond.exactly (Jvm.Term.string "java/lang/StringLatin1" (151 : Nat)) "java/lang/String") ∈ y_nar := List.mem_of_getElem? (i := 624) (by decide +kernel)
/-! java/lang/AbstractStringBuilder.isLatin1()Z -/
def wp_J5_isLatin1 (en : yEn) (d : Nat) (x0 : Nat) (σ : yH) (k n : Nat) (K : Option Value → yH → Prop) (X : String → Addr → yH → Prop) : Prop :=
  ((((1 : Int32) = 0) → K (some (.int (0 : Int32))) σ) ∧ (¬ ((1 : Int32) = 0) → getI σ x0 14 1 (fun v1 => K (some (.int (if (v1 = 0) then (1 : Int32) else (0 : Int32)))) σ)))
set_option maxHeartbeats 4000000 in
theorem ok_J5_isLatin1 {en : yEn} {d : Nat} {x0 : Nat} {σ : yH} {k n : Nat} {K : Option Value → yH → Prop} {X : String → Addr → yH → Prop} (h : wp_J5_isLatin1 en d  x0 σ k n K X) : Wx en (d + 1) mJ5_isLatin1 0 [(0, .ref x0)] [] σ k n K X := by
  unfold wp_J5_isLatin1 at h
  refine sd_getsI (pc := 0) dJ5_isLatin1_0 (z := 1) q255 q256 (lw_all_tbl q89) yn8 ?_
  refine sd_ifeq (pc := 3) dJ5_isLatin1_3 (tgt := 17) (by decide) ⟨fun c3 => ?_, fun c3 => ?_⟩
  · have h := h.1 c3
    refine sd_iconst (pc := 17) dJ5_isLatin1_17 (v := 0) (by decide) ?_
    exact sd_ireturn (pc := 18) dJ5_isLatin1_18 (ty0 := .boolean) rfl rfl h
  · have h := h.2 c3
    refine sd_aload_n (pc := 6) dJ5_isLatin1_6 rfl 0 rfl ?_
    refine sd_getI (pc := 7) dJ5_isLatin1_7 (ci := 14) rfl in_J6 (kf := 1) (by decide) q265 (h.mono (fun v1 h => ?_))
    have h4 : Wx en (d + 1) mJ5_isLatin1 18 [(0, .ref x0)] (.int (if (v1 = 0) then (1 : Int32) else (0 : Int32)) :: []) σ k n K X := by
      exact sd_ireturn (pc := 18) dJ5_isLatin1_18 (ty0 := .boolean) rfl (nb_ite rfl rfl) h
    have e5 := sd_iteIN h4
    refine sd_ifne (pc := 10) dJ5_isLatin1_10 (tgt := 17) (by decide) ⟨fun c2 => ?_, fun c2 => ?_⟩
    · refine sd_iconst (pc := 17) dJ5_isLatin1_17 (v := 0) (by decide) ?_
      exact (e5.1 c2)
    · refine sd_iconst (pc := 13) dJ5_isLatin1_13 (v := 1) (by decide) ?_
      refine sd_goto (pc := 14) dJ5_isLatin1_14 (tgt := 18) (by decide) ?_
      exact (e5.2 c2)
theorem cx_J5_isLatin1 {en : yEn} {d : Nat} {x0 : Nat} {σ : yH} {k n : Nat} {K : Option Value → yH → Prop} {X : String → Addr → yH → Prop} (h : wp_J5_isLatin1 en d  x0 σ k n K X) : Cx en (d + 1) k n mJ5_isLatin1 [.ref x0] σ K X := Cx.body (by decide +kernel) rfl (Nat.le_of_ble_eq_true rfl) (ok_J5_isLatin1 h)
/-! java/lang/String.checkBoundsBeginEnd(III)V -/
def wp_J7_checkBoundsBeginEnd (en : yEn) (d : Nat) (x0 : Int32) (x1 : Int32) (x2 : Int32) (σ : yH) (k n : Nat) (K : Option Value → yH → Prop) (X : String → Addr → yH → Prop) : Prop :=
  Cx en d 0 0 mJ19_checkFromToIndex [.int x0, .int x1, .int x2, va_rf (y_sr en "jdk/internal/util/Preconditions" "SIOOBE_FORMATTER" "Ljava/util/function/BiFunction;")] σ (kI (fun r2 σ1 => K none σ1)) X
set_option maxHeartbeats 4000000 in
theorem ok_J7_checkBoundsBeginEnd {en : yEn} {d : Nat} {x0 : Int32} {x1 : Int32} {x2 : Int32} {σ : yH} {k n : Nat} {K : Option Value → yH → Prop} {X : String → Addr → yH → Prop} (h : wp_J7_checkBoundsBeginEnd en d  x0 x1 x2 σ k n K X) : Wx en (d + 1) mJ7_checkBoundsBeginEnd 0 [(0, .int x0), (1, .int x1), (2, .int x2)] [] σ k n K X := by
  unfold wp_J7_checkBoundsBeginEnd at h
  refine sd_iload_n (pc := 0) dJ7_checkBoundsBeginEnd_0 rfl 0 rfl ?_
  refine sd_iload_n (pc := 1) dJ7_checkBoundsBeginEnd_1 rfl 1 rfl ?_
  refine sd_iload_n (pc := 2) dJ7_checkBoundsBeginEnd_2 rfl 2 rfl ?_
  refine sd_getsQ (pc := 3) dJ7_checkBoundsBeginEnd_3 q584 q585 (lw_all_tbl q105) yn217 ?_
  refine sd_callS (k := k) (n := n) (As := [.int x0, .int x1, .int x2, va_rf (y_sr en "jdk/internal/util/Preconditions" "SIOOBE_FORMATTER" "Ljava/util/function/BiFunction;")]) (st := []) (pc := 6) dJ7_checkBoundsBeginEnd_6 q586 q587 q105 q588 4 (by decide +kernel) rfl (Nat.le_refl _) (by decide) (Nat.le_of_ble_eq_true rfl) (Cx.mono h (kI.to (fun r2 σ1 h => ?_)) (xo rfl))
  refine sd_pop (pc := 9) dJ7_checkBoundsBeginEnd_9 rfl ?_
  exact sd_return (pc := 10) dJ7_checkBoundsBeginEnd_10 rfl h
theorem cx_J7_checkBoundsBeginEnd {en : yEn} {d : Nat} {x0 : Int32} {x1 : Int32} {x2 : Int32} {σ : yH} {k n : Nat} {K : Option Value → yH → Prop} {X : String → Addr → yH → Prop} (h : wp_J7_checkBoundsBeginEnd en d  x0 x1 x2 σ k n K X) : Cx en (d + 1) k n mJ7_checkBoundsBeginEnd [.int x0, .int x1, .int x2] σ K X := Cx.body (by decide +kernel) rfl (Nat.le_of_ble_eq_true rfl) (ok_J7_checkBoundsBeginEnd h)
/-! java/lang/AbstractStringBuilder.appendNull()Ljava/lang/AbstractStringBuilder; -/
def wp_J5_appendNull (en : yEn) (d : Nat) (p7 : Nat × Nat) (p72 : Nat × Nat) (x0 : Nat) (σ : yH) (k n : Nat) (K : Option Value → yH → Prop) (X : String → Addr → yH → Prop) : Prop :=
  getI σ x0 14 3 (fun v1 => (isC σ x0 14 ∧ Cx en d p7.1 p7.2 mJ5_ensureCapacityInternal [.ref x0, .int (v1 + (4 : Int32))] σ (kV (fun σ2 => getI σ2 x0 14 3 (fun v3 => getR σ2 x0 14 0 (fun v4 => (isC σ2 x0 14 ∧ Cx en d 0 0 mJ5_isLatin1 [.ref x0] σ2 (kI (fun r6 σ5 => (((r6 = 0) → Cx en d p72.1 p72.2 mJ8_putCharsAt [.ref v4, .int v3, .int (110 : Int32), .int (117 : Int32), .int (108 : Int32), .int (108 : Int32)] σ5 (kI (fun r8 σ7 => (putV σ7 x0 14 3 (.int r8) (fun σ9 => K (some (.ref x0)) σ9)))) X) ∧ (¬ (r6 = 0) → astI σ5 (en.2.2.2 1) v4 v3 (vp_nar .byte (110 : Int32)) (fun σ10 => astI σ10 (en.2.2.2 1) v4 (v3 + (1 : Int32)) (vp_nar .byte (117 : Int32)) (fun σ11 => astI σ11 (en.2.2.2 1) v4 ((v3 + (1 : Int32)) + (1 : Int32)) (vp_nar .byte (108 : Int32)) (fun σ12 => astI σ12 (en.2.2.2 1) v4 (((v3 + (1 : Int32)) + (1 : Int32)) + (1 : Int32)) (vp_nar .byte (108 : Int32)) (fun σ13 => (putV σ13 x0 14 3 (.int ((((v3 + (1 : Int32)) + (1 : Int32)) + (1 : Int32)) + (1 : Int32))) (fun σ14 => K (some (.ref x0)) σ14)))))))))) X))))) X))
set_option maxHeartbeats 4000000 in
theorem ok_J5_appendNull {en : yEn} {d : Nat} {p7 : Nat × Nat} {p72 : Nat × Nat} {x0 : Nat} {σ : yH} {k n : Nat} {K : Option Value → yH → Prop} {X : String → Addr → yH → Prop} (h : wp_J5_appendNull en d p7 p72 x0 σ k n K X) : Wx en (d + 1) mJ5_appendNull 0 [(0, .ref x0)] [] σ (k + p72.1 + p7.1) (n + p72.2 + p7.2) K X := by
  unfold wp_J5_appendNull at h
  refine sd_aload_n (pc := 0) dJ5_appendNull_0 rfl 0 rfl ?_
  refine sd_aload_n (pc := 1) dJ5_appendNull_1 rfl 0 rfl ?_
  refine sd_getI (pc := 2) dJ5_appendNull_2 (ci := 14) rfl in_J6 (kf := 3) (by decide) q268 (h.mono (fun v1 h => ?_))
  refine sd_iconst (pc := 5) dJ5_appendNull_5 (v := 4) (by decide) ?_
  refine sd_iadd (pc := 6) dJ5_appendNull_6 ?_
  refine sd_callP (k := (k + p72.1)) (n := (n + p72.2)) (As := [.int (v1 + (4 : Int32))]) (st := []) (pc := 7) dJ5_appendNull_7 (ci := 14) rfl h.1 q525 q527 q526 q563 rfl q87 q528 1 (by decide +kernel) rfl (Nat.le_refl _) (by decide) (Nat.le_of_ble_eq_true rfl) (Cx.mono h.2 (kV.to (fun σ2 h => ?_)) (xo rfl))
  refine sd_aload_n (pc := 10) dJ5_appendNull_10 rfl 0 rfl ?_
  refine sd_getI (pc := 11) dJ5_appendNull_11 (ci := 14) rfl in_J6 (kf := 3) (by decide) q268 (h.mono (fun v3 h => ?_))
  refine sd_istore_n (pc := 14) dJ5_appendNull_14 rfl (by decide) (ls' := [(1, .int v3), (0, .ref x0)]) rfl ?_
  refine sd_aload_n (pc := 15) dJ5_appendNull_15 rfl 1 rfl ?_
  refine sd_getR (pc := 16) dJ5_appendNull_16 (ci := 14) rfl in_J6 (kf := 0) (by decide) q264 (h.mono (fun v4 h => ?_))
  refine sd_astore_n (pc := 19) dJ5_appendNull_19 rfl (by decide) (ls' := [(2, .ref v4), (1, .int v3), (0, .ref x0)]) rfl ?_
  refine sd_aload_n (pc := 20) dJ5_appendNull_20 rfl 2 rfl ?_
  refine sd_callU (k := (k + p72.1)) (n := (n + p72.2)) (As := []) (st := []) (pc := 21) dJ5_appendNull_21 (ci := 14) rfl h.1 (owner := "java/lang/AbstractStringBuilder") rfl q560 q562 q561 q563 q87 q564 0 (by decide +kernel) rfl 0 (by decide +kernel) rfl (Nat.le_refl _) (by decide) (Nat.le_of_ble_eq_true rfl) (Cx.mono h.2 (kI.to (fun r6 σ5 h => ?_)) (xo rfl))
  refine sd_ifeq (pc := 24) dJ5_appendNull_24 (tgt := 62) (by decide) ⟨fun c15 => ?_, fun c15 => ?_⟩
  · have h := h.1 c15
    refine sd_aload_n (pc := 62) dJ5_appendNull_62 rfl 0 rfl ?_
    refine sd_iload_n (pc := 63) dJ5_appendNull_63 rfl 1 rfl ?_
    refine sd_bipush (pc := 64) dJ5_appendNull_64 (v := 110) (by decide) ?_
    refine sd_bipush (pc := 66) dJ5_appendNull_66 (v := 117) (by decide) ?_
    refine sd_bipush (pc := 68) dJ5_appendNull_68 (v := 108) (by decide) ?_
    refine sd_bipush (pc := 70) dJ5_appendNull_70 (v := 108) (by decide) ?_
    refine sd_callS (k := k) (n := n) (As := [.ref v4, .int v3, .int (110 : Int32), .int (117 : Int32), .int (108 : Int32), .int (108 : Int32)]) (st := []) (pc := 72) dJ5_appendNull_72 q615 q616 q90 q617 6 (by decide +kernel) rfl (Nat.le_refl _) (by decide) (Nat.le_of_ble_eq_true rfl) (Cx.mono h (kI.to (fun r8 σ7 h => ?_)) (xo rfl))
    refine sd_istore_n (pc := 75) dJ5_appendNull_75 rfl (by decide) (ls' := [(1, .int r8), (2, .ref v4), (0, .ref x0)]) rfl ?_
    refine sd_aload_n (pc := 76) dJ5_appendNull_76 rfl 2 rfl ?_
    refine sd_iload_n (pc := 77) dJ5_appendNull_77 rfl 0 rfl ?_
    refine sd_putf (pc := 78) dJ5_appendNull_78 (ci := 14) rfl in_J6 tyJ6 tyJ6_ok nmJ6 (kf := 3) (by decide) q268 rfl (ty := .int) rfl rfl rfl (putV.mono h (fun σ9 h => ?_))
    refine sd_aload_n (pc := 81) dJ5_appendNull_81 rfl 2 rfl ?_
    exact sd_areturn (r := (some x0)) (pc := 82) dJ5_appendNull_82 rfl (Or.inl ⟨_, rfl⟩) h
  · have h := h.2 c15
    refine Wx.more (k' := k) (n' := n) ?_ (by omega) (by omega)
    refine sd_aload_n (pc := 27) dJ5_appendNull_27 rfl 0 rfl ?_
    refine sd_iload_n (pc := 28) dJ5_appendNull_28 rfl 1 rfl ?_
    refine sd_iinc (pc := 29) dJ5_appendNull_29 1 rfl (v := (v3 + (1 : Int32))) rfl (by decide) (ls' := [(1, .int (v3 + (1 : Int32))), (2, .ref v4), (0, .ref x0)]) rfl ?_
    refine sd_bipush (pc := 32) dJ5_appendNull_32 (v := 110) (by decide) ?_
    refine sd_bastore (pc := 34) dJ5_appendNull_34 (h.mono (fun σ10 h => ?_))
    refine sd_aload_n (pc := 35) dJ5_appendNull_35 rfl 1 rfl ?_
    refine sd_iload_n (pc := 36) dJ5_appendNull_36 rfl 0 rfl ?_
    refine sd_iinc (pc := 37) dJ5_appendNull_37 0 rfl (v := ((v3 + (1 : Int32)) + (1 : Int32))) rfl (by decide) (ls' := [(1, .int ((v3 + (1 : Int32)) + (1 : Int32))), (2, .ref v4), (0, .ref x0)]) rfl ?_
    refine sd_bipush (pc := 40) dJ5_appendNull_40 (v := 117) (by decide) ?_
    refine sd_bastore (pc := 42) dJ5_appendNull_42 (h.mono (fun σ11 h => ?_))
    refine sd_aload_n (pc := 43) dJ5_appendNull_43 rfl 1 rfl ?_
    refine sd_iload_n (pc := 44) dJ5_appendNull_44 rfl 0 rfl ?_
    refine sd_iinc (pc := 45) dJ5_appendNull_45 0 rfl (v := (((v3 + (1 : Int32)) + (1 : Int32)) + (1 : Int32))) rfl (by decide) (ls' := [(1, .int (((v3 + (1 : Int32)) + (1 : Int32)) + (1 : Int32))), (2, .ref v4), (0, .ref x0)]) rfl ?_
    refine sd_bipush (pc := 48) dJ5_appendNull_48 (v := 108) (by decide) ?_
    refine sd_bastore (pc := 50) dJ5_appendNull_50 (h.mono (fun σ12 h => ?_))
    refine sd_aload_n (pc := 51) dJ5_appendNull_51 rfl 1 rfl ?_
    refine sd_iload_n (pc := 52) dJ5_appendNull_52 rfl 0 rfl ?_
    refine sd_iinc (pc := 53) dJ5_appendNull_53 0 rfl (v := ((((v3 + (1 : Int32)) + (1 : Int32)) + (1 : Int32)) + (1 : Int32))) rfl (by decide) (ls' := [(1, .int ((((v3 + (1 : Int32)) + (1 : Int32)) + (1 : Int32)) + (1 : Int32))), (2, .ref v4), (0, .ref x0)]) rfl ?_
    refine sd_bipush (pc := 56) dJ5_appendNull_56 (v := 108) (by decide) ?_
    refine sd_bastore (pc := 58) dJ5_appendNull_58 (h.mono (fun σ13 h => ?_))
    refine sd_goto (pc := 59) dJ5_appendNull_59 (tgt := 76) (by decide) ?_
    refine sd_aload_n (pc := 76) dJ5_appendNull_76 rfl 2 rfl ?_
    refine sd_iload_n (pc := 77) dJ5_appendNull_77 rfl 0 rfl ?_
    refine sd_putf (pc := 78) dJ5_appendNull_78 (ci := 14) rfl in_J6 tyJ6 tyJ6_ok nmJ6 (kf := 3) (by decide) q268 rfl (ty := .int) rfl rfl rfl (putV.mono h (fun σ14 h => ?_))
    refine sd_aload_n (pc := 81) dJ5_appendNull_81 rfl 2 rfl ?_
    exact sd_areturn (r := (some x0)) (pc := 82) dJ5_appendNull_82 rfl (Or.inl ⟨_, rfl⟩) h
theorem cx_J5_appendNull {en : yEn} {d : Nat} {p7 : Nat × Nat} {p72 : Nat × Nat} {x0 : Nat} {σ : yH} {k n : Nat} {K : Option Value → yH → Prop} {X : String → Addr → yH → Prop} (h : wp_J5_appendNull en d p7 p72 x0 σ k n K X) : Cx en (d + 1) (k + p72.1 + p7.1) (n + p72.2 + p7.2) mJ5_appendNull [.ref x0] σ K X := Cx.body (by decide +kernel) rfl (Nat.le_of_ble_eq_true rfl) (ok_J5_appendNull h)
/-! java/lang/String.checkBoundsOffCount(III)I -/
def wp_J7_checkBoundsOffCount (en : yEn) (d : Nat) (x0 : Int32) (x1 : Int32) (x2 : Int32) (σ : yH) (k n : Nat) (K : Option Value → yH → Prop) (X : String → Addr → yH → Prop) : Prop :=
  Cx en d 0 0 mJ19_checkFromIndexSize [.int x0, .int x1, .int x2, va_rf (y_sr en "jdk/internal/util/Preconditions" "SIOOBE_FORMATTER" "Ljava/util/function/BiFunction;")] σ (kI (fun r2 σ1 => K (some (.int r2)) σ1)) X
set_option maxHeartbeats 4000000 in
theorem ok_J7_checkBoundsOffCount {en : yEn} {d : Nat} {x0 : Int32} {x1 : Int32} {x2 : Int32} {σ : yH} {k n : Nat} {K : Option Value → yH → Prop} {X : String → Addr → yH → Prop} (h : wp_J7_checkBoundsOffCount en d  x0 x1 x2 σ k n K X) : Wx en (d + 1) mJ7_checkBoundsOffCount 0 [(0, .int x0), (1, .int x1), (2, .int x2)] [] σ k n K X := by
  unfold wp_J7_checkBoundsOffCount at h
  refine sd_iload_n (pc := 0) dJ7_checkBoundsOffCount_0 rfl 0 rfl ?_
  refine sd_iload_n (pc := 1) dJ7_checkBoundsOffCount_1 rfl 1 rfl ?_
  refine sd_iload_n (pc := 2) dJ7_checkBoundsOffCount_2 rfl 2 rfl ?_
  refine sd_getsQ (pc := 3) dJ7_checkBoundsOffCount_3 q584 q585 (lw_all_tbl q105) yn217 ?_
  refine sd_callS (k := k) (n := n) (As := [.int x0, .int x1, .int x2, va_rf (y_sr en "jdk/internal/util/Preconditions" "SIOOBE_FORMATTER" "Ljava/util/function/BiFunction;")]) (st := []) (pc := 6) dJ7_checkBoundsOffCount_6 q652 q653 q105 q654 4 (by decide +kernel) rfl (Nat.le_refl _) (by decide) (Nat.le_of_ble_eq_true rfl) (Cx.mono h (kI.to (fun r2 σ1 h => ?_)) (xo rfl))
  exact sd_ireturn (pc := 9) dJ7_checkBoundsOffCount_9 (ty0 := .int) rfl rfl h
theorem cx_J7_checkBoundsOffCount {en : yEn} {d : Nat} {x0 : Int32} {x1 : Int32} {x2 : Int32} {σ : yH} {k n : Nat} {K : Option Value → yH → Prop} {X : String → Addr → yH → Prop} (h : wp_J7_checkBoundsOffCount en d  x0 x1 x2 σ k n K X) : Cx en (d + 1) k n mJ7_checkBoundsOffCount [.int x0, .int x1, .int x2] σ K X := Cx.body (by decide +kernel) rfl (Nat.le_of_ble_eq_true rfl) (ok_J7_checkBoundsOffCount h)
/-! java/lang/StringLatin1.inflate([BI[BII)V -/
def wp_J20_inflate (en : yEn) (d : Nat) (p6 : Nat × Nat) (x0 : Nat) (x1 : Int32) (x2 : Nat) (x3 : Int32) (x4 : Int32) (σ : yH) (k n : Nat) (K : Option Value → yH → Prop) (X : String → Addr → yH → Prop) : Prop :=
  Cx en d p6.1 p6.2 mJ8_inflate [.ref x0, .int x1, .ref x2, .int x3, .int x4] σ (kV (fun σ1 => K none σ1)) X
set_option maxHeartbeats 4000000 in
theorem ok_J20_inflate {en : yEn} {d : Nat} {p6 : Nat × Nat} {x0 : Nat} {x1 : Int32} {x2 : Nat} {x3 : Int32} {x4 : Int32} {σ : yH} {k n : Nat} {K : Option Value → yH → Prop} {X : String → Addr → yH → Prop} (h : wp_J20_inflate en d p6 x0 x1 x2 x3 x4 σ k n K X) : Wx en (d + 1) mJ20_inflate 0 [(0, .ref x0), (1, .int x1), (2, .ref x2), (3, .int x3), (4, .int x4)] [] σ (k + p6.1) (n + p6.2) K X := by
  unfold wp_J20_inflate at h
  refine sd_aload_n (pc := 0) dJ20_inflate_0 rfl 0 rfl ?_
  refine sd_iload_n (pc := 1) dJ20_inflate_1 rfl 1 rfl ?_
  refine sd_aload_n (pc := 2) dJ20_inflate_2 rfl 2 rfl ?_
  refine sd_iload_n (pc := 3) dJ20_inflate_3 rfl 3 rfl ?_
  refine sd_iload (pc := 4) dJ20_inflate_4 4 rfl ?_
  refine sd_callS (k := k) (n := n) (As := [.ref x0, .int x1, .ref x2, .int x3, .int x4]) (st := []) (pc := 6) dJ20_inflate_6 q643 q644 q90 q645 5 (by decide +kernel) rfl (Nat.le_refl _) (by decide) (Nat.le_of_ble_eq_true rfl) (Cx.mono h (kV.to (fun σ1 h => ?_)) (xo rfl))
  exact sd_return (pc := 9) dJ20_inflate_9 rfl h
theorem cx_J20_inflate {en : yEn} {d : Nat} {p6 : Nat × Nat} {x0 : Nat} {x1 : Int32} {x2 : Nat} {x3 : Int32} {x4 : Int32} {σ : yH} {k n : Nat} {K : Option Value → yH → Prop} {X : String → Addr → yH → Prop} (h : wp_J20_inflate en d p6 x0 x1 x2 x3 x4 σ k n K X) : Cx en (d + 1) (k + p6.1) (n + p6.2) mJ20_inflate [.ref x0, .int x1, .ref x2, .int x3, .int x4] σ K X := Cx.body (by decide +kernel) rfl (Nat.le_of_ble_eq_true rfl) (ok_J20_inflate h)
/-! java/lang/AbstractStringBuilder.inflate()V -/
def wp_J5_inflate (en : yEn) (d : Nat) (p13 : Nat × Nat) (p28 : Nat × Nat) (x0 : Nat) (σ : yH) (k n : Nat) (K : Option Value → yH → Prop) (X : String → Addr → yH → Prop) : Prop :=
  (isC σ x0 14 ∧ Cx en d 0 0 mJ5_isLatin1 [.ref x0] σ (kI (fun r2 σ1 => ((¬ (r2 = 0) → getR σ1 x0 14 0 (fun v3 => alenQ en σ1 v3 (fun v4 => Cx en d p13.1 p13.2 mJ8_newBytesFor [.int v4] σ1 (kA (fun r6 σ5 => getR σ5 x0 14 0 (fun v7 => getI σ5 x0 14 3 (fun v8 => Cx en d p28.1 p28.2 mJ20_inflate [.ref v7, .int (0 : Int32), .ref r6, .int (0 : Int32), .int v8] σ5 (kV (fun σ9 => (putV σ9 x0 14 0 (.ref r6) (fun σ10 => (putV σ10 x0 14 1 (.int (1 : Int32)) (fun σ11 => K none σ11)))))) X)))) X))) ∧ ((r2 = 0) → K none σ1)))) X)
set_option maxHeartbeats 4000000 in
theorem ok_J5_inflate {en : yEn} {d : Nat} {p13 : Nat × Nat} {p28 : Nat × Nat} {x0 : Nat} {σ : yH} {k n : Nat} {K : Option Value → yH → Prop} {X : String → Addr → yH → Prop} (h : wp_J5_inflate en d p13 p28 x0 σ k n K X) : Wx en (d + 1) mJ5_inflate 0 [(0, .ref x0)] [] σ (k + p28.1 + p13.1) (n + p28.2 + p13.2) K X := by
  unfold wp_J5_inflate at h
  refine sd_aload_n (pc := 0) dJ5_inflate_0 rfl 0 rfl ?_
  refine sd_callU (k := (k + p28.1 + p13.1)) (n := (n + p28.2 + p13.2)) (As := []) (st := []) (pc := 1) dJ5_inflate_1 (ci := 14) rfl h.1 (owner := "java/lang/AbstractStringBuilder") rfl q560 q562 q561 q563 q87 q564 0 (by decide +kernel) rfl 0 (by decide +kernel) rfl (Nat.le_refl _) (by decide) (Nat.le_of_ble_eq_true rfl) (Cx.mono h.2 (kI.to (fun r2 σ1 h => ?_)) (xo rfl))
  refine sd_ifne (pc := 4) dJ5_inflate_4 (tgt := 8) (by decide) ⟨fun c12 => ?_, fun c12 => ?_⟩
  · have h := h.1 c12
    refine sd_aload_n (pc := 8) dJ5_inflate_8 rfl 0 rfl ?_
    refine sd_getR (pc := 9) dJ5_inflate_9 (ci := 14) rfl in_J6 (kf := 0) (by decide) q264 (h.mono (fun v3 h => ?_))
    refine sd_alenQ (pc := 12) dJ5_inflate_12 (h.mono (fun v4 h => ?_))
    refine sd_callS (k := (k + p28.1)) (n := (n + p28.2)) (As := [.int v4]) (st := []) (pc := 13) dJ5_inflate_13 q257 q258 q90 q259 1 (by decide +kernel) rfl (Nat.le_refl _) (by decide) (Nat.le_of_ble_eq_true rfl) (Cx.mono h (kA.to (fun r6 σ5 h => ?_)) (xo rfl))
    refine sd_astore_n (pc := 16) dJ5_inflate_16 rfl (by decide) (ls' := [(1, .ref r6), (0, .ref x0)]) rfl ?_
    refine sd_aload_n (pc := 17) dJ5_inflate_17 rfl 1 rfl ?_
    refine sd_getR (pc := 18) dJ5_inflate_18 (ci := 14) rfl in_J6 (kf := 0) (by decide) q264 (h.mono (fun v7 h => ?_))
    refine sd_iconst (pc := 21) dJ5_inflate_21 (v := 0) (by decide) ?_
    refine sd_aload_n (pc := 22) dJ5_inflate_22 rfl 0 rfl ?_
    refine sd_iconst (pc := 23) dJ5_inflate_23 (v := 0) (by decide) ?_
    refine sd_aload_n (pc := 24) dJ5_inflate_24 rfl 1 rfl ?_
    refine sd_getI (pc := 25) dJ5_inflate_25 (ci := 14) rfl in_J6 (kf := 3) (by decide) q268 (h.mono (fun v8 h => ?_))
    refine sd_callS (k := k) (n := n) (As := [.ref v7, .int (0 : Int32), .ref r6, .int (0 : Int32), .int v8]) (st := []) (pc := 28) dJ5_inflate_28 q640 q641 q106 q642 5 (by decide +kernel) rfl (Nat.le_refl _) (by decide) (Nat.le_of_ble_eq_true rfl) (Cx.mono h (kV.to (fun σ9 h => ?_)) (xo rfl))
    refine sd_aload_n (pc := 31) dJ5_inflate_31 rfl 1 rfl ?_
    refine sd_aload_n (pc := 32) dJ5_inflate_32 rfl 0 rfl ?_
    refine sd_putf (pc := 33) dJ5_inflate_33 (ci := 14) rfl in_J6 tyJ6 tyJ6_ok nmJ6 (kf := 0) (by decide) q264 rfl (ty := (.array .byte)) rfl rfl rfl (putV.mono h (fun σ10 h => ?_))
    refine sd_aload_n (pc := 36) dJ5_inflate_36 rfl 1 rfl ?_
    refine sd_iconst (pc := 37) dJ5_inflate_37 (v := 1) (by decide) ?_
    refine sd_putf (pc := 38) dJ5_inflate_38 (ci := 14) rfl in_J6 tyJ6 tyJ6_ok nmJ6 (kf := 1) (by decide) q265 rfl (ty := .byte) rfl rfl rfl (putV.mono h (fun σ11 h => ?_))
    exact sd_return (pc := 41) dJ5_inflate_41 rfl h
  · have h := h.2 c12
    refine Wx.more (k' := k) (n' := n) ?_ (by omega) (by omega)
    exact sd_return (pc := 7) dJ5_inflate_7 rfl h
theorem cx_J5_inflate {en : yEn} {d : Nat} {p13 : Nat × Nat} {p28 : Nat × Nat} {x0 : Nat} {σ : yH} {k n : Nat} {K : Option Value → yH → Prop} {X : String → Addr → yH → Prop} (h : wp_J5_inflate en d p13 p28 x0 σ k n K X) : Cx en (d + 1) (k + p28.1 + p13.1) (n + p28.2 + p13.2) mJ5_inflate [.ref x0] σ K X := Cx.body (by decide +kernel) rfl (Nat.le_of_ble_eq_true rfl) (ok_J5_inflate h)
/-! java/lang/String.coder()B -/
def wp_J7_coder (en : yEn) (d : Nat) (x0 : Nat) (σ : yH) (k n : Nat) (K : Option Value → yH → Prop) (X : String → Addr → yH → Prop) : Prop :=
  ((((1 : Int32) = 0) → K (some (.int (1 : Int32))) σ) ∧ (¬ ((1 : Int32) = 0) → getI σ x0 15 1 (fun v1 => (narrow .byte (.int v1) = .int v1 ∧ K (some (.int v1)) σ))))
set_option maxHeartbeats 4000000 in
theorem ok_J7_coder {en : yEn} {d : Nat} {x0 : Nat} {σ : yH} {k n : Nat} {K : Option Value → yH → Prop} {X : String → Addr → yH → Prop} (h : wp_J7_coder en d  x0 σ k n K X) : Wx en (d + 1) mJ7_coder 0 [(0, .ref x0)] [] σ k n K X := by
  unfold wp_J7_coder at h
  refine sd_getsI (pc := 0) dJ7_coder_0 (z := 1) q626 q256 (lw_all_tbl q89) yn8 ?_
  refine sd_ifeq (pc := 3) dJ7_coder_3 (tgt := 13) (by decide) ⟨fun c2 => ?_, fun c2 => ?_⟩
  · have h := h.1 c2
    refine sd_iconst (pc := 13) dJ7_coder_13 (v := 1) (by decide) ?_
    exact sd_ireturn (pc := 14) dJ7_coder_14 (ty0 := .byte) rfl rfl h
  · have h := h.2 c2
    refine sd_aload_n (pc := 6) dJ7_coder_6 rfl 0 rfl ?_
    refine sd_getI (pc := 7) dJ7_coder_7 (ci := 15) rfl in_J7 (kf := 1) (by decide) q725 (h.mono (fun v1 h => ?_))
    refine sd_goto (pc := 10) dJ7_coder_10 (tgt := 14) (by decide) ?_
    exact sd_ireturn (pc := 14) dJ7_coder_14 (ty0 := .byte) rfl h.1 h.2
theorem cx_J7_coder {en : yEn} {d : Nat} {x0 : Nat} {σ : yH} {k n : Nat} {K : Option Value → yH → Prop} {X : String → Addr → yH → Prop} (h : wp_J7_coder en d  x0 σ k n K X) : Cx en (d + 1) k n mJ7_coder [.ref x0] σ K X := Cx.body (by decide +kernel) rfl (Nat.le_of_ble_eq_true rfl) (ok_J7_coder h)
/-! java/lang/AbstractStringBuilder.inflateIfNeededFor(Ljava/lang/String;)V -/
def wp_J5_inflateIfNeededFor (en : yEn) (d : Nat) (p18 : Nat × Nat) (x0 : Nat) (x1 : Nat) (σ : yH) (k n : Nat) (K : Option Value → yH → Prop) (X : String → Addr → yH → Prop) : Prop :=
  ((((1 : Int32) = 0) → K none σ) ∧ (¬ ((1 : Int32) = 0) → getI σ x0 14 1 (fun v1 => (isC σ x1 15 ∧ Cx en d 0 0 mJ7_coder [.ref x1] σ (kI (fun r3 σ2 => (((v1 = r3) → K none σ2) ∧ (¬ (v1 = r3) → (isC σ2 x0 14 ∧ Cx en d p18.1 p18.2 mJ5_inflate [.ref x0] σ2 (kV (fun σ4 => K none σ4)) X))))) X))))
set_option maxHeartbeats 4000000 in
theorem ok_J5_inflateIfNeededFor {en : yEn} {d : Nat} {p18 : Nat × Nat} {x0 : Nat} {x1 : Nat} {σ : yH} {k n : Nat} {K : Option Value → yH → Prop} {X : String → Addr → yH → Prop} (h : wp_J5_inflateIfNeededFor en d p18 x0 x1 σ k n K X) : Wx en (d + 1) mJ5_inflateIfNeededFor 0 [(0, .ref x0), (1, .ref x1)] [] σ (k + p18.1) (n + p18.2) K X := by
  unfold wp_J5_inflateIfNeededFor at h
  refine sd_getsI (pc := 0) dJ5_inflateIfNeededFor_0 (z := 1) q255 q256 (lw_all_tbl q89) yn8 ?_
  refine sd_ifeq (pc := 3) dJ5_inflateIfNeededFor_3 (tgt := 21) (by decide) ⟨fun c6 => ?_, fun c6 => ?_⟩
  · have h := h.1 c6
    refine Wx.more (k' := k) (n' := n) ?_ (by omega) (by omega)
    exact sd_return (pc := 21) dJ5_inflateIfNeededFor_21 rfl h
  · have h := h.2 c6
    refine sd_aload_n (pc := 6) dJ5_inflateIfNeededFor_6 rfl 0 rfl ?_
    refine sd_getI (pc := 7) dJ5_inflateIfNeededFor_7 (ci := 14) rfl in_J6 (kf := 1) (by decide) q265 (h.mono (fun v1 h => ?_))
    refine sd_aload_n (pc := 10) dJ5_inflateIfNeededFor_10 rfl 1 rfl ?_
    refine sd_callV (k := (k + p18.1)) (n := (n + p18.2)) (As := []) (st := [.int v1]) (pc := 11) dJ5_inflateIfNeededFor_11 (ci := 15) rfl h.1 rfl q635 q623 q624 q89 q625 0 (by decide +kernel) rfl (Nat.le_refl _) (by decide) (Nat.le_of_ble_eq_true rfl) (Cx.mono h.2 (kI.to (fun r3 σ2 h => ?_)) (xo rfl))
    refine sd_icmpeq (pc := 14) dJ5_inflateIfNeededFor_14 (tgt := 21) (by decide) ⟨fun c5 => ?_, fun c5 => ?_⟩
    · have h := h.1 c5
      refine Wx.more (k' := k) (n' := n) ?_ (by omega) (by omega)
      exact sd_return (pc := 21) dJ5_inflateIfNeededFor_21 rfl h
    · have h := h.2 c5
      refine sd_aload_n (pc := 17) dJ5_inflateIfNeededFor_17 rfl 0 rfl ?_
      refine sd_callP (k := k) (n := n) (As := []) (st := []) (pc := 18) dJ5_inflateIfNeededFor_18 (ci := 14) rfl h.1 q636 q638 q637 q563 rfl q87 q639 0 (by decide +kernel) rfl (Nat.le_refl _) (by decide) (Nat.le_of_ble_eq_true rfl) (Cx.mono h.2 (kV.to (fun σ4 h => ?_)) (xo rfl))
      exact sd_return (pc := 21) dJ5_inflateIfNeededFor_21 rfl h
theorem cx_J5_inflateIfNeededFor {en : yEn} {d : Nat} {p18 : Nat × Nat} {x0 : Nat} {x1 : Nat} {σ : yH} {k n : Nat} {K : Option Value → yH → Prop} {X : String → Addr → yH → Prop} (h : wp_J5_inflateIfNeededFor en d p18 x0 x1 σ k n K X) : Cx en (d + 1) (k + p18.1) (n + p18.2) mJ5_inflateIfNeededFor [.ref x0, .ref x1] σ K X := Cx.body (by decide +kernel) rfl (Nat.le_of_ble_eq_true rfl) (ok_J5_inflateIfNeededFor h)
/-! java/lang/String.getBytes([BIB)V -/
def wp_J7_getBytes (en : yEn) (d : Nat) (p40 : Nat × Nat) (x0 : Nat) (x1 : Nat) (x2 : Int32) (x3 : Int32) (σ : yH) (k n : Nat) (K : Option Value → yH → Prop) (X : String → Addr → yH → Prop) : Prop :=
  (isC σ x0 15 ∧ Cx en d 0 0 mJ7_coder [.ref x0] σ (kI (fun r2 σ1 => ((¬ (r2 = x3) → getR σ1 x0 15 0 (fun v3 => getR σ1 x0 15 0 (fun v4 => alenQ en σ1 v4 (fun v5 => Cx en d p40.1 p40.2 mJ20_inflate [.ref v3, .int (0 : Int32), .ref x1, .int x2, .int v5] σ1 (kV (fun σ6 => K none σ6)) X)))) ∧ ((r2 = x3) → getR σ1 x0 15 0 (fun v7 => getR σ1 x0 15 0 (fun v8 => alenQ en σ1 v8 (fun v9 => cpyI σ1 (en.2.2.2 1) v7 x1 (0 : Int32) (x2 <<< (x3 &&& 31)) v9 (fun x => fits .byte (.int x)) (fun σ10 => K none σ10)))))))) X)
set_option maxHeartbeats 4000000 in
theorem ok_J7_getBytes {en : yEn} {d : Nat} {p40 : Nat × Nat} {x0 : Nat} {x1 : Nat} {x2 : Int32} {x3 : Int32} {σ : yH} {k n : Nat} {K : Option Value → yH → Prop} {X : String → Addr → yH → Prop} (h : wp_J7_getBytes en d p40 x0 x1 x2 x3 σ k n K X) : Wx en (d + 1) mJ7_getBytes 0 [(0, .ref x0), (1, .ref x1), (2, .int x2), (3, .int x3)] [] σ (k + p40.1) (n + p40.2) K X := by
  unfold wp_J7_getBytes at h
  refine sd_aload_n (pc := 0) dJ7_getBytes_0 rfl 0 rfl ?_
  refine sd_callV (k := (k + p40.1)) (n := (n + p40.2)) (As := []) (st := []) (pc := 1) dJ7_getBytes_1 (ci := 15) rfl h.1 rfl q622 q623 q624 q89 q625 0 (by decide +kernel) rfl (Nat.le_refl _) (by decide) (Nat.le_of_ble_eq_true rfl) (Cx.mono h.2 (kI.to (fun r2 σ1 h => ?_)) (xo rfl))
  refine sd_iload_n (pc := 4) dJ7_getBytes_4 rfl 3 rfl ?_
  refine sd_icmpne (pc := 5) dJ7_getBytes_5 (tgt := 28) (by decide) ⟨fun c11 => ?_, fun c11 => ?_⟩
  · have h := h.1 c11
    refine sd_aload_n (pc := 28) dJ7_getBytes_28 rfl 0 rfl ?_
    refine sd_getR (pc := 29) dJ7_getBytes_29 (ci := 15) rfl in_J7 (kf := 0) (by decide) q724 (h.mono (fun v3 h => ?_))
    refine sd_iconst (pc := 32) dJ7_getBytes_32 (v := 0) (by decide) ?_
    refine sd_aload_n (pc := 33) dJ7_getBytes_33 rfl 1 rfl ?_
    refine sd_iload_n (pc := 34) dJ7_getBytes_34 rfl 2 rfl ?_
    refine sd_aload_n (pc := 35) dJ7_getBytes_35 rfl 0 rfl ?_
    refine sd_getR (pc := 36) dJ7_getBytes_36 (ci := 15) rfl in_J7 (kf := 0) (by decide) q724 (h.mono (fun v4 h => ?_))
    refine sd_alenQ (pc := 39) dJ7_getBytes_39 (h.mono (fun v5 h => ?_))
    refine sd_callS (k := k) (n := n) (As := [.ref v3, .int (0 : Int32), .ref x1, .int x2, .int v5]) (st := []) (pc := 40) dJ7_getBytes_40 q660 q641 q106 q642 5 (by decide +kernel) rfl (Nat.le_refl _) (by decide) (Nat.le_of_ble_eq_true rfl) (Cx.mono h (kV.to (fun σ6 h => ?_)) (xo rfl))
    exact sd_return (pc := 43) dJ7_getBytes_43 rfl h
  · have h := h.2 c11
    refine Wx.more (k' := k) (n' := n) ?_ (by omega) (by omega)
    refine sd_aload_n (pc := 8) dJ7_getBytes_8 rfl 0 rfl ?_
    refine sd_getR (pc := 9) dJ7_getBytes_9 (ci := 15) rfl in_J7 (kf := 0) (by decide) q724 (h.mono (fun v7 h => ?_))
    refine sd_iconst (pc := 12) dJ7_getBytes_12 (v := 0) (by decide) ?_
    refine sd_aload_n (pc := 13) dJ7_getBytes_13 rfl 1 rfl ?_
    refine sd_iload_n (pc := 14) dJ7_getBytes_14 rfl 2 rfl ?_
    refine sd_iload_n (pc := 15) dJ7_getBytes_15 rfl 3 rfl ?_
    refine sd_ishl (pc := 16) dJ7_getBytes_16 ?_
    refine sd_aload_n (pc := 17) dJ7_getBytes_17 rfl 0 rfl ?_
    refine sd_getR (pc := 18) dJ7_getBytes_18 (ci := 15) rfl in_J7 (kf := 0) (by decide) q724 (h.mono (fun v8 h => ?_))
    refine sd_alenQ (pc := 21) dJ7_getBytes_21 (h.mono (fun v9 h => ?_))
    refine sd_copyb (pc := 22) dJ7_getBytes_22 ⟨q659, q559, q558, q102⟩ (by omega) (Nat.le_of_ble_eq_true rfl) (h.mono (fun σ10 h => ?_))
    refine sd_goto (pc := 25) dJ7_getBytes_25 (tgt := 43) (by decide) ?_
    exact sd_return (pc := 43) dJ7_getBytes_43 rfl h
theorem cx_J7_getBytes {en : yEn} {d : Nat} {p40 : Nat × Nat} {x0 : Nat} {x1 : Nat} {x2 : Int32} {x3 : Int32} {σ : yH} {k n : Nat} {K : Option Value → yH → Prop} {X : String → Addr → yH → Prop} (h : wp_J7_getBytes en d p40 x0 x1 x2 x3 σ k n K X) : Cx en (d + 1) (k + p40.1) (n + p40.2) mJ7_getBytes [.ref x0, .ref x1, .int x2, .int x3] σ K X := Cx.body (by decide +kernel) rfl (Nat.le_of_ble_eq_true rfl) (ok_J7_getBytes h)
/-! java/lang/AbstractStringBuilder.putStringAt(ILjava/lang/String;)V -/
def wp_J5_putStringAt (en : yEn) (d : Nat) (p2 : Nat × Nat) (p15 : Nat × Nat) (x0 : Nat) (x1 : Int32) (x2 : Nat) (σ : yH) (k n : Nat) (K : Option Value → yH → Prop) (X : String → Addr → yH → Prop) : Prop :=
  (isC σ x0 14 ∧ Cx en d p2.1 p2.2 mJ5_inflateIfNeededFor [.ref x0, .ref x2] σ (kV (fun σ1 => getR σ1 x0 14 0 (fun v2 => getI σ1 x0 14 1 (fun v3 => (isC σ1 x2 15 ∧ Cx en d p15.1 p15.2 mJ7_getBytes [.ref x2, .ref v2, .int x1, .int v3] σ1 (kV (fun σ4 => K none σ4)) X))))) X)
set_option maxHeartbeats 4000000 in
theorem ok_J5_putStringAt {en : yEn} {d : Nat} {p2 : Nat × Nat} {p15 : Nat × Nat} {x0 : Nat} {x1 : Int32} {x2 : Nat} {σ : yH} {k n : Nat} {K : Option Value → yH → Prop} {X : String → Addr → yH → Prop} (h : wp_J5_putStringAt en d p2 p15 x0 x1 x2 σ k n K X) : Wx en (d + 1) mJ5_putStringAt 0 [(0, .ref x0), (1, .int x1), (2, .ref x2)] [] σ (k + p15.1 + p2.1) (n + p15.2 + p2.2) K X := by
  unfold wp_J5_putStringAt at h
  refine sd_aload_n (pc := 0) dJ5_putStringAt_0 rfl 0 rfl ?_
  refine sd_aload_n (pc := 1) dJ5_putStringAt_1 rfl 2 rfl ?_
  refine sd_callP (k := (k + p15.1)) (n := (n + p15.2)) (As := [.ref x2]) (st := []) (pc := 2) dJ5_putStringAt_2 (ci := 14) rfl h.1 q631 q633 q632 q563 rfl q87 q634 1 (by decide +kernel) rfl (Nat.le_refl _) (by decide) (Nat.le_of_ble_eq_true rfl) (Cx.mono h.2 (kV.to (fun σ1 h => ?_)) (xo rfl))
  refine sd_aload_n (pc := 5) dJ5_putStringAt_5 rfl 2 rfl ?_
  refine sd_aload_n (pc := 6) dJ5_putStringAt_6 rfl 0 rfl ?_
  refine sd_getR (pc := 7) dJ5_putStringAt_7 (ci := 14) rfl in_J6 (kf := 0) (by decide) q264 (h.mono (fun v2 h => ?_))
  refine sd_iload_n (pc := 10) dJ5_putStringAt_10 rfl 1 rfl ?_
  refine sd_aload_n (pc := 11) dJ5_putStringAt_11 rfl 0 rfl ?_
  refine sd_getI (pc := 12) dJ5_putStringAt_12 (ci := 14) rfl in_J6 (kf := 1) (by decide) q265 (h.mono (fun v3 h => ?_))
  refine sd_callV (k := k) (n := n) (As := [.ref v2, .int x1, .int v3]) (st := []) (pc := 15) dJ5_putStringAt_15 (ci := 15) rfl h.1 rfl q655 q656 q657 q89 q658 3 (by decide +kernel) rfl (Nat.le_refl _) (by decide) (Nat.le_of_ble_eq_true rfl) (Cx.mono h.2 (kV.to (fun σ4 h => ?_)) (xo rfl))
  exact sd_return (pc := 18) dJ5_putStringAt_18 rfl h
theorem cx_J5_putStringAt {en : yEn} {d : Nat} {p2 : Nat × Nat} {p15 : Nat × Nat} {x0 : Nat} {x1 : Int32} {x2 : Nat} {σ : yH} {k n : Nat} {K : Option Value → yH → Prop} {X : String → Addr → yH → Prop} (h : wp_J5_putStringAt en d p2 p15 x0 x1 x2 σ k n K X) : Cx en (d + 1) (k + p15.1 + p2.1) (n + p15.2 + p2.2) mJ5_putStringAt [.ref x0, .int x1, .ref x2] σ K X := Cx.body (by decide +kernel) rfl (Nat.le_of_ble_eq_true rfl) (ok_J5_putStringAt h)
/-! java/lang/String.length()I -/
def wp_J7_length (en : yEn) (d : Nat) (x0 : Nat) (σ : yH) (k n : Nat) (K : Option Value → yH → Prop) (X : String → Addr → yH → Prop) : Prop :=
  getR σ x0 15 0 (fun v1 => alenQ en σ v1 (fun v2 => (isC σ x0 15 ∧ Cx en d 0 0 mJ7_coder [.ref x0] σ (kI (fun r4 σ3 => K (some (.int (v2 >>> (r4 &&& 31)))) σ3)) X)))
set_option maxHeartbeats 4000000 in
theorem ok_J7_length {en : yEn} {d : Nat} {x0 : Nat} {σ : yH} {k n : Nat} {K : Option Value → yH → Prop} {X : String → Addr → yH → Prop} (h : wp_J7_length en d  x0 σ k n K X) : Wx en (d + 1) mJ7_length 0 [(0, .ref x0)] [] σ k n K X := by
  unfold wp_J7_length at h
  refine sd_aload_n (pc := 0) dJ7_length_0 rfl 0 rfl ?_
  refine sd_getR (pc := 1) dJ7_length_1 (ci := 15) rfl in_J7 (kf := 0) (by decide) q724 (h.mono (fun v1 h => ?_))
  refine sd_alenQ (pc := 4) dJ7_length_4 (h.mono (fun v2 h => ?_))
  refine sd_aload_n (pc := 5) dJ7_length_5 rfl 0 rfl ?_
  refine sd_callV (k := k) (n := n) (As := []) (st := [.int v2]) (pc := 6) dJ7_length_6 (ci := 15) rfl h.1 rfl q622 q623 q624 q89 q625 0 (by decide +kernel) rfl (Nat.le_refl _) (by decide) (Nat.le_of_ble_eq_true rfl) (Cx.mono h.2 (kI.to (fun r4 σ3 h => ?_)) (xo rfl))
  refine sd_ishr (pc := 9) dJ7_length_9 ?_
  exact sd_ireturn (pc := 10) dJ7_length_10 (ty0 := .int) rfl rfl h
theorem cx_J7_length {en : yEn} {d : Nat} {x0 : Nat} {σ : yH} {k n : Nat} {K : Option Value → yH → Prop} {X : String → Addr → yH → Prop} (h : wp_J7_length en d  x0 σ k n K X) : Cx en (d + 1) k n mJ7_length [.ref x0] σ K X := Cx.body (by decide +kernel) rfl (Nat.le_of_ble_eq_true rfl) (ok_J7_length h)
/-! java/lang/AbstractStringBuilder.append(Ljava/lang/String;)Ljava/lang/AbstractStringBuilder; -/
def wp_J5_append_2 (en : yEn) (d : Nat) (p21 : Nat × Nat) (p30 : Nat × Nat) (x0 : Nat) (x1 : Nat) (σ : yH) (k n : Nat) (K : Option Value → yH → Prop) (X : String → Addr → yH → Prop) : Prop :=
  (isC σ x1 15 ∧ Cx en d 0 0 mJ7_length [.ref x1] σ (kI (fun r2 σ1 => getI σ1 x0 14 3 (fun v3 => (isC σ1 x0 14 ∧ Cx en d p21.1 p21.2 mJ5_ensureCapacityInternal [.ref x0, .int (v3 + r2)] σ1 (kV (fun σ4 => getI σ4 x0 14 3 (fun v5 => (isC σ4 x0 14 ∧ Cx en d p30.1 p30.2 mJ5_putStringAt [.ref x0, .int v5, .ref x1] σ4 (kV (fun σ6 => getI σ6 x0 14 3 (fun v7 => (putV σ6 x0 14 3 (.int (v7 + r2)) (fun σ8 => K (some (.ref x0)) σ8))))) X)))) X)))) X)
set_option maxHeartbeats 4000000 in
theorem ok_J5_append_2 {en : yEn} {d : Nat} {p21 : Nat × Nat} {p30 : Nat × Nat} {x0 : Nat} {x1 : Nat} {σ : yH} {k n : Nat} {K : Option Value → yH → Prop} {X : String → Addr → yH → Prop} (h : wp_J5_append_2 en d p21 p30 x0 x1 σ k n K X) : Wx en (d + 1) mJ5_append_2 0 [(0, .ref x0), (1, .ref x1)] [] σ (k + p30.1 + p21.1) (n + p30.2 + p21.2) K X := by
  unfold wp_J5_append_2 at h
  refine sd_aload_n (pc := 0) dJ5_append_2_0 rfl 1 rfl ?_
  refine sd_ifnonnull (pc := 1) dJ5_append_2_1 (r := (some x1)) (tgt := 9) (by decide) ⟨fun c9 => ?_, fun c9 => ?_⟩
  · skip
    refine sd_aload_n (pc := 9) dJ5_append_2_9 rfl 1 rfl ?_
    refine sd_callV (k := (k + p30.1 + p21.1)) (n := (n + p30.2 + p21.2)) (As := []) (st := []) (pc := 10) dJ5_append_2_10 (ci := 15) rfl h.1 rfl q618 q619 q620 q89 q621 0 (by decide +kernel) rfl (Nat.le_refl _) (by decide) (Nat.le_of_ble_eq_true rfl) (Cx.mono h.2 (kI.to (fun r2 σ1 h => ?_)) (xo rfl))
    refine sd_istore_n (pc := 13) dJ5_append_2_13 rfl (by decide) (ls' := [(2, .int r2), (0, .ref x0), (1, .ref x1)]) rfl ?_
    refine sd_aload_n (pc := 14) dJ5_append_2_14 rfl 1 rfl ?_
    refine sd_aload_n (pc := 15) dJ5_append_2_15 rfl 1 rfl ?_
    refine sd_getI (pc := 16) dJ5_append_2_16 (ci := 14) rfl in_J6 (kf := 3) (by decide) q268 (h.mono (fun v3 h => ?_))
    refine sd_iload_n (pc := 19) dJ5_append_2_19 rfl 0 rfl ?_
    refine sd_iadd (pc := 20) dJ5_append_2_20 ?_
    refine sd_callP (k := (k + p30.1)) (n := (n + p30.2)) (As := [.int (v3 + r2)]) (st := []) (pc := 21) dJ5_append_2_21 (ci := 14) rfl h.1 q525 q527 q526 q563 rfl q87 q528 1 (by decide +kernel) rfl (Nat.le_refl _) (by decide) (Nat.le_of_ble_eq_true rfl) (Cx.mono h.2 (kV.to (fun σ4 h => ?_)) (xo rfl))
    refine sd_aload_n (pc := 24) dJ5_append_2_24 rfl 1 rfl ?_
    refine sd_aload_n (pc := 25) dJ5_append_2_25 rfl 1 rfl ?_
    refine sd_getI (pc := 26) dJ5_append_2_26 (ci := 14) rfl in_J6 (kf := 3) (by decide) q268 (h.mono (fun v5 h => ?_))
    refine sd_aload_n (pc := 29) dJ5_append_2_29 rfl 2 rfl ?_
    refine sd_callP (k := k) (n := n) (As := [.int v5, .ref x1]) (st := []) (pc := 30) dJ5_append_2_30 (ci := 14) rfl h.1 q627 q629 q628 q563 rfl q87 q630 2 (by decide +kernel) rfl (Nat.le_refl _) (by decide) (Nat.le_of_ble_eq_true rfl) (Cx.mono h.2 (kV.to (fun σ6 h => ?_)) (xo rfl))
    refine sd_aload_n (pc := 33) dJ5_append_2_33 rfl 1 rfl ?_
    refine sd_dup (pc := 34) dJ5_append_2_34 rfl ?_
    refine sd_getI (pc := 35) dJ5_append_2_35 (ci := 14) rfl in_J6 (kf := 3) (by decide) q268 (h.mono (fun v7 h => ?_))
    refine sd_iload_n (pc := 38) dJ5_append_2_38 rfl 0 rfl ?_
    refine sd_iadd (pc := 39) dJ5_append_2_39 ?_
    refine sd_putf (pc := 40) dJ5_append_2_40 (ci := 14) rfl in_J6 tyJ6 tyJ6_ok nmJ6 (kf := 3) (by decide) q268 rfl (ty := .int) rfl rfl rfl (putV.mono h (fun σ8 h => ?_))
    refine sd_aload_n (pc := 43) dJ5_append_2_43 rfl 1 rfl ?_
    exact sd_areturn (r := (some x0)) (pc := 44) dJ5_append_2_44 rfl (Or.inl ⟨_, rfl⟩) h
  · simp at c9
theorem cx_J5_append_2 {en : yEn} {d : Nat} {p21 : Nat × Nat} {p30 : Nat × Nat} {x0 : Nat} {x1 : Nat} {σ : yH} {k n : Nat} {K : Option Value → yH → Prop} {X : String → Addr → yH → Prop} (h : wp_J5_append_2 en d p21 p30 x0 x1 σ k n K X) : Cx en (d + 1) (k + p30.1 + p21.1) (n + p30.2 + p21.2) mJ5_append_2 [.ref x0, .ref x1] σ K X := Cx.body (by decide +kernel) rfl (Nat.le_of_ble_eq_true rfl) (ok_J5_append_2 h)
/-! java/lang/StringBuilder.append(Ljava/lang/String;)Ljava/lang/StringBuilder; -/
def wp_J6_append_2 (en : yEn) (d : Nat) (p2 : Nat × Nat) (x0 : Nat) (x1 : Nat) (σ : yH) (k n : Nat) (K : Option Value → yH → Prop) (X : String → Addr → yH → Prop) : Prop :=
  (isC σ x0 14 ∧ Cx en d p2.1 p2.2 mJ5_append_2 [.ref x0, .ref x1] σ (kA (fun r2 σ1 => K (some (.ref x0)) σ1)) X)
set_option maxHeartbeats 4000000 in
theorem ok_J6_append_2 {en : yEn} {d : Nat} {p2 : Nat × Nat} {x0 : Nat} {x1 : Nat} {σ : yH} {k n : Nat} {K : Option Value → yH → Prop} {X : String → Addr → yH → Prop} (h : wp_J6_append_2 en d p2 x0 x1 σ k n K X) : Wx en (d + 1) mJ6_append_2 0 [(0, .ref x0), (1, .ref x1)] [] σ (k + p2.1) (n + p2.2) K X := by
  unfold wp_J6_append_2 at h
  refine sd_aload_n (pc := 0) dJ6_append_2_0 rfl 0 rfl ?_
  refine sd_aload_n (pc := 1) dJ6_append_2_1 rfl 1 rfl ?_
  refine sd_callSU (k := k) (n := n) (As := [.ref x1]) (st := []) (pc := 2) dJ6_append_2_2 (ci := 14) rfl h.1 q608 q2584 q277 q609 q87 q610 (by decide) 1 (by decide +kernel) rfl (Nat.le_refl _) (by decide) (Nat.le_of_ble_eq_true rfl) (Cx.mono h.2 (kA.to (fun r2 σ1 h => ?_)) (xo rfl))
  refine sd_pop (pc := 5) dJ6_append_2_5 rfl ?_
  refine sd_aload_n (pc := 6) dJ6_append_2_6 rfl 0 rfl ?_
  exact sd_areturn (r := (some x0)) (pc := 7) dJ6_append_2_7 rfl (Or.inl ⟨_, rfl⟩) h
theorem cx_J6_append_2 {en : yEn} {d : Nat} {p2 : Nat × Nat} {x0 : Nat} {x1 : Nat} {σ : yH} {k n : Nat} {K : Option Value → yH → Prop} {X : String → Addr → yH → Prop} (h : wp_J6_append_2 en d p2 x0 x1 σ k n K X) : Cx en (d + 1) (k + p2.1) (n + p2.2) mJ6_append_2 [.ref x0, .ref x1] σ K X := Cx.body (by decide +kernel) rfl (Nat.le_of_ble_eq_true rfl) (ok_J6_append_2 h)
/-! java/lang/AbstractStringBuilder.<init>(I)V -/
def wp_J5_init (en : yEn) (d : Nat) (p27 : Nat × Nat) (p12 : Nat × Nat) (x0 : Nat) (x1 : Int32) (σ : yH) (k n : Nat) (K : Option Value → yH → Prop) (X : String → Addr → yH → Prop) : Prop :=
  ((((1 : Int32) = 0) → Cx en d p27.1 p27.2 mJ8_newBytesFor [.int x1] σ (kA (fun r2 σ1 => (putV σ1 x0 14 0 (.ref r2) (fun σ3 => (putV σ3 x0 14 1 (.int (1 : Int32)) (fun σ4 => K none σ4)))))) X) ∧ (¬ ((1 : Int32) = 0) → (∃ M9 : Nat, ¬ x1 < 0 ∧ x1.toNatClampNeg = M9 ∧ M9 * componentBytes .byte ≤ 536870912 ∧ 1 ≤ p12.1 ∧ M9 ≤ p12.2 ∧ newV σ (.inl (en.2.2.2 1, M9, .inl (fun _ => 0))) (fun a5 σ6 => (putV σ6 x0 14 0 (.ref a5) (fun σ7 => (putV σ7 x0 14 1 (.int (0 : Int32)) (fun σ8 => K none σ8))))))))
set_option maxHeartbeats 4000000 in
theorem ok_J5_init {en : yEn} {d : Nat} {p27 : Nat × Nat} {p12 : Nat × Nat} {x0 : Nat} {x1 : Int32} {σ : yH} {k n : Nat} {K : Option Value → yH → Prop} {X : String → Addr → yH → Prop} (h : wp_J5_init en d p27 p12 x0 x1 σ k n K X) : Wx en (d + 1) mJ5_init 0 [(0, .ref x0), (1, .int x1)] [] σ (k + p27.1 + p12.1) (n + p27.2 + p12.2) K X := by
  unfold wp_J5_init at h
  refine sd_aload_n (pc := 0) dJ5_init_0 rfl 0 rfl ?_
  refine sd_objInit (pc := 1) dJ5_init_1 q254 q126 q127 (by omega) (Nat.le_of_ble_eq_true rfl) ?_
  refine sd_getsI (pc := 4) dJ5_init_4 (z := 1) q255 q256 (lw_all_tbl q89) yn8 ?_
  refine sd_ifeq (pc := 7) dJ5_init_7 (tgt := 25) (by decide) ⟨fun c10 => ?_, fun c10 => ?_⟩
  · have h := h.1 c10
    refine Wx.more (k' := (k + p27.1)) (n' := (n + p27.2)) ?_ (by omega) (by omega)
    refine sd_aload_n (pc := 25) dJ5_init_25 rfl 0 rfl ?_
    refine sd_iload_n (pc := 26) dJ5_init_26 rfl 1 rfl ?_
    refine sd_callS (k := k) (n := n) (As := [.int x1]) (st := [.ref x0]) (pc := 27) dJ5_init_27 q257 q258 q90 q259 1 (by decide +kernel) rfl (Nat.le_refl _) (by decide) (Nat.le_of_ble_eq_true rfl) (Cx.mono h (kA.to (fun r2 σ1 h => ?_)) (xo rfl))
    refine sd_putf (pc := 30) dJ5_init_30 (ci := 14) rfl in_J6 tyJ6 tyJ6_ok nmJ6 (kf := 0) (by decide) q264 rfl (ty := (.array .byte)) rfl rfl rfl (putV.mono h (fun σ3 h => ?_))
    refine sd_aload_n (pc := 33) dJ5_init_33 rfl 0 rfl ?_
    refine sd_iconst (pc := 34) dJ5_init_34 (v := 1) (by decide) ?_
    refine sd_putf (pc := 35) dJ5_init_35 (ci := 14) rfl in_J6 tyJ6 tyJ6_ok nmJ6 (kf := 1) (by decide) q265 rfl (ty := .byte) rfl rfl rfl (putV.mono h (fun σ4 h => ?_))
    exact sd_return (pc := 38) dJ5_init_38 rfl h
  · have h := h.2 c10
    refine Wx.more (k' := (k + p12.1)) (n' := (n + p12.2)) ?_ (by omega) (by omega)
    refine sd_aload_n (pc := 10) dJ5_init_10 rfl 0 rfl ?_
    refine sd_iload_n (pc := 11) dJ5_init_11 rfl 1 rfl ?_
    obtain ⟨M9, g1, g2, g3, g4, g5, h⟩ := h
    refine Wx.more (k' := k + 1) (n' := n + M9) ?_ (by omega) (by omega)
    refine sd_newa_byte (k := k) (n := n) (pc := 12) dJ5_init_12 q278 g1 g2 g3 (h.mono (fun a5 σ6 h => ?_))
    refine sd_putf (pc := 14) dJ5_init_14 (ci := 14) rfl in_J6 tyJ6 tyJ6_ok nmJ6 (kf := 0) (by decide) q264 rfl (ty := (.array .byte)) rfl rfl rfl (putV.mono h (fun σ7 h => ?_))
    refine sd_aload_n (pc := 17) dJ5_init_17 rfl 0 rfl ?_
    refine sd_iconst (pc := 18) dJ5_init_18 (v := 0) (by decide) ?_
    refine sd_putf (pc := 19) dJ5_init_19 (ci := 14) rfl in_J6 tyJ6 tyJ6_ok nmJ6 (kf := 1) (by decide) q265 rfl (ty := .byte) rfl rfl rfl (putV.mono h (fun σ8 h => ?_))
    refine sd_goto (pc := 22) dJ5_init_22 (tgt := 38) (by decide) ?_
    exact sd_return (pc := 38) dJ5_init_38 rfl h
theorem cx_J5_init {en : yEn} {d : Nat} {p27 : Nat × Nat} {p12 : Nat × Nat} {x0 : Nat} {x1 : Int32} {σ : yH} {k n : Nat} {K : Option Value → yH → Prop} {X : String → Addr → yH → Prop} (h : wp_J5_init en d p27 p12 x0 x1 σ k n K X) : Cx en (d + 1) (k + p27.1 + p12.1) (n + p27.2 + p12.2) mJ5_init [.ref x0, .int x1] σ K X := Cx.body (by decide +kernel) rfl (Nat.le_of_ble_eq_true rfl) (ok_J5_init h)
/-! java/lang/StringBuilder.<init>()V -/
def wp_J6_init (en : yEn) (d : Nat) (p3 : Nat × Nat) (x0 : Nat) (σ : yH) (k n : Nat) (K : Option Value → yH → Prop) (X : String → Addr → yH → Prop) : Prop :=
  Cx en d p3.1 p3.2 mJ5_init [.ref x0, .int (16 : Int32)] σ (kV (fun σ1 => K none σ1)) X
set_option maxHeartbeats 4000000 in
theorem ok_J6_init {en : yEn} {d : Nat} {p3 : Nat × Nat} {x0 : Nat} {σ : yH} {k n : Nat} {K : Option Value → yH → Prop} {X : String → Addr → yH → Prop} (h : wp_J6_init en d p3 x0 σ k n K X) : Wx en (d + 1) mJ6_init 0 [(0, .ref x0)] [] σ (k + p3.1) (n + p3.2) K X := by
  unfold wp_J6_init at h
  refine sd_aload_n (pc := 0) dJ6_init_0 rfl 0 rfl ?_
  refine sd_bipush (pc := 1) dJ6_init_1 (v := 16) (by decide) ?_
  refine sd_callI (k := k) (n := n) (As := [.int (16 : Int32)]) (st := []) (pc := 3) dJ6_init_3 q251 q252 q87 q253 rfl 1 (by decide +kernel) rfl (Nat.le_refl _) (by decide) (Nat.le_of_ble_eq_true rfl) (Cx.mono h (kV.to (fun σ1 h => ?_)) (xo rfl))
  exact sd_return (pc := 6) dJ6_init_6 rfl h
theorem cx_J6_init {en : yEn} {d : Nat} {p3 : Nat × Nat} {x0 : Nat} {σ : yH} {k n : Nat} {K : Option Value → yH → Prop} {X : String → Addr → yH → Prop} (h : wp_J6_init en d p3 x0 σ k n K X) : Cx en (d + 1) (k + p3.1) (n + p3.2) mJ6_init [.ref x0] σ K X := Cx.body (by decide +kernel) rfl (Nat.le_of_ble_eq_true rfl) (ok_J6_init h)
/-! java/lang/AbstractStringBuilder.getValue()[B -/
def wp_J5_getValue (en : yEn) (d : Nat) (x0 : Nat) (σ : yH) (k n : Nat) (K : Option Value → yH → Prop) (X : String → Addr → yH → Prop) : Prop :=
  getR σ x0 14 0 (fun v1 => K (some (.ref v1)) σ)
set_option maxHeartbeats 4000000 in
theorem ok_J5_getValue {en : yEn} {d : Nat} {x0 : Nat} {σ : yH} {k n : Nat} {K : Option Value → yH → Prop} {X : String → Addr → yH → Prop} (h : wp_J5_getValue en d  x0 σ k n K X) : Wx en (d + 1) mJ5_getValue 0 [(0, .ref x0)] [] σ k n K X := by
  unfold wp_J5_getValue at h
  refine sd_aload_n (pc := 0) dJ5_getValue_0 rfl 0 rfl ?_
  refine sd_getR (pc := 1) dJ5_getValue_1 (ci := 14) rfl in_J6 (kf := 0) (by decide) q264 (h.mono (fun v1 h => ?_))
  exact sd_areturn (r := (some v1)) (pc := 4) dJ5_getValue_4 rfl (Or.inr ⟨_, rfl⟩) h
theorem cx_J5_getValue {en : yEn} {d : Nat} {x0 : Nat} {σ : yH} {k n : Nat} {K : Option Value → yH → Prop} {X : String → Addr → yH → Prop} (h : wp_J5_getValue en d  x0 σ k n K X) : Cx en (d + 1) k n mJ5_getValue [.ref x0] σ K X := Cx.body (by decide +kernel) rfl (Nat.le_of_ble_eq_true rfl) (ok_J5_getValue h)
/-! java/lang/AbstractStringBuilder.length()I -/
def wp_J5_length (en : yEn) (d : Nat) (x0 : Nat) (σ : yH) (k n : Nat) (K : Option Value → yH → Prop) (X : String → Addr → yH → Prop) : Prop :=
  getI σ x0 14 3 (fun v1 => K (some (.int v1)) σ)
set_option maxHeartbeats 4000000 in
theorem ok_J5_length {en : yEn} {d : Nat} {x0 : Nat} {σ : yH} {k n : Nat} {K : Option Value → yH → Prop} {X : String → Addr → yH → Prop} (h : wp_J5_length en d  x0 σ k n K X) : Wx en (d + 1) mJ5_length 0 [(0, .ref x0)] [] σ k n K X := by
  unfold wp_J5_length at h
  refine sd_aload_n (pc := 0) dJ5_length_0 rfl 0 rfl ?_
  refine sd_getI (pc := 1) dJ5_length_1 (ci := 14) rfl in_J6 (kf := 3) (by decide) q268 (h.mono (fun v1 h => ?_))
  exact sd_ireturn (pc := 4) dJ5_length_4 (ty0 := .int) rfl rfl h
theorem cx_J5_length {en : yEn} {d : Nat} {x0 : Nat} {σ : yH} {k n : Nat} {K : Option Value → yH → Prop} {X : String → Addr → yH → Prop} (h : wp_J5_length en d  x0 σ k n K X) : Cx en (d + 1) k n mJ5_length [.ref x0] σ K X := Cx.body (by decide +kernel) rfl (Nat.le_of_ble_eq_true rfl) (ok_J5_length h)
/-! java/lang/StringBuilder.length()I -/
def wp_J6_length (en : yEn) (d : Nat) (x0 : Nat) (σ : yH) (k n : Nat) (K : Option Value → yH → Prop) (X : String → Addr → yH → Prop) : Prop :=
  (isC σ x0 14 ∧ Cx en d 0 0 mJ5_length [.ref x0] σ (kI (fun r2 σ1 => K (some (.int r2)) σ1)) X)
set_option maxHeartbeats 4000000 in
theorem ok_J6_length {en : yEn} {d : Nat} {x0 : Nat} {σ : yH} {k n : Nat} {K : Option Value → yH → Prop} {X : String → Addr → yH → Prop} (h : wp_J6_length en d  x0 σ k n K X) : Wx en (d + 1) mJ6_length 0 [(0, .ref x0)] [] σ k n K X := by
  unfold wp_J6_length at h
  refine sd_aload_n (pc := 0) dJ6_length_0 rfl 0 rfl ?_
  refine sd_callSU (k := k) (n := n) (As := []) (st := []) (pc := 1) dJ6_length_1 (ci := 14) rfl h.1 q685 q681 q277 q680 q87 q686 (by decide) 0 (by decide +kernel) rfl (Nat.le_refl _) (by decide) (Nat.le_of_ble_eq_true rfl) (Cx.mono h.2 (kI.to (fun r2 σ1 h => ?_)) (xo rfl))
  exact sd_ireturn (pc := 4) dJ6_length_4 (ty0 := .int) rfl rfl h
theorem cx_J6_length {en : yEn} {d : Nat} {x0 : Nat} {σ : yH} {k n : Nat} {K : Option Value → yH → Prop} {X : String → Addr → yH → Prop} (h : wp_J6_length en d  x0 σ k n K X) : Cx en (d + 1) k n mJ6_length [.ref x0] σ K X := Cx.body (by decide +kernel) rfl (Nat.le_of_ble_eq_true rfl) (ok_J6_length h)
/-! java/lang/String.<init>(Ljava/lang/AbstractStringBuilder;Ljava/lang/Void;)V -/
def wp_J7_init_2 (en : yEn) (d : Nat) (p91 : Nat × Nat) (p59 : Nat × Nat) (p32 : Nat × Nat) (x0 : Nat) (x1 : Nat) (x2 : Nat) (σ : yH) (k n : Nat) (K : Option Value → yH → Prop) (X : String → Addr → yH → Prop) : Prop :=
  (isC σ x1 14 ∧ Cx en d 0 0 mJ5_getValue [.ref x1] σ (kA (fun r2 σ1 => (isC σ1 x1 14 ∧ Cx en d 0 0 mJ6_length [.ref x1] σ1 (kI (fun r4 σ3 => (isC σ3 x1 14 ∧ Cx en d 0 0 mJ5_isLatin1 [.ref x1] σ3 (kI (fun r6 σ5 => (((r6 = 0) → ((((1 : Int32) = 0) → (putV σ5 x0 15 1 (.int (1 : Int32)) (fun σ7 => Cx en d p91.1 p91.2 mJ3_copyOfRange_2 [.ref r2, .int (0 : Int32), .int (r4 <<< ((1 : Int32) &&& 31))] σ7 (kA (fun r9 σ8 => (putV σ8 x0 15 0 (.ref r9) (fun σ10 => K none σ10)))) X))) ∧ (¬ ((1 : Int32) = 0) → getI σ5 x1 14 2 (fun v11 => (((v11 = 0) → (putV σ5 x0 15 1 (.int (1 : Int32)) (fun σ12 => Cx en d p91.1 p91.2 mJ3_copyOfRange_2 [.ref r2, .int (0 : Int32), .int (r4 <<< ((1 : Int32) &&& 31))] σ12 (kA (fun r14 σ13 => (putV σ13 x0 15 0 (.ref r14) (fun σ15 => K none σ15)))) X))) ∧ (¬ (v11 = 0) → Cx en d p59.1 p59.2 mJ8_compress [.ref r2, .int (0 : Int32), .int r4] σ5 (kA (fun r17 σ16 => (putV σ16 x0 15 0 (.ref r17) (fun σ18 => getR σ18 x0 15 0 (fun v19 => Cx en d 0 0 mJ8_coderFromArrayLen [.ref v19, .int r4] σ18 (kI (fun r21 σ20 => (narrow .byte (.int r21) = .int r21 ∧ fits .byte (.int r21) = true ∧ putV σ20 x0 15 1 (.int r21) (fun σ22 => K none σ22)))) X))))) X)))))) ∧ (¬ (r6 = 0) → (putV σ5 x0 15 1 (.int (0 : Int32)) (fun σ25 => Cx en d p32.1 p32.2 mJ3_copyOfRange_2 [.ref r2, .int (0 : Int32), .int r4] σ25 (kA (fun r27 σ26 => (putV σ26 x0 15 0 (.ref r27) (fun σ28 => K none σ28)))) X)))))) X))) X))) X)
set_option maxHeartbeats 4000000 in
theorem ok_J7_init_2 {en : yEn} {d : Nat} {p91 : Nat × Nat} {p59 : Nat × Nat} {p32 : Nat × Nat} {x0 : Nat} {x1 : Nat} {x2 : Nat} {σ : yH} {k n : Nat} {K : Option Value → yH → Prop} {X : String → Addr → yH → Prop} (h : wp_J7_init_2 en d p91 p59 p32 x0 x1 x2 σ k n K X) : Wx en (d + 1) mJ7_init_2 0 [(0, .ref x0), (1, .ref x1), (2, .ref x2)] [] σ (k + p91.1 + p59.1 + p32.1) (n + p91.2 + p59.2 + p32.2) K X := by
  unfold wp_J7_init_2 at h
  refine sd_aload_n (pc := 0) dJ7_init_2_0 rfl 0 rfl ?_
  refine sd_objInit (pc := 1) dJ7_init_2_1 q673 q126 q127 (by omega) (Nat.le_of_ble_eq_true rfl) ?_
  refine sd_aload_n (pc := 4) dJ7_init_2_4 rfl 1 rfl ?_
  refine sd_callU (k := (k + p91.1 + p59.1 + p32.1)) (n := (n + p91.2 + p59.2 + p32.2)) (As := []) (st := []) (pc := 5) dJ7_init_2_5 (ci := 14) rfl h.1 (owner := "java/lang/AbstractStringBuilder") rfl q674 q676 q675 q677 q87 q678 0 (by decide +kernel) rfl 0 (by decide +kernel) rfl (Nat.le_refl _) (by decide) (Nat.le_of_ble_eq_true rfl) (Cx.mono h.2 (kA.to (fun r2 σ1 h => ?_)) (xo rfl))
  refine sd_astore_n (pc := 8) dJ7_init_2_8 rfl (by decide) (ls' := [(3, .ref r2), (0, .ref x0), (1, .ref x1), (2, .ref x2)]) rfl ?_
  refine sd_aload_n (pc := 9) dJ7_init_2_9 rfl 2 rfl ?_
  refine sd_callO (k := (k + p91.1 + p59.1 + p32.1)) (n := (n + p91.2 + p59.2 + p32.2)) (As := []) (st := []) (pc := 10) dJ7_init_2_10 (ci := 14) rfl h.1 (owner := "java/lang/AbstractStringBuilder") q686 q680 q679 q681 q683 q682 q88 q684 0 (by decide +kernel) rfl 0 (by decide +kernel) rfl (Nat.le_refl _) (by decide) (Nat.le_of_ble_eq_true rfl) (Cx.mono h.2 (kI.to (fun r4 σ3 h => ?_)) (xo rfl))
  refine sd_istore (pc := 13) dJ7_init_2_13 (by decide) (ls' := [(4, .int r4), (3, .ref r2), (0, .ref x0), (1, .ref x1), (2, .ref x2)]) rfl ?_
  refine sd_aload_n (pc := 15) dJ7_init_2_15 rfl 3 rfl ?_
  refine sd_callU (k := (k + p91.1 + p59.1 + p32.1)) (n := (n + p91.2 + p59.2 + p32.2)) (As := []) (st := []) (pc := 16) dJ7_init_2_16 (ci := 14) rfl h.1 (owner := "java/lang/AbstractStringBuilder") rfl q687 q562 q561 q563 q87 q564 0 (by decide +kernel) rfl 0 (by decide +kernel) rfl (Nat.le_refl _) (by decide) (Nat.le_of_ble_eq_true rfl) (Cx.mono h.2 (kI.to (fun r6 σ5 h => ?_)) (xo rfl))
  refine sd_ifeq (pc := 19) dJ7_init_2_19 (tgt := 41) (by decide) ⟨fun c29 => ?_, fun c29 => ?_⟩
  · have h := h.1 c29
    refine Wx.more (k' := (k + p91.1 + p59.1)) (n' := (n + p91.2 + p59.2)) ?_ (by omega) (by omega)
    refine sd_getsI (pc := 41) dJ7_init_2_41 (z := 1) q626 q256 (lw_all_tbl q89) yn8 ?_
    refine sd_ifeq (pc := 44) dJ7_init_2_44 (tgt := 79) (by decide) ⟨fun c24 => ?_, fun c24 => ?_⟩
    · have h := h.1 c24
      refine Wx.more (k' := (k + p91.1)) (n' := (n + p91.2)) ?_ (by omega) (by omega)
      refine sd_aload_n (pc := 79) dJ7_init_2_79 rfl 2 rfl ?_
      refine sd_iconst (pc := 80) dJ7_init_2_80 (v := 1) (by decide) ?_
      refine sd_putfF (pc := 81) dJ7_init_2_81 (ci := 15) rfl in_J7 tyJ7 tyJ7_ok nmJ7 (kf := 1) (by decide) q725 rfl rfl rfl (ty := .byte) rfl rfl rfl (putV.mono h (fun σ7 h => ?_))
      refine sd_aload_n (pc := 84) dJ7_init_2_84 rfl 2 rfl ?_
      refine sd_aload_n (pc := 85) dJ7_init_2_85 rfl 1 rfl ?_
      refine sd_iconst (pc := 86) dJ7_init_2_86 (v := 0) (by decide) ?_
      refine sd_iload (pc := 87) dJ7_init_2_87 0 rfl ?_
      refine sd_iconst (pc := 89) dJ7_init_2_89 (v := 1) (by decide) ?_
      refine sd_ishl (pc := 90) dJ7_init_2_90 ?_
      refine sd_callS (k := k) (n := n) (As := [.ref r2, .int (0 : Int32), .int (r4 <<< ((1 : Int32) &&& 31))]) (st := [.ref x0]) (pc := 91) dJ7_init_2_91 q688 q689 q85 q690 3 (by decide +kernel) rfl (Nat.le_refl _) (by decide) (Nat.le_of_ble_eq_true rfl) (Cx.mono h (kA.to (fun r9 σ8 h => ?_)) (xo rfl))
      refine sd_putfF (pc := 94) dJ7_init_2_94 (ci := 15) rfl in_J7 tyJ7 tyJ7_ok nmJ7 (kf := 0) (by decide) q724 rfl rfl rfl (ty := (.array .byte)) rfl rfl rfl (putV.mono h (fun σ10 h => ?_))
      exact sd_return (pc := 97) dJ7_init_2_97 rfl h
    · have h := h.2 c24
      refine sd_aload_n (pc := 47) dJ7_init_2_47 rfl 3 rfl ?_
      refine sd_getI (pc := 48) dJ7_init_2_48 (ci := 14) rfl in_J6 (kf := 2) (by decide) q267 (h.mono (fun v11 h => ?_))
      refine sd_ifeq (pc := 51) dJ7_init_2_51 (tgt := 79) (by decide) ⟨fun c23 => ?_, fun c23 => ?_⟩
      · have h := h.1 c23
        refine Wx.more (k' := (k + p91.1)) (n' := (n + p91.2)) ?_ (by omega) (by omega)
        refine sd_aload_n (pc := 79) dJ7_init_2_79 rfl 2 rfl ?_
        refine sd_iconst (pc := 80) dJ7_init_2_80 (v := 1) (by decide) ?_
        refine sd_putfF (pc := 81) dJ7_init_2_81 (ci := 15) rfl in_J7 tyJ7 tyJ7_ok nmJ7 (kf := 1) (by decide) q725 rfl rfl rfl (ty := .byte) rfl rfl rfl (putV.mono h (fun σ12 h => ?_))
        refine sd_aload_n (pc := 84) dJ7_init_2_84 rfl 2 rfl ?_
        refine sd_aload_n (pc := 85) dJ7_init_2_85 rfl 1 rfl ?_
        refine sd_iconst (pc := 86) dJ7_init_2_86 (v := 0) (by decide) ?_
        refine sd_iload (pc := 87) dJ7_init_2_87 0 rfl ?_
        refine sd_iconst (pc := 89) dJ7_init_2_89 (v := 1) (by decide) ?_
        refine sd_ishl (pc := 90) dJ7_init_2_90 ?_
        refine sd_callS (k := k) (n := n) (As := [.ref r2, .int (0 : Int32), .int (r4 <<< ((1 : Int32) &&& 31))]) (st := [.ref x0]) (pc := 91) dJ7_init_2_91 q688 q689 q85 q690 3 (by decide +kernel) rfl (Nat.le_refl _) (by decide) (Nat.le_of_ble_eq_true rfl) (Cx.mono h (kA.to (fun r14 σ13 h => ?_)) (xo rfl))
        refine sd_putfF (pc := 94) dJ7_init_2_94 (ci := 15) rfl in_J7 tyJ7 tyJ7_ok nmJ7 (kf := 0) (by decide) q724 rfl rfl rfl (ty := (.array .byte)) rfl rfl rfl (putV.mono h (fun σ15 h => ?_))
        exact sd_return (pc := 97) dJ7_init_2_97 rfl h
      · have h := h.2 c23
        refine Wx.more (k' := (k + p59.1)) (n' := (n + p59.2)) ?_ (by omega) (by omega)
        refine sd_aload_n (pc := 54) dJ7_init_2_54 rfl 2 rfl ?_
        refine sd_aload_n (pc := 55) dJ7_init_2_55 rfl 1 rfl ?_
        refine sd_iconst (pc := 56) dJ7_init_2_56 (v := 0) (by decide) ?_
        refine sd_iload (pc := 57) dJ7_init_2_57 0 rfl ?_
        refine sd_callS (k := k) (n := n) (As := [.ref r2, .int (0 : Int32), .int r4]) (st := [.ref x0]) (pc := 59) dJ7_init_2_59 q711 q712 q90 q713 3 (by decide +kernel) rfl (Nat.le_refl _) (by decide) (Nat.le_of_ble_eq_true rfl) (Cx.mono h (kA.to (fun r17 σ16 h => ?_)) (xo rfl))
        refine sd_putfF (pc := 62) dJ7_init_2_62 (ci := 15) rfl in_J7 tyJ7 tyJ7_ok nmJ7 (kf := 0) (by decide) q724 rfl rfl rfl (ty := (.array .byte)) rfl rfl rfl (putV.mono h (fun σ18 h => ?_))
        refine sd_aload_n (pc := 65) dJ7_init_2_65 rfl 2 rfl ?_
        refine sd_aload_n (pc := 66) dJ7_init_2_66 rfl 2 rfl ?_
        refine sd_getR (pc := 67) dJ7_init_2_67 (ci := 15) rfl in_J7 (kf := 0) (by decide) q724 (h.mono (fun v19 h => ?_))
        refine sd_iload (pc := 70) dJ7_init_2_70 0 rfl ?_
        refine sd_callS (k := k) (n := n) (As := [.ref v19, .int r4]) (st := [.ref x0]) (pc := 72) dJ7_init_2_72 q721 q722 q90 q723 2 (by decide +kernel) rfl (Nat.le_refl _) (by decide) (Nat.le_of_ble_eq_true rfl) (Cx.mono h (kI.to (fun r21 σ20 h => ?_)) (xo rfl))
        refine sd_putfF (pc := 75) dJ7_init_2_75 (ci := 15) rfl in_J7 tyJ7 tyJ7_ok nmJ7 (kf := 1) (by decide) q725 rfl rfl rfl (ty := .byte) rfl h.1 h.2.1 (putV.mono h.2.2 (fun σ22 h => ?_))
        exact sd_return (pc := 78) dJ7_init_2_78 rfl h
  · have h := h.2 c29
    refine Wx.more (k' := (k + p32.1)) (n' := (n + p32.2)) ?_ (by omega) (by omega)
    refine sd_aload_n (pc := 22) dJ7_init_2_22 rfl 2 rfl ?_
    refine sd_iconst (pc := 23) dJ7_init_2_23 (v := 0) (by decide) ?_
    refine sd_putfF (pc := 24) dJ7_init_2_24 (ci := 15) rfl in_J7 tyJ7 tyJ7_ok nmJ7 (kf := 1) (by decide) q725 rfl rfl rfl (ty := .byte) rfl rfl rfl (putV.mono h (fun σ25 h => ?_))
    refine sd_aload_n (pc := 27) dJ7_init_2_27 rfl 2 rfl ?_
    refine sd_aload_n (pc := 28) dJ7_init_2_28 rfl 1 rfl ?_
    refine sd_iconst (pc := 29) dJ7_init_2_29 (v := 0) (by decide) ?_
    refine sd_iload (pc := 30) dJ7_init_2_30 0 rfl ?_
    refine sd_callS (k := k) (n := n) (As := [.ref r2, .int (0 : Int32), .int r4]) (st := [.ref x0]) (pc := 32) dJ7_init_2_32 q688 q689 q85 q690 3 (by decide +kernel) rfl (Nat.le_refl _) (by decide) (Nat.le_of_ble_eq_true rfl) (Cx.mono h (kA.to (fun r27 σ26 h => ?_)) (xo rfl))
    refine sd_putfF (pc := 35) dJ7_init_2_35 (ci := 15) rfl in_J7 tyJ7 tyJ7_ok nmJ7 (kf := 0) (by decide) q724 rfl rfl rfl (ty := (.array .byte)) rfl rfl rfl (putV.mono h (fun σ28 h => ?_))
    refine sd_goto (pc := 38) dJ7_init_2_38 (tgt := 97) (by decide) ?_
    exact sd_return (pc := 97) dJ7_init_2_97 rfl h
theorem cx_J7_init_2 {en : yEn} {d : Nat} {p91 : Nat × Nat} {p59 : Nat × Nat} {p32 : Nat × Nat} {x0 : Nat} {x1 : Nat} {x2 : Nat} {σ : yH} {k n : Nat} {K : Option Value → yH → Prop} {X : String → Addr → yH → Prop} (h : wp_J7_init_2 en d p91 p59 p32 x0 x1 x2 σ k n K X) : Cx en (d + 1) (k + p91.1 + p59.1 + p32.1) (n + p91.2 + p59.2 + p32.2) mJ7_init_2 [.ref x0, .ref x1, .ref x2] σ K X := Cx.body (by decide +kernel) rfl (Nat.le_of_ble_eq_true rfl) (ok_J7_init_2 h)
/-! java/lang/String.<init>(Ljava/lang/StringBuilder;)V -/
def wp_J7_init (en : yEn) (d : Nat) (p3 : Nat × Nat) (x0 : Nat) (x1 : Nat) (σ : yH) (k n : Nat) (K : Option Value → yH → Prop) (X : String → Addr → yH → Prop) : Prop :=
  Cx en d p3.1 p3.2 mJ7_init_2 [.ref x0, .ref x1, .null] σ (kV (fun σ1 => K none σ1)) X
set_option maxHeartbeats 4000000 in
theorem ok_J7_init {en : yEn} {d : Nat} {p3 : Nat × Nat} {x0 : Nat} {x1 : Nat} {σ : yH} {k n : Nat} {K : Option Value → yH → Prop} {X : String → Addr → yH → Prop} (h : wp_J7_init en d p3 x0 x1 σ k n K X) : Wx en (d + 1) mJ7_init 0 [(0, .ref x0), (1, .ref x1)] [] σ (k + p3.1) (n + p3.2) K X := by
  unfold wp_J7_init at h
  refine sd_aload_n (pc := 0) dJ7_init_0 rfl 0 rfl ?_
  refine sd_aload_n (pc := 1) dJ7_init_1 rfl 1 rfl ?_
  refine sd_null (pc := 2) dJ7_init_2 ?_
  refine sd_callI (k := k) (n := n) (As := [.ref x1, .null]) (st := []) (pc := 3) dJ7_init_3 q670 q671 q89 q672 rfl 2 (by decide +kernel) rfl (Nat.le_refl _) (by decide) (Nat.le_of_ble_eq_true rfl) (Cx.mono h (kV.to (fun σ1 h => ?_)) (xo rfl))
  exact sd_return (pc := 6) dJ7_init_6 rfl h
theorem cx_J7_init {en : yEn} {d : Nat} {p3 : Nat × Nat} {x0 : Nat} {x1 : Nat} {σ : yH} {k n : Nat} {K : Option Value → yH → Prop} {X : String → Addr → yH → Prop} (h : wp_J7_init en d p3 x0 x1 σ k n K X) : Cx en (d + 1) (k + p3.1) (n + p3.2) mJ7_init [.ref x0, .ref x1] σ K X := Cx.body (by decide +kernel) rfl (Nat.le_of_ble_eq_true rfl) (ok_J7_init h)
/-! java/lang/StringBuilder.toString()Ljava/lang/String; -/
def wp_J6_toString (en : yEn) (d : Nat) (p5 : Nat × Nat) (x0 : Nat) (σ : yH) (k n : Nat) (K : Option Value → yH → Prop) (X : String → Addr → yH → Prop) : Prop :=
  newV σ (.inr (15, [.null, .int 0, .int 0, .int 0])) (fun a1 σ2 => Cx en d p5.1 p5.2 mJ7_init [.ref a1, .ref x0] σ2 (kV (fun σ3 => K (some (.ref a1)) σ3)) X)
set_option maxHeartbeats 4000000 in
theorem ok_J6_toString {en : yEn} {d : Nat} {p5 : Nat × Nat} {x0 : Nat} {σ : yH} {k n : Nat} {K : Option Value → yH → Prop} {X : String → Addr → yH → Prop} (h : wp_J6_toString en d p5 x0 σ k n K X) : Wx en (d + 1) mJ6_toString 0 [(0, .ref x0)] [] σ (k + 1 + p5.1) (n + 4 + p5.2) K X := by
  unfold wp_J6_toString at h
  refine Wx.more (k' := (k + p5.1) + 1) (n' := (n + p5.2) + 4) ?_ (by omega) (by omega)
  refine sd_new (k := (k + p5.1)) (n := (n + p5.2)) (pc := 0) dJ6_toString_0 (ci := 15) rfl in_J7 tyJ7 tyJ7_ok q665 q666 q89 (fs := [.null, .int 0, .int 0, .int 0]) (fun j hj => by rcases (show j = 0 ∨ j = 1 ∨ j = 2 ∨ j = 3 by omega) with rfl | rfl | rfl | rfl <;> rfl) (h.mono (fun a1 σ2 h => ?_))
  refine sd_dup (pc := 3) dJ6_toString_3 rfl ?_
  refine sd_aload_n (pc := 4) dJ6_toString_4 rfl 0 rfl ?_
  refine sd_callI (k := k) (n := n) (As := [.ref x0]) (st := [.ref a1]) (pc := 5) dJ6_toString_5 q667 q668 q89 q669 rfl 1 (by decide +kernel) rfl (Nat.le_refl _) (by decide) (Nat.le_of_ble_eq_true rfl) (Cx.mono h (kV.to (fun σ3 h => ?_)) (xo rfl))
  exact sd_areturn (r := (some a1)) (pc := 8) dJ6_toString_8 rfl (Or.inl ⟨_, rfl⟩) h
theorem cx_J6_toString {en : yEn} {d : Nat} {p5 : Nat × Nat} {x0 : Nat} {σ : yH} {k n : Nat} {K : Option Value → yH → Prop} {X : String → Addr → yH → Prop} (h : wp_J6_toString en d p5 x0 σ k n K X) : Cx en (d + 1) (k + 1 + p5.1) (n + 4 + p5.2) mJ6_toString [.ref x0] σ K X := Cx.body (by decide +kernel) rfl (Nat.le_of_ble_eq_true rfl) (ok_J6_toString h)
/-! java/lang/AbstractStringBuilder.ensureCapacityInternal(I)V -/
def wp_J5_ensureCapacityInternal (en : yEn) (d : Nat) (p24 : Nat × Nat) (p32 : Nat × Nat) (x0 : Nat) (x1 : Int32) (σ : yH) (k n : Nat) (K : Option Value → yH → Prop) (X : String → Addr → yH → Prop) : Prop :=
  getR σ x0 14 0 (fun v1 => alenQ en σ v1 (fun v2 => getI σ x0 14 1 (fun v3 => ((((x1 - (v2 >>> (v3 &&& 31))) ≤ 0) → K none σ) ∧ (¬ ((x1 - (v2 >>> (v3 &&& 31))) ≤ 0) → getR σ x0 14 0 (fun v4 => (isC σ x0 14 ∧ Cx en d p24.1 p24.2 mJ5_newCapacity [.ref x0, .int x1] σ (kI (fun r6 σ5 => getI σ5 x0 14 1 (fun v7 => Cx en d p32.1 p32.2 mJ3_copyOf [.ref v4, .int (r6 <<< (v7 &&& 31))] σ5 (kA (fun r9 σ8 => (putV σ8 x0 14 0 (.ref r9) (fun σ10 => K none σ10)))) X))) X)))))))
set_option maxHeartbeats 4000000 in
theorem ok_J5_ensureCapacityInternal {en : yEn} {d : Nat} {p24 : Nat × Nat} {p32 : Nat × Nat} {x0 : Nat} {x1 : Int32} {σ : yH} {k n : Nat} {K : Option Value → yH → Prop} {X : String → Addr → yH → Prop} (h : wp_J5_ensureCapacityInternal en d p24 p32 x0 x1 σ k n K X) : Wx en (d + 1) mJ5_ensureCapacityInternal 0 [(0, .ref x0), (1, .int x1)] [] σ (k + p32.1 + p24.1) (n + p32.2 + p24.2) K X := by
  unfold wp_J5_ensureCapacityInternal at h
  refine sd_aload_n (pc := 0) dJ5_ensureCapacityInternal_0 rfl 0 rfl ?_
  refine sd_getR (pc := 1) dJ5_ensureCapacityInternal_1 (ci := 14) rfl in_J6 (kf := 0) (by decide) q264 (h.mono (fun v1 h => ?_))
  refine sd_alenQ (pc := 4) dJ5_ensureCapacityInternal_4 (h.mono (fun v2 h => ?_))
  refine sd_aload_n (pc := 5) dJ5_ensureCapacityInternal_5 rfl 0 rfl ?_
  refine sd_getI (pc := 6) dJ5_ensureCapacityInternal_6 (ci := 14) rfl in_J6 (kf := 1) (by decide) q265 (h.mono (fun v3 h => ?_))
  refine sd_ishr (pc := 9) dJ5_ensureCapacityInternal_9 ?_
  refine sd_istore_n (pc := 10) dJ5_ensureCapacityInternal_10 rfl (by decide) (ls' := [(2, .int (v2 >>> (v3 &&& 31))), (0, .ref x0), (1, .int x1)]) rfl ?_
  refine sd_iload_n (pc := 11) dJ5_ensureCapacityInternal_11 rfl 2 rfl ?_
  refine sd_iload_n (pc := 12) dJ5_ensureCapacityInternal_12 rfl 0 rfl ?_
  refine sd_isub (pc := 13) dJ5_ensureCapacityInternal_13 ?_
  refine sd_ifle (pc := 14) dJ5_ensureCapacityInternal_14 (tgt := 38) (by decide) ⟨fun c11 => ?_, fun c11 => ?_⟩
  · have h := h.1 c11
    refine Wx.more (k' := k) (n' := n) ?_ (by omega) (by omega)
    exact sd_return (pc := 38) dJ5_ensureCapacityInternal_38 rfl h
  · have h := h.2 c11
    refine sd_aload_n (pc := 17) dJ5_ensureCapacityInternal_17 rfl 1 rfl ?_
    refine sd_aload_n (pc := 18) dJ5_ensureCapacityInternal_18 rfl 1 rfl ?_
    refine sd_getR (pc := 19) dJ5_ensureCapacityInternal_19 (ci := 14) rfl in_J6 (kf := 0) (by decide) q264 (h.mono (fun v4 h => ?_))
    refine sd_aload_n (pc := 22) dJ5_ensureCapacityInternal_22 rfl 1 rfl ?_
    refine sd_iload_n (pc := 23) dJ5_ensureCapacityInternal_23 rfl 2 rfl ?_
    refine sd_callP (k := (k + p32.1)) (n := (n + p32.2)) (As := [.int x1]) (st := [.ref v4, .ref x0]) (pc := 24) dJ5_ensureCapacityInternal_24 (ci := 14) rfl h.1 q529 q531 q530 q563 rfl q87 q532 1 (by decide +kernel) rfl (Nat.le_refl _) (by decide) (Nat.le_of_ble_eq_true rfl) (Cx.mono h.2 (kI.to (fun r6 σ5 h => ?_)) (xo rfl))
    refine sd_aload_n (pc := 27) dJ5_ensureCapacityInternal_27 rfl 1 rfl ?_
    refine sd_getI (pc := 28) dJ5_ensureCapacityInternal_28 (ci := 14) rfl in_J6 (kf := 1) (by decide) q265 (h.mono (fun v7 h => ?_))
    refine sd_ishl (pc := 31) dJ5_ensureCapacityInternal_31 ?_
    refine sd_callS (k := k) (n := n) (As := [.ref v4, .int (r6 <<< (v7 &&& 31))]) (st := [.ref x0]) (pc := 32) dJ5_ensureCapacityInternal_32 q544 q545 q85 q546 2 (by decide +kernel) rfl (Nat.le_refl _) (by decide) (Nat.le_of_ble_eq_true rfl) (Cx.mono h (kA.to (fun r9 σ8 h => ?_)) (xo rfl))
    refine sd_putf (pc := 35) dJ5_ensureCapacityInternal_35 (ci := 14) rfl in_J6 tyJ6 tyJ6_ok nmJ6 (kf := 0) (by decide) q264 rfl (ty := (.array .byte)) rfl rfl rfl (putV.mono h (fun σ10 h => ?_))
    exact sd_return (pc := 38) dJ5_ensureCapacityInternal_38 rfl h
theorem cx_J5_ensureCapacityInternal {en : yEn} {d : Nat} {p24 : Nat × Nat} {p32 : Nat × Nat} {x0 : Nat} {x1 : Int32} {σ : yH} {k n : Nat} {K : Option Value → yH → Prop} {X : String → Addr → yH → Prop} (h : wp_J5_ensureCapacityInternal en d p24 p32 x0 x1 σ k n K X) : Cx en (d + 1) (k + p32.1 + p24.1) (n + p32.2 + p24.2) mJ5_ensureCapacityInternal [.ref x0, .int x1] σ K X := Cx.body (by decide +kernel) rfl (Nat.le_of_ble_eq_true rfl) (ok_J5_ensureCapacityInternal h)
/-! java/lang/AbstractStringBuilder.append(I)Ljava/lang/AbstractStringBuilder; -/
def wp_J5_append (en : yEn) (d : Nat) (p14 : Nat × Nat) (p44 : Nat × Nat) (x0 : Nat) (x1 : Int32) (σ : yH) (k n : Nat) (K : Option Value → yH → Prop) (X : String → Addr → yH → Prop) : Prop :=
  getI σ x0 14 3 (fun v1 => Cx en d 0 0 mJ18_stringSize [.int x1] σ (kI (fun r3 σ2 => (isC σ2 x0 14 ∧ Cx en d p14.1 p14.2 mJ5_ensureCapacityInternal [.ref x0, .int (v1 + r3)] σ2 (kV (fun σ4 => (isC σ4 x0 14 ∧ Cx en d 0 0 mJ5_isLatin1 [.ref x0] σ4 (kI (fun r6 σ5 => (((r6 = 0) → getR σ5 x0 14 0 (fun v7 => Cx en d p44.1 p44.2 mJ8_getChars [.int x1, .int v1, .int (v1 + r3), .ref v7] σ5 (kI (fun r9 σ8 => (putV σ8 x0 14 3 (.int (v1 + r3)) (fun σ10 => K (some (.ref x0)) σ10)))) X)) ∧ (¬ (r6 = 0) → getR σ5 x0 14 0 (fun v11 => Cx en d 0 0 mJ18_getChars [.int x1, .int (v1 + r3), .ref v11] σ5 (kI (fun r13 σ12 => (putV σ12 x0 14 3 (.int (v1 + r3)) (fun σ14 => K (some (.ref x0)) σ14)))) X))))) X))) X))) X)
set_option maxHeartbeats 4000000 in
theorem ok_J5_append {en : yEn} {d : Nat} {p14 : Nat × Nat} {p44 : Nat × Nat} {x0 : Nat} {x1 : Int32} {σ : yH} {k n : Nat} {K : Option Value → yH → Prop} {X : String → Addr → yH → Prop} (h : wp_J5_append en d p14 p44 x0 x1 σ k n K X) : Wx en (d + 1) mJ5_append 0 [(0, .ref x0), (1, .int x1)] [] σ (k + p44.1 + p14.1) (n + p44.2 + p14.2) K X := by
  unfold wp_J5_append at h
  refine sd_aload_n (pc := 0) dJ5_append_0 rfl 0 rfl ?_
  refine sd_getI (pc := 1) dJ5_append_1 (ci := 14) rfl in_J6 (kf := 3) (by decide) q268 (h.mono (fun v1 h => ?_))
  refine sd_istore_n (pc := 4) dJ5_append_4 rfl (by decide) (ls' := [(2, .int v1), (0, .ref x0), (1, .int x1)]) rfl ?_
  refine sd_iload_n (pc := 5) dJ5_append_5 rfl 0 rfl ?_
  refine sd_iload_n (pc := 6) dJ5_append_6 rfl 2 rfl ?_
  refine sd_callS (k := (k + p44.1 + p14.1)) (n := (n + p44.2 + p14.2)) (As := [.int x1]) (st := [.int v1]) (pc := 7) dJ5_append_7 q522 q523 q104 q524 1 (by decide +kernel) rfl (Nat.le_refl _) (by decide) (Nat.le_of_ble_eq_true rfl) (Cx.mono h (kI.to (fun r3 σ2 h => ?_)) (xo rfl))
  refine sd_iadd (pc := 10) dJ5_append_10 ?_
  refine sd_istore_n (pc := 11) dJ5_append_11 rfl (by decide) (ls' := [(3, .int (v1 + r3)), (2, .int v1), (0, .ref x0), (1, .int x1)]) rfl ?_
  refine sd_aload_n (pc := 12) dJ5_append_12 rfl 2 rfl ?_
  refine sd_iload_n (pc := 13) dJ5_append_13 rfl 0 rfl ?_
  refine sd_callP (k := (k + p44.1)) (n := (n + p44.2)) (As := [.int (v1 + r3)]) (st := []) (pc := 14) dJ5_append_14 (ci := 14) rfl h.1 q525 q527 q526 q563 rfl q87 q528 1 (by decide +kernel) rfl (Nat.le_refl _) (by decide) (Nat.le_of_ble_eq_true rfl) (Cx.mono h.2 (kV.to (fun σ4 h => ?_)) (xo rfl))
  refine sd_aload_n (pc := 17) dJ5_append_17 rfl 2 rfl ?_
  refine sd_callU (k := (k + p44.1)) (n := (n + p44.2)) (As := []) (st := []) (pc := 18) dJ5_append_18 (ci := 14) rfl h.1 (owner := "java/lang/AbstractStringBuilder") rfl q560 q562 q561 q563 q87 q564 0 (by decide +kernel) rfl 0 (by decide +kernel) rfl (Nat.le_refl _) (by decide) (Nat.le_of_ble_eq_true rfl) (Cx.mono h.2 (kI.to (fun r6 σ5 h => ?_)) (xo rfl))
  refine sd_ifeq (pc := 21) dJ5_append_21 (tgt := 37) (by decide) ⟨fun c15 => ?_, fun c15 => ?_⟩
  · have h := h.1 c15
    refine sd_iload_n (pc := 37) dJ5_append_37 rfl 3 rfl ?_
    refine sd_iload_n (pc := 38) dJ5_append_38 rfl 1 rfl ?_
    refine sd_iload_n (pc := 39) dJ5_append_39 rfl 0 rfl ?_
    refine sd_aload_n (pc := 40) dJ5_append_40 rfl 2 rfl ?_
    refine sd_getR (pc := 41) dJ5_append_41 (ci := 14) rfl in_J6 (kf := 0) (by decide) q264 (h.mono (fun v7 h => ?_))
    refine sd_callS (k := k) (n := n) (As := [.int x1, .int v1, .int (v1 + r3), .ref v7]) (st := []) (pc := 44) dJ5_append_44 q572 q573 q90 q574 4 (by decide +kernel) rfl (Nat.le_refl _) (by decide) (Nat.le_of_ble_eq_true rfl) (Cx.mono h (kI.to (fun r9 σ8 h => ?_)) (xo rfl))
    refine sd_pop (pc := 47) dJ5_append_47 rfl ?_
    refine sd_aload_n (pc := 48) dJ5_append_48 rfl 2 rfl ?_
    refine sd_iload_n (pc := 49) dJ5_append_49 rfl 0 rfl ?_
    refine sd_putf (pc := 50) dJ5_append_50 (ci := 14) rfl in_J6 tyJ6 tyJ6_ok nmJ6 (kf := 3) (by decide) q268 rfl (ty := .int) rfl rfl rfl (putV.mono h (fun σ10 h => ?_))
    refine sd_aload_n (pc := 53) dJ5_append_53 rfl 2 rfl ?_
    exact sd_areturn (r := (some x0)) (pc := 54) dJ5_append_54 rfl (Or.inl ⟨_, rfl⟩) h
  · have h := h.2 c15
    refine Wx.more (k' := k) (n' := n) ?_ (by omega) (by omega)
    refine sd_iload_n (pc := 24) dJ5_append_24 rfl 3 rfl ?_
    refine sd_iload_n (pc := 25) dJ5_append_25 rfl 0 rfl ?_
    refine sd_aload_n (pc := 26) dJ5_append_26 rfl 2 rfl ?_
    refine sd_getR (pc := 27) dJ5_append_27 (ci := 14) rfl in_J6 (kf := 0) (by decide) q264 (h.mono (fun v11 h => ?_))
    refine sd_callS (k := k) (n := n) (As := [.int x1, .int (v1 + r3), .ref v11]) (st := []) (pc := 30) dJ5_append_30 q565 q566 q104 q567 3 (by decide +kernel) rfl (Nat.le_refl _) (by decide) (Nat.le_of_ble_eq_true rfl) (Cx.mono h (kI.to (fun r13 σ12 h => ?_)) (xo rfl))
    refine sd_pop (pc := 33) dJ5_append_33 rfl ?_
    refine sd_goto (pc := 34) dJ5_append_34 (tgt := 48) (by decide) ?_
    refine sd_aload_n (pc := 48) dJ5_append_48 rfl 2 rfl ?_
    refine sd_iload_n (pc := 49) dJ5_append_49 rfl 0 rfl ?_
    refine sd_putf (pc := 50) dJ5_append_50 (ci := 14) rfl in_J6 tyJ6 tyJ6_ok nmJ6 (kf := 3) (by decide) q268 rfl (ty := .int) rfl rfl rfl (putV.mono h (fun σ14 h => ?_))
    refine sd_aload_n (pc := 53) dJ5_append_53 rfl 2 rfl ?_
    exact sd_areturn (r := (some x0)) (pc := 54) dJ5_append_54 rfl (Or.inl ⟨_, rfl⟩) h
theorem cx_J5_append {en : yEn} {d : Nat} {p14 : Nat × Nat} {p44 : Nat × Nat} {x0 : Nat} {x1 : Int32} {σ : yH} {k n : Nat} {K : Option Value → yH → Prop} {X : String → Addr → yH → Prop} (h : wp_J5_append en d p14 p44 x0 x1 σ k n K X) : Cx en (d + 1) (k + p44.1 + p14.1) (n + p44.2 + p14.2) mJ5_append [.ref x0, .int x1] σ K X := Cx.body (by decide +kernel) rfl (Nat.le_of_ble_eq_true rfl) (ok_J5_append h)
/-! java/lang/StringBuilder.append(I)Ljava/lang/StringBuilder; -/
def wp_J6_append (en : yEn) (d : Nat) (p2 : Nat × Nat) (x0 : Nat) (x1 : Int32) (σ : yH) (k n : Nat) (K : Option Value → yH → Prop) (X : String → Addr → yH → Prop) : Prop :=
  (isC σ x0 14 ∧ Cx en d p2.1 p2.2 mJ5_append [.ref x0, .int x1] σ (kA (fun r2 σ1 => K (some (.ref x0)) σ1)) X)
set_option maxHeartbeats 4000000 in
theorem ok_J6_append {en : yEn} {d : Nat} {p2 : Nat × Nat} {x0 : Nat} {x1 : Int32} {σ : yH} {k n : Nat} {K : Option Value → yH → Prop} {X : String → Addr → yH → Prop} (h : wp_J6_append en d p2 x0 x1 σ k n K X) : Wx en (d + 1) mJ6_append 0 [(0, .ref x0), (1, .int x1)] [] σ (k + p2.1) (n + p2.2) K X := by
  unfold wp_J6_append at h
  refine sd_aload_n (pc := 0) dJ6_append_0 rfl 0 rfl ?_
  refine sd_iload_n (pc := 1) dJ6_append_1 rfl 1 rfl ?_
  refine sd_callSU (k := k) (n := n) (As := [.int x1]) (st := []) (pc := 2) dJ6_append_2 (ci := 14) rfl h.1 q519 q2581 q277 q520 q87 q521 (by decide) 1 (by decide +kernel) rfl (Nat.le_refl _) (by decide) (Nat.le_of_ble_eq_true rfl) (Cx.mono h.2 (kA.to (fun r2 σ1 h => ?_)) (xo rfl))
  refine sd_pop (pc := 5) dJ6_append_5 rfl ?_
  refine sd_aload_n (pc := 6) dJ6_append_6 rfl 0 rfl ?_
  exact sd_areturn (r := (some x0)) (pc := 7) dJ6_append_7 rfl (Or.inl ⟨_, rfl⟩) h
theorem cx_J6_append {en : yEn} {d : Nat} {p2 : Nat × Nat} {x0 : Nat} {x1 : Int32} {σ : yH} {k n : Nat} {K : Option Value → yH → Prop} {X : String → Addr → yH → Prop} (h : wp_J6_append en d p2 x0 x1 σ k n K X) : Cx en (d + 1) (k + p2.1) (n + p2.2) mJ6_append [.ref x0, .int x1] σ K X := Cx.body (by decide +kernel) rfl (Nat.le_of_ble_eq_true rfl) (ok_J6_append h)
/-! java/util/ArrayDeque.toArray(Ljava/lang/Class;)[Ljava/lang/Object; -/
def wp_J4_toArray_2_32 (en : yEn) (d : Nat) (p60 : Nat × Nat) (p45 : Nat × Nat) (l1 : Nat) (l2 : Nat) (l4 : Int32) (l5 : Int32) (t0 : Int32) (t1 : Int32) (σ : yH) (k n : Nat) (K : Option Value → yH → Prop) (X : String → Addr → yH → Prop) : Prop :=
  ((((t0 + t1) < 0) → Cx en d p60.1 p60.2 mJ3_copyOfRange [.ref l2, .int (0 : Int32), .int ((t0 + t1) - l4), .ref l1] σ (kA (fun r7 σ6 => alenQ en σ6 l2 (fun v8 => False))) X) ∧ (¬ ((t0 + t1) < 0) → Cx en d p45.1 p45.2 mJ3_copyOfRange [.ref l2, .int l4, .int (t0 + t1), .ref l1] σ (kA (fun r10 σ9 => ((((t0 + t1) = l5) → K (some (.ref r10)) σ9) ∧ (¬ ((t0 + t1) = l5) → alenQ en σ9 l2 (fun v11 => False))))) X))
set_option maxHeartbeats 4000000 in
theorem ok_J4_toArray_2_32 {en : yEn} {d : Nat} {p60 : Nat × Nat} {p45 : Nat × Nat} {l1 : Nat} {l2 : Nat} {l4 : Int32} {l5 : Int32} {t0 : Int32} {t1 : Int32} {σ : yH} {k n : Nat} {K : Option Value → yH → Prop} {X : String → Addr → yH → Prop} (h : wp_J4_toArray_2_32 en d p60 p45 l1 l2 l4 l5 t0 t1 σ k n K X) : Wx en (d + 1) mJ4_toArray_2 32 [(1, .ref l1), (2, .ref l2), (4, .int l4), (5, .int l5)] [.int t1, .int t0] σ (k + p60.1 + p45.1) (n + p60.2 + p45.2) K X := by
  unfold wp_J4_toArray_2_32 at h
  refine sd_iadd (pc := 32) dJ4_toArray_2_32 ?_
  refine sd_dup (pc := 33) dJ4_toArray_2_33 rfl ?_
  refine sd_istore (pc := 34) dJ4_toArray_2_34 (by decide) (ls' := [(6, .int (t0 + t1)), (1, .ref l1), (2, .ref l2), (4, .int l4), (5, .int l5)]) rfl ?_
  refine sd_iflt (pc := 36) dJ4_toArray_2_36 (tgt := 52) (by decide) ⟨fun c13 => ?_, fun c13 => ?_⟩
  · have h := h.1 c13
    refine Wx.more (k' := (k + p60.1)) (n' := (n + p60.2)) ?_ (by omega) (by omega)
    refine sd_aload_n (pc := 52) dJ4_toArray_2_52 rfl 2 rfl ?_
    refine sd_iconst (pc := 53) dJ4_toArray_2_53 (v := 0) (by decide) ?_
    refine sd_iload (pc := 54) dJ4_toArray_2_54 0 rfl ?_
    refine sd_iload (pc := 56) dJ4_toArray_2_56 3 rfl ?_
    refine sd_isub (pc := 58) dJ4_toArray_2_58 ?_
    refine sd_aload_n (pc := 59) dJ4_toArray_2_59 rfl 1 rfl ?_
    refine sd_callS (k := k) (n := n) (As := [.ref l2, .int (0 : Int32), .int ((t0 + t1) - l4), .ref l1]) (st := []) (pc := 60) dJ4_toArray_2_60 q501 q502 q85 q503 4 (by decide +kernel) rfl (Nat.le_refl _) (by decide) (Nat.le_of_ble_eq_true rfl) (Cx.mono h (kA.to (fun r7 σ6 h => ?_)) (xo rfl))
    refine sd_astore_n (pc := 63) dJ4_toArray_2_63 rfl (by decide) (ls' := [(3, .ref r7), (6, .int (t0 + t1)), (1, .ref l1), (2, .ref l2), (4, .int l4), (5, .int l5)]) rfl ?_
    refine sd_aload_n (pc := 64) dJ4_toArray_2_64 rfl 3 rfl ?_
    refine sd_iload (pc := 65) dJ4_toArray_2_65 4 rfl ?_
    refine sd_aload_n (pc := 67) dJ4_toArray_2_67 rfl 0 rfl ?_
    refine sd_iconst (pc := 68) dJ4_toArray_2_68 (v := 0) (by decide) ?_
    refine sd_aload_n (pc := 69) dJ4_toArray_2_69 rfl 3 rfl ?_
    refine sd_alenQ (pc := 70) dJ4_toArray_2_70 (h.mono (fun v8 h => ?_))
    refine sd_iload (pc := 71) dJ4_toArray_2_71 4 rfl ?_
    refine sd_isub (pc := 73) dJ4_toArray_2_73 ?_
    exact h.elim
  · have h := h.2 c13
    refine Wx.more (k' := (k + p45.1)) (n' := (n + p45.2)) ?_ (by omega) (by omega)
    refine sd_aload_n (pc := 39) dJ4_toArray_2_39 rfl 2 rfl ?_
    refine sd_iload (pc := 40) dJ4_toArray_2_40 3 rfl ?_
    refine sd_iload (pc := 42) dJ4_toArray_2_42 0 rfl ?_
    refine sd_aload_n (pc := 44) dJ4_toArray_2_44 rfl 1 rfl ?_
    refine sd_callS (k := k) (n := n) (As := [.ref l2, .int l4, .int (t0 + t1), .ref l1]) (st := []) (pc := 45) dJ4_toArray_2_45 q501 q502 q85 q503 4 (by decide +kernel) rfl (Nat.le_refl _) (by decide) (Nat.le_of_ble_eq_true rfl) (Cx.mono h (kA.to (fun r10 σ9 h => ?_)) (xo rfl))
    refine sd_astore_n (pc := 48) dJ4_toArray_2_48 rfl (by decide) (ls' := [(3, .ref r10), (6, .int (t0 + t1)), (1, .ref l1), (2, .ref l2), (4, .int l4), (5, .int l5)]) rfl ?_
    refine sd_goto (pc := 49) dJ4_toArray_2_49 (tgt := 77) (by decide) ?_
    refine sd_iload (pc := 77) dJ4_toArray_2_77 1 rfl ?_
    refine sd_iload (pc := 79) dJ4_toArray_2_79 5 rfl ?_
    refine sd_icmpeq (pc := 81) dJ4_toArray_2_81 (tgt := 97) (by decide) ⟨fun c12 => ?_, fun c12 => ?_⟩
    · have h := h.1 c12
      refine sd_aload_n (pc := 97) dJ4_toArray_2_97 rfl 0 rfl ?_
      exact sd_areturn (r := (some r10)) (pc := 98) dJ4_toArray_2_98 rfl (Or.inr ⟨_, rfl⟩) h
    · have h := h.2 c12
      refine sd_aload_n (pc := 84) dJ4_toArray_2_84 rfl 3 rfl ?_
      refine sd_iconst (pc := 85) dJ4_toArray_2_85 (v := 0) (by decide) ?_
      refine sd_aload_n (pc := 86) dJ4_toArray_2_86 rfl 0 rfl ?_
      refine sd_aload_n (pc := 87) dJ4_toArray_2_87 rfl 3 rfl ?_
      refine sd_alenQ (pc := 88) dJ4_toArray_2_88 (h.mono (fun v11 h => ?_))
      refine sd_iload (pc := 89) dJ4_toArray_2_89 4 rfl ?_
      refine sd_isub (pc := 91) dJ4_toArray_2_91 ?_
      refine sd_iload (pc := 92) dJ4_toArray_2_92 5 rfl ?_
      exact h.elim
def wp_J4_toArray_2 (en : yEn) (d : Nat) (x0 : Nat) (x1 : Nat) (σ : yH) (k n : Nat) (K : Option Value → yH → Prop) (X : String → Addr → yH → Prop) : Prop :=
  getR σ x0 13 0 (fun v1 => getI σ x0 13 1 (fun v2 => getI σ x0 13 2 (fun v3 => (((v3 < v2) → alenQ en σ v1 (fun v4 => Wx en (d + 1) mJ4_toArray_2 32 [(1, .ref x1), (2, .ref v1), (4, .int v2), (5, .int v3)] [.int v4, .int v3] σ k n K X)) ∧ (¬ (v3 < v2) → Wx en (d + 1) mJ4_toArray_2 32 [(1, .ref x1), (2, .ref v1), (4, .int v2), (5, .int v3)] [.int (0 : Int32), .int v3] σ k n K X)))))
set_option maxHeartbeats 4000000 in
theorem ok_J4_toArray_2 {en : yEn} {d : Nat} {x0 : Nat} {x1 : Nat} {σ : yH} {k n : Nat} {K : Option Value → yH → Prop} {X : String → Addr → yH → Prop} (h : wp_J4_toArray_2 en d  x0 x1 σ k n K X) : Wx en (d + 1) mJ4_toArray_2 0 [(0, .ref x0), (1, .ref x1)] [] σ k n K X := by
  unfold wp_J4_toArray_2 at h
  refine sd_aload_n (pc := 0) dJ4_toArray_2_0 rfl 0 rfl ?_
  refine sd_getR (pc := 1) dJ4_toArray_2_1 (ci := 13) rfl in_J4 (kf := 0) (by decide) q236 (h.mono (fun v1 h => ?_))
  refine sd_astore_n (pc := 4) dJ4_toArray_2_4 rfl (by decide) (ls' := [(2, .ref v1), (0, .ref x0), (1, .ref x1)]) rfl ?_
  refine sd_aload_n (pc := 5) dJ4_toArray_2_5 rfl 1 rfl ?_
  refine sd_getI (pc := 6) dJ4_toArray_2_6 (ci := 13) rfl in_J4 (kf := 1) (by decide) q237 (h.mono (fun v2 h => ?_))
  refine sd_istore (pc := 9) dJ4_toArray_2_9 (by decide) (ls' := [(4, .int v2), (2, .ref v1), (0, .ref x0), (1, .ref x1)]) rfl ?_
  refine sd_aload_n (pc := 11) dJ4_toArray_2_11 rfl 2 rfl ?_
  refine sd_getI (pc := 12) dJ4_toArray_2_12 (ci := 13) rfl in_J4 (kf := 2) (by decide) q238 (h.mono (fun v3 h => ?_))
  refine sd_istore (pc := 15) dJ4_toArray_2_15 (by decide) (ls' := [(5, .int v3), (4, .int v2), (2, .ref v1), (0, .ref x0), (1, .ref x1)]) rfl ?_
  refine sd_iload (pc := 17) dJ4_toArray_2_17 0 rfl ?_
  refine sd_iload (pc := 19) dJ4_toArray_2_19 1 rfl ?_
  refine sd_iload (pc := 21) dJ4_toArray_2_21 0 rfl ?_
  refine sd_icmpgt (pc := 23) dJ4_toArray_2_23 (tgt := 30) (by decide) ⟨fun c5 => ?_, fun c5 => ?_⟩
  · have h := h.1 c5
    refine sd_aload_n (pc := 30) dJ4_toArray_2_30 rfl 2 rfl ?_
    refine sd_alenQ (pc := 31) dJ4_toArray_2_31 (h.mono (fun v4 h => ?_))
    exact sd_loc [4, 2, 1, 0] rfl h
  · have h := h.2 c5
    refine sd_iconst (pc := 26) dJ4_toArray_2_26 (v := 0) (by decide) ?_
    refine sd_goto (pc := 27) dJ4_toArray_2_27 (tgt := 32) (by decide) ?_
    exact sd_loc [4, 2, 1, 0] rfl h
theorem cx_J4_toArray_2 {en : yEn} {d : Nat} {x0 : Nat} {x1 : Nat} {σ : yH} {k n : Nat} {K : Option Value → yH → Prop} {X : String → Addr → yH → Prop} (h : wp_J4_toArray_2 en d  x0 x1 σ k n K X) : Cx en (d + 1) k n mJ4_toArray_2 [.ref x0, .ref x1] σ K X := Cx.body (by decide +kernel) rfl (Nat.le_of_ble_eq_true rfl) (ok_J4_toArray_2 h)
/-! java/util/ArrayDeque.toArray()[Ljava/lang/Object; -/
def wp_J4_toArray (en : yEn) (d : Nat) (p3 : Nat × Nat) (x0 : Nat) (σ : yH) (k n : Nat) (K : Option Value → yH → Prop) (X : String → Addr → yH → Prop) : Prop :=
  (isC σ x0 13 ∧ Cx en d p3.1 p3.2 mJ4_toArray_2 [.ref x0, .ref (y_mir en "[Ljava/lang/Object;")] σ (kA (fun r2 σ1 => K (some (.ref r2)) σ1)) X)
set_option maxHeartbeats 4000000 in
theorem ok_J4_toArray {en : yEn} {d : Nat} {p3 : Nat × Nat} {x0 : Nat} {σ : yH} {k n : Nat} {K : Option Value → yH → Prop} {X : String → Addr → yH → Prop} (h : wp_J4_toArray en d p3 x0 σ k n K X) : Wx en (d + 1) mJ4_toArray 0 [(0, .ref x0)] [] σ (k + p3.1) (n + p3.2) K X := by
  unfold wp_J4_toArray at h
  refine sd_aload_n (pc := 0) dJ4_toArray_0 rfl 0 rfl ?_
  refine sd_ldcM (pc := 1) dJ4_toArray_1 q496 yn492 ?_
  refine sd_callV (k := k) (n := n) (As := [.ref (y_mir en "[Ljava/lang/Object;")]) (st := []) (pc := 3) dJ4_toArray_3 (ci := 13) rfl h.1 rfl q497 q499 qs2 q86 q500 1 (by decide +kernel) rfl (Nat.le_refl _) (by decide) (Nat.le_of_ble_eq_true rfl) (Cx.mono h.2 (kA.to (fun r2 σ1 h => ?_)) (xo rfl))
  exact sd_areturn (r := (some r2)) (pc := 6) dJ4_toArray_6 rfl (Or.inr ⟨_, rfl⟩) h
theorem cx_J4_toArray {en : yEn} {d : Nat} {p3 : Nat × Nat} {x0 : Nat} {σ : yH} {k n : Nat} {K : Option Value → yH → Prop} {X : String → Addr → yH → Prop} (h : wp_J4_toArray en d p3 x0 σ k n K X) : Cx en (d + 1) (k + p3.1) (n + p3.2) mJ4_toArray [.ref x0] σ K X := Cx.body (by decide +kernel) rfl (Nat.le_of_ble_eq_true rfl) (ok_J4_toArray h)
/-! java/lang/StringLatin1.canEncode(C)Z -/
def wp_J20_canEncode (en : yEn) (d : Nat) (x0 : Int32) (σ : yH) (k n : Nat) (K : Option Value → yH → Prop) (X : String → Addr → yH → Prop) : Prop :=
  K (some (.int (if ((255 : Int32) < x0) then (0 : Int32) else (1 : Int32)))) σ
set_option maxHeartbeats 4000000 in
theorem ok_J20_canEncode {en : yEn} {d : Nat} {x0 : Int32} {σ : yH} {k n : Nat} {K : Option Value → yH → Prop} {X : String → Addr → yH → Prop} (h : wp_J20_canEncode en d  x0 σ k n K X) : Wx en (d + 1) mJ20_canEncode 0 [(0, .int x0)] [] σ k n K X := by
  unfold wp_J20_canEncode at h
  refine sd_iload_n (pc := 0) dJ20_canEncode_0 rfl 0 rfl ?_
  refine sd_sipush (pc := 1) dJ20_canEncode_1 (v := 255) (by decide) ?_
  have h2 : Wx en (d + 1) mJ20_canEncode 12 [(0, .int x0)] (.int (if ((255 : Int32) < x0) then (0 : Int32) else (1 : Int32)) :: []) σ k n K X := by
    exact sd_ireturn (pc := 12) dJ20_canEncode_12 (ty0 := .boolean) rfl (nb_ite rfl rfl) h
  have e3 := sd_iteI h2
  refine sd_icmpgt (pc := 4) dJ20_canEncode_4 (tgt := 11) (by decide) ⟨fun c1 => ?_, fun c1 => ?_⟩
  · refine sd_iconst (pc := 11) dJ20_canEncode_11 (v := 0) (by decide) ?_
    exact (e3.1 c1)
  · refine sd_iconst (pc := 7) dJ20_canEncode_7 (v := 1) (by decide) ?_
    refine sd_goto (pc := 8) dJ20_canEncode_8 (tgt := 12) (by decide) ?_
    exact (e3.2 c1)
theorem cx_J20_canEncode {en : yEn} {d : Nat} {x0 : Int32} {σ : yH} {k n : Nat} {K : Option Value → yH → Prop} {X : String → Addr → yH → Prop} (h : wp_J20_canEncode en d  x0 σ k n K X) : Cx en (d + 1) k n mJ20_canEncode [.int x0] σ K X := Cx.body (by decide +kernel) rfl (Nat.le_of_ble_eq_true rfl) (ok_J20_canEncode h)
/-! java/lang/String.checkIndex(II)V -/
def wp_J7_checkIndex (en : yEn) (d : Nat) (x0 : Int32) (x1 : Int32) (σ : yH) (k n : Nat) (K : Option Value → yH → Prop) (X : String → Addr → yH → Prop) : Prop :=
  Cx en d 0 0 mJ19_checkIndex [.int x0, .int x1, va_rf (y_sr en "jdk/internal/util/Preconditions" "SIOOBE_FORMATTER" "Ljava/util/function/BiFunction;")] σ (kI (fun r2 σ1 => K none σ1)) X
set_option maxHeartbeats 4000000 in
theorem ok_J7_checkIndex {en : yEn} {d : Nat} {x0 : Int32} {x1 : Int32} {σ : yH} {k n : Nat} {K : Option Value → yH → Prop} {X : String → Addr → yH → Prop} (h : wp_J7_checkIndex en d  x0 x1 σ k n K X) : Wx en (d + 1) mJ7_checkIndex 0 [(0, .int x0), (1, .int x1)] [] σ k n K X := by
  unfold wp_J7_checkIndex at h
  refine sd_iload_n (pc := 0) dJ7_checkIndex_0 rfl 0 rfl ?_
  refine sd_iload_n (pc := 1) dJ7_checkIndex_1 rfl 1 rfl ?_
  refine sd_getsQ (pc := 2) dJ7_checkIndex_2 q584 q585 (lw_all_tbl q105) yn217 ?_
  refine sd_callS (k := k) (n := n) (As := [.int x0, .int x1, va_rf (y_sr en "jdk/internal/util/Preconditions" "SIOOBE_FORMATTER" "Ljava/util/function/BiFunction;")]) (st := []) (pc := 5) dJ7_checkIndex_5 q1589 q1094 q105 q1095 3 (by decide +kernel) rfl (Nat.le_refl _) (by decide) (Nat.le_of_ble_eq_true rfl) (Cx.mono h (kI.to (fun r2 σ1 h => ?_)) (xo rfl))
  refine sd_pop (pc := 8) dJ7_checkIndex_8 rfl ?_
  exact sd_return (pc := 9) dJ7_checkIndex_9 rfl h
theorem cx_J7_checkIndex {en : yEn} {d : Nat} {x0 : Int32} {x1 : Int32} {σ : yH} {k n : Nat} {K : Option Value → yH → Prop} {X : String → Addr → yH → Prop} (h : wp_J7_checkIndex en d  x0 x1 σ k n K X) : Cx en (d + 1) k n mJ7_checkIndex [.int x0, .int x1] σ K X := Cx.body (by decide +kernel) rfl (Nat.le_of_ble_eq_true rfl) (ok_J7_checkIndex h)
/-! java/lang/StringLatin1.charAt([BI)C -/
def wp_J20_charAt (en : yEn) (d : Nat) (x0 : Nat) (x1 : Int32) (σ : yH) (k n : Nat) (K : Option Value → yH → Prop) (X : String → Addr → yH → Prop) : Prop :=
  alenQ en σ x0 (fun v1 => Cx en d 0 0 mJ7_checkIndex [.int x1, .int v1] σ (kV (fun σ2 => aldI σ2 (en.2.2.2 1) x0 x1 (fun v3 => K (some (.int (((v3 &&& (255 : Int32)).toUInt32 % 65536).toInt32))) σ2))) X)
set_option maxHeartbeats 4000000 in
theorem ok_J20_charAt {en : yEn} {d : Nat} {x0 : Nat} {x1 : Int32} {σ : yH} {k n : Nat} {K : Option Value → yH → Prop} {X : String → Addr → yH → Prop} (h : wp_J20_charAt en d  x0 x1 σ k n K X) : Wx en (d + 1) mJ20_charAt 0 [(0, .ref x0), (1, .int x1)] [] σ k n K X := by
  unfold wp_J20_charAt at h
  refine sd_iload_n (pc := 0) dJ20_charAt_0 rfl 1 rfl ?_
  refine sd_aload_n (pc := 1) dJ20_charAt_1 rfl 0 rfl ?_
  refine sd_alenQ (pc := 2) dJ20_charAt_2 (h.mono (fun v1 h => ?_))
  refine sd_callS (k := k) (n := n) (As := [.int x1, .int v1]) (st := []) (pc := 3) dJ20_charAt_3 q1632 q1587 q89 q1588 2 (by decide +kernel) rfl (Nat.le_refl _) (by decide) (Nat.le_of_ble_eq_true rfl) (Cx.mono h (kV.to (fun σ2 h => ?_)) (xo rfl))
  refine sd_aload_n (pc := 6) dJ20_charAt_6 rfl 0 rfl ?_
  refine sd_iload_n (pc := 7) dJ20_charAt_7 rfl 1 rfl ?_
  refine sd_baload (pc := 8) dJ20_charAt_8 (h.mono (fun v3 h => ?_))
  refine sd_sipush (pc := 9) dJ20_charAt_9 (v := 255) (by decide) ?_
  refine sd_iand (pc := 12) dJ20_charAt_12 ?_
  refine sd_i2c (pc := 13) dJ20_charAt_13 ?_
  exact sd_ireturn (pc := 14) dJ20_charAt_14 (ty0 := .char) rfl (pk_nc _) h
theorem cx_J20_charAt {en : yEn} {d : Nat} {x0 : Nat} {x1 : Int32} {σ : yH} {k n : Nat} {K : Option Value → yH → Prop} {X : String → Addr → yH → Prop} (h : wp_J20_charAt en d  x0 x1 σ k n K X) : Cx en (d + 1) k n mJ20_charAt [.ref x0, .int x1] σ K X := Cx.body (by decide +kernel) rfl (Nat.le_of_ble_eq_true rfl) (ok_J20_charAt h)
/-! java/lang/StringLatin1.indexOf([BI[BII)I -/
def wp_J20_indexOf_2_14 (en : yEn) (d : Nat) (l0 : Nat) (l2 : Nat) (l3 : Int32) (l5 : Int32) (l6 : Int32) (l7 : Int32) (σ : yH) (k n : Nat) (K : Option Value → yH → Prop) (X : String → Addr → yH → Prop) : Prop :=
  (((l6 < l7) → K (some (.int (-1 : Int32))) σ) ∧ (¬ (l6 < l7) → aldI σ (en.2.2.2 1) l0 l7 (fun v2 => (((v2 = l5) → Wx en (d + 1) mJ20_indexOf_2 52 [(0, .ref l0), (2, .ref l2), (3, .int l3), (5, .int l5), (6, .int l6), (7, .int l7)] [] σ k n K X) ∧ (¬ (v2 = l5) → Wx en (d + 1) mJ20_indexOf_2 30 [(0, .ref l0), (2, .ref l2), (3, .int l3), (5, .int l5), (6, .int l6), (7, .int l7)] [] σ k n K X)))))
set_option maxHeartbeats 4000000 in
theorem ok_J20_indexOf_2_14 {en : yEn} {d : Nat} {l0 : Nat} {l2 : Nat} {l3 : Int32} {l5 : Int32} {l6 : Int32} {l7 : Int32} {σ : yH} {k n : Nat} {K : Option Value → yH → Prop} {X : String → Addr → yH → Prop} (h : wp_J20_indexOf_2_14 en d  l0 l2 l3 l5 l6 l7 σ k n K X) : Wx en (d + 1) mJ20_indexOf_2 14 [(0, .ref l0), (2, .ref l2), (3, .int l3), (5, .int l5), (6, .int l6), (7, .int l7)] [] σ k n K X := by
  unfold wp_J20_indexOf_2_14 at h
  refine sd_iload (pc := 14) dJ20_indexOf_2_14 5 rfl ?_
  refine sd_iload (pc := 16) dJ20_indexOf_2_16 4 rfl ?_
  refine sd_icmpgt (pc := 18) dJ20_indexOf_2_18 (tgt := 119) (by decide) ⟨fun c4 => ?_, fun c4 => ?_⟩
  · have h := h.1 c4
    refine sd_iconst (pc := 119) dJ20_indexOf_2_119 (v := -1) (by decide) ?_
    exact sd_ireturn (pc := 120) dJ20_indexOf_2_120 (ty0 := .int) rfl rfl h
  · have h := h.2 c4
    refine sd_aload_n (pc := 21) dJ20_indexOf_2_21 rfl 0 rfl ?_
    refine sd_iload (pc := 22) dJ20_indexOf_2_22 5 rfl ?_
    refine sd_baload (pc := 24) dJ20_indexOf_2_24 (h.mono (fun v2 h => ?_))
    refine sd_iload (pc := 25) dJ20_indexOf_2_25 3 rfl ?_
    refine sd_icmpeq (pc := 27) dJ20_indexOf_2_27 (tgt := 52) (by decide) ⟨fun c3 => ?_, fun c3 => ?_⟩
    · have h := h.1 c3
      exact h
    · have h := h.2 c3
      exact h
def wp_J20_indexOf_2_52 (en : yEn) (d : Nat) (l0 : Nat) (l2 : Nat) (l3 : Int32) (l5 : Int32) (l6 : Int32) (l7 : Int32) (σ : yH) (k n : Nat) (K : Option Value → yH → Prop) (X : String → Addr → yH → Prop) : Prop :=
  (((l6 < l7) → Wx en (d + 1) mJ20_indexOf_2 14 [(0, .ref l0), (2, .ref l2), (3, .int l3), (5, .int l5), (6, .int l6), (7, .int (l7 + (1 : Int32)))] [] σ k n K X) ∧ (¬ (l6 < l7) → Wx en (d + 1) mJ20_indexOf_2 76 [(0, .ref l0), (2, .ref l2), (3, .int l3), (5, .int l5), (6, .int l6), (7, .int l7), (8, .int (l7 + (1 : Int32))), (9, .int (((l7 + (1 : Int32)) + l3) - (1 : Int32))), (10, .int (1 : Int32))] [] σ k n K X))
set_option maxHeartbeats 4000000 in
theorem ok_J20_indexOf_2_52 {en : yEn} {d : Nat} {l0 : Nat} {l2 : Nat} {l3 : Int32} {l5 : Int32} {l6 : Int32} {l7 : Int32} {σ : yH} {k n : Nat} {K : Option Value → yH → Prop} {X : String → Addr → yH → Prop} (h : wp_J20_indexOf_2_52 en d  l0 l2 l3 l5 l6 l7 σ k n K X) : Wx en (d + 1) mJ20_indexOf_2 52 [(0, .ref l0), (2, .ref l2), (3, .int l3), (5, .int l5), (6, .int l6), (7, .int l7)] [] σ k n K X := by
  unfold wp_J20_indexOf_2_52 at h
  refine sd_iload (pc := 52) dJ20_indexOf_2_52 5 rfl ?_
  refine sd_iload (pc := 54) dJ20_indexOf_2_54 4 rfl ?_
  refine sd_icmpgt (pc := 56) dJ20_indexOf_2_56 (tgt := 113) (by decide) ⟨fun c5 => ?_, fun c5 => ?_⟩
  · have h := h.1 c5
    refine sd_iinc (pc := 113) dJ20_indexOf_2_113 5 rfl (v := (l7 + (1 : Int32))) rfl (by decide) (ls' := [(7, .int (l7 + (1 : Int32))), (0, .ref l0), (2, .ref l2), (3, .int l3), (5, .int l5), (6, .int l6)]) rfl ?_
    refine sd_goto (pc := 116) dJ20_indexOf_2_116 (tgt := 14) (by decide) ?_
    exact sd_loc [1, 2, 3, 4, 5, 0] rfl h
  · have h := h.2 c5
    refine sd_iload (pc := 59) dJ20_indexOf_2_59 5 rfl ?_
    refine sd_iconst (pc := 61) dJ20_indexOf_2_61 (v := 1) (by decide) ?_
    refine sd_iadd (pc := 62) dJ20_indexOf_2_62 ?_
    refine sd_istore (pc := 63) dJ20_indexOf_2_63 (by decide) (ls' := [(8, .int (l7 + (1 : Int32))), (0, .ref l0), (2, .ref l2), (3, .int l3), (5, .int l5), (6, .int l6), (7, .int l7)]) rfl ?_
    refine sd_iload (pc := 65) dJ20_indexOf_2_65 0 rfl ?_
    refine sd_iload_n (pc := 67) dJ20_indexOf_2_67 rfl 3 rfl ?_
    refine sd_iadd (pc := 68) dJ20_indexOf_2_68 ?_
    refine sd_iconst (pc := 69) dJ20_indexOf_2_69 (v := 1) (by decide) ?_
    refine sd_isub (pc := 70) dJ20_indexOf_2_70 ?_
    refine sd_istore (pc := 71) dJ20_indexOf_2_71 (by decide) (ls' := [(9, .int (((l7 + (1 : Int32)) + l3) - (1 : Int32))), (8, .int (l7 + (1 : Int32))), (0, .ref l0), (2, .ref l2), (3, .int l3), (5, .int l5), (6, .int l6), (7, .int l7)]) rfl ?_
    refine sd_iconst (pc := 73) dJ20_indexOf_2_73 (v := 1) (by decide) ?_
    refine sd_istore (pc := 74) dJ20_indexOf_2_74 (by decide) (ls' := [(10, .int (1 : Int32)), (9, .int (((l7 + (1 : Int32)) + l3) - (1 : Int32))), (8, .int (l7 + (1 : Int32))), (0, .ref l0), (2, .ref l2), (3, .int l3), (5, .int l5), (6, .int l6), (7, .int l7)]) rfl ?_
    exact sd_loc [3, 4, 5, 6, 7, 8, 2, 1, 0] rfl h
def wp_J20_indexOf_2_30 (en : yEn) (d : Nat) (l0 : Nat) (l2 : Nat) (l3 : Int32) (l5 : Int32) (l6 : Int32) (l7 : Int32) (σ : yH) (k n : Nat) (K : Option Value → yH → Prop) (X : String → Addr → yH → Prop) : Prop :=
  (((l6 < (l7 + (1 : Int32))) → Wx en (d + 1) mJ20_indexOf_2 52 [(0, .ref l0), (2, .ref l2), (3, .int l3), (5, .int l5), (6, .int l6), (7, .int (l7 + (1 : Int32)))] [] σ k n K X) ∧ (¬ (l6 < (l7 + (1 : Int32))) → aldI σ (en.2.2.2 1) l0 (l7 + (1 : Int32)) (fun v6 => (((v6 = l5) → Wx en (d + 1) mJ20_indexOf_2 52 [(0, .ref l0), (2, .ref l2), (3, .int l3), (5, .int l5), (6, .int l6), (7, .int (l7 + (1 : Int32)))] [] σ k n K X) ∧ (¬ (v6 = l5) → Wx en (d + 1) mJ20_indexOf_2 30 [(0, .ref l0), (2, .ref l2), (3, .int l3), (5, .int l5), (6, .int l6), (7, .int (l7 + (1 : Int32)))] [] σ k n K X)))))
set_option maxHeartbeats 4000000 in
theorem ok_J20_indexOf_2_30 {en : yEn} {d : Nat} {l0 : Nat} {l2 : Nat} {l3 : Int32} {l5 : Int32} {l6 : Int32} {l7 : Int32} {σ : yH} {k n : Nat} {K : Option Value → yH → Prop} {X : String → Addr → yH → Prop} (h : wp_J20_indexOf_2_30 en d  l0 l2 l3 l5 l6 l7 σ k n K X) : Wx en (d + 1) mJ20_indexOf_2 30 [(0, .ref l0), (2, .ref l2), (3, .int l3), (5, .int l5), (6, .int l6), (7, .int l7)] [] σ k n K X := by
  unfold wp_J20_indexOf_2_30 at h
  refine sd_iinc (pc := 30) dJ20_indexOf_2_30 5 rfl (v := (l7 + (1 : Int32))) rfl (by decide) (ls' := [(7, .int (l7 + (1 : Int32))), (0, .ref l0), (2, .ref l2), (3, .int l3), (5, .int l5), (6, .int l6)]) rfl ?_
  refine sd_iload (pc := 33) dJ20_indexOf_2_33 0 rfl ?_
  refine sd_iload (pc := 35) dJ20_indexOf_2_35 5 rfl ?_
  refine sd_icmpgt (pc := 37) dJ20_indexOf_2_37 (tgt := 52) (by decide) ⟨fun c8 => ?_, fun c8 => ?_⟩
  · have h := h.1 c8
    exact sd_loc [1, 2, 3, 4, 5, 0] rfl h
  · have h := h.2 c8
    refine sd_aload_n (pc := 40) dJ20_indexOf_2_40 rfl 1 rfl ?_
    refine sd_iload (pc := 41) dJ20_indexOf_2_41 0 rfl ?_
    refine sd_baload (pc := 43) dJ20_indexOf_2_43 (h.mono (fun v6 h => ?_))
    refine sd_iload (pc := 44) dJ20_indexOf_2_44 4 rfl ?_
    refine sd_icmpeq (pc := 46) dJ20_indexOf_2_46 (tgt := 52) (by decide) ⟨fun c7 => ?_, fun c7 => ?_⟩
    · have h := h.1 c7
      exact sd_loc [1, 2, 3, 4, 5, 0] rfl h
    · have h := h.2 c7
      refine sd_goto (pc := 49) dJ20_indexOf_2_49 (tgt := 30) (by decide) ?_
      exact sd_loc [1, 2, 3, 4, 5, 0] rfl h
def wp_J20_indexOf_2_76 (en : yEn) (d : Nat) (l0 : Nat) (l2 : Nat) (l3 : Int32) (l5 : Int32) (l6 : Int32) (l7 : Int32) (l8 : Int32) (l9 : Int32) (l10 : Int32) (σ : yH) (k n : Nat) (K : Option Value → yH → Prop) (X : String → Addr → yH → Prop) : Prop :=
  (((l9 ≤ l8) → ((¬ (l8 = l9) → Wx en (d + 1) mJ20_indexOf_2 14 [(0, .ref l0), (2, .ref l2), (3, .int l3), (5, .int l5), (6, .int l6), (7, .int (l7 + (1 : Int32)))] [] σ k n K X) ∧ ((l8 = l9) → K (some (.int l7)) σ))) ∧ (¬ (l9 ≤ l8) → aldI σ (en.2.2.2 1) l0 l8 (fun v10 => aldI σ (en.2.2.2 1) l2 l10 (fun v11 => ((¬ (v10 = v11) → ((¬ (l8 = l9) → Wx en (d + 1) mJ20_indexOf_2 14 [(0, .ref l0), (2, .ref l2), (3, .int l3), (5, .int l5), (6, .int l6), (7, .int (l7 + (1 : Int32)))] [] σ k n K X) ∧ ((l8 = l9) → K (some (.int l7)) σ))) ∧ ((v10 = v11) → Wx en (d + 1) mJ20_indexOf_2 76 [(0, .ref l0), (2, .ref l2), (3, .int l3), (5, .int l5), (6, .int l6), (7, .int l7), (8, .int (l8 + (1 : Int32))), (9, .int l9), (10, .int (l10 + (1 : Int32)))] [] σ k n K X))))))
set_option maxHeartbeats 4000000 in
theorem ok_J20_indexOf_2_76 {en : yEn} {d : Nat} {l0 : Nat} {l2 : Nat} {l3 : Int32} {l5 : Int32} {l6 : Int32} {l7 : Int32} {l8 : Int32} {l9 : Int32} {l10 : Int32} {σ : yH} {k n : Nat} {K : Option Value → yH → Prop} {X : String → Addr → yH → Prop} (h : wp_J20_indexOf_2_76 en d  l0 l2 l3 l5 l6 l7 l8 l9 l10 σ k n K X) : Wx en (d + 1) mJ20_indexOf_2 76 [(0, .ref l0), (2, .ref l2), (3, .int l3), (5, .int l5), (6, .int l6), (7, .int l7), (8, .int l8), (9, .int l9), (10, .int l10)] [] σ k n K X := by
  unfold wp_J20_indexOf_2_76 at h
  refine sd_iload (pc := 76) dJ20_indexOf_2_76 6 rfl ?_
  refine sd_iload (pc := 78) dJ20_indexOf_2_78 7 rfl ?_
  refine sd_icmpge (pc := 80) dJ20_indexOf_2_80 (tgt := 103) (by decide) ⟨fun c14 => ?_, fun c14 => ?_⟩
  · have h := h.1 c14
    refine sd_iload (pc := 103) dJ20_indexOf_2_103 6 rfl ?_
    refine sd_iload (pc := 105) dJ20_indexOf_2_105 7 rfl ?_
    refine sd_icmpne (pc := 107) dJ20_indexOf_2_107 (tgt := 113) (by decide) ⟨fun c9 => ?_, fun c9 => ?_⟩
    · have h := h.1 c9
      refine sd_iinc (pc := 113) dJ20_indexOf_2_113 5 rfl (v := (l7 + (1 : Int32))) rfl (by decide) (ls' := [(7, .int (l7 + (1 : Int32))), (0, .ref l0), (2, .ref l2), (3, .int l3), (5, .int l5), (6, .int l6), (8, .int l8), (9, .int l9), (10, .int l10)]) rfl ?_
      refine sd_goto (pc := 116) dJ20_indexOf_2_116 (tgt := 14) (by decide) ?_
      exact sd_loc [1, 2, 3, 4, 5, 0] rfl h
    · have h := h.2 c9
      refine sd_iload (pc := 110) dJ20_indexOf_2_110 5 rfl ?_
      exact sd_ireturn (pc := 112) dJ20_indexOf_2_112 (ty0 := .int) rfl rfl h
  · have h := h.2 c14
    refine sd_aload_n (pc := 83) dJ20_indexOf_2_83 rfl 0 rfl ?_
    refine sd_iload (pc := 84) dJ20_indexOf_2_84 6 rfl ?_
    refine sd_baload (pc := 86) dJ20_indexOf_2_86 (h.mono (fun v10 h => ?_))
    refine sd_aload_n (pc := 87) dJ20_indexOf_2_87 rfl 1 rfl ?_
    refine sd_iload (pc := 88) dJ20_indexOf_2_88 8 rfl ?_
    refine sd_baload (pc := 90) dJ20_indexOf_2_90 (h.mono (fun v11 h => ?_))
    refine sd_icmpne (pc := 91) dJ20_indexOf_2_91 (tgt := 103) (by decide) ⟨fun c13 => ?_, fun c13 => ?_⟩
    · have h := h.1 c13
      refine sd_iload (pc := 103) dJ20_indexOf_2_103 6 rfl ?_
      refine sd_iload (pc := 105) dJ20_indexOf_2_105 7 rfl ?_
      refine sd_icmpne (pc := 107) dJ20_indexOf_2_107 (tgt := 113) (by decide) ⟨fun c12 => ?_, fun c12 => ?_⟩
      · have h := h.1 c12
        refine sd_iinc (pc := 113) dJ20_indexOf_2_113 5 rfl (v := (l7 + (1 : Int32))) rfl (by decide) (ls' := [(7, .int (l7 + (1 : Int32))), (0, .ref l0), (2, .ref l2), (3, .int l3), (5, .int l5), (6, .int l6), (8, .int l8), (9, .int l9), (10, .int l10)]) rfl ?_
        refine sd_goto (pc := 116) dJ20_indexOf_2_116 (tgt := 14) (by decide) ?_
        exact sd_loc [1, 2, 3, 4, 5, 0] rfl h
      · have h := h.2 c12
        refine sd_iload (pc := 110) dJ20_indexOf_2_110 5 rfl ?_
        exact sd_ireturn (pc := 112) dJ20_indexOf_2_112 (ty0 := .int) rfl rfl h
    · have h := h.2 c13
      refine sd_iinc (pc := 94) dJ20_indexOf_2_94 6 rfl (v := (l8 + (1 : Int32))) rfl (by decide) (ls' := [(8, .int (l8 + (1 : Int32))), (0, .ref l0), (2, .ref l2), (3, .int l3), (5, .int l5), (6, .int l6), (7, .int l7), (9, .int l9), (10, .int l10)]) rfl ?_
      refine sd_iinc (pc := 97) dJ20_indexOf_2_97 8 rfl (v := (l10 + (1 : Int32))) rfl (by decide) (ls' := [(10, .int (l10 + (1 : Int32))), (8, .int (l8 + (1 : Int32))), (0, .ref l0), (2, .ref l2), (3, .int l3), (5, .int l5), (6, .int l6), (7, .int l7), (9, .int l9)]) rfl ?_
      refine sd_goto (pc := 100) dJ20_indexOf_2_100 (tgt := 76) (by decide) ?_
      exact sd_loc [2, 3, 4, 5, 6, 7, 1, 8, 0] rfl h
def wp_J20_indexOf_2 (en : yEn) (d : Nat) (x0 : Nat) (x1 : Int32) (x2 : Nat) (x3 : Int32) (x4 : Int32) (σ : yH) (k n : Nat) (K : Option Value → yH → Prop) (X : String → Addr → yH → Prop) : Prop :=
  aldI σ (en.2.2.2 1) x2 (0 : Int32) (fun v1 => Wx en (d + 1) mJ20_indexOf_2 14 [(0, .ref x0), (2, .ref x2), (3, .int x3), (5, .int v1), (6, .int (x1 - x3)), (7, .int x4)] [] σ k n K X)
set_option maxHeartbeats 4000000 in
theorem ok_J20_indexOf_2 {en : yEn} {d : Nat} {x0 : Nat} {x1 : Int32} {x2 : Nat} {x3 : Int32} {x4 : Int32} {σ : yH} {k n : Nat} {K : Option Value → yH → Prop} {X : String → Addr → yH → Prop} (h : wp_J20_indexOf_2 en d  x0 x1 x2 x3 x4 σ k n K X) : Wx en (d + 1) mJ20_indexOf_2 0 [(0, .ref x0), (1, .int x1), (2, .ref x2), (3, .int x3), (4, .int x4)] [] σ k n K X := by
  unfold wp_J20_indexOf_2 at h
  refine sd_aload_n (pc := 0) dJ20_indexOf_2_0 rfl 2 rfl ?_
  refine sd_iconst (pc := 1) dJ20_indexOf_2_1 (v := 0) (by decide) ?_
  refine sd_baload (pc := 2) dJ20_indexOf_2_2 (h.mono (fun v1 h => ?_))
  refine sd_istore (pc := 3) dJ20_indexOf_2_3 (by decide) (ls' := [(5, .int v1), (0, .ref x0), (1, .int x1), (2, .ref x2), (3, .int x3), (4, .int x4)]) rfl ?_
  refine sd_iload_n (pc := 5) dJ20_indexOf_2_5 rfl 2 rfl ?_
  refine sd_iload_n (pc := 6) dJ20_indexOf_2_6 rfl 4 rfl ?_
  refine sd_isub (pc := 7) dJ20_indexOf_2_7 ?_
  refine sd_istore (pc := 8) dJ20_indexOf_2_8 (by decide) (ls' := [(6, .int (x1 - x3)), (5, .int v1), (0, .ref x0), (1, .int x1), (2, .ref x2), (3, .int x3), (4, .int x4)]) rfl ?_
  refine sd_iload (pc := 10) dJ20_indexOf_2_10 6 rfl ?_
  refine sd_istore (pc := 12) dJ20_indexOf_2_12 (by decide) (ls' := [(7, .int x4), (6, .int (x1 - x3)), (5, .int v1), (0, .ref x0), (1, .int x1), (2, .ref x2), (3, .int x3), (4, .int x4)]) rfl ?_
  exact sd_loc [3, 5, 6, 2, 1, 0] rfl h
theorem cx_J20_indexOf_2 {en : yEn} {d : Nat} {x0 : Nat} {x1 : Int32} {x2 : Nat} {x3 : Int32} {x4 : Int32} {σ : yH} {k n : Nat} {K : Option Value → yH → Prop} {X : String → Addr → yH → Prop} (h : wp_J20_indexOf_2 en d  x0 x1 x2 x3 x4 σ k n K X) : Cx en (d + 1) k n mJ20_indexOf_2 [.ref x0, .int x1, .ref x2, .int x3, .int x4] σ K X := Cx.body (by decide +kernel) rfl (Nat.le_of_ble_eq_true rfl) (ok_J20_indexOf_2 h)
/-! java/lang/StringLatin1.indexOf([B[B)I -/
def wp_J20_indexOf (en : yEn) (d : Nat) (x0 : Nat) (x1 : Nat) (σ : yH) (k n : Nat) (K : Option Value → yH → Prop) (X : String → Addr → yH → Prop) : Prop :=
  alenQ en σ x1 (fun v1 => ((¬ (v1 = 0) → alenQ en σ x0 (fun v2 => ((¬ (v2 = 0) → alenQ en σ x0 (fun v3 => alenQ en σ x1 (fun v4 => Cx en d 0 0 mJ20_indexOf_2 [.ref x0, .int v3, .ref x1, .int v4, .int (0 : Int32)] σ (kI (fun r6 σ5 => K (some (.int r6)) σ5)) X))) ∧ ((v2 = 0) → K (some (.int (-1 : Int32))) σ)))) ∧ ((v1 = 0) → K (some (.int (0 : Int32))) σ)))
set_option maxHeartbeats 4000000 in
theorem ok_J20_indexOf {en : yEn} {d : Nat} {x0 : Nat} {x1 : Nat} {σ : yH} {k n : Nat} {K : Option Value → yH → Prop} {X : String → Addr → yH → Prop} (h : wp_J20_indexOf en d  x0 x1 σ k n K X) : Wx en (d + 1) mJ20_indexOf 0 [(0, .ref x0), (1, .ref x1)] [] σ k n K X := by
  unfold wp_J20_indexOf at h
  refine sd_aload_n (pc := 0) dJ20_indexOf_0 rfl 1 rfl ?_
  refine sd_alenQ (pc := 1) dJ20_indexOf_1 (h.mono (fun v1 h => ?_))
  refine sd_ifne (pc := 2) dJ20_indexOf_2 (tgt := 7) (by decide) ⟨fun c8 => ?_, fun c8 => ?_⟩
  · have h := h.1 c8
    refine sd_aload_n (pc := 7) dJ20_indexOf_7 rfl 0 rfl ?_
    refine sd_alenQ (pc := 8) dJ20_indexOf_8 (h.mono (fun v2 h => ?_))
    refine sd_ifne (pc := 9) dJ20_indexOf_9 (tgt := 14) (by decide) ⟨fun c7 => ?_, fun c7 => ?_⟩
    · have h := h.1 c7
      refine sd_aload_n (pc := 14) dJ20_indexOf_14 rfl 0 rfl ?_
      refine sd_aload_n (pc := 15) dJ20_indexOf_15 rfl 0 rfl ?_
      refine sd_alenQ (pc := 16) dJ20_indexOf_16 (h.mono (fun v3 h => ?_))
      refine sd_aload_n (pc := 17) dJ20_indexOf_17 rfl 1 rfl ?_
      refine sd_aload_n (pc := 18) dJ20_indexOf_18 rfl 1 rfl ?_
      refine sd_alenQ (pc := 19) dJ20_indexOf_19 (h.mono (fun v4 h => ?_))
      refine sd_iconst (pc := 20) dJ20_indexOf_20 (v := 0) (by decide) ?_
      refine sd_callS (k := k) (n := n) (As := [.ref x0, .int v3, .ref x1, .int v4, .int (0 : Int32)]) (st := []) (pc := 21) dJ20_indexOf_21 q1776 q1777 q106 q1778 5 (by decide +kernel) rfl (Nat.le_refl _) (by decide) (Nat.le_of_ble_eq_true rfl) (Cx.mono h (kI.to (fun r6 σ5 h => ?_)) (xo rfl))
      exact sd_ireturn (pc := 24) dJ20_indexOf_24 (ty0 := .int) rfl rfl h
    · have h := h.2 c7
      refine sd_iconst (pc := 12) dJ20_indexOf_12 (v := -1) (by decide) ?_
      exact sd_ireturn (pc := 13) dJ20_indexOf_13 (ty0 := .int) rfl rfl h
  · have h := h.2 c8
    refine sd_iconst (pc := 5) dJ20_indexOf_5 (v := 0) (by decide) ?_
    exact sd_ireturn (pc := 6) dJ20_indexOf_6 (ty0 := .int) rfl rfl h
theorem cx_J20_indexOf {en : yEn} {d : Nat} {x0 : Nat} {x1 : Nat} {σ : yH} {k n : Nat} {K : Option Value → yH → Prop} {X : String → Addr → yH → Prop} (h : wp_J20_indexOf en d  x0 x1 σ k n K X) : Cx en (d + 1) k n mJ20_indexOf [.ref x0, .ref x1] σ K X := Cx.body (by decide +kernel) rfl (Nat.le_of_ble_eq_true rfl) (ok_J20_indexOf h)
/-! java/lang/String.<init>([BB)V -/
def wp_J7_init_3 (en : yEn) (d : Nat) (x0 : Nat) (x1 : Nat) (x2 : Int32) (σ : yH) (k n : Nat) (K : Option Value → yH → Prop) (X : String → Addr → yH → Prop) : Prop :=
  (putV σ x0 15 0 (.ref x1) (fun σ1 => (narrow .byte (.int x2) = .int x2 ∧ fits .byte (.int x2) = true ∧ putV σ1 x0 15 1 (.int x2) (fun σ2 => K none σ2))))
set_option maxHeartbeats 4000000 in
theorem ok_J7_init_3 {en : yEn} {d : Nat} {x0 : Nat} {x1 : Nat} {x2 : Int32} {σ : yH} {k n : Nat} {K : Option Value → yH → Prop} {X : String → Addr → yH → Prop} (h : wp_J7_init_3 en d  x0 x1 x2 σ k n K X) : Wx en (d + 1) mJ7_init_3 0 [(0, .ref x0), (1, .ref x1), (2, .int x2)] [] σ k n K X := by
  unfold wp_J7_init_3 at h
  refine sd_aload_n (pc := 0) dJ7_init_3_0 rfl 0 rfl ?_
  refine sd_objInit (pc := 1) dJ7_init_3_1 q673 q126 q127 (by omega) (Nat.le_of_ble_eq_true rfl) ?_
  refine sd_aload_n (pc := 4) dJ7_init_3_4 rfl 0 rfl ?_
  refine sd_aload_n (pc := 5) dJ7_init_3_5 rfl 1 rfl ?_
  refine sd_putfF (pc := 6) dJ7_init_3_6 (ci := 15) rfl in_J7 tyJ7 tyJ7_ok nmJ7 (kf := 0) (by decide) q724 rfl rfl rfl (ty := (.array .byte)) rfl rfl rfl (putV.mono h (fun σ1 h => ?_))
  refine sd_aload_n (pc := 9) dJ7_init_3_9 rfl 0 rfl ?_
  refine sd_iload_n (pc := 10) dJ7_init_3_10 rfl 2 rfl ?_
  refine sd_putfF (pc := 11) dJ7_init_3_11 (ci := 15) rfl in_J7 tyJ7 tyJ7_ok nmJ7 (kf := 1) (by decide) q725 rfl rfl rfl (ty := .byte) rfl h.1 h.2.1 (putV.mono h.2.2 (fun σ2 h => ?_))
  exact sd_return (pc := 14) dJ7_init_3_14 rfl h
theorem cx_J7_init_3 {en : yEn} {d : Nat} {x0 : Nat} {x1 : Nat} {x2 : Int32} {σ : yH} {k n : Nat} {K : Option Value → yH → Prop} {X : String → Addr → yH → Prop} (h : wp_J7_init_3 en d  x0 x1 x2 σ k n K X) : Cx en (d + 1) k n mJ7_init_3 [.ref x0, .ref x1, .int x2] σ K X := Cx.body (by decide +kernel) rfl (Nat.le_of_ble_eq_true rfl) (ok_J7_init_3 h)
/-! java/lang/StringLatin1.newString([BII)Ljava/lang/String; -/
def wp_J20_newString (en : yEn) (d : Nat) (p16 : Nat × Nat) (x0 : Nat) (x1 : Int32) (x2 : Int32) (σ : yH) (k n : Nat) (K : Option Value → yH → Prop) (X : String → Addr → yH → Prop) : Prop :=
  ((¬ (x2 = 0) → newV σ (.inr (15, [.null, .int 0, .int 0, .int 0])) (fun a1 σ2 => Cx en d p16.1 p16.2 mJ3_copyOfRange_2 [.ref x0, .int x1, .int (x1 + x2)] σ2 (kA (fun r4 σ3 => Cx en d 0 0 mJ7_init_3 [.ref a1, .ref r4, .int (0 : Int32)] σ3 (kV (fun σ5 => K (some (.ref a1)) σ5)) X)) X)) ∧ ((x2 = 0) → K (some (.ref (y_str en "java/lang/StringLatin1" 151))) σ))
set_option maxHeartbeats 4000000 in
theorem ok_J20_newString {en : yEn} {d : Nat} {p16 : Nat × Nat} {x0 : Nat} {x1 : Int32} {x2 : Int32} {σ : yH} {k n : Nat} {K : Option Value → yH → Prop} {X : String → Addr → yH → Prop} (h : wp_J20_newString en d p16 x0 x1 x2 σ k n K X) : Wx en (d + 1) mJ20_newString 0 [(0, .ref x0), (1, .int x1), (2, .int x2)] [] σ (k + 1 + p16.1) (n + 4 + p16.2) K X := by
  unfold wp_J20_newString at h
  refine sd_iload_n (pc := 0) dJ20_newString_0 rfl 2 rfl ?_
  refine sd_ifne (pc := 1) dJ20_newString_1 (tgt := 7) (by decide) ⟨fun c6 => ?_, fun c6 => ?_⟩
  · have h := h.1 c6
    refine Wx.more (k' := (k + p16.1) + 1) (n' := (n + p16.2) + 4) ?_ (by omega) (by omega)
    refine sd_new (k := (k + p16.1)) (n := (n + p16.2)) (pc := 7) dJ20_newString_7 (ci := 15) rfl in_J7 tyJ7 tyJ7_ok q1836 q666 q89 (fs := [.null, .int 0, .int 0, .int 0]) (fun j hj => by rcases (show j = 0 ∨ j = 1 ∨ j = 2 ∨ j = 3 by omega) with rfl | rfl | rfl | rfl <;> rfl) (h.mono (fun a1 σ2 h => ?_))
    refine sd_dup (pc := 10) dJ20_newString_10 rfl ?_
    refine sd_aload_n (pc := 11) dJ20_newString_11 rfl 0 rfl ?_
    refine sd_iload_n (pc := 12) dJ20_newString_12 rfl 1 rfl ?_
    refine sd_iload_n (pc := 13) dJ20_newString_13 rfl 1 rfl ?_
    refine sd_iload_n (pc := 14) dJ20_newString_14 rfl 2 rfl ?_
    refine sd_iadd (pc := 15) dJ20_newString_15 ?_
    refine sd_callS (k := k) (n := n) (As := [.ref x0, .int x1, .int (x1 + x2)]) (st := [.ref a1, .ref a1]) (pc := 16) dJ20_newString_16 q1837 q689 q85 q690 3 (by decide +kernel) rfl (Nat.le_refl _) (by decide) (Nat.le_of_ble_eq_true rfl) (Cx.mono h (kA.to (fun r4 σ3 h => ?_)) (xo rfl))
    refine sd_iconst (pc := 19) dJ20_newString_19 (v := 0) (by decide) ?_
    refine sd_callI (k := k) (n := n) (As := [.ref r4, .int (0 : Int32)]) (st := [.ref a1]) (pc := 20) dJ20_newString_20 q1838 q1839 q89 q1840 rfl 2 (by decide +kernel) rfl (Nat.le_refl _) (by decide) (Nat.le_of_ble_eq_true rfl) (Cx.mono h (kV.to (fun σ5 h => ?_)) (xo rfl))
    exact sd_areturn (r := (some a1)) (pc := 23) dJ20_newString_23 rfl (Or.inl ⟨_, rfl⟩) h
  · have h := h.2 c6
    refine Wx.more (k' := k) (n' := n) ?_ (by omega) (by omega)
    refine sd_ldcS (pc := 4) dJ20_newString_4 q1835 yn624 ?_
    exact sd_areturn (r := (some (y_str en "java/lang/StringLatin1" 151))) (pc := 6) dJ20_newString_6 rfl (Or.inl ⟨_, rfl⟩) h
theorem cx_J20_newString {en : yEn} {d : Nat} {p16 : Nat × Nat} {x0 : Nat} {x1 : Int32} {x2 : Int32} {σ : yH} {k n : Nat} {K : Option Value → yH → Prop} {X : String → Addr → yH → Prop} (h : wp_J20_newString en d p16 x0 x1 x2 σ k n K X) : Cx en (d + 1) (k + 1 + p16.1) (n + 4 + p16.2) mJ20_newString [.ref x0, .int x1, .int x2] σ K X := Cx.body (by decide +kernel) rfl (Nat.le_of_ble_eq_true rfl) (ok_J20_newString h)
/-! java/lang/StringLatin1.equals([B[B)Z -/
def wp_J20_equals_9 (en : yEn) (d : Nat) (l0 : Nat) (l1 : Nat) (l2 : Int32) (σ : yH) (k n : Nat) (K : Option Value → yH → Prop) (X : String → Addr → yH → Prop) : Prop :=
  alenQ en σ l0 (fun v4 => (((v4 ≤ l2) → K (some (.int (1 : Int32))) σ) ∧ (¬ (v4 ≤ l2) → aldI σ (en.2.2.2 1) l0 l2 (fun v5 => aldI σ (en.2.2.2 1) l1 l2 (fun v6 => (((v5 = v6) → Wx en (d + 1) mJ20_equals 9 [(0, .ref l0), (1, .ref l1), (2, .int (l2 + (1 : Int32)))] [] σ k n K X) ∧ (¬ (v5 = v6) → K (some (.int (0 : Int32))) σ)))))))
set_option maxHeartbeats 4000000 in
theorem ok_J20_equals_9 {en : yEn} {d : Nat} {l0 : Nat} {l1 : Nat} {l2 : Int32} {σ : yH} {k n : Nat} {K : Option Value → yH → Prop} {X : String → Addr → yH → Prop} (h : wp_J20_equals_9 en d  l0 l1 l2 σ k n K X) : Wx en (d + 1) mJ20_equals 9 [(0, .ref l0), (1, .ref l1), (2, .int l2)] [] σ k n K X := by
  unfold wp_J20_equals_9 at h
  refine sd_iload_n (pc := 9) dJ20_equals_9 rfl 2 rfl ?_
  refine sd_aload_n (pc := 10) dJ20_equals_10 rfl 0 rfl ?_
  refine sd_alenQ (pc := 11) dJ20_equals_11 (h.mono (fun v4 h => ?_))
  refine sd_icmpge (pc := 12) dJ20_equals_12 (tgt := 32) (by decide) ⟨fun c8 => ?_, fun c8 => ?_⟩
  · have h := h.1 c8
    refine sd_iconst (pc := 32) dJ20_equals_32 (v := 1) (by decide) ?_
    exact sd_ireturn (pc := 33) dJ20_equals_33 (ty0 := .boolean) rfl rfl h
  · have h := h.2 c8
    refine sd_aload_n (pc := 15) dJ20_equals_15 rfl 0 rfl ?_
    refine sd_iload_n (pc := 16) dJ20_equals_16 rfl 2 rfl ?_
    refine sd_baload (pc := 17) dJ20_equals_17 (h.mono (fun v5 h => ?_))
    refine sd_aload_n (pc := 18) dJ20_equals_18 rfl 1 rfl ?_
    refine sd_iload_n (pc := 19) dJ20_equals_19 rfl 2 rfl ?_
    refine sd_baload (pc := 20) dJ20_equals_20 (h.mono (fun v6 h => ?_))
    refine sd_icmpeq (pc := 21) dJ20_equals_21 (tgt := 26) (by decide) ⟨fun c7 => ?_, fun c7 => ?_⟩
    · have h := h.1 c7
      refine sd_iinc (pc := 26) dJ20_equals_26 2 rfl (v := (l2 + (1 : Int32))) rfl (by decide) (ls' := [(2, .int (l2 + (1 : Int32))), (0, .ref l0), (1, .ref l1)]) rfl ?_
      refine sd_goto (pc := 29) dJ20_equals_29 (tgt := 9) (by decide) ?_
      exact sd_loc [1, 2, 0] rfl h
    · have h := h.2 c7
      refine sd_iconst (pc := 24) dJ20_equals_24 (v := 0) (by decide) ?_
      exact sd_ireturn (pc := 25) dJ20_equals_25 (ty0 := .boolean) rfl rfl h
def wp_J20_equals (en : yEn) (d : Nat) (x0 : Nat) (x1 : Nat) (σ : yH) (k n : Nat) (K : Option Value → yH → Prop) (X : String → Addr → yH → Prop) : Prop :=
  alenQ en σ x0 (fun v1 => alenQ en σ x1 (fun v2 => ((¬ (v1 = v2) → K (some (.int (0 : Int32))) σ) ∧ ((v1 = v2) → Wx en (d + 1) mJ20_equals 9 [(0, .ref x0), (1, .ref x1), (2, .int (0 : Int32))] [] σ k n K X))))
set_option maxHeartbeats 4000000 in
theorem ok_J20_equals {en : yEn} {d : Nat} {x0 : Nat} {x1 : Nat} {σ : yH} {k n : Nat} {K : Option Value → yH → Prop} {X : String → Addr → yH → Prop} (h : wp_J20_equals en d  x0 x1 σ k n K X) : Wx en (d + 1) mJ20_equals 0 [(0, .ref x0), (1, .ref x1)] [] σ k n K X := by
  unfold wp_J20_equals at h
  refine sd_aload_n (pc := 0) dJ20_equals_0 rfl 0 rfl ?_
  refine sd_alenQ (pc := 1) dJ20_equals_1 (h.mono (fun v1 h => ?_))
  refine sd_aload_n (pc := 2) dJ20_equals_2 rfl 1 rfl ?_
  refine sd_alenQ (pc := 3) dJ20_equals_3 (h.mono (fun v2 h => ?_))
  refine sd_icmpne (pc := 4) dJ20_equals_4 (tgt := 34) (by decide) ⟨fun c3 => ?_, fun c3 => ?_⟩
  · have h := h.1 c3
    refine sd_iconst (pc := 34) dJ20_equals_34 (v := 0) (by decide) ?_
    exact sd_ireturn (pc := 35) dJ20_equals_35 (ty0 := .boolean) rfl rfl h
  · have h := h.2 c3
    refine sd_iconst (pc := 7) dJ20_equals_7 (v := 0) (by decide) ?_
    refine sd_istore_n (pc := 8) dJ20_equals_8 rfl (by decide) (ls' := [(2, .int (0 : Int32)), (0, .ref x0), (1, .ref x1)]) rfl ?_
    exact sd_loc [1, 2, 0] rfl h
theorem cx_J20_equals {en : yEn} {d : Nat} {x0 : Nat} {x1 : Nat} {σ : yH} {k n : Nat} {K : Option Value → yH → Prop} {X : String → Addr → yH → Prop} (h : wp_J20_equals en d  x0 x1 σ k n K X) : Cx en (d + 1) k n mJ20_equals [.ref x0, .ref x1] σ K X := Cx.body (by decide +kernel) rfl (Nat.le_of_ble_eq_true rfl) (ok_J20_equals h)
/-! java/lang/StringLatin1.hashCode([B)I -/
def wp_J20_hashCode (en : yEn) (d : Nat) (x0 : Nat) (σ : yH) (k n : Nat) (K : Option Value → yH → Prop) (X : String → Addr → yH → Prop) : Prop :=
  alenQ en σ x0 (fun v1 => ((v1 = (0 : Int32) → K (some (.int (0 : Int32))) σ) ∧ (v1 = (1 : Int32) → aldI σ (en.2.2.2 1) x0 (0 : Int32) (fun v2 => K (some (.int (v2 &&& (255 : Int32)))) σ)) ∧ (¬ v1 = (0 : Int32) → ¬ v1 = (1 : Int32) → alenQ en σ x0 (fun v3 => Cx en d 0 0 mJ15_vectorizedHashCode [.ref x0, .int (0 : Int32), .int v3, .int (0 : Int32), .int (4 : Int32)] σ (kI (fun r5 σ4 => K (some (.int r5)) σ4)) X))))
set_option maxHeartbeats 4000000 in
theorem ok_J20_hashCode {en : yEn} {d : Nat} {x0 : Nat} {σ : yH} {k n : Nat} {K : Option Value → yH → Prop} {X : String → Addr → yH → Prop} (h : wp_J20_hashCode en d  x0 σ k n K X) : Wx en (d + 1) mJ20_hashCode 0 [(0, .ref x0)] [] σ k n K X := by
  unfold wp_J20_hashCode at h
  refine sd_aload_n (pc := 0) dJ20_hashCode_0 rfl 0 rfl ?_
  refine sd_alenQ (pc := 1) dJ20_hashCode_1 (h.mono (fun v1 h => ?_))
  by_cases g0 : v1 = (0 : Int32)
  · have h := h.1 g0
    refine sd_lookup (pc := 2) dJ20_hashCode_2 (by decide) (off := 26) (by rw [g0]; decide) (tgt := 28) (by decide) ?_
    refine sd_iconst (pc := 28) dJ20_hashCode_28 (v := 0) (by decide) ?_
    refine sd_goto (pc := 29) dJ20_hashCode_29 (tgt := 51) (by decide) ?_
    exact sd_ireturn (pc := 51) dJ20_hashCode_51 (ty0 := .int) rfl rfl h
  · skip
    by_cases g1 : v1 = (1 : Int32)
    · have h := h.2.1 g1
      refine sd_lookup (pc := 2) dJ20_hashCode_2 (by decide) (off := 30) (by rw [g1]; decide) (tgt := 32) (by decide) ?_
      refine sd_aload_n (pc := 32) dJ20_hashCode_32 rfl 0 rfl ?_
      refine sd_iconst (pc := 33) dJ20_hashCode_33 (v := 0) (by decide) ?_
      refine sd_baload (pc := 34) dJ20_hashCode_34 (h.mono (fun v2 h => ?_))
      refine sd_sipush (pc := 35) dJ20_hashCode_35 (v := 255) (by decide) ?_
      refine sd_iand (pc := 38) dJ20_hashCode_38 ?_
      refine sd_goto (pc := 39) dJ20_hashCode_39 (tgt := 51) (by decide) ?_
      exact sd_ireturn (pc := 51) dJ20_hashCode_51 (ty0 := .int) rfl rfl h
    · skip
      have h := h.2.2 g0 g1
      refine sd_lookup (pc := 2) dJ20_hashCode_2 (by decide) (off := 40) (by rw [lv_osw g0 (by decide)]; rw [lv_osw g1 (by decide)]; rfl) (tgt := 42) (by decide) ?_
      refine sd_aload_n (pc := 42) dJ20_hashCode_42 rfl 0 rfl ?_
      refine sd_iconst (pc := 43) dJ20_hashCode_43 (v := 0) (by decide) ?_
      refine sd_aload_n (pc := 44) dJ20_hashCode_44 rfl 0 rfl ?_
      refine sd_alenQ (pc := 45) dJ20_hashCode_45 (h.mono (fun v3 h => ?_))
      refine sd_iconst (pc := 46) dJ20_hashCode_46 (v := 0) (by decide) ?_
      refine sd_iconst (pc := 47) dJ20_hashCode_47 (v := 4) (by decide) ?_
      refine sd_callS (k := k) (n := n) (As := [.ref x0, .int (0 : Int32), .int v3, .int (0 : Int32), .int (4 : Int32)]) (st := []) (pc := 48) dJ20_hashCode_48 q1872 q1873 q100 q1874 5 (by decide +kernel) rfl (Nat.le_refl _) (by decide) (Nat.le_of_ble_eq_true rfl) (Cx.mono h (kI.to (fun r5 σ4 h => ?_)) (xo rfl))
      exact sd_ireturn (pc := 51) dJ20_hashCode_51 (ty0 := .int) rfl rfl h
theorem cx_J20_hashCode {en : yEn} {d : Nat} {x0 : Nat} {σ : yH} {k n : Nat} {K : Option Value → yH → Prop} {X : String → Addr → yH → Prop} (h : wp_J20_hashCode en d  x0 σ k n K X) : Cx en (d + 1) k n mJ20_hashCode [.ref x0] σ K X := Cx.body (by decide +kernel) rfl (Nat.le_of_ble_eq_true rfl) (ok_J20_hashCode h)
/-! java/lang/StringLatin1.fillNull([BII)V -/
def wp_J20_fillNull (en : yEn) (d : Nat) (x0 : Nat) (x1 : Int32) (x2 : Int32) (σ : yH) (k n : Nat) (K : Option Value → yH → Prop) (X : String → Addr → yH → Prop) : Prop :=
  Cx en d 0 0 mJ3_fill_2 [.ref x0, .int x1, .int x2, .int (0 : Int32)] σ (kV (fun σ1 => K none σ1)) X
set_option maxHeartbeats 4000000 in
theorem ok_J20_fillNull {en : yEn} {d : Nat} {x0 : Nat} {x1 : Int32} {x2 : Int32} {σ : yH} {k n : Nat} {K : Option Value → yH → Prop} {X : String → Addr → yH → Prop} (h : wp_J20_fillNull en d  x0 x1 x2 σ k n K X) : Wx en (d + 1) mJ20_fillNull 0 [(0, .ref x0), (1, .int x1), (2, .int x2)] [] σ k n K X := by
  unfold wp_J20_fillNull at h
  refine sd_aload_n (pc := 0) dJ20_fillNull_0 rfl 0 rfl ?_
  refine sd_iload_n (pc := 1) dJ20_fillNull_1 rfl 1 rfl ?_
  refine sd_iload_n (pc := 2) dJ20_fillNull_2 rfl 2 rfl ?_
  refine sd_iconst (pc := 3) dJ20_fillNull_3 (v := 0) (by decide) ?_
  refine sd_callS (k := k) (n := n) (As := [.ref x0, .int x1, .int x2, .int (0 : Int32)]) (st := []) (pc := 4) dJ20_fillNull_4 q1977 q1978 q85 q1979 4 (by decide +kernel) rfl (Nat.le_refl _) (by decide) (Nat.le_of_ble_eq_true rfl) (Cx.mono h (kV.to (fun σ1 h => ?_)) (xo rfl))
  exact sd_return (pc := 7) dJ20_fillNull_7 rfl h
theorem cx_J20_fillNull {en : yEn} {d : Nat} {x0 : Nat} {x1 : Int32} {x2 : Int32} {σ : yH} {k n : Nat} {K : Option Value → yH → Prop} {X : String → Addr → yH → Prop} (h : wp_J20_fillNull en d  x0 x1 x2 σ k n K X) : Cx en (d + 1) k n mJ20_fillNull [.ref x0, .int x1, .int x2] σ K X := Cx.body (by decide +kernel) rfl (Nat.le_of_ble_eq_true rfl) (ok_J20_fillNull h)
/-! java/util/ArrayDeque.<init>()V -/
def wp_J4_init (en : yEn) (d : Nat) (p7 : Nat × Nat) (x0 : Nat) (σ : yH) (k n : Nat) (K : Option Value → yH → Prop) (X : String → Addr → yH → Prop) : Prop :=
  Cx en d 0 0 mJ0_init [.ref x0] σ (kV (fun σ1 => (∃ M5 : Nat, ¬ (17 : Int32) < 0 ∧ (17 : Int32).toNatClampNeg = M5 ∧ M5 * 4 ≤ 536870912 ∧ 1 ≤ p7.1 ∧ M5 ≤ p7.2 ∧ newV σ1 (.inl (en.2.2.2 5, M5, .inr (.inr (.inr (.inr (fun _ => none)))))) (fun a2 σ3 => (putV σ3 x0 13 0 (.ref a2) (fun σ4 => K none σ4)))))) X
set_option maxHeartbeats 4000000 in
theorem ok_J4_init {en : yEn} {d : Nat} {p7 : Nat × Nat} {x0 : Nat} {σ : yH} {k n : Nat} {K : Option Value → yH → Prop} {X : String → Addr → yH → Prop} (h : wp_J4_init en d p7 x0 σ k n K X) : Wx en (d + 1) mJ4_init 0 [(0, .ref x0)] [] σ (k + p7.1) (n + p7.2) K X := by
  unfold wp_J4_init at h
  refine sd_aload_n (pc := 0) dJ4_init_0 rfl 0 rfl ?_
  refine sd_callI (k := (k + p7.1)) (n := (n + p7.2)) (As := []) (st := []) (pc := 1) dJ4_init_1 q233 q143 q82 q144 rfl 0 (by decide +kernel) rfl (Nat.le_refl _) (by decide) (Nat.le_of_ble_eq_true rfl) (Cx.mono h (kV.to (fun σ1 h => ?_)) (xo rfl))
  refine sd_aload_n (pc := 4) dJ4_init_4 rfl 0 rfl ?_
  refine sd_bipush (pc := 5) dJ4_init_5 (v := 17) (by decide) ?_
  obtain ⟨M5, g1, g2, g3, g4, g5, h⟩ := h
  refine Wx.more (k' := k + 1) (n' := n + M5) ?_ (by omega) (by omega)
  refine sd_newq (k := k) (n := n) (pc := 7) dJ4_init_7 q234 q235 g1 g2 g3 (h.mono (fun a2 σ3 h => ?_))
  refine sd_putf (pc := 10) dJ4_init_10 (ci := 13) rfl in_J4 tyJ4 tyJ4_ok nmJ4 (kf := 0) (by decide) q236 rfl (ty := (.array (.object "java/lang/Object"))) rfl rfl rfl (putV.mono h (fun σ4 h => ?_))
  exact sd_return (pc := 13) dJ4_init_13 rfl h
theorem cx_J4_init {en : yEn} {d : Nat} {p7 : Nat × Nat} {x0 : Nat} {σ : yH} {k n : Nat} {K : Option Value → yH → Prop} {X : String → Addr → yH → Prop} (h : wp_J4_init en d p7 x0 σ k n K X) : Cx en (d + 1) (k + p7.1) (n + p7.2) mJ4_init [.ref x0] σ K X := Cx.body (by decide +kernel) rfl (Nat.le_of_ble_eq_true rfl) (ok_J4_init h)
/-! java/util/ArrayDeque.sub(III)I -/
def wp_J4_sub (en : yEn) (d : Nat) (x0 : Int32) (x1 : Int32) (x2 : Int32) (σ : yH) (k n : Nat) (K : Option Value → yH → Prop) (X : String → Addr → yH → Prop) : Prop :=
  (((0 ≤ (x0 - x1)) → K (some (.int (x0 - x1))) σ) ∧ (¬ (0 ≤ (x0 - x1)) → K (some (.int ((x0 - x1) + x2))) σ))
set_option maxHeartbeats 4000000 in
theorem ok_J4_sub {en : yEn} {d : Nat} {x0 : Int32} {x1 : Int32} {x2 : Int32} {σ : yH} {k n : Nat} {K : Option Value → yH → Prop} {X : String → Addr → yH → Prop} (h : wp_J4_sub en d  x0 x1 x2 σ k n K X) : Wx en (d + 1) mJ4_sub 0 [(0, .int x0), (1, .int x1), (2, .int x2)] [] σ k n K X := by
  unfold wp_J4_sub at h
  refine sd_iload_n (pc := 0) dJ4_sub_0 rfl 0 rfl ?_
  refine sd_iload_n (pc := 1) dJ4_sub_1 rfl 1 rfl ?_
  refine sd_isub (pc := 2) dJ4_sub_2 ?_
  refine sd_dup (pc := 3) dJ4_sub_3 rfl ?_
  refine sd_istore_n (pc := 4) dJ4_sub_4 rfl (by decide) (ls' := [(0, .int (x0 - x1)), (1, .int x1), (2, .int x2)]) rfl ?_
  refine sd_ifge (pc := 5) dJ4_sub_5 (tgt := 12) (by decide) ⟨fun c1 => ?_, fun c1 => ?_⟩
  · have h := h.1 c1
    refine sd_iload_n (pc := 12) dJ4_sub_12 rfl 0 rfl ?_
    exact sd_ireturn (pc := 13) dJ4_sub_13 (ty0 := .int) rfl rfl h
  · have h := h.2 c1
    refine sd_iload_n (pc := 8) dJ4_sub_8 rfl 0 rfl ?_
    refine sd_iload_n (pc := 9) dJ4_sub_9 rfl 2 rfl ?_
    refine sd_iadd (pc := 10) dJ4_sub_10 ?_
    refine sd_istore_n (pc := 11) dJ4_sub_11 rfl (by decide) (ls' := [(0, .int ((x0 - x1) + x2)), (1, .int x1), (2, .int x2)]) rfl ?_
    refine sd_iload_n (pc := 12) dJ4_sub_12 rfl 0 rfl ?_
    exact sd_ireturn (pc := 13) dJ4_sub_13 (ty0 := .int) rfl rfl h
theorem cx_J4_sub {en : yEn} {d : Nat} {x0 : Int32} {x1 : Int32} {x2 : Int32} {σ : yH} {k n : Nat} {K : Option Value → yH → Prop} {X : String → Addr → yH → Prop} (h : wp_J4_sub en d  x0 x1 x2 σ k n K X) : Cx en (d + 1) k n mJ4_sub [.int x0, .int x1, .int x2] σ K X := Cx.body (by decide +kernel) rfl (Nat.le_of_ble_eq_true rfl) (ok_J4_sub h)
/-! java/util/ArrayDeque.size()I -/
def wp_J4_size (en : yEn) (d : Nat) (x0 : Nat) (σ : yH) (k n : Nat) (K : Option Value → yH → Prop) (X : String → Addr → yH → Prop) : Prop :=
  getI σ x0 13 2 (fun v1 => getI σ x0 13 1 (fun v2 => getR σ x0 13 0 (fun v3 => alenQ en σ v3 (fun v4 => Cx en d 0 0 mJ4_sub [.int v1, .int v2, .int v4] σ (kI (fun r6 σ5 => K (some (.int r6)) σ5)) X))))
set_option maxHeartbeats 4000000 in
theorem ok_J4_size {en : yEn} {d : Nat} {x0 : Nat} {σ : yH} {k n : Nat} {K : Option Value → yH → Prop} {X : String → Addr → yH → Prop} (h : wp_J4_size en d  x0 σ k n K X) : Wx en (d + 1) mJ4_size 0 [(0, .ref x0)] [] σ k n K X := by
  unfold wp_J4_size at h
  refine sd_aload_n (pc := 0) dJ4_size_0 rfl 0 rfl ?_
  refine sd_getI (pc := 1) dJ4_size_1 (ci := 13) rfl in_J4 (kf := 2) (by decide) q238 (h.mono (fun v1 h => ?_))
  refine sd_aload_n (pc := 4) dJ4_size_4 rfl 0 rfl ?_
  refine sd_getI (pc := 5) dJ4_size_5 (ci := 13) rfl in_J4 (kf := 1) (by decide) q237 (h.mono (fun v2 h => ?_))
  refine sd_aload_n (pc := 8) dJ4_size_8 rfl 0 rfl ?_
  refine sd_getR (pc := 9) dJ4_size_9 (ci := 13) rfl in_J4 (kf := 0) (by decide) q236 (h.mono (fun v3 h => ?_))
  refine sd_alenQ (pc := 12) dJ4_size_12 (h.mono (fun v4 h => ?_))
  refine sd_callS (k := k) (n := n) (As := [.int v1, .int v2, .int v4]) (st := []) (pc := 13) dJ4_size_13 q979 q980 q86 q981 3 (by decide +kernel) rfl (Nat.le_refl _) (by decide) (Nat.le_of_ble_eq_true rfl) (Cx.mono h (kI.to (fun r6 σ5 h => ?_)) (xo rfl))
  exact sd_ireturn (pc := 16) dJ4_size_16 (ty0 := .int) rfl rfl h
theorem cx_J4_size {en : yEn} {d : Nat} {x0 : Nat} {σ : yH} {k n : Nat} {K : Option Value → yH → Prop} {X : String → Addr → yH → Prop} (h : wp_J4_size en d  x0 σ k n K X) : Cx en (d + 1) k n mJ4_size [.ref x0] σ K X := Cx.body (by decide +kernel) rfl (Nat.le_of_ble_eq_true rfl) (ok_J4_size h)
/-! java/util/ArrayDeque.dec(II)I -/
def wp_J4_dec (en : yEn) (d : Nat) (x0 : Int32) (x1 : Int32) (σ : yH) (k n : Nat) (K : Option Value → yH → Prop) (X : String → Addr → yH → Prop) : Prop :=
  (((0 ≤ (x0 + (-1))) → K (some (.int (x0 + (-1)))) σ) ∧ (¬ (0 ≤ (x0 + (-1))) → K (some (.int (x1 - (1 : Int32)))) σ))
set_option maxHeartbeats 4000000 in
theorem ok_J4_dec {en : yEn} {d : Nat} {x0 : Int32} {x1 : Int32} {σ : yH} {k n : Nat} {K : Option Value → yH → Prop} {X : String → Addr → yH → Prop} (h : wp_J4_dec en d  x0 x1 σ k n K X) : Wx en (d + 1) mJ4_dec 0 [(0, .int x0), (1, .int x1)] [] σ k n K X := by
  unfold wp_J4_dec at h
  refine sd_iinc (pc := 0) dJ4_dec_0 0 rfl (v := (x0 + (-1))) rfl (by decide) (ls' := [(0, .int (x0 + (-1))), (1, .int x1)]) rfl ?_
  refine sd_iload_n (pc := 3) dJ4_dec_3 rfl 0 rfl ?_
  refine sd_ifge (pc := 4) dJ4_dec_4 (tgt := 11) (by decide) ⟨fun c1 => ?_, fun c1 => ?_⟩
  · have h := h.1 c1
    refine sd_iload_n (pc := 11) dJ4_dec_11 rfl 0 rfl ?_
    exact sd_ireturn (pc := 12) dJ4_dec_12 (ty0 := .int) rfl rfl h
  · have h := h.2 c1
    refine sd_iload_n (pc := 7) dJ4_dec_7 rfl 1 rfl ?_
    refine sd_iconst (pc := 8) dJ4_dec_8 (v := 1) (by decide) ?_
    refine sd_isub (pc := 9) dJ4_dec_9 ?_
    refine sd_istore_n (pc := 10) dJ4_dec_10 rfl (by decide) (ls' := [(0, .int (x1 - (1 : Int32))), (1, .int x1)]) rfl ?_
    refine sd_iload_n (pc := 11) dJ4_dec_11 rfl 0 rfl ?_
    exact sd_ireturn (pc := 12) dJ4_dec_12 (ty0 := .int) rfl rfl h
theorem cx_J4_dec {en : yEn} {d : Nat} {x0 : Int32} {x1 : Int32} {σ : yH} {k n : Nat} {K : Option Value → yH → Prop} {X : String → Addr → yH → Prop} (h : wp_J4_dec en d  x0 x1 σ k n K X) : Cx en (d + 1) k n mJ4_dec [.int x0, .int x1] σ K X := Cx.body (by decide +kernel) rfl (Nat.le_of_ble_eq_true rfl) (ok_J4_dec h)
/-! java/util/ArrayDeque.elementAt([Ljava/lang/Object;I)Ljava/lang/Object; -/
def wp_J4_elementAt (en : yEn) (d : Nat) (x0 : Nat) (x1 : Int32) (σ : yH) (k n : Nat) (K : Option Value → yH → Prop) (X : String → Addr → yH → Prop) : Prop :=
  aldQ σ (en.2.2.2 5) x0 x1 (fun v1 => K (some (va_rf v1)) σ)
set_option maxHeartbeats 4000000 in
theorem ok_J4_elementAt {en : yEn} {d : Nat} {x0 : Nat} {x1 : Int32} {σ : yH} {k n : Nat} {K : Option Value → yH → Prop} {X : String → Addr → yH → Prop} (h : wp_J4_elementAt en d  x0 x1 σ k n K X) : Wx en (d + 1) mJ4_elementAt 0 [(0, .ref x0), (1, .int x1)] [] σ k n K X := by
  unfold wp_J4_elementAt at h
  refine sd_aload_n (pc := 0) dJ4_elementAt_0 rfl 0 rfl ?_
  refine sd_iload_n (pc := 1) dJ4_elementAt_1 rfl 1 rfl ?_
  refine sd_aaload (pc := 2) dJ4_elementAt_2 (h.mono (fun v1 h => ?_))
  exact sd_areturn (r := v1) (pc := 3) dJ4_elementAt_3 rfl (Or.inl ⟨_, rfl⟩) h
theorem cx_J4_elementAt {en : yEn} {d : Nat} {x0 : Nat} {x1 : Int32} {σ : yH} {k n : Nat} {K : Option Value → yH → Prop} {X : String → Addr → yH → Prop} (h : wp_J4_elementAt en d  x0 x1 σ k n K X) : Cx en (d + 1) k n mJ4_elementAt [.ref x0, .int x1] σ K X := Cx.body (by decide +kernel) rfl (Nat.le_of_ble_eq_true rfl) (ok_J4_elementAt h)
/-! java/util/ArrayDeque.pollLast()Ljava/lang/Object; -/
def wp_J4_pollLast (en : yEn) (d : Nat) (x0 : Nat) (σ : yH) (k n : Nat) (K : Option Value → yH → Prop) (X : String → Addr → yH → Prop) : Prop :=
  getR σ x0 13 0 (fun v1 => getI σ x0 13 2 (fun v2 => alenQ en σ v1 (fun v3 => Cx en d 0 0 mJ4_dec [.int v2, .int v3] σ (kI (fun r5 σ4 => Cx en d 0 0 mJ4_elementAt [.ref v1, .int r5] σ4 (kQ (fun r7 σ6 => (((r7 = none) → K (some (va_rf r7)) σ6) ∧ (¬ (r7 = none) → (putV σ6 x0 13 2 (.int r5) (fun σ8 => astQ σ8 (en.2.2.2 5) v1 r5 none (fun σ9 => K (some (va_rf r7)) σ9))))))) X)) X)))
set_option maxHeartbeats 4000000 in
theorem ok_J4_pollLast {en : yEn} {d : Nat} {x0 : Nat} {σ : yH} {k n : Nat} {K : Option Value → yH → Prop} {X : String → Addr → yH → Prop} (h : wp_J4_pollLast en d  x0 σ k n K X) : Wx en (d + 1) mJ4_pollLast 0 [(0, .ref x0)] [] σ k n K X := by
  unfold wp_J4_pollLast at h
  refine sd_aload_n (pc := 0) dJ4_pollLast_0 rfl 0 rfl ?_
  refine sd_getR (pc := 1) dJ4_pollLast_1 (ci := 13) rfl in_J4 (kf := 0) (by decide) q236 (h.mono (fun v1 h => ?_))
  refine sd_dup (pc := 4) dJ4_pollLast_4 rfl ?_
  refine sd_astore_n (pc := 5) dJ4_pollLast_5 rfl (by decide) (ls' := [(1, .ref v1), (0, .ref x0)]) rfl ?_
  refine sd_aload_n (pc := 6) dJ4_pollLast_6 rfl 1 rfl ?_
  refine sd_getI (pc := 7) dJ4_pollLast_7 (ci := 13) rfl in_J4 (kf := 2) (by decide) q238 (h.mono (fun v2 h => ?_))
  refine sd_aload_n (pc := 10) dJ4_pollLast_10 rfl 0 rfl ?_
  refine sd_alenQ (pc := 11) dJ4_pollLast_11 (h.mono (fun v3 h => ?_))
  refine sd_callS (k := k) (n := n) (As := [.int v2, .int v3]) (st := [.ref v1]) (pc := 12) dJ4_pollLast_12 q990 q991 q86 q992 2 (by decide +kernel) rfl (Nat.le_refl _) (by decide) (Nat.le_of_ble_eq_true rfl) (Cx.mono h (kI.to (fun r5 σ4 h => ?_)) (xo rfl))
  refine sd_dup (pc := 15) dJ4_pollLast_15 rfl ?_
  refine sd_istore_n (pc := 16) dJ4_pollLast_16 rfl (by decide) (ls' := [(2, .int r5), (1, .ref v1), (0, .ref x0)]) rfl ?_
  refine sd_callS (k := k) (n := n) (As := [.ref v1, .int r5]) (st := []) (pc := 17) dJ4_pollLast_17 q993 q994 q86 q995 2 (by decide +kernel) rfl (Nat.le_refl _) (by decide) (Nat.le_of_ble_eq_true rfl) (Cx.mono h (kQ.to (fun r7 σ6 h => ?_)) (xo rfl))
  refine sd_astore_nQ (pc := 20) dJ4_pollLast_20 rfl (by decide) (ls' := [(3, va_rf r7), (2, .int r5), (1, .ref v1), (0, .ref x0)]) rfl ?_
  refine sd_aload_nQ (pc := 21) dJ4_pollLast_21 rfl 0 rfl ?_
  refine sd_ifnull (pc := 22) dJ4_pollLast_22 (r := r7) (tgt := 34) (by decide) ⟨fun c10 => ?_, fun c10 => ?_⟩
  · have h := h.1 c10
    refine sd_aload_nQ (pc := 34) dJ4_pollLast_34 rfl 0 rfl ?_
    exact sd_areturn (r := r7) (pc := 35) dJ4_pollLast_35 rfl (Or.inl ⟨_, rfl⟩) h
  · have h := h.2 c10
    refine sd_aload_n (pc := 25) dJ4_pollLast_25 rfl 2 rfl ?_
    refine sd_aload_n (pc := 26) dJ4_pollLast_26 rfl 3 rfl ?_
    refine sd_iload_n (pc := 27) dJ4_pollLast_27 rfl 1 rfl ?_
    refine sd_dup_x1 (pc := 28) dJ4_pollLast_28 rfl rfl ?_
    refine sd_putf (pc := 29) dJ4_pollLast_29 (ci := 13) rfl in_J4 tyJ4 tyJ4_ok nmJ4 (kf := 2) (by decide) q238 rfl (ty := .int) rfl rfl rfl (putV.mono h (fun σ8 h => ?_))
    refine sd_null (pc := 32) dJ4_pollLast_32 ?_
    refine sd_aastoreN (pc := 33) dJ4_pollLast_33 (h.mono (fun σ9 h => ?_))
    refine sd_aload_nQ (pc := 34) dJ4_pollLast_34 rfl 0 rfl ?_
    exact sd_areturn (r := r7) (pc := 35) dJ4_pollLast_35 rfl (Or.inl ⟨_, rfl⟩) h
theorem cx_J4_pollLast {en : yEn} {d : Nat} {x0 : Nat} {σ : yH} {k n : Nat} {K : Option Value → yH → Prop} {X : String → Addr → yH → Prop} (h : wp_J4_pollLast en d  x0 σ k n K X) : Cx en (d + 1) k n mJ4_pollLast [.ref x0] σ K X := Cx.body (by decide +kernel) rfl (Nat.le_of_ble_eq_true rfl) (ok_J4_pollLast h)
/-! java/util/ArrayDeque.removeLast()Ljava/lang/Object; -/
def wp_J4_removeLast (en : yEn) (d : Nat) (x0 : Nat) (σ : yH) (k n : Nat) (K : Option Value → yH → Prop) (X : String → Addr → yH → Prop) : Prop :=
  (isC σ x0 13 ∧ Cx en d 0 0 mJ4_pollLast [.ref x0] σ (kQ (fun r2 σ1 => ((¬ (r2 = none) → K (some (va_rf r2)) σ1) ∧ ((r2 = none) → newV σ1 (.inr (18, [])) (fun a3 σ4 => ((∃ fs, σ4 a3 = some (true, .inr (18, fs))) ∧ X "java/util/NoSuchElementException" a3 σ4)))))) X)
set_option maxHeartbeats 4000000 in
theorem ok_J4_removeLast {en : yEn} {d : Nat} {x0 : Nat} {σ : yH} {k n : Nat} {K : Option Value → yH → Prop} {X : String → Addr → yH → Prop} (hd9 : 20 ≤ d) (h : wp_J4_removeLast en d  x0 σ k n K X) : Wx en (d + 1) mJ4_removeLast 0 [(0, .ref x0)] [] σ (k + 1) (n + 6) K X := by
  unfold wp_J4_removeLast at h
  refine sd_aload_n (pc := 0) dJ4_removeLast_0 rfl 0 rfl ?_
  refine sd_callV (k := (k + 1)) (n := (n + 6)) (As := []) (st := []) (pc := 1) dJ4_removeLast_1 (ci := 13) rfl h.1 rfl q986 q987 q988 q86 q989 0 (by decide +kernel) rfl (Nat.le_refl _) (by decide) (Nat.le_of_ble_eq_true rfl) (Cx.mono h.2 (kQ.to (fun r2 σ1 h => ?_)) (xo rfl))
  refine sd_astore_nQ (pc := 4) dJ4_removeLast_4 rfl (by decide) (ls' := [(1, va_rf r2), (0, .ref x0)]) rfl ?_
  refine sd_aload_nQ (pc := 5) dJ4_removeLast_5 rfl 0 rfl ?_
  refine sd_ifnonnull (pc := 6) dJ4_removeLast_6 (r := r2) (tgt := 17) (by decide) ⟨fun c5 => ?_, fun c5 => ?_⟩
  · have h := h.1 c5
    refine Wx.more (k' := k) (n' := n) ?_ (by omega) (by omega)
    refine sd_aload_nQ (pc := 17) dJ4_removeLast_17 rfl 0 rfl ?_
    exact sd_areturn (r := r2) (pc := 18) dJ4_removeLast_18 rfl (Or.inl ⟨_, rfl⟩) h
  · have h := h.2 c5
    refine sd_make0 (k := k) (n := n) (pc := 9) dJ4_removeLast_9 dJ4_removeLast_12 dJ4_removeLast_13 (cls := "java/util/NoSuchElementException") (names := ["java/lang/RuntimeException", "java/lang/Exception"]) (ci := 18) (T0 := TJ21) rfl (by decide) q996 q107 (at0_J21 q997) rfl (by simp only [List.length]; omega) (by decide) (Nat.le_of_ble_eq_true rfl) (h.mono (fun a3 σ4 h => ?_)) z_1 z_2 z_3 z_4 z_5
    obtain ⟨⟨fs9, h9⟩, h⟩ := h
    refine sd_athrow (pc := 16) dJ4_removeLast_16 (ci := 18) rfl h9 ?_
    exact st_out rfl h
theorem cx_J4_removeLast {en : yEn} {d : Nat} {x0 : Nat} {σ : yH} {k n : Nat} {K : Option Value → yH → Prop} {X : String → Addr → yH → Prop} (hd9 : 20 ≤ d) (h : wp_J4_removeLast en d  x0 σ k n K X) : Cx en (d + 1) (k + 1) (n + 6) mJ4_removeLast [.ref x0] σ K X := Cx.body (by decide +kernel) rfl (Nat.le_of_ble_eq_true rfl) (ok_J4_removeLast hd9 h)
/-! java/util/ArrayDeque.newCapacity(II)I -/
def wp_J4_newCapacity (en : yEn) (d : Nat) (x0 : Nat) (x1 : Int32) (x2 : Int32) (σ : yH) (k n : Nat) (K : Option Value → yH → Prop) (X : String → Addr → yH → Prop) : Prop :=
  getR σ x0 13 0 (fun v1 => alenQ en σ v1 (fun v2 => (((((v2 + x1) - (2147483639 : Int32)) ≤ 0) → (((x1 ≤ x2) → (((0 ≤ ((v2 + x2) - (2147483639 : Int32))) → K (some (.int (2147483639 : Int32))) σ) ∧ (¬ (0 ≤ ((v2 + x2) - (2147483639 : Int32))) → K (some (.int (v2 + x2))) σ))) ∧ (¬ (x1 ≤ x2) → K (some (.int (v2 + x1))) σ))) ∧ (¬ (((v2 + x1) - (2147483639 : Int32)) ≤ 0) → (((0 ≤ (v2 + x1)) → K (some (.int (2147483647 : Int32))) σ) ∧ (¬ (0 ≤ (v2 + x1)) → False))))))
set_option maxHeartbeats 4000000 in
theorem ok_J4_newCapacity {en : yEn} {d : Nat} {x0 : Nat} {x1 : Int32} {x2 : Int32} {σ : yH} {k n : Nat} {K : Option Value → yH → Prop} {X : String → Addr → yH → Prop} (hd9 : 20 ≤ d) (h : wp_J4_newCapacity en d  x0 x1 x2 σ k n K X) : Wx en (d + 1) mJ4_newCapacity 0 [(0, .ref x0), (1, .int x1), (2, .int x2)] [] σ k n K X := by
  unfold wp_J4_newCapacity at h
  refine sd_aload_n (pc := 0) dJ4_newCapacity_0 rfl 0 rfl ?_
  refine sd_getR (pc := 1) dJ4_newCapacity_1 (ci := 13) rfl in_J4 (kf := 0) (by decide) q236 (h.mono (fun v1 h => ?_))
  refine sd_alenQ (pc := 4) dJ4_newCapacity_4 (h.mono (fun v2 h => ?_))
  refine sd_istore_n (pc := 5) dJ4_newCapacity_5 rfl (by decide) (ls' := [(3, .int v2), (0, .ref x0), (1, .int x1), (2, .int x2)]) rfl ?_
  refine sd_iload_n (pc := 6) dJ4_newCapacity_6 rfl 0 rfl ?_
  refine sd_iload_n (pc := 7) dJ4_newCapacity_7 rfl 2 rfl ?_
  refine sd_iadd (pc := 8) dJ4_newCapacity_8 ?_
  refine sd_dup (pc := 9) dJ4_newCapacity_9 rfl ?_
  refine sd_istore (pc := 10) dJ4_newCapacity_10 (by decide) (ls' := [(4, .int (v2 + x1)), (3, .int v2), (0, .ref x0), (1, .int x1), (2, .int x2)]) rfl ?_
  refine sd_ldc (pc := 12) dJ4_newCapacity_12 q1010 ?_
  refine sd_isub (pc := 14) dJ4_newCapacity_14 ?_
  refine sd_ifle (pc := 15) dJ4_newCapacity_15 (tgt := 36) (by decide) ⟨fun c6 => ?_, fun c6 => ?_⟩
  · have h := h.1 c6
    refine sd_iload_n (pc := 36) dJ4_newCapacity_36 rfl 3 rfl ?_
    refine sd_iload_n (pc := 37) dJ4_newCapacity_37 rfl 4 rfl ?_
    refine sd_icmple (pc := 38) dJ4_newCapacity_38 (tgt := 44) (by decide) ⟨fun c4 => ?_, fun c4 => ?_⟩
    · have h := h.1 c4
      refine sd_iload_n (pc := 44) dJ4_newCapacity_44 rfl 1 rfl ?_
      refine sd_iload_n (pc := 45) dJ4_newCapacity_45 rfl 4 rfl ?_
      refine sd_iadd (pc := 46) dJ4_newCapacity_46 ?_
      refine sd_ldc (pc := 47) dJ4_newCapacity_47 q1010 ?_
      refine sd_isub (pc := 49) dJ4_newCapacity_49 ?_
      refine sd_ifge (pc := 50) dJ4_newCapacity_50 (tgt := 59) (by decide) ⟨fun c3 => ?_, fun c3 => ?_⟩
      · have h := h.1 c3
        refine sd_ldc (pc := 59) dJ4_newCapacity_59 q1010 ?_
        exact sd_ireturn (pc := 61) dJ4_newCapacity_61 (ty0 := .int) rfl rfl h
      · have h := h.2 c3
        refine sd_iload_n (pc := 53) dJ4_newCapacity_53 rfl 1 rfl ?_
        refine sd_iload_n (pc := 54) dJ4_newCapacity_54 rfl 4 rfl ?_
        refine sd_iadd (pc := 55) dJ4_newCapacity_55 ?_
        refine sd_goto (pc := 56) dJ4_newCapacity_56 (tgt := 61) (by decide) ?_
        exact sd_ireturn (pc := 61) dJ4_newCapacity_61 (ty0 := .int) rfl rfl h
    · have h := h.2 c4
      refine sd_iload (pc := 41) dJ4_newCapacity_41 0 rfl ?_
      exact sd_ireturn (pc := 43) dJ4_newCapacity_43 (ty0 := .int) rfl rfl h
  · have h := h.2 c6
    refine sd_iload (pc := 18) dJ4_newCapacity_18 0 rfl ?_
    refine sd_ifge (pc := 20) dJ4_newCapacity_20 (tgt := 33) (by decide) ⟨fun c5 => ?_, fun c5 => ?_⟩
    · have h := h.1 c5
      refine sd_ldc (pc := 33) dJ4_newCapacity_33 q1031 ?_
      exact sd_ireturn (pc := 35) dJ4_newCapacity_35 (ty0 := .int) rfl rfl h
    · have h := h.2 c5
      exact h.elim
theorem cx_J4_newCapacity {en : yEn} {d : Nat} {x0 : Nat} {x1 : Int32} {x2 : Int32} {σ : yH} {k n : Nat} {K : Option Value → yH → Prop} {X : String → Addr → yH → Prop} (hd9 : 20 ≤ d) (h : wp_J4_newCapacity en d  x0 x1 x2 σ k n K X) : Cx en (d + 1) k n mJ4_newCapacity [.ref x0, .int x1, .int x2] σ K X := Cx.body (by decide +kernel) rfl (Nat.le_of_ble_eq_true rfl) (ok_J4_newCapacity hd9 h)
/-! java/util/ArrayDeque.grow(I)V -/
def wp_J4_grow_49 (en : yEn) (d : Nat) (p55 : Nat × Nat) (l0 : Nat) (l2 : Int32) (l3 : Int32) (σ : yH) (k n : Nat) (K : Option Value → yH → Prop) (X : String → Addr → yH → Prop) : Prop :=
  getR σ l0 13 0 (fun v12 => Cx en d p55.1 p55.2 mJ3_copyOf_2 [.ref v12, .int l3] σ (kA (fun r14 σ13 => (putV σ13 l0 13 0 (.ref r14) (fun σ15 => getI σ15 l0 13 2 (fun v16 => getI σ15 l0 13 1 (fun v17 => (((v16 < v17) → Wx en (d + 1) mJ4_grow 96 [(0, .ref l0), (2, .int l2), (3, .int l3), (5, .ref r14)] [] σ15 k n K X) ∧ (¬ (v16 < v17) → getI σ15 l0 13 2 (fun v18 => getI σ15 l0 13 1 (fun v19 => ((¬ (v18 = v19) → K none σ15) ∧ ((v18 = v19) → getI σ15 l0 13 1 (fun v20 => aldQ σ15 (en.2.2.2 5) r14 v20 (fun v21 => (((v21 = none) → K none σ15) ∧ (¬ (v21 = none) → Wx en (d + 1) mJ4_grow 96 [(0, .ref l0), (2, .int l2), (3, .int l3), (5, .ref r14)] [] σ15 k n K X)))))))))))))))) X)
set_option maxHeartbeats 4000000 in
theorem ok_J4_grow_49 {en : yEn} {d : Nat} {p55 : Nat × Nat} {l0 : Nat} {l2 : Int32} {l3 : Int32} {σ : yH} {k n : Nat} {K : Option Value → yH → Prop} {X : String → Addr → yH → Prop} (h : wp_J4_grow_49 en d p55 l0 l2 l3 σ k n K X) : Wx en (d + 1) mJ4_grow 49 [(0, .ref l0), (2, .int l2), (3, .int l3)] [] σ (k + p55.1) (n + p55.2) K X := by
  unfold wp_J4_grow_49 at h
  refine sd_aload_n (pc := 49) dJ4_grow_49 rfl 0 rfl ?_
  refine sd_aload_n (pc := 50) dJ4_grow_50 rfl 0 rfl ?_
  refine sd_getR (pc := 51) dJ4_grow_51 (ci := 13) rfl in_J4 (kf := 0) (by decide) q236 (h.mono (fun v12 h => ?_))
  refine sd_iload_n (pc := 54) dJ4_grow_54 rfl 2 rfl ?_
  refine sd_callS (k := k) (n := n) (As := [.ref v12, .int l3]) (st := [.ref l0]) (pc := 55) dJ4_grow_55 q1032 q747 q85 q748 2 (by decide +kernel) rfl (Nat.le_refl _) (by decide) (Nat.le_of_ble_eq_true rfl) (Cx.mono h (kA.to (fun r14 σ13 h => ?_)) (xo rfl))
  refine sd_dup_x1 (pc := 58) dJ4_grow_58 rfl rfl ?_
  refine sd_putf (pc := 59) dJ4_grow_59 (ci := 13) rfl in_J4 tyJ4 tyJ4_ok nmJ4 (kf := 0) (by decide) q236 rfl (ty := (.array (.object "java/lang/Object"))) rfl rfl rfl (putV.mono h (fun σ15 h => ?_))
  refine sd_astore (pc := 62) dJ4_grow_62 (by decide) (ls' := [(5, .ref r14), (0, .ref l0), (2, .int l2), (3, .int l3)]) rfl ?_
  refine sd_aload_n (pc := 64) dJ4_grow_64 rfl 1 rfl ?_
  refine sd_getI (pc := 65) dJ4_grow_65 (ci := 13) rfl in_J4 (kf := 2) (by decide) q238 (h.mono (fun v16 h => ?_))
  refine sd_aload_n (pc := 68) dJ4_grow_68 rfl 1 rfl ?_
  refine sd_getI (pc := 69) dJ4_grow_69 (ci := 13) rfl in_J4 (kf := 1) (by decide) q237 (h.mono (fun v17 h => ?_))
  refine sd_icmplt (pc := 72) dJ4_grow_72 (tgt := 96) (by decide) ⟨fun c24 => ?_, fun c24 => ?_⟩
  · have h := h.1 c24
    exact sd_loc [1, 2, 3, 0] rfl h
  · have h := h.2 c24
    refine sd_aload_n (pc := 75) dJ4_grow_75 rfl 1 rfl ?_
    refine sd_getI (pc := 76) dJ4_grow_76 (ci := 13) rfl in_J4 (kf := 2) (by decide) q238 (h.mono (fun v18 h => ?_))
    refine sd_aload_n (pc := 79) dJ4_grow_79 rfl 1 rfl ?_
    refine sd_getI (pc := 80) dJ4_grow_80 (ci := 13) rfl in_J4 (kf := 1) (by decide) q237 (h.mono (fun v19 h => ?_))
    refine sd_icmpne (pc := 83) dJ4_grow_83 (tgt := 164) (by decide) ⟨fun c23 => ?_, fun c23 => ?_⟩
    · have h := h.1 c23
      exact sd_return (pc := 164) dJ4_grow_164 rfl h
    · have h := h.2 c23
      refine sd_aload (pc := 86) dJ4_grow_86 0 rfl ?_
      refine sd_aload_n (pc := 88) dJ4_grow_88 rfl 1 rfl ?_
      refine sd_getI (pc := 89) dJ4_grow_89 (ci := 13) rfl in_J4 (kf := 1) (by decide) q237 (h.mono (fun v20 h => ?_))
      refine sd_aaload (pc := 92) dJ4_grow_92 (h.mono (fun v21 h => ?_))
      refine sd_ifnull (pc := 93) dJ4_grow_93 (r := v21) (tgt := 164) (by decide) ⟨fun c22 => ?_, fun c22 => ?_⟩
      · have h := h.1 c22
        exact sd_return (pc := 164) dJ4_grow_164 rfl h
      · have h := h.2 c22
        exact sd_loc [1, 2, 3, 0] rfl h
def wp_J4_grow_96 (en : yEn) (d : Nat) (l0 : Nat) (l2 : Int32) (l3 : Int32) (l5 : Nat) (σ : yH) (k n : Nat) (K : Option Value → yH → Prop) (X : String → Addr → yH → Prop) : Prop :=
  getI σ l0 13 1 (fun v25 => getI σ l0 13 1 (fun v26 => getI σ l0 13 1 (fun v27 => cpyQ en σ l5 l5 v25 (v26 + (l3 - l2)) (l2 - v27) (fun σ28 => getI σ28 l0 13 1 (fun v29 => getI σ28 l0 13 1 (fun v30 => (putV σ28 l0 13 1 (.int (v30 + (l3 - l2))) (fun σ31 => Wx en (d + 1) mJ4_grow 145 [(5, .ref l5), (7, .int v29), (8, .int (v30 + (l3 - l2)))] [] σ31 k n K X))))))))
set_option maxHeartbeats 4000000 in
theorem ok_J4_grow_96 {en : yEn} {d : Nat} {l0 : Nat} {l2 : Int32} {l3 : Int32} {l5 : Nat} {σ : yH} {k n : Nat} {K : Option Value → yH → Prop} {X : String → Addr → yH → Prop} (h : wp_J4_grow_96 en d  l0 l2 l3 l5 σ k n K X) : Wx en (d + 1) mJ4_grow 96 [(0, .ref l0), (2, .int l2), (3, .int l3), (5, .ref l5)] [] σ k n K X := by
  unfold wp_J4_grow_96 at h
  refine sd_iload_n (pc := 96) dJ4_grow_96 rfl 2 rfl ?_
  refine sd_iload_n (pc := 97) dJ4_grow_97 rfl 1 rfl ?_
  refine sd_isub (pc := 98) dJ4_grow_98 ?_
  refine sd_istore (pc := 99) dJ4_grow_99 (by decide) (ls' := [(6, .int (l3 - l2)), (0, .ref l0), (2, .int l2), (3, .int l3), (5, .ref l5)]) rfl ?_
  refine sd_aload (pc := 101) dJ4_grow_101 4 rfl ?_
  refine sd_aload_n (pc := 103) dJ4_grow_103 rfl 1 rfl ?_
  refine sd_getI (pc := 104) dJ4_grow_104 (ci := 13) rfl in_J4 (kf := 1) (by decide) q237 (h.mono (fun v25 h => ?_))
  refine sd_aload (pc := 107) dJ4_grow_107 4 rfl ?_
  refine sd_aload_n (pc := 109) dJ4_grow_109 rfl 1 rfl ?_
  refine sd_getI (pc := 110) dJ4_grow_110 (ci := 13) rfl in_J4 (kf := 1) (by decide) q237 (h.mono (fun v26 h => ?_))
  refine sd_iload (pc := 113) dJ4_grow_113 0 rfl ?_
  refine sd_iadd (pc := 115) dJ4_grow_115 ?_
  refine sd_iload_n (pc := 116) dJ4_grow_116 rfl 2 rfl ?_
  refine sd_aload_n (pc := 117) dJ4_grow_117 rfl 1 rfl ?_
  refine sd_getI (pc := 118) dJ4_grow_118 (ci := 13) rfl in_J4 (kf := 1) (by decide) q237 (h.mono (fun v27 h => ?_))
  refine sd_isub (pc := 121) dJ4_grow_121 ?_
  refine sd_copyq (pc := 122) dJ4_grow_122 ⟨q739, q559, q558, q102⟩ (by omega) (Nat.le_of_ble_eq_true rfl) (h.mono (fun σ28 h => ?_))
  refine sd_aload_n (pc := 125) dJ4_grow_125 rfl 1 rfl ?_
  refine sd_getI (pc := 126) dJ4_grow_126 (ci := 13) rfl in_J4 (kf := 1) (by decide) q237 (h.mono (fun v29 h => ?_))
  refine sd_istore (pc := 129) dJ4_grow_129 (by decide) (ls' := [(7, .int v29), (6, .int (l3 - l2)), (0, .ref l0), (2, .int l2), (3, .int l3), (5, .ref l5)]) rfl ?_
  refine sd_aload_n (pc := 131) dJ4_grow_131 rfl 2 rfl ?_
  refine sd_dup (pc := 132) dJ4_grow_132 rfl ?_
  refine sd_getI (pc := 133) dJ4_grow_133 (ci := 13) rfl in_J4 (kf := 1) (by decide) q237 (h.mono (fun v30 h => ?_))
  refine sd_iload (pc := 136) dJ4_grow_136 1 rfl ?_
  refine sd_iadd (pc := 138) dJ4_grow_138 ?_
  refine sd_dup_x1 (pc := 139) dJ4_grow_139 rfl rfl ?_
  refine sd_putf (pc := 140) dJ4_grow_140 (ci := 13) rfl in_J4 tyJ4 tyJ4_ok nmJ4 (kf := 1) (by decide) q237 rfl (ty := .int) rfl rfl rfl (putV.mono h (fun σ31 h => ?_))
  refine sd_istore (pc := 143) dJ4_grow_143 (by decide) (ls' := [(8, .int (v30 + (l3 - l2))), (7, .int v29), (6, .int (l3 - l2)), (0, .ref l0), (2, .int l2), (3, .int l3), (5, .ref l5)]) rfl ?_
  exact sd_loc [6, 1, 0] rfl h
def wp_J4_grow_145 (en : yEn) (d : Nat) (l5 : Nat) (l7 : Int32) (l8 : Int32) (σ : yH) (k n : Nat) (K : Option Value → yH → Prop) (X : String → Addr → yH → Prop) : Prop :=
  (((l8 ≤ l7) → K none σ) ∧ (¬ (l8 ≤ l7) → astQ σ (en.2.2.2 5) l5 l7 none (fun σ32 => Wx en (d + 1) mJ4_grow 145 [(5, .ref l5), (7, .int (l7 + (1 : Int32))), (8, .int l8)] [] σ32 k n K X)))
set_option maxHeartbeats 4000000 in
theorem ok_J4_grow_145 {en : yEn} {d : Nat} {l5 : Nat} {l7 : Int32} {l8 : Int32} {σ : yH} {k n : Nat} {K : Option Value → yH → Prop} {X : String → Addr → yH → Prop} (h : wp_J4_grow_145 en d  l5 l7 l8 σ k n K X) : Wx en (d + 1) mJ4_grow 145 [(5, .ref l5), (7, .int l7), (8, .int l8)] [] σ k n K X := by
  unfold wp_J4_grow_145 at h
  refine sd_iload (pc := 145) dJ4_grow_145 1 rfl ?_
  refine sd_iload (pc := 147) dJ4_grow_147 2 rfl ?_
  refine sd_icmpge (pc := 149) dJ4_grow_149 (tgt := 164) (by decide) ⟨fun c33 => ?_, fun c33 => ?_⟩
  · have h := h.1 c33
    exact sd_return (pc := 164) dJ4_grow_164 rfl h
  · have h := h.2 c33
    refine sd_aload (pc := 152) dJ4_grow_152 0 rfl ?_
    refine sd_iload (pc := 154) dJ4_grow_154 1 rfl ?_
    refine sd_null (pc := 156) dJ4_grow_156 ?_
    refine sd_aastoreN (pc := 157) dJ4_grow_157 (h.mono (fun σ32 h => ?_))
    refine sd_iinc (pc := 158) dJ4_grow_158 1 rfl (v := (l7 + (1 : Int32))) rfl (by decide) (ls' := [(7, .int (l7 + (1 : Int32))), (5, .ref l5), (8, .int l8)]) rfl ?_
    refine sd_goto (pc := 161) dJ4_grow_161 (tgt := 145) (by decide) ?_
    exact sd_loc [1, 0, 2] rfl h
def wp_J4_grow (en : yEn) (d : Nat) (x0 : Nat) (x1 : Int32) (σ : yH) (k n : Nat) (K : Option Value → yH → Prop) (X : String → Addr → yH → Prop) : Prop :=
  getR σ x0 13 0 (fun v1 => alenQ en σ v1 (fun v2 => ((((if ((64 : Int32) ≤ v2) then (v2 >>> ((1 : Int32) &&& 31)) else (v2 + (2 : Int32))) < x1) → (isC σ x0 13 ∧ Cx en d 0 0 mJ4_newCapacity [.ref x0, .int x1, .int (if ((64 : Int32) ≤ v2) then (v2 >>> ((1 : Int32) &&& 31)) else (v2 + (2 : Int32)))] σ (kI (fun r5 σ4 => Wx en (d + 1) mJ4_grow 49 [(0, .ref x0), (2, .int v2), (3, .int r5)] [] σ4 k n K X)) X)) ∧ (¬ ((if ((64 : Int32) ≤ v2) then (v2 >>> ((1 : Int32) &&& 31)) else (v2 + (2 : Int32))) < x1) → (((((v2 + (if ((64 : Int32) ≤ v2) then (v2 >>> ((1 : Int32) &&& 31)) else (v2 + (2 : Int32)))) - (2147483639 : Int32)) ≤ 0) → Wx en (d + 1) mJ4_grow 49 [(0, .ref x0), (2, .int v2), (3, .int (v2 + (if ((64 : Int32) ≤ v2) then (v2 >>> ((1 : Int32) &&& 31)) else (v2 + (2 : Int32)))))] [] σ k n K X) ∧ (¬ (((v2 + (if ((64 : Int32) ≤ v2) then (v2 >>> ((1 : Int32) &&& 31)) else (v2 + (2 : Int32)))) - (2147483639 : Int32)) ≤ 0) → (isC σ x0 13 ∧ Cx en d 0 0 mJ4_newCapacity [.ref x0, .int x1, .int (if ((64 : Int32) ≤ v2) then (v2 >>> ((1 : Int32) &&& 31)) else (v2 + (2 : Int32)))] σ (kI (fun r7 σ6 => Wx en (d + 1) mJ4_grow 49 [(0, .ref x0), (2, .int v2), (3, .int r7)] [] σ6 k n K X)) X)))))))
set_option maxHeartbeats 4000000 in
theorem ok_J4_grow {en : yEn} {d : Nat} {x0 : Nat} {x1 : Int32} {σ : yH} {k n : Nat} {K : Option Value → yH → Prop} {X : String → Addr → yH → Prop} (h : wp_J4_grow en d  x0 x1 σ k n K X) : Wx en (d + 1) mJ4_grow 0 [(0, .ref x0), (1, .int x1)] [] σ k n K X := by
  unfold wp_J4_grow at h
  refine sd_aload_n (pc := 0) dJ4_grow_0 rfl 0 rfl ?_
  refine sd_getR (pc := 1) dJ4_grow_1 (ci := 13) rfl in_J4 (kf := 0) (by decide) q236 (h.mono (fun v1 h => ?_))
  refine sd_alenQ (pc := 4) dJ4_grow_4 (h.mono (fun v2 h => ?_))
  refine sd_istore_n (pc := 5) dJ4_grow_5 rfl (by decide) (ls' := [(2, .int v2), (0, .ref x0), (1, .int x1)]) rfl ?_
  refine sd_iload_n (pc := 6) dJ4_grow_6 rfl 0 rfl ?_
  refine sd_bipush (pc := 7) dJ4_grow_7 (v := 64) (by decide) ?_
  have h10 : Wx en (d + 1) mJ4_grow 21 [(2, .int v2), (0, .ref x0), (1, .int x1)] (.int (if ((64 : Int32) ≤ v2) then (v2 >>> ((1 : Int32) &&& 31)) else (v2 + (2 : Int32))) :: []) σ k n K X := by
    refine sd_istore (pc := 21) dJ4_grow_21 (by decide) (ls' := [(4, .int (if ((64 : Int32) ≤ v2) then (v2 >>> ((1 : Int32) &&& 31)) else (v2 + (2 : Int32)))), (2, .int v2), (0, .ref x0), (1, .int x1)]) rfl ?_
    refine sd_iload (pc := 23) dJ4_grow_23 0 rfl ?_
    refine sd_iload_n (pc := 25) dJ4_grow_25 rfl 3 rfl ?_
    refine sd_icmplt (pc := 26) dJ4_grow_26 (tgt := 41) (by decide) ⟨fun c9 => ?_, fun c9 => ?_⟩
    · have h := h.1 c9
      refine sd_aload_n (pc := 41) dJ4_grow_41 rfl 2 rfl ?_
      refine sd_iload_n (pc := 42) dJ4_grow_42 rfl 3 rfl ?_
      refine sd_iload (pc := 43) dJ4_grow_43 0 rfl ?_
      refine sd_callV (k := k) (n := n) (As := [.int x1, .int (if ((64 : Int32) ≤ v2) then (v2 >>> ((1 : Int32) &&& 31)) else (v2 + (2 : Int32)))]) (st := []) (pc := 45) dJ4_grow_45 (ci := 13) rfl h.1 rfl q1011 q1013 qs10 q86 q1014 2 (by decide +kernel) rfl (Nat.le_refl _) (by decide) (Nat.le_of_ble_eq_true rfl) (Cx.mono h.2 (kI.to (fun r5 σ4 h => ?_)) (xo rfl))
      refine sd_istore_n (pc := 48) dJ4_grow_48 rfl (by decide) (ls' := [(3, .int r5), (4, .int (if ((64 : Int32) ≤ v2) then (v2 >>> ((1 : Int32) &&& 31)) else (v2 + (2 : Int32)))), (2, .int v2), (0, .ref x0), (1, .int x1)]) rfl ?_
      exact sd_loc [3, 2, 0] rfl h
    · have h := h.2 c9
      refine sd_iload_n (pc := 29) dJ4_grow_29 rfl 1 rfl ?_
      refine sd_iload (pc := 30) dJ4_grow_30 0 rfl ?_
      refine sd_iadd (pc := 32) dJ4_grow_32 ?_
      refine sd_dup (pc := 33) dJ4_grow_33 rfl ?_
      refine sd_istore_n (pc := 34) dJ4_grow_34 rfl (by decide) (ls' := [(3, .int (v2 + (if ((64 : Int32) ≤ v2) then (v2 >>> ((1 : Int32) &&& 31)) else (v2 + (2 : Int32))))), (4, .int (if ((64 : Int32) ≤ v2) then (v2 >>> ((1 : Int32) &&& 31)) else (v2 + (2 : Int32)))), (2, .int v2), (0, .ref x0), (1, .int x1)]) rfl ?_
      refine sd_ldc (pc := 35) dJ4_grow_35 q1010 ?_
      refine sd_isub (pc := 37) dJ4_grow_37 ?_
      refine sd_ifle (pc := 38) dJ4_grow_38 (tgt := 49) (by decide) ⟨fun c8 => ?_, fun c8 => ?_⟩
      · have h := h.1 c8
        exact sd_loc [3, 2, 0] rfl h
      · have h := h.2 c8
        refine sd_aload_n (pc := 41) dJ4_grow_41 rfl 3 rfl ?_
        refine sd_iload_n (pc := 42) dJ4_grow_42 rfl 4 rfl ?_
        refine sd_iload (pc := 43) dJ4_grow_43 1 rfl ?_
        refine sd_callV (k := k) (n := n) (As := [.int x1, .int (if ((64 : Int32) ≤ v2) then (v2 >>> ((1 : Int32) &&& 31)) else (v2 + (2 : Int32)))]) (st := []) (pc := 45) dJ4_grow_45 (ci := 13) rfl h.1 rfl q1011 q1013 qs10 q86 q1014 2 (by decide +kernel) rfl (Nat.le_refl _) (by decide) (Nat.le_of_ble_eq_true rfl) (Cx.mono h.2 (kI.to (fun r7 σ6 h => ?_)) (xo rfl))
        refine sd_istore_n (pc := 48) dJ4_grow_48 rfl (by decide) (ls' := [(3, .int r7), (4, .int (if ((64 : Int32) ≤ v2) then (v2 >>> ((1 : Int32) &&& 31)) else (v2 + (2 : Int32)))), (2, .int v2), (0, .ref x0), (1, .int x1)]) rfl ?_
        exact sd_loc [3, 2, 0] rfl h
  have e11 := sd_iteI h10
  refine sd_icmpge (pc := 9) dJ4_grow_9 (tgt := 18) (by decide) ⟨fun c3 => ?_, fun c3 => ?_⟩
  · refine sd_iload_n (pc := 18) dJ4_grow_18 rfl 0 rfl ?_
    refine sd_iconst (pc := 19) dJ4_grow_19 (v := 1) (by decide) ?_
    refine sd_ishr (pc := 20) dJ4_grow_20 ?_
    exact (e11.1 c3)
  · refine sd_iload_n (pc := 12) dJ4_grow_12 rfl 0 rfl ?_
    refine sd_iconst (pc := 13) dJ4_grow_13 (v := 2) (by decide) ?_
    refine sd_iadd (pc := 14) dJ4_grow_14 ?_
    refine sd_goto (pc := 15) dJ4_grow_15 (tgt := 21) (by decide) ?_
    exact (e11.2 c3)
theorem cx_J4_grow {en : yEn} {d : Nat} {x0 : Nat} {x1 : Int32} {σ : yH} {k n : Nat} {K : Option Value → yH → Prop} {X : String → Addr → yH → Prop} (h : wp_J4_grow en d  x0 x1 σ k n K X) : Cx en (d + 1) k n mJ4_grow [.ref x0, .int x1] σ K X := Cx.body (by decide +kernel) rfl (Nat.le_of_ble_eq_true rfl) (ok_J4_grow h)
/-! java/util/ArrayDeque.push(Ljava/lang/Object;)V -/
def wp_J4_push (en : yEn) (d : Nat) (p2 : Nat × Nat) (x0 : Nat) (x1 : Nat) (σ : yH) (k n : Nat) (K : Option Value → yH → Prop) (X : String → Addr → yH → Prop) : Prop :=
  (isC σ x0 13 ∧ Cx en d p2.1 p2.2 mJ4_addFirst [.ref x0, .ref x1] σ (kV (fun σ1 => K none σ1)) X)
set_option maxHeartbeats 4000000 in
theorem ok_J4_push {en : yEn} {d : Nat} {p2 : Nat × Nat} {x0 : Nat} {x1 : Nat} {σ : yH} {k n : Nat} {K : Option Value → yH → Prop} {X : String → Addr → yH → Prop} (h : wp_J4_push en d p2 x0 x1 σ k n K X) : Wx en (d + 1) mJ4_push 0 [(0, .ref x0), (1, .ref x1)] [] σ (k + p2.1) (n + p2.2) K X := by
  unfold wp_J4_push at h
  refine sd_aload_n (pc := 0) dJ4_push_0 rfl 0 rfl ?_
  refine sd_aload_n (pc := 1) dJ4_push_1 rfl 1 rfl ?_
  refine sd_callV (k := k) (n := n) (As := [.ref x1]) (st := []) (pc := 2) dJ4_push_2 (ci := 13) rfl h.1 rfl q1002 q1003 q1004 q86 q1005 1 (by decide +kernel) rfl (Nat.le_refl _) (by decide) (Nat.le_of_ble_eq_true rfl) (Cx.mono h.2 (kV.to (fun σ1 h => ?_)) (xo rfl))
  exact sd_return (pc := 5) dJ4_push_5 rfl h
theorem cx_J4_push {en : yEn} {d : Nat} {p2 : Nat × Nat} {x0 : Nat} {x1 : Nat} {σ : yH} {k n : Nat} {K : Option Value → yH → Prop} {X : String → Addr → yH → Prop} (h : wp_J4_push en d p2 x0 x1 σ k n K X) : Cx en (d + 1) (k + p2.1) (n + p2.2) mJ4_push [.ref x0, .ref x1] σ K X := Cx.body (by decide +kernel) rfl (Nat.le_of_ble_eq_true rfl) (ok_J4_push h)
/-! java/util/ArrayDeque.isEmpty()Z -/
def wp_J4_isEmpty (en : yEn) (d : Nat) (x0 : Nat) (σ : yH) (k n : Nat) (K : Option Value → yH → Prop) (X : String → Addr → yH → Prop) : Prop :=
  getI σ x0 13 1 (fun v1 => getI σ x0 13 2 (fun v2 => K (some (.int (if (v1 = v2) then (1 : Int32) else (0 : Int32)))) σ))
set_option maxHeartbeats 4000000 in
theorem ok_J4_isEmpty {en : yEn} {d : Nat} {x0 : Nat} {σ : yH} {k n : Nat} {K : Option Value → yH → Prop} {X : String → Addr → yH → Prop} (h : wp_J4_isEmpty en d  x0 σ k n K X) : Wx en (d + 1) mJ4_isEmpty 0 [(0, .ref x0)] [] σ k n K X := by
  unfold wp_J4_isEmpty at h
  refine sd_aload_n (pc := 0) dJ4_isEmpty_0 rfl 0 rfl ?_
  refine sd_getI (pc := 1) dJ4_isEmpty_1 (ci := 13) rfl in_J4 (kf := 1) (by decide) q237 (h.mono (fun v1 h => ?_))
  refine sd_aload_n (pc := 4) dJ4_isEmpty_4 rfl 0 rfl ?_
  refine sd_getI (pc := 5) dJ4_isEmpty_5 (ci := 13) rfl in_J4 (kf := 2) (by decide) q238 (h.mono (fun v2 h => ?_))
  have h4 : Wx en (d + 1) mJ4_isEmpty 16 [(0, .ref x0)] (.int (if (v1 = v2) then (1 : Int32) else (0 : Int32)) :: []) σ k n K X := by
    exact sd_ireturn (pc := 16) dJ4_isEmpty_16 (ty0 := .boolean) rfl (nb_ite rfl rfl) h
  have e5 := sd_iteIN h4
  refine sd_icmpne (pc := 8) dJ4_isEmpty_8 (tgt := 15) (by decide) ⟨fun c3 => ?_, fun c3 => ?_⟩
  · refine sd_iconst (pc := 15) dJ4_isEmpty_15 (v := 0) (by decide) ?_
    exact (e5.1 c3)
  · refine sd_iconst (pc := 11) dJ4_isEmpty_11 (v := 1) (by decide) ?_
    refine sd_goto (pc := 12) dJ4_isEmpty_12 (tgt := 16) (by decide) ?_
    exact (e5.2 c3)
theorem cx_J4_isEmpty {en : yEn} {d : Nat} {x0 : Nat} {σ : yH} {k n : Nat} {K : Option Value → yH → Prop} {X : String → Addr → yH → Prop} (h : wp_J4_isEmpty en d  x0 σ k n K X) : Cx en (d + 1) k n mJ4_isEmpty [.ref x0] σ K X := Cx.body (by decide +kernel) rfl (Nat.le_of_ble_eq_true rfl) (ok_J4_isEmpty h)
/-! java/util/ArrayDeque.inc(II)I -/
def wp_J4_inc (en : yEn) (d : Nat) (x0 : Int32) (x1 : Int32) (σ : yH) (k n : Nat) (K : Option Value → yH → Prop) (X : String → Addr → yH → Prop) : Prop :=
  ((((x0 + (1 : Int32)) < x1) → K (some (.int (x0 + (1 : Int32)))) σ) ∧ (¬ ((x0 + (1 : Int32)) < x1) → K (some (.int (0 : Int32))) σ))
set_option maxHeartbeats 4000000 in
theorem ok_J4_inc {en : yEn} {d : Nat} {x0 : Int32} {x1 : Int32} {σ : yH} {k n : Nat} {K : Option Value → yH → Prop} {X : String → Addr → yH → Prop} (h : wp_J4_inc en d  x0 x1 σ k n K X) : Wx en (d + 1) mJ4_inc 0 [(0, .int x0), (1, .int x1)] [] σ k n K X := by
  unfold wp_J4_inc at h
  refine sd_iinc (pc := 0) dJ4_inc_0 0 rfl (v := (x0 + (1 : Int32))) rfl (by decide) (ls' := [(0, .int (x0 + (1 : Int32))), (1, .int x1)]) rfl ?_
  refine sd_iload_n (pc := 3) dJ4_inc_3 rfl 0 rfl ?_
  refine sd_iload_n (pc := 4) dJ4_inc_4 rfl 1 rfl ?_
  refine sd_icmplt (pc := 5) dJ4_inc_5 (tgt := 10) (by decide) ⟨fun c1 => ?_, fun c1 => ?_⟩
  · have h := h.1 c1
    refine sd_iload_n (pc := 10) dJ4_inc_10 rfl 0 rfl ?_
    exact sd_ireturn (pc := 11) dJ4_inc_11 (ty0 := .int) rfl rfl h
  · have h := h.2 c1
    refine sd_iconst (pc := 8) dJ4_inc_8 (v := 0) (by decide) ?_
    refine sd_istore_n (pc := 9) dJ4_inc_9 rfl (by decide) (ls' := [(0, .int (0 : Int32)), (1, .int x1)]) rfl ?_
    refine sd_iload_n (pc := 10) dJ4_inc_10 rfl 0 rfl ?_
    exact sd_ireturn (pc := 11) dJ4_inc_11 (ty0 := .int) rfl rfl h
theorem cx_J4_inc {en : yEn} {d : Nat} {x0 : Int32} {x1 : Int32} {σ : yH} {k n : Nat} {K : Option Value → yH → Prop} {X : String → Addr → yH → Prop} (h : wp_J4_inc en d  x0 x1 σ k n K X) : Cx en (d + 1) k n mJ4_inc [.int x0, .int x1] σ K X := Cx.body (by decide +kernel) rfl (Nat.le_of_ble_eq_true rfl) (ok_J4_inc h)
/-! java/util/ArrayDeque.pollFirst()Ljava/lang/Object; -/
def wp_J4_pollFirst (en : yEn) (d : Nat) (x0 : Nat) (σ : yH) (k n : Nat) (K : Option Value → yH → Prop) (X : String → Addr → yH → Prop) : Prop :=
  getR σ x0 13 0 (fun v1 => getI σ x0 13 1 (fun v2 => Cx en d 0 0 mJ4_elementAt [.ref v1, .int v2] σ (kQ (fun r4 σ3 => (((r4 = none) → K (some (va_rf r4)) σ3) ∧ (¬ (r4 = none) → astQ σ3 (en.2.2.2 5) v1 v2 none (fun σ5 => alenQ en σ5 v1 (fun v6 => Cx en d 0 0 mJ4_inc [.int v2, .int v6] σ5 (kI (fun r8 σ7 => (putV σ7 x0 13 1 (.int r8) (fun σ9 => K (some (va_rf r4)) σ9)))) X)))))) X))
set_option maxHeartbeats 4000000 in
theorem ok_J4_pollFirst {en : yEn} {d : Nat} {x0 : Nat} {σ : yH} {k n : Nat} {K : Option Value → yH → Prop} {X : String → Addr → yH → Prop} (h : wp_J4_pollFirst en d  x0 σ k n K X) : Wx en (d + 1) mJ4_pollFirst 0 [(0, .ref x0)] [] σ k n K X := by
  unfold wp_J4_pollFirst at h
  refine sd_aload_n (pc := 0) dJ4_pollFirst_0 rfl 0 rfl ?_
  refine sd_getR (pc := 1) dJ4_pollFirst_1 (ci := 13) rfl in_J4 (kf := 0) (by decide) q236 (h.mono (fun v1 h => ?_))
  refine sd_dup (pc := 4) dJ4_pollFirst_4 rfl ?_
  refine sd_astore_n (pc := 5) dJ4_pollFirst_5 rfl (by decide) (ls' := [(1, .ref v1), (0, .ref x0)]) rfl ?_
  refine sd_aload_n (pc := 6) dJ4_pollFirst_6 rfl 1 rfl ?_
  refine sd_getI (pc := 7) dJ4_pollFirst_7 (ci := 13) rfl in_J4 (kf := 1) (by decide) q237 (h.mono (fun v2 h => ?_))
  refine sd_dup (pc := 10) dJ4_pollFirst_10 rfl ?_
  refine sd_istore_n (pc := 11) dJ4_pollFirst_11 rfl (by decide) (ls' := [(2, .int v2), (1, .ref v1), (0, .ref x0)]) rfl ?_
  refine sd_callS (k := k) (n := n) (As := [.ref v1, .int v2]) (st := []) (pc := 12) dJ4_pollFirst_12 q993 q994 q86 q995 2 (by decide +kernel) rfl (Nat.le_refl _) (by decide) (Nat.le_of_ble_eq_true rfl) (Cx.mono h (kQ.to (fun r4 σ3 h => ?_)) (xo rfl))
  refine sd_astore_nQ (pc := 15) dJ4_pollFirst_15 rfl (by decide) (ls' := [(3, va_rf r4), (2, .int v2), (1, .ref v1), (0, .ref x0)]) rfl ?_
  refine sd_aload_nQ (pc := 16) dJ4_pollFirst_16 rfl 0 rfl ?_
  refine sd_ifnull (pc := 17) dJ4_pollFirst_17 (r := r4) (tgt := 34) (by decide) ⟨fun c10 => ?_, fun c10 => ?_⟩
  · have h := h.1 c10
    refine sd_aload_nQ (pc := 34) dJ4_pollFirst_34 rfl 0 rfl ?_
    exact sd_areturn (r := r4) (pc := 35) dJ4_pollFirst_35 rfl (Or.inl ⟨_, rfl⟩) h
  · have h := h.2 c10
    refine sd_aload_n (pc := 20) dJ4_pollFirst_20 rfl 2 rfl ?_
    refine sd_iload_n (pc := 21) dJ4_pollFirst_21 rfl 1 rfl ?_
    refine sd_null (pc := 22) dJ4_pollFirst_22 ?_
    refine sd_aastoreN (pc := 23) dJ4_pollFirst_23 (h.mono (fun σ5 h => ?_))
    refine sd_aload_n (pc := 24) dJ4_pollFirst_24 rfl 3 rfl ?_
    refine sd_iload_n (pc := 25) dJ4_pollFirst_25 rfl 1 rfl ?_
    refine sd_aload_n (pc := 26) dJ4_pollFirst_26 rfl 2 rfl ?_
    refine sd_alenQ (pc := 27) dJ4_pollFirst_27 (h.mono (fun v6 h => ?_))
    refine sd_callS (k := k) (n := n) (As := [.int v2, .int v6]) (st := [.ref x0]) (pc := 28) dJ4_pollFirst_28 q2048 q2049 q86 q2050 2 (by decide +kernel) rfl (Nat.le_refl _) (by decide) (Nat.le_of_ble_eq_true rfl) (Cx.mono h (kI.to (fun r8 σ7 h => ?_)) (xo rfl))
    refine sd_putf (pc := 31) dJ4_pollFirst_31 (ci := 13) rfl in_J4 tyJ4 tyJ4_ok nmJ4 (kf := 1) (by decide) q237 rfl (ty := .int) rfl rfl rfl (putV.mono h (fun σ9 h => ?_))
    refine sd_aload_nQ (pc := 34) dJ4_pollFirst_34 rfl 0 rfl ?_
    exact sd_areturn (r := r4) (pc := 35) dJ4_pollFirst_35 rfl (Or.inl ⟨_, rfl⟩) h
theorem cx_J4_pollFirst {en : yEn} {d : Nat} {x0 : Nat} {σ : yH} {k n : Nat} {K : Option Value → yH → Prop} {X : String → Addr → yH → Prop} (h : wp_J4_pollFirst en d  x0 σ k n K X) : Cx en (d + 1) k n mJ4_pollFirst [.ref x0] σ K X := Cx.body (by decide +kernel) rfl (Nat.le_of_ble_eq_true rfl) (ok_J4_pollFirst h)
/-! java/util/ArrayDeque.removeFirst()Ljava/lang/Object; -/
def wp_J4_removeFirst (en : yEn) (d : Nat) (x0 : Nat) (σ : yH) (k n : Nat) (K : Option Value → yH → Prop) (X : String → Addr → yH → Prop) : Prop :=
  (isC σ x0 13 ∧ Cx en d 0 0 mJ4_pollFirst [.ref x0] σ (kQ (fun r2 σ1 => ((¬ (r2 = none) → K (some (va_rf r2)) σ1) ∧ ((r2 = none) → newV σ1 (.inr (18, [])) (fun a3 σ4 => ((∃ fs, σ4 a3 = some (true, .inr (18, fs))) ∧ X "java/util/NoSuchElementException" a3 σ4)))))) X)
set_option maxHeartbeats 4000000 in
theorem ok_J4_removeFirst {en : yEn} {d : Nat} {x0 : Nat} {σ : yH} {k n : Nat} {K : Option Value → yH → Prop} {X : String → Addr → yH → Prop} (hd9 : 20 ≤ d) (h : wp_J4_removeFirst en d  x0 σ k n K X) : Wx en (d + 1) mJ4_removeFirst 0 [(0, .ref x0)] [] σ (k + 1) (n + 6) K X := by
  unfold wp_J4_removeFirst at h
  refine sd_aload_n (pc := 0) dJ4_removeFirst_0 rfl 0 rfl ?_
  refine sd_callV (k := (k + 1)) (n := (n + 6)) (As := []) (st := []) (pc := 1) dJ4_removeFirst_1 (ci := 13) rfl h.1 rfl q2044 q2045 q2046 q86 q2047 0 (by decide +kernel) rfl (Nat.le_refl _) (by decide) (Nat.le_of_ble_eq_true rfl) (Cx.mono h.2 (kQ.to (fun r2 σ1 h => ?_)) (xo rfl))
  refine sd_astore_nQ (pc := 4) dJ4_removeFirst_4 rfl (by decide) (ls' := [(1, va_rf r2), (0, .ref x0)]) rfl ?_
  refine sd_aload_nQ (pc := 5) dJ4_removeFirst_5 rfl 0 rfl ?_
  refine sd_ifnonnull (pc := 6) dJ4_removeFirst_6 (r := r2) (tgt := 17) (by decide) ⟨fun c5 => ?_, fun c5 => ?_⟩
  · have h := h.1 c5
    refine Wx.more (k' := k) (n' := n) ?_ (by omega) (by omega)
    refine sd_aload_nQ (pc := 17) dJ4_removeFirst_17 rfl 0 rfl ?_
    exact sd_areturn (r := r2) (pc := 18) dJ4_removeFirst_18 rfl (Or.inl ⟨_, rfl⟩) h
  · have h := h.2 c5
    refine sd_make0 (k := k) (n := n) (pc := 9) dJ4_removeFirst_9 dJ4_removeFirst_12 dJ4_removeFirst_13 (cls := "java/util/NoSuchElementException") (names := ["java/lang/RuntimeException", "java/lang/Exception"]) (ci := 18) (T0 := TJ21) rfl (by decide) q996 q107 (at0_J21 q997) rfl (by simp only [List.length]; omega) (by decide) (Nat.le_of_ble_eq_true rfl) (h.mono (fun a3 σ4 h => ?_)) z_1 z_2 z_3 z_4 z_5
    obtain ⟨⟨fs9, h9⟩, h⟩ := h
    refine sd_athrow (pc := 16) dJ4_removeFirst_16 (ci := 18) rfl h9 ?_
    exact st_out rfl h
theorem cx_J4_removeFirst {en : yEn} {d : Nat} {x0 : Nat} {σ : yH} {k n : Nat} {K : Option Value → yH → Prop} {X : String → Addr → yH → Prop} (hd9 : 20 ≤ d) (h : wp_J4_removeFirst en d  x0 σ k n K X) : Cx en (d + 1) (k + 1) (n + 6) mJ4_removeFirst [.ref x0] σ K X := Cx.body (by decide +kernel) rfl (Nat.le_of_ble_eq_true rfl) (ok_J4_removeFirst hd9 h)
/-! java/util/ArrayDeque.pop()Ljava/lang/Object; -/
def wp_J4_pop (en : yEn) (d : Nat) (x0 : Nat) (σ : yH) (k n : Nat) (K : Option Value → yH → Prop) (X : String → Addr → yH → Prop) : Prop :=
  (isC σ x0 13 ∧ Cx en d 1 6 mJ4_removeFirst [.ref x0] σ (kA (fun r2 σ1 => K (some (.ref r2)) σ1)) X)
set_option maxHeartbeats 4000000 in
theorem ok_J4_pop {en : yEn} {d : Nat} {x0 : Nat} {σ : yH} {k n : Nat} {K : Option Value → yH → Prop} {X : String → Addr → yH → Prop} (h : wp_J4_pop en d  x0 σ k n K X) : Wx en (d + 1) mJ4_pop 0 [(0, .ref x0)] [] σ (k + 1) (n + 6) K X := by
  unfold wp_J4_pop at h
  refine sd_aload_n (pc := 0) dJ4_pop_0 rfl 0 rfl ?_
  refine sd_callV (k := k) (n := n) (As := []) (st := []) (pc := 1) dJ4_pop_1 (ci := 13) rfl h.1 rfl q2040 q2041 q2042 q86 q2043 0 (by decide +kernel) rfl (Nat.le_refl _) (by decide) (Nat.le_of_ble_eq_true rfl) (Cx.mono h.2 (kA.to (fun r2 σ1 h => ?_)) (xo rfl))
  exact sd_areturn (r := (some r2)) (pc := 4) dJ4_pop_4 rfl (Or.inl ⟨_, rfl⟩) h
theorem cx_J4_pop {en : yEn} {d : Nat} {x0 : Nat} {σ : yH} {k n : Nat} {K : Option Value → yH → Prop} {X : String → Addr → yH → Prop} (h : wp_J4_pop en d  x0 σ k n K X) : Cx en (d + 1) (k + 1) (n + 6) mJ4_pop [.ref x0] σ K X := Cx.body (by decide +kernel) rfl (Nat.le_of_ble_eq_true rfl) (ok_J4_pop h)
/-! java/util/ArrayDeque.circularClear([Ljava/lang/Object;II)V -/
def wp_J4_circularClear_12 (en : yEn) (d : Nat) (l0 : Nat) (l1 : Int32) (l2 : Int32) (l3 : Int32) (σ : yH) (k n : Nat) (K : Option Value → yH → Prop) (X : String → Addr → yH → Prop) : Prop :=
  (((l3 ≤ l1) → ((¬ (l3 = l2) → Wx en (d + 1) mJ4_circularClear 12 [(0, .ref l0), (1, .int (0 : Int32)), (2, .int l2), (3, .int l2)] [] σ k n K X) ∧ ((l3 = l2) → K none σ))) ∧ (¬ (l3 ≤ l1) → astQ σ (en.2.2.2 5) l0 l1 none (fun σ4 => Wx en (d + 1) mJ4_circularClear 12 [(0, .ref l0), (1, .int (l1 + (1 : Int32))), (2, .int l2), (3, .int l3)] [] σ4 k n K X)))
set_option maxHeartbeats 4000000 in
theorem ok_J4_circularClear_12 {en : yEn} {d : Nat} {l0 : Nat} {l1 : Int32} {l2 : Int32} {l3 : Int32} {σ : yH} {k n : Nat} {K : Option Value → yH → Prop} {X : String → Addr → yH → Prop} (h : wp_J4_circularClear_12 en d  l0 l1 l2 l3 σ k n K X) : Wx en (d + 1) mJ4_circularClear 12 [(0, .ref l0), (1, .int l1), (2, .int l2), (3, .int l3)] [] σ k n K X := by
  unfold wp_J4_circularClear_12 at h
  refine sd_iload_n (pc := 12) dJ4_circularClear_12 rfl 1 rfl ?_
  refine sd_iload_n (pc := 13) dJ4_circularClear_13 rfl 3 rfl ?_
  refine sd_icmpge (pc := 14) dJ4_circularClear_14 (tgt := 27) (by decide) ⟨fun c5 => ?_, fun c5 => ?_⟩
  · have h := h.1 c5
    refine sd_iload_n (pc := 27) dJ4_circularClear_27 rfl 3 rfl ?_
    refine sd_iload_n (pc := 28) dJ4_circularClear_28 rfl 2 rfl ?_
    refine sd_icmpne (pc := 29) dJ4_circularClear_29 (tgt := 35) (by decide) ⟨fun c3 => ?_, fun c3 => ?_⟩
    · have h := h.1 c3
      refine sd_iconst (pc := 35) dJ4_circularClear_35 (v := 0) (by decide) ?_
      refine sd_istore_n (pc := 36) dJ4_circularClear_36 rfl (by decide) (ls' := [(1, .int (0 : Int32)), (0, .ref l0), (2, .int l2), (3, .int l3)]) rfl ?_
      refine sd_iload_n (pc := 37) dJ4_circularClear_37 rfl 2 rfl ?_
      refine sd_istore_n (pc := 38) dJ4_circularClear_38 rfl (by decide) (ls' := [(3, .int l2), (1, .int (0 : Int32)), (0, .ref l0), (2, .int l2)]) rfl ?_
      refine sd_goto (pc := 39) dJ4_circularClear_39 (tgt := 12) (by decide) ?_
      exact sd_loc [2, 1, 3, 0] rfl h
    · have h := h.2 c3
      refine sd_goto (pc := 32) dJ4_circularClear_32 (tgt := 42) (by decide) ?_
      exact sd_return (pc := 42) dJ4_circularClear_42 rfl h
  · have h := h.2 c5
    refine sd_aload_n (pc := 17) dJ4_circularClear_17 rfl 0 rfl ?_
    refine sd_iload_n (pc := 18) dJ4_circularClear_18 rfl 1 rfl ?_
    refine sd_null (pc := 19) dJ4_circularClear_19 ?_
    refine sd_aastoreN (pc := 20) dJ4_circularClear_20 (h.mono (fun σ4 h => ?_))
    refine sd_iinc (pc := 21) dJ4_circularClear_21 1 rfl (v := (l1 + (1 : Int32))) rfl (by decide) (ls' := [(1, .int (l1 + (1 : Int32))), (0, .ref l0), (2, .int l2), (3, .int l3)]) rfl ?_
    refine sd_goto (pc := 24) dJ4_circularClear_24 (tgt := 12) (by decide) ?_
    exact sd_loc [1, 0, 2, 3] rfl h
def wp_J4_circularClear (en : yEn) (d : Nat) (x0 : Nat) (x1 : Int32) (x2 : Int32) (σ : yH) (k n : Nat) (K : Option Value → yH → Prop) (X : String → Addr → yH → Prop) : Prop :=
  (((x2 < x1) → alenQ en σ x0 (fun v1 => Wx en (d + 1) mJ4_circularClear 12 [(0, .ref x0), (1, .int x1), (2, .int x2), (3, .int v1)] [] σ k n K X)) ∧ (¬ (x2 < x1) → Wx en (d + 1) mJ4_circularClear 12 [(0, .ref x0), (1, .int x1), (2, .int x2), (3, .int x2)] [] σ k n K X))
set_option maxHeartbeats 4000000 in
theorem ok_J4_circularClear {en : yEn} {d : Nat} {x0 : Nat} {x1 : Int32} {x2 : Int32} {σ : yH} {k n : Nat} {K : Option Value → yH → Prop} {X : String → Addr → yH → Prop} (h : wp_J4_circularClear en d  x0 x1 x2 σ k n K X) : Wx en (d + 1) mJ4_circularClear 0 [(0, .ref x0), (1, .int x1), (2, .int x2)] [] σ k n K X := by
  unfold wp_J4_circularClear at h
  refine sd_iload_n (pc := 0) dJ4_circularClear_0 rfl 1 rfl ?_
  refine sd_iload_n (pc := 1) dJ4_circularClear_1 rfl 2 rfl ?_
  refine sd_icmpgt (pc := 2) dJ4_circularClear_2 (tgt := 9) (by decide) ⟨fun c2 => ?_, fun c2 => ?_⟩
  · have h := h.1 c2
    refine sd_aload_n (pc := 9) dJ4_circularClear_9 rfl 0 rfl ?_
    refine sd_alenQ (pc := 10) dJ4_circularClear_10 (h.mono (fun v1 h => ?_))
    refine sd_istore_n (pc := 11) dJ4_circularClear_11 rfl (by decide) (ls' := [(3, .int v1), (0, .ref x0), (1, .int x1), (2, .int x2)]) rfl ?_
    exact sd_loc [1, 2, 3, 0] rfl h
  · have h := h.2 c2
    refine sd_iload_n (pc := 5) dJ4_circularClear_5 rfl 2 rfl ?_
    refine sd_goto (pc := 6) dJ4_circularClear_6 (tgt := 11) (by decide) ?_
    refine sd_istore_n (pc := 11) dJ4_circularClear_11 rfl (by decide) (ls' := [(3, .int x2), (0, .ref x0), (1, .int x1), (2, .int x2)]) rfl ?_
    exact sd_loc [1, 2, 3, 0] rfl h
theorem cx_J4_circularClear {en : yEn} {d : Nat} {x0 : Nat} {x1 : Int32} {x2 : Int32} {σ : yH} {k n : Nat} {K : Option Value → yH → Prop} {X : String → Addr → yH → Prop} (h : wp_J4_circularClear en d  x0 x1 x2 σ k n K X) : Cx en (d + 1) k n mJ4_circularClear [.ref x0, .int x1, .int x2] σ K X := Cx.body (by decide +kernel) rfl (Nat.le_of_ble_eq_true rfl) (ok_J4_circularClear h)
/-! java/util/ArrayDeque.clear()V -/
def wp_J4_clear (en : yEn) (d : Nat) (x0 : Nat) (σ : yH) (k n : Nat) (K : Option Value → yH → Prop) (X : String → Addr → yH → Prop) : Prop :=
  getR σ x0 13 0 (fun v1 => getI σ x0 13 1 (fun v2 => getI σ x0 13 2 (fun v3 => Cx en d 0 0 mJ4_circularClear [.ref v1, .int v2, .int v3] σ (kV (fun σ4 => (putV σ4 x0 13 2 (.int (0 : Int32)) (fun σ5 => (putV σ5 x0 13 1 (.int (0 : Int32)) (fun σ6 => K none σ6)))))) X)))
set_option maxHeartbeats 4000000 in
theorem ok_J4_clear {en : yEn} {d : Nat} {x0 : Nat} {σ : yH} {k n : Nat} {K : Option Value → yH → Prop} {X : String → Addr → yH → Prop} (h : wp_J4_clear en d  x0 σ k n K X) : Wx en (d + 1) mJ4_clear 0 [(0, .ref x0)] [] σ k n K X := by
  unfold wp_J4_clear at h
  refine sd_aload_n (pc := 0) dJ4_clear_0 rfl 0 rfl ?_
  refine sd_getR (pc := 1) dJ4_clear_1 (ci := 13) rfl in_J4 (kf := 0) (by decide) q236 (h.mono (fun v1 h => ?_))
  refine sd_aload_n (pc := 4) dJ4_clear_4 rfl 0 rfl ?_
  refine sd_getI (pc := 5) dJ4_clear_5 (ci := 13) rfl in_J4 (kf := 1) (by decide) q237 (h.mono (fun v2 h => ?_))
  refine sd_aload_n (pc := 8) dJ4_clear_8 rfl 0 rfl ?_
  refine sd_getI (pc := 9) dJ4_clear_9 (ci := 13) rfl in_J4 (kf := 2) (by decide) q238 (h.mono (fun v3 h => ?_))
  refine sd_callS (k := k) (n := n) (As := [.ref v1, .int v2, .int v3]) (st := []) (pc := 12) dJ4_clear_12 q2062 q2063 q86 q2064 3 (by decide +kernel) rfl (Nat.le_refl _) (by decide) (Nat.le_of_ble_eq_true rfl) (Cx.mono h (kV.to (fun σ4 h => ?_)) (xo rfl))
  refine sd_aload_n (pc := 15) dJ4_clear_15 rfl 0 rfl ?_
  refine sd_aload_n (pc := 16) dJ4_clear_16 rfl 0 rfl ?_
  refine sd_iconst (pc := 17) dJ4_clear_17 (v := 0) (by decide) ?_
  refine sd_dup_x1 (pc := 18) dJ4_clear_18 rfl rfl ?_
  refine sd_putf (pc := 19) dJ4_clear_19 (ci := 13) rfl in_J4 tyJ4 tyJ4_ok nmJ4 (kf := 2) (by decide) q238 rfl (ty := .int) rfl rfl rfl (putV.mono h (fun σ5 h => ?_))
  refine sd_putf (pc := 22) dJ4_clear_22 (ci := 13) rfl in_J4 tyJ4 tyJ4_ok nmJ4 (kf := 1) (by decide) q237 rfl (ty := .int) rfl rfl rfl (putV.mono h (fun σ6 h => ?_))
  exact sd_return (pc := 25) dJ4_clear_25 rfl h
theorem cx_J4_clear {en : yEn} {d : Nat} {x0 : Nat} {σ : yH} {k n : Nat} {K : Option Value → yH → Prop} {X : String → Addr → yH → Prop} (h : wp_J4_clear en d  x0 σ k n K X) : Cx en (d + 1) k n mJ4_clear [.ref x0] σ K X := Cx.body (by decide +kernel) rfl (Nat.le_of_ble_eq_true rfl) (ok_J4_clear h)
/-! java/lang/AbstractStringBuilder.append(C)Ljava/lang/AbstractStringBuilder; -/
def wp_J5_append_3_45 (en : yEn) (d : Nat) (p72 : Nat × Nat) (p53 : Nat × Nat) (l0 : Nat) (l1 : Int32) (σ : yH) (k n : Nat) (K : Option Value → yH → Prop) (X : String → Addr → yH → Prop) : Prop :=
  (isC σ l0 14 ∧ Cx en d 0 0 mJ5_isLatin1 [.ref l0] σ (kI (fun r14 σ13 => (((r14 = 0) → getR σ13 l0 14 0 (fun v15 => getI σ13 l0 14 3 (fun v16 => (putV σ13 l0 14 3 (.int (v16 + (1 : Int32))) (fun σ17 => Cx en d p72.1 p72.2 mJ8_putCharSB [.ref v15, .int v16, .int l1] σ17 (kV (fun σ18 => K (some (.ref l0)) σ18)) X))))) ∧ (¬ (r14 = 0) → (isC σ13 l0 14 ∧ Cx en d p53.1 p53.2 mJ5_inflate [.ref l0] σ13 (kV (fun σ19 => getR σ19 l0 14 0 (fun v20 => getI σ19 l0 14 3 (fun v21 => (putV σ19 l0 14 3 (.int (v21 + (1 : Int32))) (fun σ22 => Cx en d p72.1 p72.2 mJ8_putCharSB [.ref v20, .int v21, .int l1] σ22 (kV (fun σ23 => K (some (.ref l0)) σ23)) X)))))) X))))) X)
set_option maxHeartbeats 4000000 in
theorem ok_J5_append_3_45 {en : yEn} {d : Nat} {p72 : Nat × Nat} {p53 : Nat × Nat} {l0 : Nat} {l1 : Int32} {σ : yH} {k n : Nat} {K : Option Value → yH → Prop} {X : String → Addr → yH → Prop} (h : wp_J5_append_3_45 en d p72 p53 l0 l1 σ k n K X) : Wx en (d + 1) mJ5_append_3 45 [(0, .ref l0), (1, .int l1)] [] σ (k + p72.1 + p53.1) (n + p72.2 + p53.2) K X := by
  unfold wp_J5_append_3_45 at h
  refine sd_aload_n (pc := 45) dJ5_append_3_45 rfl 0 rfl ?_
  refine sd_callU (k := (k + p72.1 + p53.1)) (n := (n + p72.2 + p53.2)) (As := []) (st := []) (pc := 46) dJ5_append_3_46 (ci := 14) rfl h.1 (owner := "java/lang/AbstractStringBuilder") rfl q560 q562 q561 q563 q87 q564 0 (by decide +kernel) rfl 0 (by decide +kernel) rfl (Nat.le_refl _) (by decide) (Nat.le_of_ble_eq_true rfl) (Cx.mono h.2 (kI.to (fun r14 σ13 h => ?_)) (xo rfl))
  refine sd_ifeq (pc := 49) dJ5_append_3_49 (tgt := 56) (by decide) ⟨fun c24 => ?_, fun c24 => ?_⟩
  · have h := h.1 c24
    refine Wx.more (k' := (k + p72.1)) (n' := (n + p72.2)) ?_ (by omega) (by omega)
    refine sd_aload_n (pc := 56) dJ5_append_3_56 rfl 0 rfl ?_
    refine sd_getR (pc := 57) dJ5_append_3_57 (ci := 14) rfl in_J6 (kf := 0) (by decide) q264 (h.mono (fun v15 h => ?_))
    refine sd_aload_n (pc := 60) dJ5_append_3_60 rfl 0 rfl ?_
    refine sd_dup (pc := 61) dJ5_append_3_61 rfl ?_
    refine sd_getI (pc := 62) dJ5_append_3_62 (ci := 14) rfl in_J6 (kf := 3) (by decide) q268 (h.mono (fun v16 h => ?_))
    refine sd_dup_x1 (pc := 65) dJ5_append_3_65 rfl rfl ?_
    refine sd_iconst (pc := 66) dJ5_append_3_66 (v := 1) (by decide) ?_
    refine sd_iadd (pc := 67) dJ5_append_3_67 ?_
    refine sd_putf (pc := 68) dJ5_append_3_68 (ci := 14) rfl in_J6 tyJ6 tyJ6_ok nmJ6 (kf := 3) (by decide) q268 rfl (ty := .int) rfl rfl rfl (putV.mono h (fun σ17 h => ?_))
    refine sd_iload_n (pc := 71) dJ5_append_3_71 rfl 1 rfl ?_
    refine sd_callS (k := k) (n := n) (As := [.ref v15, .int v16, .int l1]) (st := []) (pc := 72) dJ5_append_3_72 q1580 q1581 q90 q1582 3 (by decide +kernel) rfl (Nat.le_refl _) (by decide) (Nat.le_of_ble_eq_true rfl) (Cx.mono h (kV.to (fun σ18 h => ?_)) (xo rfl))
    refine sd_aload_n (pc := 75) dJ5_append_3_75 rfl 0 rfl ?_
    exact sd_areturn (r := (some l0)) (pc := 76) dJ5_append_3_76 rfl (Or.inl ⟨_, rfl⟩) h
  · have h := h.2 c24
    refine sd_aload_n (pc := 52) dJ5_append_3_52 rfl 0 rfl ?_
    refine sd_callP (k := (k + p72.1)) (n := (n + p72.2)) (As := []) (st := []) (pc := 53) dJ5_append_3_53 (ci := 14) rfl h.1 q636 q638 q637 q563 rfl q87 q639 0 (by decide +kernel) rfl (Nat.le_refl _) (by decide) (Nat.le_of_ble_eq_true rfl) (Cx.mono h.2 (kV.to (fun σ19 h => ?_)) (xo rfl))
    refine sd_aload_n (pc := 56) dJ5_append_3_56 rfl 0 rfl ?_
    refine sd_getR (pc := 57) dJ5_append_3_57 (ci := 14) rfl in_J6 (kf := 0) (by decide) q264 (h.mono (fun v20 h => ?_))
    refine sd_aload_n (pc := 60) dJ5_append_3_60 rfl 0 rfl ?_
    refine sd_dup (pc := 61) dJ5_append_3_61 rfl ?_
    refine sd_getI (pc := 62) dJ5_append_3_62 (ci := 14) rfl in_J6 (kf := 3) (by decide) q268 (h.mono (fun v21 h => ?_))
    refine sd_dup_x1 (pc := 65) dJ5_append_3_65 rfl rfl ?_
    refine sd_iconst (pc := 66) dJ5_append_3_66 (v := 1) (by decide) ?_
    refine sd_iadd (pc := 67) dJ5_append_3_67 ?_
    refine sd_putf (pc := 68) dJ5_append_3_68 (ci := 14) rfl in_J6 tyJ6 tyJ6_ok nmJ6 (kf := 3) (by decide) q268 rfl (ty := .int) rfl rfl rfl (putV.mono h (fun σ22 h => ?_))
    refine sd_iload_n (pc := 71) dJ5_append_3_71 rfl 1 rfl ?_
    refine sd_callS (k := k) (n := n) (As := [.ref v20, .int v21, .int l1]) (st := []) (pc := 72) dJ5_append_3_72 q1580 q1581 q90 q1582 3 (by decide +kernel) rfl (Nat.le_refl _) (by decide) (Nat.le_of_ble_eq_true rfl) (Cx.mono h (kV.to (fun σ23 h => ?_)) (xo rfl))
    refine sd_aload_n (pc := 75) dJ5_append_3_75 rfl 0 rfl ?_
    exact sd_areturn (r := (some l0)) (pc := 76) dJ5_append_3_76 rfl (Or.inl ⟨_, rfl⟩) h
def wp_J5_append_3 (en : yEn) (d : Nat) (p7 : Nat × Nat) (x0 : Nat) (x1 : Int32) (σ : yH) (k n : Nat) (K : Option Value → yH → Prop) (X : String → Addr → yH → Prop) : Prop :=
  getI σ x0 14 3 (fun v1 => (isC σ x0 14 ∧ Cx en d p7.1 p7.2 mJ5_ensureCapacityInternal [.ref x0, .int (v1 + (1 : Int32))] σ (kV (fun σ2 => (isC σ2 x0 14 ∧ Cx en d 0 0 mJ5_isLatin1 [.ref x0] σ2 (kI (fun r4 σ3 => (((r4 = 0) → Wx en (d + 1) mJ5_append_3 45 [(0, .ref x0), (1, .int x1)] [] σ3 k n K X) ∧ (¬ (r4 = 0) → Cx en d 0 0 mJ20_canEncode [.int x1] σ3 (kI (fun r6 σ5 => (((r6 = 0) → Wx en (d + 1) mJ5_append_3 45 [(0, .ref x0), (1, .int x1)] [] σ5 k n K X) ∧ (¬ (r6 = 0) → getR σ5 x0 14 0 (fun v7 => getI σ5 x0 14 3 (fun v8 => (putV σ5 x0 14 3 (.int (v8 + (1 : Int32))) (fun σ9 => astI σ9 (en.2.2.2 1) v7 v8 (vp_nar .byte x1.toInt8.toInt32) (fun σ10 => K (some (.ref x0)) σ10))))))))) X)))) X))) X))
set_option maxHeartbeats 4000000 in
theorem ok_J5_append_3 {en : yEn} {d : Nat} {p7 : Nat × Nat} {x0 : Nat} {x1 : Int32} {σ : yH} {k n : Nat} {K : Option Value → yH → Prop} {X : String → Addr → yH → Prop} (h : wp_J5_append_3 en d p7 x0 x1 σ k n K X) : Wx en (d + 1) mJ5_append_3 0 [(0, .ref x0), (1, .int x1)] [] σ (k + p7.1) (n + p7.2) K X := by
  unfold wp_J5_append_3 at h
  refine sd_aload_n (pc := 0) dJ5_append_3_0 rfl 0 rfl ?_
  refine sd_aload_n (pc := 1) dJ5_append_3_1 rfl 0 rfl ?_
  refine sd_getI (pc := 2) dJ5_append_3_2 (ci := 14) rfl in_J6 (kf := 3) (by decide) q268 (h.mono (fun v1 h => ?_))
  refine sd_iconst (pc := 5) dJ5_append_3_5 (v := 1) (by decide) ?_
  refine sd_iadd (pc := 6) dJ5_append_3_6 ?_
  refine sd_callP (k := k) (n := n) (As := [.int (v1 + (1 : Int32))]) (st := []) (pc := 7) dJ5_append_3_7 (ci := 14) rfl h.1 q525 q527 q526 q563 rfl q87 q528 1 (by decide +kernel) rfl (Nat.le_refl _) (by decide) (Nat.le_of_ble_eq_true rfl) (Cx.mono h.2 (kV.to (fun σ2 h => ?_)) (xo rfl))
  refine sd_aload_n (pc := 10) dJ5_append_3_10 rfl 0 rfl ?_
  refine sd_callU (k := k) (n := n) (As := []) (st := []) (pc := 11) dJ5_append_3_11 (ci := 14) rfl h.1 (owner := "java/lang/AbstractStringBuilder") rfl q560 q562 q561 q563 q87 q564 0 (by decide +kernel) rfl 0 (by decide +kernel) rfl (Nat.le_refl _) (by decide) (Nat.le_of_ble_eq_true rfl) (Cx.mono h.2 (kI.to (fun r4 σ3 h => ?_)) (xo rfl))
  refine sd_ifeq (pc := 14) dJ5_append_3_14 (tgt := 45) (by decide) ⟨fun c12 => ?_, fun c12 => ?_⟩
  · have h := h.1 c12
    exact h
  · have h := h.2 c12
    refine sd_iload_n (pc := 17) dJ5_append_3_17 rfl 1 rfl ?_
    refine sd_callS (k := k) (n := n) (As := [.int x1]) (st := []) (pc := 18) dJ5_append_3_18 q1577 q1578 q106 q1579 1 (by decide +kernel) rfl (Nat.le_refl _) (by decide) (Nat.le_of_ble_eq_true rfl) (Cx.mono h (kI.to (fun r6 σ5 h => ?_)) (xo rfl))
    refine sd_ifeq (pc := 21) dJ5_append_3_21 (tgt := 45) (by decide) ⟨fun c11 => ?_, fun c11 => ?_⟩
    · have h := h.1 c11
      exact h
    · have h := h.2 c11
      refine sd_aload_n (pc := 24) dJ5_append_3_24 rfl 0 rfl ?_
      refine sd_getR (pc := 25) dJ5_append_3_25 (ci := 14) rfl in_J6 (kf := 0) (by decide) q264 (h.mono (fun v7 h => ?_))
      refine sd_aload_n (pc := 28) dJ5_append_3_28 rfl 0 rfl ?_
      refine sd_dup (pc := 29) dJ5_append_3_29 rfl ?_
      refine sd_getI (pc := 30) dJ5_append_3_30 (ci := 14) rfl in_J6 (kf := 3) (by decide) q268 (h.mono (fun v8 h => ?_))
      refine sd_dup_x1 (pc := 33) dJ5_append_3_33 rfl rfl ?_
      refine sd_iconst (pc := 34) dJ5_append_3_34 (v := 1) (by decide) ?_
      refine sd_iadd (pc := 35) dJ5_append_3_35 ?_
      refine sd_putf (pc := 36) dJ5_append_3_36 (ci := 14) rfl in_J6 tyJ6 tyJ6_ok nmJ6 (kf := 3) (by decide) q268 rfl (ty := .int) rfl rfl rfl (putV.mono h (fun σ9 h => ?_))
      refine sd_iload_n (pc := 39) dJ5_append_3_39 rfl 1 rfl ?_
      refine sd_i2b (pc := 40) dJ5_append_3_40 ?_
      refine sd_bastore (pc := 41) dJ5_append_3_41 (h.mono (fun σ10 h => ?_))
      refine sd_goto (pc := 42) dJ5_append_3_42 (tgt := 75) (by decide) ?_
      refine sd_aload_n (pc := 75) dJ5_append_3_75 rfl 0 rfl ?_
      exact sd_areturn (r := (some x0)) (pc := 76) dJ5_append_3_76 rfl (Or.inl ⟨_, rfl⟩) h
theorem cx_J5_append_3 {en : yEn} {d : Nat} {p7 : Nat × Nat} {x0 : Nat} {x1 : Int32} {σ : yH} {k n : Nat} {K : Option Value → yH → Prop} {X : String → Addr → yH → Prop} (h : wp_J5_append_3 en d p7 x0 x1 σ k n K X) : Cx en (d + 1) (k + p7.1) (n + p7.2) mJ5_append_3 [.ref x0, .int x1] σ K X := Cx.body (by decide +kernel) rfl (Nat.le_of_ble_eq_true rfl) (ok_J5_append_3 h)
/-! java/lang/AbstractStringBuilder.charAt(I)C -/
def wp_J5_charAt (en : yEn) (d : Nat) (p44 : Nat × Nat) (x0 : Nat) (x1 : Int32) (σ : yH) (k n : Nat) (K : Option Value → yH → Prop) (X : String → Addr → yH → Prop) : Prop :=
  getI σ x0 14 1 (fun v1 => getR σ x0 14 0 (fun v2 => getI σ x0 14 3 (fun v3 => alenQ en σ v2 (fun v4 => yLet (if (v4 >>> (v1 &&& 31)) < v3 then (v4 >>> (v1 &&& 31)) else v3) (fun r5 => Cx en d 0 0 mJ7_checkIndex [.int x1, .int r5] σ (kV (fun σ6 => ((¬ (v1 = 0) → Cx en d p44.1 p44.2 mJ8_getChar [.ref v2, .int x1] σ6 (kI (fun r8 σ7 => (narrow .char (.int r8) = .int r8 ∧ K (some (.int r8)) σ7))) X) ∧ ((v1 = 0) → aldI σ6 (en.2.2.2 1) v2 x1 (fun v9 => K (some (.int (((v9 &&& (255 : Int32)).toUInt32 % 65536).toInt32))) σ6))))) X)))))
set_option maxHeartbeats 4000000 in
theorem ok_J5_charAt {en : yEn} {d : Nat} {p44 : Nat × Nat} {x0 : Nat} {x1 : Int32} {σ : yH} {k n : Nat} {K : Option Value → yH → Prop} {X : String → Addr → yH → Prop} (h : wp_J5_charAt en d p44 x0 x1 σ k n K X) : Wx en (d + 1) mJ5_charAt 0 [(0, .ref x0), (1, .int x1)] [] σ (k + p44.1) (n + p44.2) K X := by
  unfold wp_J5_charAt at h
  refine sd_aload_n (pc := 0) dJ5_charAt_0 rfl 0 rfl ?_
  refine sd_getI (pc := 1) dJ5_charAt_1 (ci := 14) rfl in_J6 (kf := 1) (by decide) q265 (h.mono (fun v1 h => ?_))
  refine sd_istore_n (pc := 4) dJ5_charAt_4 rfl (by decide) (ls' := [(2, .int v1), (0, .ref x0), (1, .int x1)]) rfl ?_
  refine sd_aload_n (pc := 5) dJ5_charAt_5 rfl 1 rfl ?_
  refine sd_getR (pc := 6) dJ5_charAt_6 (ci := 14) rfl in_J6 (kf := 0) (by decide) q264 (h.mono (fun v2 h => ?_))
  refine sd_astore_n (pc := 9) dJ5_charAt_9 rfl (by decide) (ls' := [(3, .ref v2), (2, .int v1), (0, .ref x0), (1, .int x1)]) rfl ?_
  refine sd_aload_n (pc := 10) dJ5_charAt_10 rfl 2 rfl ?_
  refine sd_getI (pc := 11) dJ5_charAt_11 (ci := 14) rfl in_J6 (kf := 3) (by decide) q268 (h.mono (fun v3 h => ?_))
  refine sd_aload_n (pc := 14) dJ5_charAt_14 rfl 0 rfl ?_
  refine sd_alenQ (pc := 15) dJ5_charAt_15 (h.mono (fun v4 h => ?_))
  refine sd_iload_n (pc := 16) dJ5_charAt_16 rfl 1 rfl ?_
  refine sd_ishr (pc := 17) dJ5_charAt_17 ?_
  refine sd_mminL (pc := 18) dJ5_charAt_18 q1644 q555 q101 q556 (by omega) (Nat.le_of_ble_eq_true rfl) (h.mono (fun r5 h => ?_))
  refine sd_istore (pc := 21) dJ5_charAt_21 (by decide) (ls' := [(4, .int r5), (3, .ref v2), (2, .int v1), (0, .ref x0), (1, .int x1)]) rfl ?_
  refine sd_iload_n (pc := 23) dJ5_charAt_23 rfl 4 rfl ?_
  refine sd_iload (pc := 24) dJ5_charAt_24 0 rfl ?_
  refine sd_callS (k := (k + p44.1)) (n := (n + p44.2)) (As := [.int x1, .int r5]) (st := []) (pc := 26) dJ5_charAt_26 q1645 q1587 q89 q1588 2 (by decide +kernel) rfl (Nat.le_refl _) (by decide) (Nat.le_of_ble_eq_true rfl) (Cx.mono h (kV.to (fun σ6 h => ?_)) (xo rfl))
  refine sd_iload_n (pc := 29) dJ5_charAt_29 rfl 2 rfl ?_
  refine sd_ifne (pc := 30) dJ5_charAt_30 (tgt := 42) (by decide) ⟨fun c10 => ?_, fun c10 => ?_⟩
  · have h := h.1 c10
    refine sd_aload_n (pc := 42) dJ5_charAt_42 rfl 1 rfl ?_
    refine sd_iload_n (pc := 43) dJ5_charAt_43 rfl 4 rfl ?_
    refine sd_callS (k := k) (n := n) (As := [.ref v2, .int x1]) (st := []) (pc := 44) dJ5_charAt_44 q1646 q718 q90 q719 2 (by decide +kernel) rfl (Nat.le_refl _) (by decide) (Nat.le_of_ble_eq_true rfl) (Cx.mono h (kI.to (fun r8 σ7 h => ?_)) (xo rfl))
    exact sd_ireturn (pc := 47) dJ5_charAt_47 (ty0 := .char) rfl h.1 h.2
  · have h := h.2 c10
    refine Wx.more (k' := k) (n' := n) ?_ (by omega) (by omega)
    refine sd_aload_n (pc := 33) dJ5_charAt_33 rfl 1 rfl ?_
    refine sd_iload_n (pc := 34) dJ5_charAt_34 rfl 4 rfl ?_
    refine sd_baload (pc := 35) dJ5_charAt_35 (h.mono (fun v9 h => ?_))
    refine sd_sipush (pc := 36) dJ5_charAt_36 (v := 255) (by decide) ?_
    refine sd_iand (pc := 39) dJ5_charAt_39 ?_
    refine sd_i2c (pc := 40) dJ5_charAt_40 ?_
    exact sd_ireturn (pc := 41) dJ5_charAt_41 (ty0 := .char) rfl (pk_nc _) h
theorem cx_J5_charAt {en : yEn} {d : Nat} {p44 : Nat × Nat} {x0 : Nat} {x1 : Int32} {σ : yH} {k n : Nat} {K : Option Value → yH → Prop} {X : String → Addr → yH → Prop} (h : wp_J5_charAt en d p44 x0 x1 σ k n K X) : Cx en (d + 1) (k + p44.1) (n + p44.2) mJ5_charAt [.ref x0, .int x1] σ K X := Cx.body (by decide +kernel) rfl (Nat.le_of_ble_eq_true rfl) (ok_J5_charAt h)
/-! java/lang/AbstractStringBuilder.setLength(I)V -/
def wp_J5_setLength (en : yEn) (d : Nat) (p15 : Nat × Nat) (x0 : Nat) (x1 : Int32) (σ : yH) (k n : Nat) (K : Option Value → yH → Prop) (X : String → Addr → yH → Prop) : Prop :=
  (((0 ≤ x1) → (isC σ x0 14 ∧ Cx en d p15.1 p15.2 mJ5_ensureCapacityInternal [.ref x0, .int x1] σ (kV (fun σ1 => getI σ1 x0 14 3 (fun v2 => (((x1 ≤ v2) → getI σ1 x0 14 3 (fun v3 => (((v3 ≤ x1) → (putV σ1 x0 14 3 (.int x1) (fun σ4 => K none σ4))) ∧ (¬ (v3 ≤ x1) → (putV σ1 x0 14 2 (.int (1 : Int32)) (fun σ5 => (putV σ5 x0 14 3 (.int x1) (fun σ6 => K none σ6)))))))) ∧ (¬ (x1 ≤ v2) → (isC σ1 x0 14 ∧ Cx en d 0 0 mJ5_isLatin1 [.ref x0] σ1 (kI (fun r9 σ8 => (((r9 = 0) → getR σ8 x0 14 0 (fun v10 => getI σ8 x0 14 3 (fun v11 => Cx en d 0 0 mJ8_fillNull [.ref v10, .int v11, .int x1] σ8 (kV (fun σ12 => (putV σ12 x0 14 3 (.int x1) (fun σ13 => K none σ13)))) X))) ∧ (¬ (r9 = 0) → getR σ8 x0 14 0 (fun v14 => getI σ8 x0 14 3 (fun v15 => Cx en d 0 0 mJ20_fillNull [.ref v14, .int v15, .int x1] σ8 (kV (fun σ16 => (putV σ16 x0 14 3 (.int x1) (fun σ17 => K none σ17)))) X)))))) X)))))) X)) ∧ (¬ (0 ≤ x1) → False))
set_option maxHeartbeats 4000000 in
theorem ok_J5_setLength {en : yEn} {d : Nat} {p15 : Nat × Nat} {x0 : Nat} {x1 : Int32} {σ : yH} {k n : Nat} {K : Option Value → yH → Prop} {X : String → Addr → yH → Prop} (h : wp_J5_setLength en d p15 x0 x1 σ k n K X) : Wx en (d + 1) mJ5_setLength 0 [(0, .ref x0), (1, .int x1)] [] σ (k + p15.1) (n + p15.2) K X := by
  unfold wp_J5_setLength at h
  refine sd_iload_n (pc := 0) dJ5_setLength_0 rfl 1 rfl ?_
  refine sd_ifge (pc := 1) dJ5_setLength_1 (tgt := 13) (by decide) ⟨fun c20 => ?_, fun c20 => ?_⟩
  · have h := h.1 c20
    refine sd_aload_n (pc := 13) dJ5_setLength_13 rfl 0 rfl ?_
    refine sd_iload_n (pc := 14) dJ5_setLength_14 rfl 1 rfl ?_
    refine sd_callP (k := k) (n := n) (As := [.int x1]) (st := []) (pc := 15) dJ5_setLength_15 (ci := 14) rfl h.1 q525 q527 q526 q563 rfl q87 q528 1 (by decide +kernel) rfl (Nat.le_refl _) (by decide) (Nat.le_of_ble_eq_true rfl) (Cx.mono h.2 (kV.to (fun σ1 h => ?_)) (xo rfl))
    refine sd_aload_n (pc := 18) dJ5_setLength_18 rfl 0 rfl ?_
    refine sd_getI (pc := 19) dJ5_setLength_19 (ci := 14) rfl in_J6 (kf := 3) (by decide) q268 (h.mono (fun v2 h => ?_))
    refine sd_iload_n (pc := 22) dJ5_setLength_22 rfl 1 rfl ?_
    refine sd_icmpge (pc := 23) dJ5_setLength_23 (tgt := 63) (by decide) ⟨fun c19 => ?_, fun c19 => ?_⟩
    · have h := h.1 c19
      refine sd_aload_n (pc := 63) dJ5_setLength_63 rfl 0 rfl ?_
      refine sd_getI (pc := 64) dJ5_setLength_64 (ci := 14) rfl in_J6 (kf := 3) (by decide) q268 (h.mono (fun v3 h => ?_))
      refine sd_iload_n (pc := 67) dJ5_setLength_67 rfl 1 rfl ?_
      refine sd_icmple (pc := 68) dJ5_setLength_68 (tgt := 76) (by decide) ⟨fun c7 => ?_, fun c7 => ?_⟩
      · have h := h.1 c7
        refine sd_aload_n (pc := 76) dJ5_setLength_76 rfl 0 rfl ?_
        refine sd_iload_n (pc := 77) dJ5_setLength_77 rfl 1 rfl ?_
        refine sd_putf (pc := 78) dJ5_setLength_78 (ci := 14) rfl in_J6 tyJ6 tyJ6_ok nmJ6 (kf := 3) (by decide) q268 rfl (ty := .int) rfl rfl rfl (putV.mono h (fun σ4 h => ?_))
        exact sd_return (pc := 81) dJ5_setLength_81 rfl h
      · have h := h.2 c7
        refine sd_aload_n (pc := 71) dJ5_setLength_71 rfl 0 rfl ?_
        refine sd_iconst (pc := 72) dJ5_setLength_72 (v := 1) (by decide) ?_
        refine sd_putf (pc := 73) dJ5_setLength_73 (ci := 14) rfl in_J6 tyJ6 tyJ6_ok nmJ6 (kf := 2) (by decide) q266 rfl (ty := .boolean) rfl rfl rfl (putV.mono h (fun σ5 h => ?_))
        refine sd_aload_n (pc := 76) dJ5_setLength_76 rfl 0 rfl ?_
        refine sd_iload_n (pc := 77) dJ5_setLength_77 rfl 1 rfl ?_
        refine sd_putf (pc := 78) dJ5_setLength_78 (ci := 14) rfl in_J6 tyJ6 tyJ6_ok nmJ6 (kf := 3) (by decide) q268 rfl (ty := .int) rfl rfl rfl (putV.mono h (fun σ6 h => ?_))
        exact sd_return (pc := 81) dJ5_setLength_81 rfl h
    · have h := h.2 c19
      refine sd_aload_n (pc := 26) dJ5_setLength_26 rfl 0 rfl ?_
      refine sd_callU (k := k) (n := n) (As := []) (st := []) (pc := 27) dJ5_setLength_27 (ci := 14) rfl h.1 (owner := "java/lang/AbstractStringBuilder") rfl q560 q562 q561 q563 q87 q564 0 (by decide +kernel) rfl 0 (by decide +kernel) rfl (Nat.le_refl _) (by decide) (Nat.le_of_ble_eq_true rfl) (Cx.mono h.2 (kI.to (fun r9 σ8 h => ?_)) (xo rfl))
      refine sd_ifeq (pc := 30) dJ5_setLength_30 (tgt := 48) (by decide) ⟨fun c18 => ?_, fun c18 => ?_⟩
      · have h := h.1 c18
        refine sd_aload_n (pc := 48) dJ5_setLength_48 rfl 0 rfl ?_
        refine sd_getR (pc := 49) dJ5_setLength_49 (ci := 14) rfl in_J6 (kf := 0) (by decide) q264 (h.mono (fun v10 h => ?_))
        refine sd_aload_n (pc := 52) dJ5_setLength_52 rfl 0 rfl ?_
        refine sd_getI (pc := 53) dJ5_setLength_53 (ci := 14) rfl in_J6 (kf := 3) (by decide) q268 (h.mono (fun v11 h => ?_))
        refine sd_iload_n (pc := 56) dJ5_setLength_56 rfl 1 rfl ?_
        refine sd_callS (k := k) (n := n) (As := [.ref v10, .int v11, .int x1]) (st := []) (pc := 57) dJ5_setLength_57 q1996 q1997 q90 q1998 3 (by decide +kernel) rfl (Nat.le_refl _) (by decide) (Nat.le_of_ble_eq_true rfl) (Cx.mono h (kV.to (fun σ12 h => ?_)) (xo rfl))
        refine sd_goto (pc := 60) dJ5_setLength_60 (tgt := 76) (by decide) ?_
        refine sd_aload_n (pc := 76) dJ5_setLength_76 rfl 0 rfl ?_
        refine sd_iload_n (pc := 77) dJ5_setLength_77 rfl 1 rfl ?_
        refine sd_putf (pc := 78) dJ5_setLength_78 (ci := 14) rfl in_J6 tyJ6 tyJ6_ok nmJ6 (kf := 3) (by decide) q268 rfl (ty := .int) rfl rfl rfl (putV.mono h (fun σ13 h => ?_))
        exact sd_return (pc := 81) dJ5_setLength_81 rfl h
      · have h := h.2 c18
        refine sd_aload_n (pc := 33) dJ5_setLength_33 rfl 0 rfl ?_
        refine sd_getR (pc := 34) dJ5_setLength_34 (ci := 14) rfl in_J6 (kf := 0) (by decide) q264 (h.mono (fun v14 h => ?_))
        refine sd_aload_n (pc := 37) dJ5_setLength_37 rfl 0 rfl ?_
        refine sd_getI (pc := 38) dJ5_setLength_38 (ci := 14) rfl in_J6 (kf := 3) (by decide) q268 (h.mono (fun v15 h => ?_))
        refine sd_iload_n (pc := 41) dJ5_setLength_41 rfl 1 rfl ?_
        refine sd_callS (k := k) (n := n) (As := [.ref v14, .int v15, .int x1]) (st := []) (pc := 42) dJ5_setLength_42 q1974 q1975 q106 q1976 3 (by decide +kernel) rfl (Nat.le_refl _) (by decide) (Nat.le_of_ble_eq_true rfl) (Cx.mono h (kV.to (fun σ16 h => ?_)) (xo rfl))
        refine sd_goto (pc := 45) dJ5_setLength_45 (tgt := 76) (by decide) ?_
        refine sd_aload_n (pc := 76) dJ5_setLength_76 rfl 0 rfl ?_
        refine sd_iload_n (pc := 77) dJ5_setLength_77 rfl 1 rfl ?_
        refine sd_putf (pc := 78) dJ5_setLength_78 (ci := 14) rfl in_J6 tyJ6 tyJ6_ok nmJ6 (kf := 3) (by decide) q268 rfl (ty := .int) rfl rfl rfl (putV.mono h (fun σ17 h => ?_))
        exact sd_return (pc := 81) dJ5_setLength_81 rfl h
  · have h := h.2 c20
    refine Wx.more (k' := k) (n' := n) ?_ (by omega) (by omega)
    exact h.elim
theorem cx_J5_setLength {en : yEn} {d : Nat} {p15 : Nat × Nat} {x0 : Nat} {x1 : Int32} {σ : yH} {k n : Nat} {K : Option Value → yH → Prop} {X : String → Addr → yH → Prop} (h : wp_J5_setLength en d p15 x0 x1 σ k n K X) : Cx en (d + 1) (k + p15.1) (n + p15.2) mJ5_setLength [.ref x0, .int x1] σ K X := Cx.body (by decide +kernel) rfl (Nat.le_of_ble_eq_true rfl) (ok_J5_setLength h)
/-! java/lang/StringBuilder.append(C)Ljava/lang/StringBuilder; -/
def wp_J6_append_3 (en : yEn) (d : Nat) (p2 : Nat × Nat) (x0 : Nat) (x1 : Int32) (σ : yH) (k n : Nat) (K : Option Value → yH → Prop) (X : String → Addr → yH → Prop) : Prop :=
  (isC σ x0 14 ∧ Cx en d p2.1 p2.2 mJ5_append_3 [.ref x0, .int x1] σ (kA (fun r2 σ1 => K (some (.ref x0)) σ1)) X)
set_option maxHeartbeats 4000000 in
theorem ok_J6_append_3 {en : yEn} {d : Nat} {p2 : Nat × Nat} {x0 : Nat} {x1 : Int32} {σ : yH} {k n : Nat} {K : Option Value → yH → Prop} {X : String → Addr → yH → Prop} (h : wp_J6_append_3 en d p2 x0 x1 σ k n K X) : Wx en (d + 1) mJ6_append_3 0 [(0, .ref x0), (1, .int x1)] [] σ (k + p2.1) (n + p2.2) K X := by
  unfold wp_J6_append_3 at h
  refine sd_aload_n (pc := 0) dJ6_append_3_0 rfl 0 rfl ?_
  refine sd_iload_n (pc := 1) dJ6_append_3_1 rfl 1 rfl ?_
  refine sd_callSU (k := k) (n := n) (As := [.int x1]) (st := []) (pc := 2) dJ6_append_3_2 (ci := 14) rfl h.1 q1574 q2589 q277 q1575 q87 q1576 (by decide) 1 (by decide +kernel) rfl (Nat.le_refl _) (by decide) (Nat.le_of_ble_eq_true rfl) (Cx.mono h.2 (kA.to (fun r2 σ1 h => ?_)) (xo rfl))
  refine sd_pop (pc := 5) dJ6_append_3_5 rfl ?_
  refine sd_aload_n (pc := 6) dJ6_append_3_6 rfl 0 rfl ?_
  exact sd_areturn (r := (some x0)) (pc := 7) dJ6_append_3_7 rfl (Or.inl ⟨_, rfl⟩) h
theorem cx_J6_append_3 {en : yEn} {d : Nat} {p2 : Nat × Nat} {x0 : Nat} {x1 : Int32} {σ : yH} {k n : Nat} {K : Option Value → yH → Prop} {X : String → Addr → yH → Prop} (h : wp_J6_append_3 en d p2 x0 x1 σ k n K X) : Cx en (d + 1) (k + p2.1) (n + p2.2) mJ6_append_3 [.ref x0, .int x1] σ K X := Cx.body (by decide +kernel) rfl (Nat.le_of_ble_eq_true rfl) (ok_J6_append_3 h)
/-! java/lang/StringBuilder.charAt(I)C -/
def wp_J6_charAt (en : yEn) (d : Nat) (p2 : Nat × Nat) (x0 : Nat) (x1 : Int32) (σ : yH) (k n : Nat) (K : Option Value → yH → Prop) (X : String → Addr → yH → Prop) : Prop :=
  (isC σ x0 14 ∧ Cx en d p2.1 p2.2 mJ5_charAt [.ref x0, .int x1] σ (kI (fun r2 σ1 => (narrow .char (.int r2) = .int r2 ∧ K (some (.int r2)) σ1))) X)
set_option maxHeartbeats 4000000 in
theorem ok_J6_charAt {en : yEn} {d : Nat} {p2 : Nat × Nat} {x0 : Nat} {x1 : Int32} {σ : yH} {k n : Nat} {K : Option Value → yH → Prop} {X : String → Addr → yH → Prop} (h : wp_J6_charAt en d p2 x0 x1 σ k n K X) : Wx en (d + 1) mJ6_charAt 0 [(0, .ref x0), (1, .int x1)] [] σ (k + p2.1) (n + p2.2) K X := by
  unfold wp_J6_charAt at h
  refine sd_aload_n (pc := 0) dJ6_charAt_0 rfl 0 rfl ?_
  refine sd_iload_n (pc := 1) dJ6_charAt_1 rfl 1 rfl ?_
  refine sd_callSU (k := k) (n := n) (As := [.int x1]) (st := []) (pc := 2) dJ6_charAt_2 (ci := 14) rfl h.1 q1641 q2590 q277 q1642 q87 q1643 (by decide) 1 (by decide +kernel) rfl (Nat.le_refl _) (by decide) (Nat.le_of_ble_eq_true rfl) (Cx.mono h.2 (kI.to (fun r2 σ1 h => ?_)) (xo rfl))
  exact sd_ireturn (pc := 5) dJ6_charAt_5 (ty0 := .char) rfl h.1 h.2
theorem cx_J6_charAt {en : yEn} {d : Nat} {p2 : Nat × Nat} {x0 : Nat} {x1 : Int32} {σ : yH} {k n : Nat} {K : Option Value → yH → Prop} {X : String → Addr → yH → Prop} (h : wp_J6_charAt en d p2 x0 x1 σ k n K X) : Cx en (d + 1) (k + p2.1) (n + p2.2) mJ6_charAt [.ref x0, .int x1] σ K X := Cx.body (by decide +kernel) rfl (Nat.le_of_ble_eq_true rfl) (ok_J6_charAt h)
/-! java/lang/StringBuilder.setLength(I)V -/
def wp_J6_setLength (en : yEn) (d : Nat) (p2 : Nat × Nat) (x0 : Nat) (x1 : Int32) (σ : yH) (k n : Nat) (K : Option Value → yH → Prop) (X : String → Addr → yH → Prop) : Prop :=
  (isC σ x0 14 ∧ Cx en d p2.1 p2.2 mJ5_setLength [.ref x0, .int x1] σ (kV (fun σ1 => K none σ1)) X)
set_option maxHeartbeats 4000000 in
theorem ok_J6_setLength {en : yEn} {d : Nat} {p2 : Nat × Nat} {x0 : Nat} {x1 : Int32} {σ : yH} {k n : Nat} {K : Option Value → yH → Prop} {X : String → Addr → yH → Prop} (h : wp_J6_setLength en d p2 x0 x1 σ k n K X) : Wx en (d + 1) mJ6_setLength 0 [(0, .ref x0), (1, .int x1)] [] σ (k + p2.1) (n + p2.2) K X := by
  unfold wp_J6_setLength at h
  refine sd_aload_n (pc := 0) dJ6_setLength_0 rfl 0 rfl ?_
  refine sd_iload_n (pc := 1) dJ6_setLength_1 rfl 1 rfl ?_
  refine sd_callSU (k := k) (n := n) (As := [.int x1]) (st := []) (pc := 2) dJ6_setLength_2 (ci := 14) rfl h.1 q1952 q2593 q277 q1953 q87 q1954 (by decide) 1 (by decide +kernel) rfl (Nat.le_refl _) (by decide) (Nat.le_of_ble_eq_true rfl) (Cx.mono h.2 (kV.to (fun σ1 h => ?_)) (xo rfl))
  exact sd_return (pc := 5) dJ6_setLength_5 rfl h
theorem cx_J6_setLength {en : yEn} {d : Nat} {p2 : Nat × Nat} {x0 : Nat} {x1 : Int32} {σ : yH} {k n : Nat} {K : Option Value → yH → Prop} {X : String → Addr → yH → Prop} (h : wp_J6_setLength en d p2 x0 x1 σ k n K X) : Cx en (d + 1) (k + p2.1) (n + p2.2) mJ6_setLength [.ref x0, .int x1] σ K X := Cx.body (by decide +kernel) rfl (Nat.le_of_ble_eq_true rfl) (ok_J6_setLength h)
/-! java/lang/String.isLatin1()Z -/
def wp_J7_isLatin1 (en : yEn) (d : Nat) (x0 : Nat) (σ : yH) (k n : Nat) (K : Option Value → yH → Prop) (X : String → Addr → yH → Prop) : Prop :=
  ((((1 : Int32) = 0) → K (some (.int (0 : Int32))) σ) ∧ (¬ ((1 : Int32) = 0) → getI σ x0 15 1 (fun v1 => K (some (.int (if (v1 = 0) then (1 : Int32) else (0 : Int32)))) σ)))
set_option maxHeartbeats 4000000 in
theorem ok_J7_isLatin1 {en : yEn} {d : Nat} {x0 : Nat} {σ : yH} {k n : Nat} {K : Option Value → yH → Prop} {X : String → Addr → yH → Prop} (h : wp_J7_isLatin1 en d  x0 σ k n K X) : Wx en (d + 1) mJ7_isLatin1 0 [(0, .ref x0)] [] σ k n K X := by
  unfold wp_J7_isLatin1 at h
  refine sd_getsI (pc := 0) dJ7_isLatin1_0 (z := 1) q626 q256 (lw_all_tbl q89) yn8 ?_
  refine sd_ifeq (pc := 3) dJ7_isLatin1_3 (tgt := 17) (by decide) ⟨fun c3 => ?_, fun c3 => ?_⟩
  · have h := h.1 c3
    refine sd_iconst (pc := 17) dJ7_isLatin1_17 (v := 0) (by decide) ?_
    exact sd_ireturn (pc := 18) dJ7_isLatin1_18 (ty0 := .boolean) rfl rfl h
  · have h := h.2 c3
    refine sd_aload_n (pc := 6) dJ7_isLatin1_6 rfl 0 rfl ?_
    refine sd_getI (pc := 7) dJ7_isLatin1_7 (ci := 15) rfl in_J7 (kf := 1) (by decide) q725 (h.mono (fun v1 h => ?_))
    have h4 : Wx en (d + 1) mJ7_isLatin1 18 [(0, .ref x0)] (.int (if (v1 = 0) then (1 : Int32) else (0 : Int32)) :: []) σ k n K X := by
      exact sd_ireturn (pc := 18) dJ7_isLatin1_18 (ty0 := .boolean) rfl (nb_ite rfl rfl) h
    have e5 := sd_iteIN h4
    refine sd_ifne (pc := 10) dJ7_isLatin1_10 (tgt := 17) (by decide) ⟨fun c2 => ?_, fun c2 => ?_⟩
    · refine sd_iconst (pc := 17) dJ7_isLatin1_17 (v := 0) (by decide) ?_
      exact (e5.1 c2)
    · refine sd_iconst (pc := 13) dJ7_isLatin1_13 (v := 1) (by decide) ?_
      refine sd_goto (pc := 14) dJ7_isLatin1_14 (tgt := 18) (by decide) ?_
      exact (e5.2 c2)
theorem cx_J7_isLatin1 {en : yEn} {d : Nat} {x0 : Nat} {σ : yH} {k n : Nat} {K : Option Value → yH → Prop} {X : String → Addr → yH → Prop} (h : wp_J7_isLatin1 en d  x0 σ k n K X) : Cx en (d + 1) k n mJ7_isLatin1 [.ref x0] σ K X := Cx.body (by decide +kernel) rfl (Nat.le_of_ble_eq_true rfl) (ok_J7_isLatin1 h)
/-! java/lang/String.charAt(I)C -/
def wp_J7_charAt (en : yEn) (d : Nat) (p21 : Nat × Nat) (x0 : Nat) (x1 : Int32) (σ : yH) (k n : Nat) (K : Option Value → yH → Prop) (X : String → Addr → yH → Prop) : Prop :=
  (isC σ x0 15 ∧ Cx en d 0 0 mJ7_isLatin1 [.ref x0] σ (kI (fun r2 σ1 => (((r2 = 0) → getR σ1 x0 15 0 (fun v3 => Cx en d p21.1 p21.2 mJ8_charAt [.ref v3, .int x1] σ1 (kI (fun r5 σ4 => (narrow .char (.int r5) = .int r5 ∧ K (some (.int r5)) σ4))) X)) ∧ (¬ (r2 = 0) → getR σ1 x0 15 0 (fun v6 => Cx en d 0 0 mJ20_charAt [.ref v6, .int x1] σ1 (kI (fun r8 σ7 => (narrow .char (.int r8) = .int r8 ∧ K (some (.int r8)) σ7))) X))))) X)
set_option maxHeartbeats 4000000 in
theorem ok_J7_charAt {en : yEn} {d : Nat} {p21 : Nat × Nat} {x0 : Nat} {x1 : Int32} {σ : yH} {k n : Nat} {K : Option Value → yH → Prop} {X : String → Addr → yH → Prop} (h : wp_J7_charAt en d p21 x0 x1 σ k n K X) : Wx en (d + 1) mJ7_charAt 0 [(0, .ref x0), (1, .int x1)] [] σ (k + p21.1) (n + p21.2) K X := by
  unfold wp_J7_charAt at h
  refine sd_aload_n (pc := 0) dJ7_charAt_0 rfl 0 rfl ?_
  refine sd_callV (k := (k + p21.1)) (n := (n + p21.2)) (As := []) (st := []) (pc := 1) dJ7_charAt_1 (ci := 15) rfl h.1 rfl q1625 q1626 q1627 q89 q1628 0 (by decide +kernel) rfl (Nat.le_refl _) (by decide) (Nat.le_of_ble_eq_true rfl) (Cx.mono h.2 (kI.to (fun r2 σ1 h => ?_)) (xo rfl))
  refine sd_ifeq (pc := 4) dJ7_charAt_4 (tgt := 16) (by decide) ⟨fun c9 => ?_, fun c9 => ?_⟩
  · have h := h.1 c9
    refine sd_aload_n (pc := 16) dJ7_charAt_16 rfl 0 rfl ?_
    refine sd_getR (pc := 17) dJ7_charAt_17 (ci := 15) rfl in_J7 (kf := 0) (by decide) q724 (h.mono (fun v3 h => ?_))
    refine sd_iload_n (pc := 20) dJ7_charAt_20 rfl 1 rfl ?_
    refine sd_callS (k := k) (n := n) (As := [.ref v3, .int x1]) (st := []) (pc := 21) dJ7_charAt_21 q1633 q1634 q90 q1635 2 (by decide +kernel) rfl (Nat.le_refl _) (by decide) (Nat.le_of_ble_eq_true rfl) (Cx.mono h (kI.to (fun r5 σ4 h => ?_)) (xo rfl))
    exact sd_ireturn (pc := 24) dJ7_charAt_24 (ty0 := .char) rfl h.1 h.2
  · have h := h.2 c9
    refine Wx.more (k' := k) (n' := n) ?_ (by omega) (by omega)
    refine sd_aload_n (pc := 7) dJ7_charAt_7 rfl 0 rfl ?_
    refine sd_getR (pc := 8) dJ7_charAt_8 (ci := 15) rfl in_J7 (kf := 0) (by decide) q724 (h.mono (fun v6 h => ?_))
    refine sd_iload_n (pc := 11) dJ7_charAt_11 rfl 1 rfl ?_
    refine sd_callS (k := k) (n := n) (As := [.ref v6, .int x1]) (st := []) (pc := 12) dJ7_charAt_12 q1629 q1630 q106 q1631 2 (by decide +kernel) rfl (Nat.le_refl _) (by decide) (Nat.le_of_ble_eq_true rfl) (Cx.mono h (kI.to (fun r8 σ7 h => ?_)) (xo rfl))
    exact sd_ireturn (pc := 15) dJ7_charAt_15 (ty0 := .char) rfl h.1 h.2
theorem cx_J7_charAt {en : yEn} {d : Nat} {p21 : Nat × Nat} {x0 : Nat} {x1 : Int32} {σ : yH} {k n : Nat} {K : Option Value → yH → Prop} {X : String → Addr → yH → Prop} (h : wp_J7_charAt en d p21 x0 x1 σ k n K X) : Cx en (d + 1) (k + p21.1) (n + p21.2) mJ7_charAt [.ref x0, .int x1] σ K X := Cx.body (by decide +kernel) rfl (Nat.le_of_ble_eq_true rfl) (ok_J7_charAt h)
/-! java/lang/String.indexOf(Ljava/lang/String;)I -/
def wp_J7_indexOf (en : yEn) (d : Nat) (p60 : Nat × Nat) (p42 : Nat × Nat) (x0 : Nat) (x1 : Nat) (σ : yH) (k n : Nat) (K : Option Value → yH → Prop) (X : String → Addr → yH → Prop) : Prop :=
  (isC σ x0 15 ∧ Cx en d 0 0 mJ7_coder [.ref x0] σ (kI (fun r2 σ1 => (isC σ1 x1 15 ∧ Cx en d 0 0 mJ7_coder [.ref x1] σ1 (kI (fun r4 σ3 => ((¬ (r2 = r4) → ((¬ (r2 = 0) → getR σ3 x0 15 0 (fun v5 => getR σ3 x1 15 0 (fun v6 => Cx en d p60.1 p60.2 mJ8_indexOfLatin1 [.ref v5, .ref v6] σ3 (kI (fun r8 σ7 => K (some (.int r8)) σ7)) X))) ∧ ((r2 = 0) → K (some (.int (-1 : Int32))) σ3))) ∧ ((r2 = r4) → (isC σ3 x0 15 ∧ Cx en d 0 0 mJ7_isLatin1 [.ref x0] σ3 (kI (fun r11 σ10 => (((r11 = 0) → getR σ10 x0 15 0 (fun v12 => getR σ10 x1 15 0 (fun v13 => Cx en d p42.1 p42.2 mJ8_indexOf [.ref v12, .ref v13] σ10 (kI (fun r15 σ14 => K (some (.int r15)) σ14)) X))) ∧ (¬ (r11 = 0) → getR σ10 x0 15 0 (fun v16 => getR σ10 x1 15 0 (fun v17 => Cx en d 0 0 mJ20_indexOf [.ref v16, .ref v17] σ10 (kI (fun r19 σ18 => K (some (.int r19)) σ18)) X)))))) X))))) X))) X)
set_option maxHeartbeats 4000000 in
theorem ok_J7_indexOf {en : yEn} {d : Nat} {p60 : Nat × Nat} {p42 : Nat × Nat} {x0 : Nat} {x1 : Nat} {σ : yH} {k n : Nat} {K : Option Value → yH → Prop} {X : String → Addr → yH → Prop} (h : wp_J7_indexOf en d p60 p42 x0 x1 σ k n K X) : Wx en (d + 1) mJ7_indexOf 0 [(0, .ref x0), (1, .ref x1)] [] σ (k + p60.1 + p42.1) (n + p60.2 + p42.2) K X := by
  unfold wp_J7_indexOf at h
  refine sd_aload_n (pc := 0) dJ7_indexOf_0 rfl 0 rfl ?_
  refine sd_callV (k := (k + p60.1 + p42.1)) (n := (n + p60.2 + p42.2)) (As := []) (st := []) (pc := 1) dJ7_indexOf_1 (ci := 15) rfl h.1 rfl q622 q623 q624 q89 q625 0 (by decide +kernel) rfl (Nat.le_refl _) (by decide) (Nat.le_of_ble_eq_true rfl) (Cx.mono h.2 (kI.to (fun r2 σ1 h => ?_)) (xo rfl))
  refine sd_istore_n (pc := 4) dJ7_indexOf_4 rfl (by decide) (ls' := [(2, .int r2), (0, .ref x0), (1, .ref x1)]) rfl ?_
  refine sd_iload_n (pc := 5) dJ7_indexOf_5 rfl 0 rfl ?_
  refine sd_aload_n (pc := 6) dJ7_indexOf_6 rfl 2 rfl ?_
  refine sd_callV (k := (k + p60.1 + p42.1)) (n := (n + p60.2 + p42.2)) (As := []) (st := [.int r2]) (pc := 7) dJ7_indexOf_7 (ci := 15) rfl h.1 rfl q622 q623 q624 q89 q625 0 (by decide +kernel) rfl (Nat.le_refl _) (by decide) (Nat.le_of_ble_eq_true rfl) (Cx.mono h.2 (kI.to (fun r4 σ3 h => ?_)) (xo rfl))
  refine sd_icmpne (pc := 10) dJ7_indexOf_10 (tgt := 46) (by decide) ⟨fun c21 => ?_, fun c21 => ?_⟩
  · have h := h.1 c21
    refine Wx.more (k' := (k + p60.1)) (n' := (n + p60.2)) ?_ (by omega) (by omega)
    refine sd_iload_n (pc := 46) dJ7_indexOf_46 rfl 0 rfl ?_
    refine sd_ifne (pc := 47) dJ7_indexOf_47 (tgt := 52) (by decide) ⟨fun c9 => ?_, fun c9 => ?_⟩
    · have h := h.1 c9
      refine sd_aload_n (pc := 52) dJ7_indexOf_52 rfl 1 rfl ?_
      refine sd_getR (pc := 53) dJ7_indexOf_53 (ci := 15) rfl in_J7 (kf := 0) (by decide) q724 (h.mono (fun v5 h => ?_))
      refine sd_aload_n (pc := 56) dJ7_indexOf_56 rfl 2 rfl ?_
      refine sd_getR (pc := 57) dJ7_indexOf_57 (ci := 15) rfl in_J7 (kf := 0) (by decide) q724 (h.mono (fun v6 h => ?_))
      refine sd_callS (k := k) (n := n) (As := [.ref v5, .ref v6]) (st := []) (pc := 60) dJ7_indexOf_60 q1785 q1786 q90 q1787 2 (by decide +kernel) rfl (Nat.le_refl _) (by decide) (Nat.le_of_ble_eq_true rfl) (Cx.mono h (kI.to (fun r8 σ7 h => ?_)) (xo rfl))
      exact sd_ireturn (pc := 63) dJ7_indexOf_63 (ty0 := .int) rfl rfl h
    · have h := h.2 c9
      refine Wx.more (k' := k) (n' := n) ?_ (by omega) (by omega)
      refine sd_iconst (pc := 50) dJ7_indexOf_50 (v := -1) (by decide) ?_
      exact sd_ireturn (pc := 51) dJ7_indexOf_51 (ty0 := .int) rfl rfl h
  · have h := h.2 c21
    refine Wx.more (k' := (k + p42.1)) (n' := (n + p42.2)) ?_ (by omega) (by omega)
    refine sd_aload_n (pc := 13) dJ7_indexOf_13 rfl 1 rfl ?_
    refine sd_callV (k := (k + p42.1)) (n := (n + p42.2)) (As := []) (st := []) (pc := 14) dJ7_indexOf_14 (ci := 15) rfl h.1 rfl q1625 q1626 q1627 q89 q1628 0 (by decide +kernel) rfl (Nat.le_refl _) (by decide) (Nat.le_of_ble_eq_true rfl) (Cx.mono h.2 (kI.to (fun r11 σ10 h => ?_)) (xo rfl))
    refine sd_ifeq (pc := 17) dJ7_indexOf_17 (tgt := 34) (by decide) ⟨fun c20 => ?_, fun c20 => ?_⟩
    · have h := h.1 c20
      refine sd_aload_n (pc := 34) dJ7_indexOf_34 rfl 1 rfl ?_
      refine sd_getR (pc := 35) dJ7_indexOf_35 (ci := 15) rfl in_J7 (kf := 0) (by decide) q724 (h.mono (fun v12 h => ?_))
      refine sd_aload_n (pc := 38) dJ7_indexOf_38 rfl 2 rfl ?_
      refine sd_getR (pc := 39) dJ7_indexOf_39 (ci := 15) rfl in_J7 (kf := 0) (by decide) q724 (h.mono (fun v13 h => ?_))
      refine sd_callS (k := k) (n := n) (As := [.ref v12, .ref v13]) (st := []) (pc := 42) dJ7_indexOf_42 q1779 q1780 q90 q1781 2 (by decide +kernel) rfl (Nat.le_refl _) (by decide) (Nat.le_of_ble_eq_true rfl) (Cx.mono h (kI.to (fun r15 σ14 h => ?_)) (xo rfl))
      exact sd_ireturn (pc := 45) dJ7_indexOf_45 (ty0 := .int) rfl rfl h
    · have h := h.2 c20
      refine Wx.more (k' := k) (n' := n) ?_ (by omega) (by omega)
      refine sd_aload_n (pc := 20) dJ7_indexOf_20 rfl 1 rfl ?_
      refine sd_getR (pc := 21) dJ7_indexOf_21 (ci := 15) rfl in_J7 (kf := 0) (by decide) q724 (h.mono (fun v16 h => ?_))
      refine sd_aload_n (pc := 24) dJ7_indexOf_24 rfl 2 rfl ?_
      refine sd_getR (pc := 25) dJ7_indexOf_25 (ci := 15) rfl in_J7 (kf := 0) (by decide) q724 (h.mono (fun v17 h => ?_))
      refine sd_callS (k := k) (n := n) (As := [.ref v16, .ref v17]) (st := []) (pc := 28) dJ7_indexOf_28 q1773 q1774 q106 q1775 2 (by decide +kernel) rfl (Nat.le_refl _) (by decide) (Nat.le_of_ble_eq_true rfl) (Cx.mono h (kI.to (fun r19 σ18 h => ?_)) (xo rfl))
      refine sd_goto (pc := 31) dJ7_indexOf_31 (tgt := 45) (by decide) ?_
      exact sd_ireturn (pc := 45) dJ7_indexOf_45 (ty0 := .int) rfl rfl h
theorem cx_J7_indexOf {en : yEn} {d : Nat} {p60 : Nat × Nat} {p42 : Nat × Nat} {x0 : Nat} {x1 : Nat} {σ : yH} {k n : Nat} {K : Option Value → yH → Prop} {X : String → Addr → yH → Prop} (h : wp_J7_indexOf en d p60 p42 x0 x1 σ k n K X) : Cx en (d + 1) (k + p60.1 + p42.1) (n + p60.2 + p42.2) mJ7_indexOf [.ref x0, .ref x1] σ K X := Cx.body (by decide +kernel) rfl (Nat.le_of_ble_eq_true rfl) (ok_J7_indexOf h)
/-! java/lang/String.toString()Ljava/lang/String; -/
def wp_J7_toString (en : yEn) (d : Nat) (x0 : Nat) (σ : yH) (k n : Nat) (K : Option Value → yH → Prop) (X : String → Addr → yH → Prop) : Prop :=
  K (some (.ref x0)) σ
set_option maxHeartbeats 4000000 in
theorem ok_J7_toString {en : yEn} {d : Nat} {x0 : Nat} {σ : yH} {k n : Nat} {K : Option Value → yH → Prop} {X : String → Addr → yH → Prop} (h : wp_J7_toString en d  x0 σ k n K X) : Wx en (d + 1) mJ7_toString 0 [(0, .ref x0)] [] σ k n K X := by
  unfold wp_J7_toString at h
  refine sd_aload_n (pc := 0) dJ7_toString_0 rfl 0 rfl ?_
  exact sd_areturn (r := (some x0)) (pc := 1) dJ7_toString_1 rfl (Or.inl ⟨_, rfl⟩) h
theorem cx_J7_toString {en : yEn} {d : Nat} {x0 : Nat} {σ : yH} {k n : Nat} {K : Option Value → yH → Prop} {X : String → Addr → yH → Prop} (h : wp_J7_toString en d  x0 σ k n K X) : Cx en (d + 1) k n mJ7_toString [.ref x0] σ K X := Cx.body (by decide +kernel) rfl (Nat.le_of_ble_eq_true rfl) (ok_J7_toString h)
/-! java/lang/String.contains(Ljava/lang/CharSequence;)Z -/
def wp_J7_contains (en : yEn) (d : Nat) (p7 : Nat × Nat) (p2 : Nat × Nat) (x0 : Nat) (x1 : Nat) (σ : yH) (k n : Nat) (K : Option Value → yH → Prop) (X : String → Addr → yH → Prop) : Prop :=
  ((isC σ x1 15 ∧ Cx en d 0 0 mJ7_toString [.ref x1] σ (kA (fun r2 σ1 => (isC σ1 x0 15 ∧ Cx en d p7.1 p7.2 mJ7_indexOf [.ref x0, .ref r2] σ1 (kI (fun r4 σ3 => K (some (.int (if (r4 < 0) then (0 : Int32) else (1 : Int32)))) σ3)) X))) X) ∨ (isC σ x1 14 ∧ Cx en d p2.1 p2.2 mJ6_toString [.ref x1] σ (kA (fun r7 σ6 => (isC σ6 x0 15 ∧ Cx en d p7.1 p7.2 mJ7_indexOf [.ref x0, .ref r7] σ6 (kI (fun r9 σ8 => K (some (.int (if (r9 < 0) then (0 : Int32) else (1 : Int32)))) σ8)) X))) X))
set_option maxHeartbeats 4000000 in
theorem ok_J7_contains {en : yEn} {d : Nat} {p7 : Nat × Nat} {p2 : Nat × Nat} {x0 : Nat} {x1 : Nat} {σ : yH} {k n : Nat} {K : Option Value → yH → Prop} {X : String → Addr → yH → Prop} (h : wp_J7_contains en d p7 p2 x0 x1 σ k n K X) : Wx en (d + 1) mJ7_contains 0 [(0, .ref x0), (1, .ref x1)] [] σ (k + p7.1 + p2.1) (n + p7.2 + p2.2) K X := by
  unfold wp_J7_contains at h
  refine sd_aload_n (pc := 0) dJ7_contains_0 rfl 0 rfl ?_
  refine sd_aload_n (pc := 1) dJ7_contains_1 rfl 1 rfl ?_
  rcases h with h | h
  · refine Wx.more (k' := (k + p7.1)) (n' := (n + p7.2)) ?_ (by omega) (by omega)
    refine sd_callF (k := (k + p7.1)) (n := (n + p7.2)) (As := []) (st := [.ref x0]) (pc := 2) dJ7_contains_2 (ci := 15) rfl h.1 (x := ⟨"java/lang/CharSequence", "toString", "()Ljava/lang/String;"⟩) q1758 q1761 q1763 q89 q1765 q1760 q1759 q1764 q1762 q1601 0 (by decide +kernel) rfl 0 (by decide +kernel) rfl (Nat.le_refl _) (by decide) (Nat.le_of_ble_eq_true rfl) (Cx.mono h.2 (kA.to (fun r2 σ1 h => ?_)) (xo rfl))
    refine sd_callV (k := k) (n := n) (As := [.ref r2]) (st := []) (pc := 7) dJ7_contains_7 (ci := 15) rfl h.1 rfl q1769 q1770 q1771 q89 q1772 1 (by decide +kernel) rfl (Nat.le_refl _) (by decide) (Nat.le_of_ble_eq_true rfl) (Cx.mono h.2 (kI.to (fun r4 σ3 h => ?_)) (xo rfl))
    have h11 : Wx en (d + 1) mJ7_contains 18 [(0, .ref x0), (1, .ref x1)] (.int (if (r4 < 0) then (0 : Int32) else (1 : Int32)) :: []) σ3 k n K X := by
      exact sd_ireturn (pc := 18) dJ7_contains_18 (ty0 := .boolean) rfl (nb_ite rfl rfl) h
    have e12 := sd_iteI h11
    refine sd_iflt (pc := 10) dJ7_contains_10 (tgt := 17) (by decide) ⟨fun c5 => ?_, fun c5 => ?_⟩
    · refine sd_iconst (pc := 17) dJ7_contains_17 (v := 0) (by decide) ?_
      exact (e12.1 c5)
    · refine sd_iconst (pc := 13) dJ7_contains_13 (v := 1) (by decide) ?_
      refine sd_goto (pc := 14) dJ7_contains_14 (tgt := 18) (by decide) ?_
      exact (e12.2 c5)
  · refine sd_callF (k := (k + p7.1)) (n := (n + p7.2)) (As := []) (st := [.ref x0]) (pc := 2) dJ7_contains_2 (ci := 14) rfl h.1 (x := ⟨"java/lang/CharSequence", "toString", "()Ljava/lang/String;"⟩) q1758 q1766 q662 q88 q664 q1760 q1759 q1768 q1767 q1605 0 (by decide +kernel) rfl 0 (by decide +kernel) rfl (Nat.le_refl _) (by decide) (Nat.le_of_ble_eq_true rfl) (Cx.mono h.2 (kA.to (fun r7 σ6 h => ?_)) (xo rfl))
    refine sd_callV (k := k) (n := n) (As := [.ref r7]) (st := []) (pc := 7) dJ7_contains_7 (ci := 15) rfl h.1 rfl q1769 q1770 q1771 q89 q1772 1 (by decide +kernel) rfl (Nat.le_refl _) (by decide) (Nat.le_of_ble_eq_true rfl) (Cx.mono h.2 (kI.to (fun r9 σ8 h => ?_)) (xo rfl))
    have h13 : Wx en (d + 1) mJ7_contains 18 [(0, .ref x0), (1, .ref x1)] (.int (if (r9 < 0) then (0 : Int32) else (1 : Int32)) :: []) σ8 k n K X := by
      exact sd_ireturn (pc := 18) dJ7_contains_18 (ty0 := .boolean) rfl (nb_ite rfl rfl) h
    have e14 := sd_iteI h13
    refine sd_iflt (pc := 10) dJ7_contains_10 (tgt := 17) (by decide) ⟨fun c10 => ?_, fun c10 => ?_⟩
    · refine sd_iconst (pc := 17) dJ7_contains_17 (v := 0) (by decide) ?_
      exact (e14.1 c10)
    · refine sd_iconst (pc := 13) dJ7_contains_13 (v := 1) (by decide) ?_
      refine sd_goto (pc := 14) dJ7_contains_14 (tgt := 18) (by decide) ?_
      exact (e14.2 c10)
theorem cx_J7_contains {en : yEn} {d : Nat} {p7 : Nat × Nat} {p2 : Nat × Nat} {x0 : Nat} {x1 : Nat} {σ : yH} {k n : Nat} {K : Option Value → yH → Prop} {X : String → Addr → yH → Prop} (h : wp_J7_contains en d p7 p2 x0 x1 σ k n K X) : Cx en (d + 1) (k + p7.1 + p2.1) (n + p7.2 + p2.2) mJ7_contains [.ref x0, .ref x1] σ K X := Cx.body (by decide +kernel) rfl (Nat.le_of_ble_eq_true rfl) (ok_J7_contains h)
/-! java/lang/String.substring(II)Ljava/lang/String; -/
def wp_J7_substring_2_22 (en : yEn) (d : Nat) (p54 : Nat × Nat) (p41 : Nat × Nat) (l0 : Nat) (l1 : Int32) (l2 : Int32) (σ : yH) (k n : Nat) (K : Option Value → yH → Prop) (X : String → Addr → yH → Prop) : Prop :=
  (isC σ l0 15 ∧ Cx en d 0 0 mJ7_isLatin1 [.ref l0] σ (kI (fun r7 σ6 => (((r7 = 0) → getR σ6 l0 15 0 (fun v8 => Cx en d p54.1 p54.2 mJ8_newString [.ref v8, .int l1, .int (l2 - l1)] σ6 (kA (fun r10 σ9 => K (some (.ref r10)) σ9)) X)) ∧ (¬ (r7 = 0) → getR σ6 l0 15 0 (fun v11 => Cx en d p41.1 p41.2 mJ20_newString [.ref v11, .int l1, .int (l2 - l1)] σ6 (kA (fun r13 σ12 => K (some (.ref r13)) σ12)) X))))) X)
set_option maxHeartbeats 4000000 in
theorem ok_J7_substring_2_22 {en : yEn} {d : Nat} {p54 : Nat × Nat} {p41 : Nat × Nat} {l0 : Nat} {l1 : Int32} {l2 : Int32} {σ : yH} {k n : Nat} {K : Option Value → yH → Prop} {X : String → Addr → yH → Prop} (h : wp_J7_substring_2_22 en d p54 p41 l0 l1 l2 σ k n K X) : Wx en (d + 1) mJ7_substring_2 22 [(0, .ref l0), (1, .int l1), (2, .int l2)] [] σ (k + p54.1 + p41.1) (n + p54.2 + p41.2) K X := by
  unfold wp_J7_substring_2_22 at h
  refine sd_iload_n (pc := 22) dJ7_substring_2_22 rfl 2 rfl ?_
  refine sd_iload_n (pc := 23) dJ7_substring_2_23 rfl 1 rfl ?_
  refine sd_isub (pc := 24) dJ7_substring_2_24 ?_
  refine sd_istore (pc := 25) dJ7_substring_2_25 (by decide) (ls' := [(4, .int (l2 - l1)), (0, .ref l0), (1, .int l1), (2, .int l2)]) rfl ?_
  refine sd_aload_n (pc := 27) dJ7_substring_2_27 rfl 1 rfl ?_
  refine sd_callV (k := (k + p54.1 + p41.1)) (n := (n + p54.2 + p41.2)) (As := []) (st := []) (pc := 28) dJ7_substring_2_28 (ci := 15) rfl h.1 rfl q1625 q1626 q1627 q89 q1628 0 (by decide +kernel) rfl (Nat.le_refl _) (by decide) (Nat.le_of_ble_eq_true rfl) (Cx.mono h.2 (kI.to (fun r7 σ6 h => ?_)) (xo rfl))
  refine sd_ifeq (pc := 31) dJ7_substring_2_31 (tgt := 47) (by decide) ⟨fun c14 => ?_, fun c14 => ?_⟩
  · have h := h.1 c14
    refine Wx.more (k' := (k + p54.1)) (n' := (n + p54.2)) ?_ (by omega) (by omega)
    refine sd_aload_n (pc := 47) dJ7_substring_2_47 rfl 1 rfl ?_
    refine sd_getR (pc := 48) dJ7_substring_2_48 (ci := 15) rfl in_J7 (kf := 0) (by decide) q724 (h.mono (fun v8 h => ?_))
    refine sd_iload_n (pc := 51) dJ7_substring_2_51 rfl 2 rfl ?_
    refine sd_iload (pc := 52) dJ7_substring_2_52 0 rfl ?_
    refine sd_callS (k := k) (n := n) (As := [.ref v8, .int l1, .int (l2 - l1)]) (st := []) (pc := 54) dJ7_substring_2_54 q1841 q1842 q90 q1843 3 (by decide +kernel) rfl (Nat.le_refl _) (by decide) (Nat.le_of_ble_eq_true rfl) (Cx.mono h (kA.to (fun r10 σ9 h => ?_)) (xo rfl))
    exact sd_areturn (r := (some r10)) (pc := 57) dJ7_substring_2_57 rfl (Or.inl ⟨_, rfl⟩) h
  · have h := h.2 c14
    refine Wx.more (k' := (k + p41.1)) (n' := (n + p41.2)) ?_ (by omega) (by omega)
    refine sd_aload_n (pc := 34) dJ7_substring_2_34 rfl 1 rfl ?_
    refine sd_getR (pc := 35) dJ7_substring_2_35 (ci := 15) rfl in_J7 (kf := 0) (by decide) q724 (h.mono (fun v11 h => ?_))
    refine sd_iload_n (pc := 38) dJ7_substring_2_38 rfl 2 rfl ?_
    refine sd_iload (pc := 39) dJ7_substring_2_39 0 rfl ?_
    refine sd_callS (k := k) (n := n) (As := [.ref v11, .int l1, .int (l2 - l1)]) (st := []) (pc := 41) dJ7_substring_2_41 q1832 q1833 q106 q1834 3 (by decide +kernel) rfl (Nat.le_refl _) (by decide) (Nat.le_of_ble_eq_true rfl) (Cx.mono h (kA.to (fun r13 σ12 h => ?_)) (xo rfl))
    refine sd_goto (pc := 44) dJ7_substring_2_44 (tgt := 57) (by decide) ?_
    exact sd_areturn (r := (some r13)) (pc := 57) dJ7_substring_2_57 rfl (Or.inl ⟨_, rfl⟩) h
def wp_J7_substring_2 (en : yEn) (d : Nat) (x0 : Nat) (x1 : Int32) (x2 : Int32) (σ : yH) (k n : Nat) (K : Option Value → yH → Prop) (X : String → Addr → yH → Prop) : Prop :=
  (isC σ x0 15 ∧ Cx en d 0 0 mJ7_length [.ref x0] σ (kI (fun r2 σ1 => Cx en d 0 0 mJ7_checkBoundsBeginEnd [.int x1, .int x2, .int r2] σ1 (kV (fun σ3 => ((¬ (x1 = 0) → Wx en (d + 1) mJ7_substring_2 22 [(0, .ref x0), (1, .int x1), (2, .int x2)] [] σ3 k n K X) ∧ ((x1 = 0) → ((¬ (x2 = r2) → Wx en (d + 1) mJ7_substring_2 22 [(0, .ref x0), (1, .int x1), (2, .int x2)] [] σ3 k n K X) ∧ ((x2 = r2) → K (some (.ref x0)) σ3)))))) X)) X)
set_option maxHeartbeats 4000000 in
theorem ok_J7_substring_2 {en : yEn} {d : Nat} {x0 : Nat} {x1 : Int32} {x2 : Int32} {σ : yH} {k n : Nat} {K : Option Value → yH → Prop} {X : String → Addr → yH → Prop} (h : wp_J7_substring_2 en d  x0 x1 x2 σ k n K X) : Wx en (d + 1) mJ7_substring_2 0 [(0, .ref x0), (1, .int x1), (2, .int x2)] [] σ k n K X := by
  unfold wp_J7_substring_2 at h
  refine sd_aload_n (pc := 0) dJ7_substring_2_0 rfl 0 rfl ?_
  refine sd_callV (k := k) (n := n) (As := []) (st := []) (pc := 1) dJ7_substring_2_1 (ci := 15) rfl h.1 rfl q1826 q619 q620 q89 q621 0 (by decide +kernel) rfl (Nat.le_refl _) (by decide) (Nat.le_of_ble_eq_true rfl) (Cx.mono h.2 (kI.to (fun r2 σ1 h => ?_)) (xo rfl))
  refine sd_istore_n (pc := 4) dJ7_substring_2_4 rfl (by decide) (ls' := [(3, .int r2), (0, .ref x0), (1, .int x1), (2, .int x2)]) rfl ?_
  refine sd_iload_n (pc := 5) dJ7_substring_2_5 rfl 2 rfl ?_
  refine sd_iload_n (pc := 6) dJ7_substring_2_6 rfl 3 rfl ?_
  refine sd_iload_n (pc := 7) dJ7_substring_2_7 rfl 0 rfl ?_
  refine sd_callS (k := k) (n := n) (As := [.int x1, .int x2, .int r2]) (st := []) (pc := 8) dJ7_substring_2_8 q1831 q582 q89 q583 3 (by decide +kernel) rfl (Nat.le_refl _) (by decide) (Nat.le_of_ble_eq_true rfl) (Cx.mono h (kV.to (fun σ3 h => ?_)) (xo rfl))
  refine sd_iload_n (pc := 11) dJ7_substring_2_11 rfl 2 rfl ?_
  refine sd_ifne (pc := 12) dJ7_substring_2_12 (tgt := 22) (by decide) ⟨fun c5 => ?_, fun c5 => ?_⟩
  · have h := h.1 c5
    exact sd_loc [1, 2, 3] rfl h
  · have h := h.2 c5
    refine sd_iload_n (pc := 15) dJ7_substring_2_15 rfl 3 rfl ?_
    refine sd_iload_n (pc := 16) dJ7_substring_2_16 rfl 0 rfl ?_
    refine sd_icmpne (pc := 17) dJ7_substring_2_17 (tgt := 22) (by decide) ⟨fun c4 => ?_, fun c4 => ?_⟩
    · have h := h.1 c4
      exact sd_loc [1, 2, 3] rfl h
    · have h := h.2 c4
      refine sd_aload_n (pc := 20) dJ7_substring_2_20 rfl 1 rfl ?_
      exact sd_areturn (r := (some x0)) (pc := 21) dJ7_substring_2_21 rfl (Or.inl ⟨_, rfl⟩) h
theorem cx_J7_substring_2 {en : yEn} {d : Nat} {x0 : Nat} {x1 : Int32} {x2 : Int32} {σ : yH} {k n : Nat} {K : Option Value → yH → Prop} {X : String → Addr → yH → Prop} (h : wp_J7_substring_2 en d  x0 x1 x2 σ k n K X) : Cx en (d + 1) k n mJ7_substring_2 [.ref x0, .int x1, .int x2] σ K X := Cx.body (by decide +kernel) rfl (Nat.le_of_ble_eq_true rfl) (ok_J7_substring_2 h)
/-! java/lang/String.substring(I)Ljava/lang/String; -/
def wp_J7_substring (en : yEn) (d : Nat) (p6 : Nat × Nat) (x0 : Nat) (x1 : Int32) (σ : yH) (k n : Nat) (K : Option Value → yH → Prop) (X : String → Addr → yH → Prop) : Prop :=
  (isC σ x0 15 ∧ Cx en d 0 0 mJ7_length [.ref x0] σ (kI (fun r2 σ1 => (isC σ1 x0 15 ∧ Cx en d p6.1 p6.2 mJ7_substring_2 [.ref x0, .int x1, .int r2] σ1 (kA (fun r4 σ3 => K (some (.ref r4)) σ3)) X))) X)
set_option maxHeartbeats 4000000 in
theorem ok_J7_substring {en : yEn} {d : Nat} {p6 : Nat × Nat} {x0 : Nat} {x1 : Int32} {σ : yH} {k n : Nat} {K : Option Value → yH → Prop} {X : String → Addr → yH → Prop} (h : wp_J7_substring en d p6 x0 x1 σ k n K X) : Wx en (d + 1) mJ7_substring 0 [(0, .ref x0), (1, .int x1)] [] σ (k + p6.1) (n + p6.2) K X := by
  unfold wp_J7_substring at h
  refine sd_aload_n (pc := 0) dJ7_substring_0 rfl 0 rfl ?_
  refine sd_iload_n (pc := 1) dJ7_substring_1 rfl 1 rfl ?_
  refine sd_aload_n (pc := 2) dJ7_substring_2 rfl 0 rfl ?_
  refine sd_callV (k := (k + p6.1)) (n := (n + p6.2)) (As := []) (st := [.int x1, .ref x0]) (pc := 3) dJ7_substring_3 (ci := 15) rfl h.1 rfl q1826 q619 q620 q89 q621 0 (by decide +kernel) rfl (Nat.le_refl _) (by decide) (Nat.le_of_ble_eq_true rfl) (Cx.mono h.2 (kI.to (fun r2 σ1 h => ?_)) (xo rfl))
  refine sd_callV (k := k) (n := n) (As := [.int x1, .int r2]) (st := []) (pc := 6) dJ7_substring_6 (ci := 15) rfl h.1 rfl q1827 q1828 q1829 q89 q1830 2 (by decide +kernel) rfl (Nat.le_refl _) (by decide) (Nat.le_of_ble_eq_true rfl) (Cx.mono h.2 (kA.to (fun r4 σ3 h => ?_)) (xo rfl))
  exact sd_areturn (r := (some r4)) (pc := 9) dJ7_substring_9 rfl (Or.inl ⟨_, rfl⟩) h
theorem cx_J7_substring {en : yEn} {d : Nat} {p6 : Nat × Nat} {x0 : Nat} {x1 : Int32} {σ : yH} {k n : Nat} {K : Option Value → yH → Prop} {X : String → Addr → yH → Prop} (h : wp_J7_substring en d p6 x0 x1 σ k n K X) : Cx en (d + 1) (k + p6.1) (n + p6.2) mJ7_substring [.ref x0, .int x1] σ K X := Cx.body (by decide +kernel) rfl (Nat.le_of_ble_eq_true rfl) (ok_J7_substring h)
/-! java/lang/String.equals(Ljava/lang/Object;)Z -/
def wp_J7_equals (en : yEn) (d : Nat) (x0 : Nat) (x1 : Nat) (σ : yH) (k n : Nat) (K : Option Value → yH → Prop) (X : String → Addr → yH → Prop) : Prop :=
  ((¬ ((some x0) = (some x1)) → ((isC σ x1 15 ∧ ((((1 : Int32) = 0) → K (some (.int (0 : Int32))) σ) ∧ (¬ ((1 : Int32) = 0) → (isC σ x1 15 ∧ ((((1 : Int32) = 0) → getR σ x0 15 0 (fun v1 => getR σ x1 15 0 (fun v2 => Cx en d 0 0 mJ20_equals [.ref v1, .ref v2] σ (kI (fun r4 σ3 => K (some (.int (if (r4 = 0) then (0 : Int32) else (1 : Int32)))) σ3)) X))) ∧ (¬ ((1 : Int32) = 0) → getI σ x0 15 1 (fun v6 => getI σ x1 15 1 (fun v7 => ((¬ (v6 = v7) → K (some (.int (0 : Int32))) σ) ∧ ((v6 = v7) → getR σ x0 15 0 (fun v8 => getR σ x1 15 0 (fun v9 => Cx en d 0 0 mJ20_equals [.ref v8, .ref v9] σ (kI (fun r11 σ10 => K (some (.int (if (r11 = 0) then (0 : Int32) else (1 : Int32)))) σ10)) X)))))))))))))) ∧ (((some x0) = (some x1)) → K (some (.int (1 : Int32))) σ))
set_option maxHeartbeats 4000000 in
theorem ok_J7_equals {en : yEn} {d : Nat} {x0 : Nat} {x1 : Nat} {σ : yH} {k n : Nat} {K : Option Value → yH → Prop} {X : String → Addr → yH → Prop} (h : wp_J7_equals en d  x0 x1 σ k n K X) : Wx en (d + 1) mJ7_equals 0 [(0, .ref x0), (1, .ref x1)] [] σ k n K X := by
  unfold wp_J7_equals at h
  refine sd_aload_n (pc := 0) dJ7_equals_0 rfl 0 rfl ?_
  refine sd_aload_n (pc := 1) dJ7_equals_1 rfl 1 rfl ?_
  refine sd_acmpne (pc := 2) dJ7_equals_2 (x := (some x0)) (y := (some x1)) (tgt := 7) (by decide) ⟨fun c16 => ?_, fun c16 => ?_⟩
  · have h := h.1 c16
    refine sd_aload_n (pc := 7) dJ7_equals_7 rfl 1 rfl ?_
    obtain ⟨h9, h⟩ := h
    refine sd_instE (r := (RJ7, TJ7, 4)) (pc := 8) dJ7_equals_8 q1855 (ci := 15) rfl h9 ?_
    refine sd_ifeq (pc := 11) dJ7_equals_11 (tgt := 54) (by decide) ⟨fun c15 => ?_, fun c15 => ?_⟩
    · have h := h.1 c15
      refine sd_iconst (pc := 54) dJ7_equals_54 (v := 0) (by decide) ?_
      exact sd_ireturn (pc := 55) dJ7_equals_55 (ty0 := .boolean) rfl rfl h
    · have h := h.2 c15
      refine sd_aload_n (pc := 14) dJ7_equals_14 rfl 1 rfl ?_
      refine sd_castE (r := (RJ7, TJ7, 4)) (pc := 15) dJ7_equals_15 q1855 (ci := 15) rfl h.1 ?_
      have h := h.2
      refine sd_astore_n (pc := 18) dJ7_equals_18 rfl (by decide) (ls' := [(2, .ref x1), (0, .ref x0), (1, .ref x1)]) rfl ?_
      refine sd_getsI (pc := 19) dJ7_equals_19 (z := 1) q626 q256 (lw_all_tbl q89) yn8 ?_
      refine sd_ifeq (pc := 22) dJ7_equals_22 (tgt := 36) (by decide) ⟨fun c14 => ?_, fun c14 => ?_⟩
      · have h := h.1 c14
        refine sd_aload_n (pc := 36) dJ7_equals_36 rfl 1 rfl ?_
        refine sd_getR (pc := 37) dJ7_equals_37 (ci := 15) rfl in_J7 (kf := 0) (by decide) q724 (h.mono (fun v1 h => ?_))
        refine sd_aload_n (pc := 40) dJ7_equals_40 rfl 0 rfl ?_
        refine sd_getR (pc := 41) dJ7_equals_41 (ci := 15) rfl in_J7 (kf := 0) (by decide) q724 (h.mono (fun v2 h => ?_))
        refine sd_callS (k := k) (n := n) (As := [.ref v1, .ref v2]) (st := []) (pc := 44) dJ7_equals_44 q1856 q1857 q106 q1858 2 (by decide +kernel) rfl (Nat.le_refl _) (by decide) (Nat.le_of_ble_eq_true rfl) (Cx.mono h (kI.to (fun r4 σ3 h => ?_)) (xo rfl))
        have h17 : Wx en (d + 1) mJ7_equals 55 [(2, .ref x1), (0, .ref x0), (1, .ref x1)] (.int (if (r4 = 0) then (0 : Int32) else (1 : Int32)) :: []) σ3 k n K X := by
          exact sd_ireturn (pc := 55) dJ7_equals_55 (ty0 := .boolean) rfl (nb_ite rfl rfl) h
        have e18 := sd_iteI h17
        refine sd_ifeq (pc := 47) dJ7_equals_47 (tgt := 54) (by decide) ⟨fun c5 => ?_, fun c5 => ?_⟩
        · refine sd_iconst (pc := 54) dJ7_equals_54 (v := 0) (by decide) ?_
          exact (e18.1 c5)
        · refine sd_iconst (pc := 50) dJ7_equals_50 (v := 1) (by decide) ?_
          refine sd_goto (pc := 51) dJ7_equals_51 (tgt := 55) (by decide) ?_
          exact (e18.2 c5)
      · have h := h.2 c14
        refine sd_aload_n (pc := 25) dJ7_equals_25 rfl 1 rfl ?_
        refine sd_getI (pc := 26) dJ7_equals_26 (ci := 15) rfl in_J7 (kf := 1) (by decide) q725 (h.mono (fun v6 h => ?_))
        refine sd_aload_n (pc := 29) dJ7_equals_29 rfl 0 rfl ?_
        refine sd_getI (pc := 30) dJ7_equals_30 (ci := 15) rfl in_J7 (kf := 1) (by decide) q725 (h.mono (fun v7 h => ?_))
        refine sd_icmpne (pc := 33) dJ7_equals_33 (tgt := 54) (by decide) ⟨fun c13 => ?_, fun c13 => ?_⟩
        · have h := h.1 c13
          refine sd_iconst (pc := 54) dJ7_equals_54 (v := 0) (by decide) ?_
          exact sd_ireturn (pc := 55) dJ7_equals_55 (ty0 := .boolean) rfl rfl h
        · have h := h.2 c13
          refine sd_aload_n (pc := 36) dJ7_equals_36 rfl 1 rfl ?_
          refine sd_getR (pc := 37) dJ7_equals_37 (ci := 15) rfl in_J7 (kf := 0) (by decide) q724 (h.mono (fun v8 h => ?_))
          refine sd_aload_n (pc := 40) dJ7_equals_40 rfl 0 rfl ?_
          refine sd_getR (pc := 41) dJ7_equals_41 (ci := 15) rfl in_J7 (kf := 0) (by decide) q724 (h.mono (fun v9 h => ?_))
          refine sd_callS (k := k) (n := n) (As := [.ref v8, .ref v9]) (st := []) (pc := 44) dJ7_equals_44 q1856 q1857 q106 q1858 2 (by decide +kernel) rfl (Nat.le_refl _) (by decide) (Nat.le_of_ble_eq_true rfl) (Cx.mono h (kI.to (fun r11 σ10 h => ?_)) (xo rfl))
          have h19 : Wx en (d + 1) mJ7_equals 55 [(2, .ref x1), (0, .ref x0), (1, .ref x1)] (.int (if (r11 = 0) then (0 : Int32) else (1 : Int32)) :: []) σ10 k n K X := by
            exact sd_ireturn (pc := 55) dJ7_equals_55 (ty0 := .boolean) rfl (nb_ite rfl rfl) h
          have e20 := sd_iteI h19
          refine sd_ifeq (pc := 47) dJ7_equals_47 (tgt := 54) (by decide) ⟨fun c12 => ?_, fun c12 => ?_⟩
          · refine sd_iconst (pc := 54) dJ7_equals_54 (v := 0) (by decide) ?_
            exact (e20.1 c12)
          · refine sd_iconst (pc := 50) dJ7_equals_50 (v := 1) (by decide) ?_
            refine sd_goto (pc := 51) dJ7_equals_51 (tgt := 55) (by decide) ?_
            exact (e20.2 c12)
  · have h := h.2 c16
    refine sd_iconst (pc := 5) dJ7_equals_5 (v := 1) (by decide) ?_
    exact sd_ireturn (pc := 6) dJ7_equals_6 (ty0 := .boolean) rfl rfl h
theorem cx_J7_equals {en : yEn} {d : Nat} {x0 : Nat} {x1 : Nat} {σ : yH} {k n : Nat} {K : Option Value → yH → Prop} {X : String → Addr → yH → Prop} (h : wp_J7_equals en d  x0 x1 σ k n K X) : Cx en (d + 1) k n mJ7_equals [.ref x0, .ref x1] σ K X := Cx.body (by decide +kernel) rfl (Nat.le_of_ble_eq_true rfl) (ok_J7_equals h)
/-! java/lang/String.hashCode()I -/
def wp_J7_hashCode (en : yEn) (d : Nat) (p37 : Nat × Nat) (x0 : Nat) (σ : yH) (k n : Nat) (K : Option Value → yH → Prop) (X : String → Addr → yH → Prop) : Prop :=
  getI σ x0 15 2 (fun v1 => ((¬ (v1 = 0) → K (some (.int v1)) σ) ∧ ((v1 = 0) → getI σ x0 15 3 (fun v2 => ((¬ (v2 = 0) → K (some (.int v1)) σ) ∧ ((v2 = 0) → (isC σ x0 15 ∧ Cx en d 0 0 mJ7_isLatin1 [.ref x0] σ (kI (fun r4 σ3 => (((r4 = 0) → getR σ3 x0 15 0 (fun v5 => Cx en d p37.1 p37.2 mJ8_hashCode [.ref v5] σ3 (kI (fun r7 σ6 => ((¬ (r7 = 0) → (putV σ6 x0 15 2 (.int r7) (fun σ8 => K (some (.int r7)) σ8))) ∧ ((r7 = 0) → (putV σ6 x0 15 3 (.int (1 : Int32)) (fun σ9 => K (some (.int r7)) σ9)))))) X)) ∧ (¬ (r4 = 0) → getR σ3 x0 15 0 (fun v11 => Cx en d 0 0 mJ20_hashCode [.ref v11] σ3 (kI (fun r13 σ12 => ((¬ (r13 = 0) → (putV σ12 x0 15 2 (.int r13) (fun σ14 => K (some (.int r13)) σ14))) ∧ ((r13 = 0) → (putV σ12 x0 15 3 (.int (1 : Int32)) (fun σ15 => K (some (.int r13)) σ15)))))) X))))) X)))))))
set_option maxHeartbeats 4000000 in
theorem ok_J7_hashCode {en : yEn} {d : Nat} {p37 : Nat × Nat} {x0 : Nat} {σ : yH} {k n : Nat} {K : Option Value → yH → Prop} {X : String → Addr → yH → Prop} (h : wp_J7_hashCode en d p37 x0 σ k n K X) : Wx en (d + 1) mJ7_hashCode 0 [(0, .ref x0)] [] σ (k + p37.1) (n + p37.2) K X := by
  unfold wp_J7_hashCode at h
  refine sd_aload_n (pc := 0) dJ7_hashCode_0 rfl 0 rfl ?_
  refine sd_getI (pc := 1) dJ7_hashCode_1 (ci := 15) rfl in_J7 (kf := 2) (by decide) q726 (h.mono (fun v1 h => ?_))
  refine sd_istore_n (pc := 4) dJ7_hashCode_4 rfl (by decide) (ls' := [(1, .int v1), (0, .ref x0)]) rfl ?_
  refine sd_iload_n (pc := 5) dJ7_hashCode_5 rfl 0 rfl ?_
  refine sd_ifne (pc := 6) dJ7_hashCode_6 (tgt := 58) (by decide) ⟨fun c19 => ?_, fun c19 => ?_⟩
  · have h := h.1 c19
    refine Wx.more (k' := k) (n' := n) ?_ (by omega) (by omega)
    refine sd_iload_n (pc := 58) dJ7_hashCode_58 rfl 0 rfl ?_
    exact sd_ireturn (pc := 59) dJ7_hashCode_59 (ty0 := .int) rfl rfl h
  · have h := h.2 c19
    refine sd_aload_n (pc := 9) dJ7_hashCode_9 rfl 1 rfl ?_
    refine sd_getI (pc := 10) dJ7_hashCode_10 (ci := 15) rfl in_J7 (kf := 3) (by decide) q727 (h.mono (fun v2 h => ?_))
    refine sd_ifne (pc := 13) dJ7_hashCode_13 (tgt := 58) (by decide) ⟨fun c18 => ?_, fun c18 => ?_⟩
    · have h := h.1 c18
      refine Wx.more (k' := k) (n' := n) ?_ (by omega) (by omega)
      refine sd_iload_n (pc := 58) dJ7_hashCode_58 rfl 0 rfl ?_
      exact sd_ireturn (pc := 59) dJ7_hashCode_59 (ty0 := .int) rfl rfl h
    · have h := h.2 c18
      refine sd_aload_n (pc := 16) dJ7_hashCode_16 rfl 1 rfl ?_
      refine sd_callV (k := (k + p37.1)) (n := (n + p37.2)) (As := []) (st := []) (pc := 17) dJ7_hashCode_17 (ci := 15) rfl h.1 rfl q1625 q1626 q1627 q89 q1628 0 (by decide +kernel) rfl (Nat.le_refl _) (by decide) (Nat.le_of_ble_eq_true rfl) (Cx.mono h.2 (kI.to (fun r4 σ3 h => ?_)) (xo rfl))
      refine sd_ifeq (pc := 20) dJ7_hashCode_20 (tgt := 33) (by decide) ⟨fun c17 => ?_, fun c17 => ?_⟩
      · have h := h.1 c17
        refine sd_aload_n (pc := 33) dJ7_hashCode_33 rfl 1 rfl ?_
        refine sd_getR (pc := 34) dJ7_hashCode_34 (ci := 15) rfl in_J7 (kf := 0) (by decide) q724 (h.mono (fun v5 h => ?_))
        refine sd_callS (k := k) (n := n) (As := [.ref v5]) (st := []) (pc := 37) dJ7_hashCode_37 q1918 q1919 q90 q1920 1 (by decide +kernel) rfl (Nat.le_refl _) (by decide) (Nat.le_of_ble_eq_true rfl) (Cx.mono h (kI.to (fun r7 σ6 h => ?_)) (xo rfl))
        refine sd_istore_n (pc := 40) dJ7_hashCode_40 rfl (by decide) (ls' := [(1, .int r7), (0, .ref x0)]) rfl ?_
        refine sd_iload_n (pc := 41) dJ7_hashCode_41 rfl 0 rfl ?_
        refine sd_ifne (pc := 42) dJ7_hashCode_42 (tgt := 53) (by decide) ⟨fun c10 => ?_, fun c10 => ?_⟩
        · have h := h.1 c10
          refine sd_aload_n (pc := 53) dJ7_hashCode_53 rfl 1 rfl ?_
          refine sd_iload_n (pc := 54) dJ7_hashCode_54 rfl 0 rfl ?_
          refine sd_putf (pc := 55) dJ7_hashCode_55 (ci := 15) rfl in_J7 tyJ7 tyJ7_ok nmJ7 (kf := 2) (by decide) q726 rfl (ty := .int) rfl rfl rfl (putV.mono h (fun σ8 h => ?_))
          refine sd_iload_n (pc := 58) dJ7_hashCode_58 rfl 0 rfl ?_
          exact sd_ireturn (pc := 59) dJ7_hashCode_59 (ty0 := .int) rfl rfl h
        · have h := h.2 c10
          refine sd_aload_n (pc := 45) dJ7_hashCode_45 rfl 1 rfl ?_
          refine sd_iconst (pc := 46) dJ7_hashCode_46 (v := 1) (by decide) ?_
          refine sd_putf (pc := 47) dJ7_hashCode_47 (ci := 15) rfl in_J7 tyJ7 tyJ7_ok nmJ7 (kf := 3) (by decide) q727 rfl (ty := .boolean) rfl rfl rfl (putV.mono h (fun σ9 h => ?_))
          refine sd_goto (pc := 50) dJ7_hashCode_50 (tgt := 58) (by decide) ?_
          refine sd_iload_n (pc := 58) dJ7_hashCode_58 rfl 0 rfl ?_
          exact sd_ireturn (pc := 59) dJ7_hashCode_59 (ty0 := .int) rfl rfl h
      · have h := h.2 c17
        refine Wx.more (k' := k) (n' := n) ?_ (by omega) (by omega)
        refine sd_aload_n (pc := 23) dJ7_hashCode_23 rfl 1 rfl ?_
        refine sd_getR (pc := 24) dJ7_hashCode_24 (ci := 15) rfl in_J7 (kf := 0) (by decide) q724 (h.mono (fun v11 h => ?_))
        refine sd_callS (k := k) (n := n) (As := [.ref v11]) (st := []) (pc := 27) dJ7_hashCode_27 q1869 q1870 q106 q1871 1 (by decide +kernel) rfl (Nat.le_refl _) (by decide) (Nat.le_of_ble_eq_true rfl) (Cx.mono h (kI.to (fun r13 σ12 h => ?_)) (xo rfl))
        refine sd_goto (pc := 30) dJ7_hashCode_30 (tgt := 40) (by decide) ?_
        refine sd_istore_n (pc := 40) dJ7_hashCode_40 rfl (by decide) (ls' := [(1, .int r13), (0, .ref x0)]) rfl ?_
        refine sd_iload_n (pc := 41) dJ7_hashCode_41 rfl 0 rfl ?_
        refine sd_ifne (pc := 42) dJ7_hashCode_42 (tgt := 53) (by decide) ⟨fun c16 => ?_, fun c16 => ?_⟩
        · have h := h.1 c16
          refine sd_aload_n (pc := 53) dJ7_hashCode_53 rfl 1 rfl ?_
          refine sd_iload_n (pc := 54) dJ7_hashCode_54 rfl 0 rfl ?_
          refine sd_putf (pc := 55) dJ7_hashCode_55 (ci := 15) rfl in_J7 tyJ7 tyJ7_ok nmJ7 (kf := 2) (by decide) q726 rfl (ty := .int) rfl rfl rfl (putV.mono h (fun σ14 h => ?_))
          refine sd_iload_n (pc := 58) dJ7_hashCode_58 rfl 0 rfl ?_
          exact sd_ireturn (pc := 59) dJ7_hashCode_59 (ty0 := .int) rfl rfl h
        · have h := h.2 c16
          refine sd_aload_n (pc := 45) dJ7_hashCode_45 rfl 1 rfl ?_
          refine sd_iconst (pc := 46) dJ7_hashCode_46 (v := 1) (by decide) ?_
          refine sd_putf (pc := 47) dJ7_hashCode_47 (ci := 15) rfl in_J7 tyJ7 tyJ7_ok nmJ7 (kf := 3) (by decide) q727 rfl (ty := .boolean) rfl rfl rfl (putV.mono h (fun σ15 h => ?_))
          refine sd_goto (pc := 50) dJ7_hashCode_50 (tgt := 58) (by decide) ?_
          refine sd_iload_n (pc := 58) dJ7_hashCode_58 rfl 0 rfl ?_
          exact sd_ireturn (pc := 59) dJ7_hashCode_59 (ty0 := .int) rfl rfl h
theorem cx_J7_hashCode {en : yEn} {d : Nat} {p37 : Nat × Nat} {x0 : Nat} {σ : yH} {k n : Nat} {K : Option Value → yH → Prop} {X : String → Addr → yH → Prop} (h : wp_J7_hashCode en d p37 x0 σ k n K X) : Cx en (d + 1) (k + p37.1) (n + p37.2) mJ7_hashCode [.ref x0] σ K X := Cx.body (by decide +kernel) rfl (Nat.le_of_ble_eq_true rfl) (ok_J7_hashCode h)
