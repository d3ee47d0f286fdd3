/-! WALKS 08a.walk -/
set_option maxRecDepth 100000
theorem yn4 : (Jvm.Cond.isRef (Jvm.Term.static "java/util/ArrayList" "DEFAULTCAPACITY_EMPTY_ELEMENTDATA" "[Ljava/lang/Object;")) ∈ y_nar := List.mem_of_getElem? (i := 4) (by decide +kernel)
theorem yn11 : (Jvm.Cond.isRef (Jvm.Term.static "java/lang/Integer" "DigitOnes" "[B")) ∈ y_nar := List.mem_of_getElem? (i := 11) (by decide +kernel)
theorem yn114 : (Jvm.Cond.isRef (Jvm.Term.static "java/lang/Integer" "DigitTens" "[B")) ∈ y_nar := List.mem_of_getElem? (i := 114) (by decide +kernel)
theorem yn221 : (Jvm.Cond.eq (Jvm.Term.static "java/lang/Integer$IntegerCache" "high" "I") (Jvm.Term.int (127 : Int32))) ∈ y_nar := List.mem_of_getElem? (i := 221) (by decide +kernel)
theorem yn222 : (Jvm.Cond.isRef (Jvm.Term.static "java/lang/Integer$IntegerCache" "cache" "[Ljava/lang/Integer;")) ∈ y_nar := List.mem_of_getElem? (i := 222) (by decide +kernel)
theorem yn492 : (Jvm.Cond.isRef (Jvm.Term.mirror "[Ljava/lang/Object;")) ∈ y_nar := List.mem_of_getElem? (i := 492) (by decide +kernel)
/-! java/util/AbstractCollection.<init>()V -/
def wp_J0_init (en : yEn) (d : Nat) (x0 : Nat) (σ : yH) (k n : Nat) (K : Option Value → yH → Prop) (X : String → Addr → yH → Prop) : Prop :=
  K none σ
set_option maxHeartbeats 4000000 in
theorem ok_J0_init {en : yEn} {d : Nat} {x0 : Nat} {σ : yH} {k n : Nat} {K : Option Value → yH → Prop} {X : String → Addr → yH → Prop} (h : wp_J0_init en d  x0 σ k n K X) : Wx en (d + 1) mJ0_init 0 [(0, .ref x0)] [] σ k n K X := by
  unfold wp_J0_init at h
  refine sd_aload_n (pc := 0) dJ0_init_0 rfl 0 rfl ?_
  refine sd_objInit (pc := 1) dJ0_init_1 q145 q126 q127 (by omega) (Nat.le_of_ble_eq_true rfl) ?_
  exact sd_return (pc := 4) dJ0_init_4 rfl h
theorem cx_J0_init {en : yEn} {d : Nat} {x0 : Nat} {σ : yH} {k n : Nat} {K : Option Value → yH → Prop} {X : String → Addr → yH → Prop} (h : wp_J0_init en d  x0 σ k n K X) : Cx en (d + 1) k n mJ0_init [.ref x0] σ K X := Cx.body (by decide +kernel) rfl (Nat.le_of_ble_eq_true rfl) (ok_J0_init h)
/-! java/util/AbstractList.<init>()V -/
def wp_J1_init (en : yEn) (d : Nat) (x0 : Nat) (σ : yH) (k n : Nat) (K : Option Value → yH → Prop) (X : String → Addr → yH → Prop) : Prop :=
  Cx en d 0 0 mJ0_init [.ref x0] σ (kV (fun σ1 => (putV σ1 x0 11 0 (.int (0 : Int32)) (fun σ2 => K none σ2)))) X
set_option maxHeartbeats 4000000 in
theorem ok_J1_init {en : yEn} {d : Nat} {x0 : Nat} {σ : yH} {k n : Nat} {K : Option Value → yH → Prop} {X : String → Addr → yH → Prop} (h : wp_J1_init en d  x0 σ k n K X) : Wx en (d + 1) mJ1_init 0 [(0, .ref x0)] [] σ k n K X := by
  unfold wp_J1_init at h
  refine sd_aload_n (pc := 0) dJ1_init_0 rfl 0 rfl ?_
  refine sd_callI (k := k) (n := n) (As := []) (st := []) (pc := 1) dJ1_init_1 q142 q143 q82 q144 rfl 0 (by decide +kernel) rfl (Nat.le_refl _) (by decide) (Nat.le_of_ble_eq_true rfl) (Cx.mono h (kV.to (fun σ1 h => ?_)) (xo rfl))
  refine sd_aload_n (pc := 4) dJ1_init_4 rfl 0 rfl ?_
  refine sd_iconst (pc := 5) dJ1_init_5 (v := 0) (by decide) ?_
  refine sd_putf (pc := 6) dJ1_init_6 (ci := 11) rfl in_J2 tyJ2 tyJ2_ok nmJ2 (kf := 0) (by decide) q152 rfl (ty := .int) rfl rfl rfl (putV.mono h (fun σ2 h => ?_))
  exact sd_return (pc := 9) dJ1_init_9 rfl h
theorem cx_J1_init {en : yEn} {d : Nat} {x0 : Nat} {σ : yH} {k n : Nat} {K : Option Value → yH → Prop} {X : String → Addr → yH → Prop} (h : wp_J1_init en d  x0 σ k n K X) : Cx en (d + 1) k n mJ1_init [.ref x0] σ K X := Cx.body (by decide +kernel) rfl (Nat.le_of_ble_eq_true rfl) (ok_J1_init h)
/-! java/lang/Integer.getChars(II[B)I -/
def wp_J18_getChars_22 (en : yEn) (d : Nat) (l0 : Int32) (l2 : Nat) (l5 : Int32) (l6 : Int32) (σ : yH) (k n : Nat) (K : Option Value → yH → Prop) (X : String → Addr → yH → Prop) : Prop :=
  ((((-100 : Int32) < l0) → nonN (y_sr en "java/lang/Integer" "DigitOnes" "[B") (fun a5 => aldI σ (en.2.2.2 1) a5 (-l0) (fun v7 => astI σ (en.2.2.2 1) l2 (l5 + (-1)) (vp_nar .byte v7) (fun σ8 => ((((-9 : Int32) ≤ l0) → (((l6 = 0) → K (some (.int (l5 + (-1)))) σ8) ∧ (¬ (l6 = 0) → astI σ8 (en.2.2.2 1) l2 ((l5 + (-1)) + (-1)) (vp_nar .byte (45 : Int32)) (fun σ9 => K (some (.int ((l5 + (-1)) + (-1)))) σ9)))) ∧ (¬ ((-9 : Int32) ≤ l0) → nonN (y_sr en "java/lang/Integer" "DigitTens" "[B") (fun a11 => aldI σ8 (en.2.2.2 1) a11 (-l0) (fun v13 => astI σ8 (en.2.2.2 1) l2 ((l5 + (-1)) + (-1)) (vp_nar .byte v13) (fun σ14 => (((l6 = 0) → K (some (.int ((l5 + (-1)) + (-1)))) σ14) ∧ (¬ (l6 = 0) → astI σ14 (en.2.2.2 1) l2 (((l5 + (-1)) + (-1)) + (-1)) (vp_nar .byte (45 : Int32)) (fun σ15 => K (some (.int (((l5 + (-1)) + (-1)) + (-1)))) σ15)))))))))))) ∧ (¬ ((-100 : Int32) < l0) → nonN (y_sr en "java/lang/Integer" "DigitOnes" "[B") (fun a18 => aldI σ (en.2.2.2 1) a18 (((l0 / (100 : Int32)) * (100 : Int32)) - l0) (fun v20 => astI σ (en.2.2.2 1) l2 (l5 + (-1)) (vp_nar .byte v20) (fun σ21 => nonN (y_sr en "java/lang/Integer" "DigitTens" "[B") (fun a22 => aldI σ21 (en.2.2.2 1) a22 (((l0 / (100 : Int32)) * (100 : Int32)) - l0) (fun v24 => astI σ21 (en.2.2.2 1) l2 ((l5 + (-1)) + (-1)) (vp_nar .byte v24) (fun σ25 => Wx en (d + 1) mJ18_getChars 22 [(0, .int (l0 / (100 : Int32))), (2, .ref l2), (5, .int ((l5 + (-1)) + (-1))), (6, .int l6)] [] σ25 k n K X))))))))
set_option maxHeartbeats 4000000 in
theorem ok_J18_getChars_22 {en : yEn} {d : Nat} {l0 : Int32} {l2 : Nat} {l5 : Int32} {l6 : Int32} {σ : yH} {k n : Nat} {K : Option Value → yH → Prop} {X : String → Addr → yH → Prop} (h : wp_J18_getChars_22 en d  l0 l2 l5 l6 σ k n K X) : Wx en (d + 1) mJ18_getChars 22 [(0, .int l0), (2, .ref l2), (5, .int l5), (6, .int l6)] [] σ k n K X := by
  unfold wp_J18_getChars_22 at h
  refine sd_iload_n (pc := 22) dJ18_getChars_22 rfl 0 rfl ?_
  refine sd_bipush (pc := 23) dJ18_getChars_23 (v := -100) (by decide) ?_
  refine sd_icmpgt (pc := 25) dJ18_getChars_25 (tgt := 72) (by decide) ⟨fun c26 => ?_, fun c26 => ?_⟩
  · have h := h.1 c26
    refine sd_aload_n (pc := 72) dJ18_getChars_72 rfl 1 rfl ?_
    refine sd_iinc (pc := 73) dJ18_getChars_73 2 rfl (v := (l5 + (-1))) rfl (by decide) (ls' := [(5, .int (l5 + (-1))), (0, .int l0), (2, .ref l2), (6, .int l6)]) rfl ?_
    refine sd_iload (pc := 76) dJ18_getChars_76 0 rfl ?_
    refine sd_getsQ (pc := 78) dJ18_getChars_78 q568 q569 (lw_all_tbl q104) yn11 ?_
    refine sd_iload_n (pc := 81) dJ18_getChars_81 rfl 1 rfl ?_
    refine sd_ineg (pc := 82) dJ18_getChars_82 ?_
    obtain ⟨a5, e6, h⟩ := h
    rw [e6]
    refine sd_baload (pc := 83) dJ18_getChars_83 (h.mono (fun v7 h => ?_))
    refine sd_bastore (pc := 84) dJ18_getChars_84 (h.mono (fun σ8 h => ?_))
    refine sd_iload_n (pc := 85) dJ18_getChars_85 rfl 1 rfl ?_
    refine sd_bipush (pc := 86) dJ18_getChars_86 (v := -9) (by decide) ?_
    refine sd_icmpge (pc := 88) dJ18_getChars_88 (tgt := 104) (by decide) ⟨fun c17 => ?_, fun c17 => ?_⟩
    · have h := h.1 c17
      refine sd_iload (pc := 104) dJ18_getChars_104 3 rfl ?_
      refine sd_ifeq (pc := 106) dJ18_getChars_106 (tgt := 118) (by decide) ⟨fun c10 => ?_, fun c10 => ?_⟩
      · have h := h.1 c10
        refine sd_iload (pc := 118) dJ18_getChars_118 0 rfl ?_
        exact sd_ireturn (pc := 120) dJ18_getChars_120 (ty0 := .int) rfl rfl h
      · have h := h.2 c10
        refine sd_aload_n (pc := 109) dJ18_getChars_109 rfl 2 rfl ?_
        refine sd_iinc (pc := 110) dJ18_getChars_110 0 rfl (v := ((l5 + (-1)) + (-1))) rfl (by decide) (ls' := [(5, .int ((l5 + (-1)) + (-1))), (0, .int l0), (2, .ref l2), (6, .int l6)]) rfl ?_
        refine sd_iload (pc := 113) dJ18_getChars_113 0 rfl ?_
        refine sd_bipush (pc := 115) dJ18_getChars_115 (v := 45) (by decide) ?_
        refine sd_bastore (pc := 117) dJ18_getChars_117 (h.mono (fun σ9 h => ?_))
        refine sd_iload (pc := 118) dJ18_getChars_118 0 rfl ?_
        exact sd_ireturn (pc := 120) dJ18_getChars_120 (ty0 := .int) rfl rfl h
    · have h := h.2 c17
      refine sd_aload_n (pc := 91) dJ18_getChars_91 rfl 2 rfl ?_
      refine sd_iinc (pc := 92) dJ18_getChars_92 0 rfl (v := ((l5 + (-1)) + (-1))) rfl (by decide) (ls' := [(5, .int ((l5 + (-1)) + (-1))), (0, .int l0), (2, .ref l2), (6, .int l6)]) rfl ?_
      refine sd_iload (pc := 95) dJ18_getChars_95 0 rfl ?_
      refine sd_getsQ (pc := 97) dJ18_getChars_97 q570 q571 (lw_all_tbl q104) yn114 ?_
      refine sd_iload_n (pc := 100) dJ18_getChars_100 rfl 1 rfl ?_
      refine sd_ineg (pc := 101) dJ18_getChars_101 ?_
      obtain ⟨a11, e12, h⟩ := h
      rw [e12]
      refine sd_baload (pc := 102) dJ18_getChars_102 (h.mono (fun v13 h => ?_))
      refine sd_bastore (pc := 103) dJ18_getChars_103 (h.mono (fun σ14 h => ?_))
      refine sd_iload (pc := 104) dJ18_getChars_104 3 rfl ?_
      refine sd_ifeq (pc := 106) dJ18_getChars_106 (tgt := 118) (by decide) ⟨fun c16 => ?_, fun c16 => ?_⟩
      · have h := h.1 c16
        refine sd_iload (pc := 118) dJ18_getChars_118 0 rfl ?_
        exact sd_ireturn (pc := 120) dJ18_getChars_120 (ty0 := .int) rfl rfl h
      · have h := h.2 c16
        refine sd_aload_n (pc := 109) dJ18_getChars_109 rfl 2 rfl ?_
        refine sd_iinc (pc := 110) dJ18_getChars_110 0 rfl (v := (((l5 + (-1)) + (-1)) + (-1))) rfl (by decide) (ls' := [(5, .int (((l5 + (-1)) + (-1)) + (-1))), (0, .int l0), (2, .ref l2), (6, .int l6)]) rfl ?_
        refine sd_iload (pc := 113) dJ18_getChars_113 0 rfl ?_
        refine sd_bipush (pc := 115) dJ18_getChars_115 (v := 45) (by decide) ?_
        refine sd_bastore (pc := 117) dJ18_getChars_117 (h.mono (fun σ15 h => ?_))
        refine sd_iload (pc := 118) dJ18_getChars_118 0 rfl ?_
        exact sd_ireturn (pc := 120) dJ18_getChars_120 (ty0 := .int) rfl rfl h
  · have h := h.2 c26
    refine sd_iload_n (pc := 28) dJ18_getChars_28 rfl 0 rfl ?_
    refine sd_bipush (pc := 29) dJ18_getChars_29 (v := 100) (by decide) ?_
    refine sd_idiv (pc := 31) dJ18_getChars_31 (by decide) ?_
    refine sd_istore_n (pc := 32) dJ18_getChars_32 rfl (by decide) (ls' := [(3, .int (l0 / (100 : Int32))), (0, .int l0), (2, .ref l2), (5, .int l5), (6, .int l6)]) rfl ?_
    refine sd_iload_n (pc := 33) dJ18_getChars_33 rfl 0 rfl ?_
    refine sd_bipush (pc := 34) dJ18_getChars_34 (v := 100) (by decide) ?_
    refine sd_imul (pc := 36) dJ18_getChars_36 ?_
    refine sd_iload_n (pc := 37) dJ18_getChars_37 rfl 1 rfl ?_
    refine sd_isub (pc := 38) dJ18_getChars_38 ?_
    refine sd_istore (pc := 39) dJ18_getChars_39 (by decide) (ls' := [(4, .int (((l0 / (100 : Int32)) * (100 : Int32)) - l0)), (3, .int (l0 / (100 : Int32))), (0, .int l0), (2, .ref l2), (5, .int l5), (6, .int l6)]) rfl ?_
    refine sd_iload_n (pc := 41) dJ18_getChars_41 rfl 1 rfl ?_
    refine sd_istore_n (pc := 42) dJ18_getChars_42 rfl (by decide) (ls' := [(0, .int (l0 / (100 : Int32))), (4, .int (((l0 / (100 : Int32)) * (100 : Int32)) - l0)), (3, .int (l0 / (100 : Int32))), (2, .ref l2), (5, .int l5), (6, .int l6)]) rfl ?_
    refine sd_aload_n (pc := 43) dJ18_getChars_43 rfl 3 rfl ?_
    refine sd_iinc (pc := 44) dJ18_getChars_44 4 rfl (v := (l5 + (-1))) rfl (by decide) (ls' := [(5, .int (l5 + (-1))), (0, .int (l0 / (100 : Int32))), (4, .int (((l0 / (100 : Int32)) * (100 : Int32)) - l0)), (3, .int (l0 / (100 : Int32))), (2, .ref l2), (6, .int l6)]) rfl ?_
    refine sd_iload (pc := 47) dJ18_getChars_47 0 rfl ?_
    refine sd_getsQ (pc := 49) dJ18_getChars_49 q568 q569 (lw_all_tbl q104) yn11 ?_
    refine sd_iload (pc := 52) dJ18_getChars_52 2 rfl ?_
    obtain ⟨a18, e19, h⟩ := h
    rw [e19]
    refine sd_baload (pc := 54) dJ18_getChars_54 (h.mono (fun v20 h => ?_))
    refine sd_bastore (pc := 55) dJ18_getChars_55 (h.mono (fun σ21 h => ?_))
    refine sd_aload_n (pc := 56) dJ18_getChars_56 rfl 4 rfl ?_
    refine sd_iinc (pc := 57) dJ18_getChars_57 0 rfl (v := ((l5 + (-1)) + (-1))) rfl (by decide) (ls' := [(5, .int ((l5 + (-1)) + (-1))), (0, .int (l0 / (100 : Int32))), (4, .int (((l0 / (100 : Int32)) * (100 : Int32)) - l0)), (3, .int (l0 / (100 : Int32))), (2, .ref l2), (6, .int l6)]) rfl ?_
    refine sd_iload (pc := 60) dJ18_getChars_60 0 rfl ?_
    refine sd_getsQ (pc := 62) dJ18_getChars_62 q570 q571 (lw_all_tbl q104) yn114 ?_
    refine sd_iload (pc := 65) dJ18_getChars_65 2 rfl ?_
    obtain ⟨a22, e23, h⟩ := h
    rw [e23]
    refine sd_baload (pc := 67) dJ18_getChars_67 (h.mono (fun v24 h => ?_))
    refine sd_bastore (pc := 68) dJ18_getChars_68 (h.mono (fun σ25 h => ?_))
    refine sd_goto (pc := 69) dJ18_getChars_69 (tgt := 22) (by decide) ?_
    exact sd_loc [1, 4, 0, 5] rfl h
def wp_J18_getChars (en : yEn) (d : Nat) (x0 : Int32) (x1 : Int32) (x2 : Nat) (σ : yH) (k n : Nat) (K : Option Value → yH → Prop) (X : String → Addr → yH → Prop) : Prop :=
  ((¬ ((if (0 ≤ x0) then (0 : Int32) else (1 : Int32)) = 0) → Wx en (d + 1) mJ18_getChars 22 [(0, .int x0), (2, .ref x2), (5, .int x1), (6, .int (if (0 ≤ x0) then (0 : Int32) else (1 : Int32)))] [] σ k n K X) ∧ (((if (0 ≤ x0) then (0 : Int32) else (1 : Int32)) = 0) → Wx en (d + 1) mJ18_getChars 22 [(0, .int (-x0)), (2, .ref x2), (5, .int x1), (6, .int (if (0 ≤ x0) then (0 : Int32) else (1 : Int32)))] [] σ k n K X))
set_option maxHeartbeats 4000000 in
theorem ok_J18_getChars {en : yEn} {d : Nat} {x0 : Int32} {x1 : Int32} {x2 : Nat} {σ : yH} {k n : Nat} {K : Option Value → yH → Prop} {X : String → Addr → yH → Prop} (h : wp_J18_getChars en d  x0 x1 x2 σ k n K X) : Wx en (d + 1) mJ18_getChars 0 [(0, .int x0), (1, .int x1), (2, .ref x2)] [] σ k n K X := by
  unfold wp_J18_getChars at h
  refine sd_iload_n (pc := 0) dJ18_getChars_0 rfl 1 rfl ?_
  refine sd_istore (pc := 1) dJ18_getChars_1 (by decide) (ls' := [(5, .int x1), (0, .int x0), (1, .int x1), (2, .ref x2)]) rfl ?_
  refine sd_iload_n (pc := 3) dJ18_getChars_3 rfl 1 rfl ?_
  have h3 : Wx en (d + 1) mJ18_getChars 12 [(5, .int x1), (0, .int x0), (1, .int x1), (2, .ref x2)] (.int (if (0 ≤ x0) then (0 : Int32) else (1 : Int32)) :: []) σ k n K X := by
    refine sd_istore (pc := 12) dJ18_getChars_12 (by decide) (ls' := [(6, .int (if (0 ≤ x0) then (0 : Int32) else (1 : Int32))), (5, .int x1), (0, .int x0), (1, .int x1), (2, .ref x2)]) rfl ?_
    refine sd_iload (pc := 14) dJ18_getChars_14 0 rfl ?_
    refine sd_ifne (pc := 16) dJ18_getChars_16 (tgt := 22) (by decide) ⟨fun c2 => ?_, fun c2 => ?_⟩
    · have h := h.1 c2
      exact sd_loc [2, 4, 1, 0] rfl h
    · have h := h.2 c2
      refine sd_iload_n (pc := 19) dJ18_getChars_19 rfl 2 rfl ?_
      refine sd_ineg (pc := 20) dJ18_getChars_20 ?_
      refine sd_istore_n (pc := 21) dJ18_getChars_21 rfl (by decide) (ls' := [(0, .int (-x0)), (6, .int (if (0 ≤ x0) then (0 : Int32) else (1 : Int32))), (5, .int x1), (1, .int x1), (2, .ref x2)]) rfl ?_
      exact sd_loc [0, 4, 2, 1] rfl h
  have e4 := sd_iteI h3
  refine sd_ifge (pc := 4) dJ18_getChars_4 (tgt := 11) (by decide) ⟨fun c1 => ?_, fun c1 => ?_⟩
  · refine sd_iconst (pc := 11) dJ18_getChars_11 (v := 0) (by decide) ?_
    exact (e4.1 c1)
  · refine sd_iconst (pc := 7) dJ18_getChars_7 (v := 1) (by decide) ?_
    refine sd_goto (pc := 8) dJ18_getChars_8 (tgt := 12) (by decide) ?_
    exact (e4.2 c1)
theorem cx_J18_getChars {en : yEn} {d : Nat} {x0 : Int32} {x1 : Int32} {x2 : Nat} {σ : yH} {k n : Nat} {K : Option Value → yH → Prop} {X : String → Addr → yH → Prop} (h : wp_J18_getChars en d  x0 x1 x2 σ k n K X) : Cx en (d + 1) k n mJ18_getChars [.int x0, .int x1, .ref x2] σ K X := Cx.body (by decide +kernel) rfl (Nat.le_of_ble_eq_true rfl) (ok_J18_getChars h)
/-! java/lang/Integer.stringSize(I)I -/
def wp_J18_stringSize_16 (en : yEn) (d : Nat) (l0 : Int32) (l1 : Int32) (l2 : Int32) (l3 : Int32) (σ : yH) (k n : Nat) (K : Option Value → yH → Prop) (X : String → Addr → yH → Prop) : Prop :=
  ((((10 : Int32) ≤ l3) → K (some (.int ((10 : Int32) + l1))) σ) ∧ (¬ ((10 : Int32) ≤ l3) → (((l0 ≤ l2) → Wx en (d + 1) mJ18_stringSize 16 [(0, .int l0), (1, .int l1), (2, .int ((10 : Int32) * l2)), (3, .int (l3 + (1 : Int32)))] [] σ k n K X) ∧ (¬ (l0 ≤ l2) → K (some (.int (l3 + l1))) σ))))
set_option maxHeartbeats 4000000 in
theorem ok_J18_stringSize_16 {en : yEn} {d : Nat} {l0 : Int32} {l1 : Int32} {l2 : Int32} {l3 : Int32} {σ : yH} {k n : Nat} {K : Option Value → yH → Prop} {X : String → Addr → yH → Prop} (h : wp_J18_stringSize_16 en d  l0 l1 l2 l3 σ k n K X) : Wx en (d + 1) mJ18_stringSize 16 [(0, .int l0), (1, .int l1), (2, .int l2), (3, .int l3)] [] σ k n K X := by
  unfold wp_J18_stringSize_16 at h
  refine sd_iload_n (pc := 16) dJ18_stringSize_16 rfl 3 rfl ?_
  refine sd_bipush (pc := 17) dJ18_stringSize_17 (v := 10) (by decide) ?_
  refine sd_icmpge (pc := 19) dJ18_stringSize_19 (tgt := 42) (by decide) ⟨fun c3 => ?_, fun c3 => ?_⟩
  · have h := h.1 c3
    refine sd_bipush (pc := 42) dJ18_stringSize_42 (v := 10) (by decide) ?_
    refine sd_iload_n (pc := 44) dJ18_stringSize_44 rfl 1 rfl ?_
    refine sd_iadd (pc := 45) dJ18_stringSize_45 ?_
    exact sd_ireturn (pc := 46) dJ18_stringSize_46 (ty0 := .int) rfl rfl h
  · have h := h.2 c3
    refine sd_iload_n (pc := 22) dJ18_stringSize_22 rfl 0 rfl ?_
    refine sd_iload_n (pc := 23) dJ18_stringSize_23 rfl 2 rfl ?_
    refine sd_icmple (pc := 24) dJ18_stringSize_24 (tgt := 31) (by decide) ⟨fun c2 => ?_, fun c2 => ?_⟩
    · have h := h.1 c2
      refine sd_bipush (pc := 31) dJ18_stringSize_31 (v := 10) (by decide) ?_
      refine sd_iload_n (pc := 33) dJ18_stringSize_33 rfl 2 rfl ?_
      refine sd_imul (pc := 34) dJ18_stringSize_34 ?_
      refine sd_istore_n (pc := 35) dJ18_stringSize_35 rfl (by decide) (ls' := [(2, .int ((10 : Int32) * l2)), (0, .int l0), (1, .int l1), (3, .int l3)]) rfl ?_
      refine sd_iinc (pc := 36) dJ18_stringSize_36 3 rfl (v := (l3 + (1 : Int32))) rfl (by decide) (ls' := [(3, .int (l3 + (1 : Int32))), (2, .int ((10 : Int32) * l2)), (0, .int l0), (1, .int l1)]) rfl ?_
      refine sd_goto (pc := 39) dJ18_stringSize_39 (tgt := 16) (by decide) ?_
      exact sd_loc [2, 3, 1, 0] rfl h
    · have h := h.2 c2
      refine sd_iload_n (pc := 27) dJ18_stringSize_27 rfl 3 rfl ?_
      refine sd_iload_n (pc := 28) dJ18_stringSize_28 rfl 1 rfl ?_
      refine sd_iadd (pc := 29) dJ18_stringSize_29 ?_
      exact sd_ireturn (pc := 30) dJ18_stringSize_30 (ty0 := .int) rfl rfl h
def wp_J18_stringSize (en : yEn) (d : Nat) (x0 : Int32) (σ : yH) (k n : Nat) (K : Option Value → yH → Prop) (X : String → Addr → yH → Prop) : Prop :=
  (((x0 < 0) → Wx en (d + 1) mJ18_stringSize 16 [(0, .int x0), (1, .int (1 : Int32)), (2, .int (-10 : Int32)), (3, .int (1 : Int32))] [] σ k n K X) ∧ (¬ (x0 < 0) → Wx en (d + 1) mJ18_stringSize 16 [(0, .int (-x0)), (1, .int (0 : Int32)), (2, .int (-10 : Int32)), (3, .int (1 : Int32))] [] σ k n K X))
set_option maxHeartbeats 4000000 in
theorem ok_J18_stringSize {en : yEn} {d : Nat} {x0 : Int32} {σ : yH} {k n : Nat} {K : Option Value → yH → Prop} {X : String → Addr → yH → Prop} (h : wp_J18_stringSize en d  x0 σ k n K X) : Wx en (d + 1) mJ18_stringSize 0 [(0, .int x0)] [] σ k n K X := by
  unfold wp_J18_stringSize at h
  refine sd_iconst (pc := 0) dJ18_stringSize_0 (v := 1) (by decide) ?_
  refine sd_istore_n (pc := 1) dJ18_stringSize_1 rfl (by decide) (ls' := [(1, .int (1 : Int32)), (0, .int x0)]) rfl ?_
  refine sd_iload_n (pc := 2) dJ18_stringSize_2 rfl 1 rfl ?_
  refine sd_iflt (pc := 3) dJ18_stringSize_3 (tgt := 11) (by decide) ⟨fun c1 => ?_, fun c1 => ?_⟩
  · have h := h.1 c1
    refine sd_bipush (pc := 11) dJ18_stringSize_11 (v := -10) (by decide) ?_
    refine sd_istore_n (pc := 13) dJ18_stringSize_13 rfl (by decide) (ls' := [(2, .int (-10 : Int32)), (1, .int (1 : Int32)), (0, .int x0)]) rfl ?_
    refine sd_iconst (pc := 14) dJ18_stringSize_14 (v := 1) (by decide) ?_
    refine sd_istore_n (pc := 15) dJ18_stringSize_15 rfl (by decide) (ls' := [(3, .int (1 : Int32)), (2, .int (-10 : Int32)), (1, .int (1 : Int32)), (0, .int x0)]) rfl ?_
    exact sd_loc [3, 2, 1, 0] rfl h
  · have h := h.2 c1
    refine sd_iconst (pc := 6) dJ18_stringSize_6 (v := 0) (by decide) ?_
    refine sd_istore_n (pc := 7) dJ18_stringSize_7 rfl (by decide) (ls' := [(1, .int (0 : Int32)), (0, .int x0)]) rfl ?_
    refine sd_iload_n (pc := 8) dJ18_stringSize_8 rfl 1 rfl ?_
    refine sd_ineg (pc := 9) dJ18_stringSize_9 ?_
    refine sd_istore_n (pc := 10) dJ18_stringSize_10 rfl (by decide) (ls' := [(0, .int (-x0)), (1, .int (0 : Int32))]) rfl ?_
    refine sd_bipush (pc := 11) dJ18_stringSize_11 (v := -10) (by decide) ?_
    refine sd_istore_n (pc := 13) dJ18_stringSize_13 rfl (by decide) (ls' := [(2, .int (-10 : Int32)), (0, .int (-x0)), (1, .int (0 : Int32))]) rfl ?_
    refine sd_iconst (pc := 14) dJ18_stringSize_14 (v := 1) (by decide) ?_
    refine sd_istore_n (pc := 15) dJ18_stringSize_15 rfl (by decide) (ls' := [(3, .int (1 : Int32)), (2, .int (-10 : Int32)), (0, .int (-x0)), (1, .int (0 : Int32))]) rfl ?_
    exact sd_loc [2, 3, 1, 0] rfl h
theorem cx_J18_stringSize {en : yEn} {d : Nat} {x0 : Int32} {σ : yH} {k n : Nat} {K : Option Value → yH → Prop} {X : String → Addr → yH → Prop} (h : wp_J18_stringSize en d  x0 σ k n K X) : Cx en (d + 1) k n mJ18_stringSize [.int x0] σ K X := Cx.body (by decide +kernel) rfl (Nat.le_of_ble_eq_true rfl) (ok_J18_stringSize h)
/-! java/util/Arrays.copyOf([BI)[B -/
def wp_J3_copyOf (en : yEn) (d : Nat) (p15 : Nat × Nat) (x0 : Nat) (x1 : Int32) (σ : yH) (k n : Nat) (K : Option Value → yH → Prop) (X : String → Addr → yH → Prop) : Prop :=
  alenQ en σ x0 (fun v1 => ((¬ (x1 = v1) → (∃ M7 : Nat, ¬ x1 < 0 ∧ x1.toNatClampNeg = M7 ∧ M7 * componentBytes .byte ≤ 536870912 ∧ 1 ≤ p15.1 ∧ M7 ≤ p15.2 ∧ newV σ (.inl (en.2.2.2 1, M7, .inl (fun _ => 0))) (fun a2 σ3 => alenQ en σ3 x0 (fun v4 => yLet (if x1 < v4 then x1 else v4) (fun r5 => cpyI σ3 (en.2.2.2 1) x0 a2 (0 : Int32) (0 : Int32) r5 (fun x => fits .byte (.int x)) (fun σ6 => K (some (.ref a2)) σ6)))))) ∧ ((x1 = v1) → False)))
set_option maxHeartbeats 4000000 in
theorem ok_J3_copyOf {en : yEn} {d : Nat} {p15 : Nat × Nat} {x0 : Nat} {x1 : Int32} {σ : yH} {k n : Nat} {K : Option Value → yH → Prop} {X : String → Addr → yH → Prop} (h : wp_J3_copyOf en d p15 x0 x1 σ k n K X) : Wx en (d + 1) mJ3_copyOf 0 [(0, .ref x0), (1, .int x1)] [] σ (k + p15.1) (n + p15.2) K X := by
  unfold wp_J3_copyOf at h
  refine sd_iload_n (pc := 0) dJ3_copyOf_0 rfl 1 rfl ?_
  refine sd_aload_n (pc := 1) dJ3_copyOf_1 rfl 0 rfl ?_
  refine sd_alenQ (pc := 2) dJ3_copyOf_2 (h.mono (fun v1 h => ?_))
  refine sd_icmpne (pc := 3) dJ3_copyOf_3 (tgt := 14) (by decide) ⟨fun c8 => ?_, fun c8 => ?_⟩
  · have h := h.1 c8
    refine sd_iload_n (pc := 14) dJ3_copyOf_14 rfl 1 rfl ?_
    obtain ⟨M7, g1, g2, g3, g4, g5, h⟩ := h
    refine Wx.more (k' := k + 1) (n' := n + M7) ?_ (by omega) (by omega)
    refine sd_newa_byte (k := k) (n := n) (pc := 15) dJ3_copyOf_15 q278 g1 g2 g3 (h.mono (fun a2 σ3 h => ?_))
    refine sd_astore_n (pc := 17) dJ3_copyOf_17 rfl (by decide) (ls' := [(2, .ref a2), (0, .ref x0), (1, .int x1)]) rfl ?_
    refine sd_aload_n (pc := 18) dJ3_copyOf_18 rfl 1 rfl ?_
    refine sd_iconst (pc := 19) dJ3_copyOf_19 (v := 0) (by decide) ?_
    refine sd_aload_n (pc := 20) dJ3_copyOf_20 rfl 0 rfl ?_
    refine sd_iconst (pc := 21) dJ3_copyOf_21 (v := 0) (by decide) ?_
    refine sd_aload_n (pc := 22) dJ3_copyOf_22 rfl 1 rfl ?_
    refine sd_alenQ (pc := 23) dJ3_copyOf_23 (h.mono (fun v4 h => ?_))
    refine sd_iload_n (pc := 24) dJ3_copyOf_24 rfl 2 rfl ?_
    refine sd_mminL (pc := 25) dJ3_copyOf_25 q554 q555 q101 q556 (by omega) (Nat.le_of_ble_eq_true rfl) (h.mono (fun r5 h => ?_))
    refine sd_copyb (pc := 28) dJ3_copyOf_28 ⟨q557, q559, q558, q102⟩ (by omega) (Nat.le_of_ble_eq_true rfl) (h.mono (fun σ6 h => ?_))
    refine sd_aload_n (pc := 31) dJ3_copyOf_31 rfl 0 rfl ?_
    exact sd_areturn (r := (some a2)) (pc := 32) dJ3_copyOf_32 rfl (Or.inr ⟨_, rfl⟩) h
  · have h := h.2 c8
    refine Wx.more (k' := k) (n' := n) ?_ (by omega) (by omega)
    refine sd_aload_n (pc := 6) dJ3_copyOf_6 rfl 0 rfl ?_
    exact h.elim
theorem cx_J3_copyOf {en : yEn} {d : Nat} {p15 : Nat × Nat} {x0 : Nat} {x1 : Int32} {σ : yH} {k n : Nat} {K : Option Value → yH → Prop} {X : String → Addr → yH → Prop} (h : wp_J3_copyOf en d p15 x0 x1 σ k n K X) : Cx en (d + 1) (k + p15.1) (n + p15.2) mJ3_copyOf [.ref x0, .int x1] σ K X := Cx.body (by decide +kernel) rfl (Nat.le_of_ble_eq_true rfl) (ok_J3_copyOf h)
/-! jdk/internal/util/Preconditions.checkFromToIndex(IIILjava/util/function/BiFunction;)I -/
def wp_J19_checkFromToIndex (en : yEn) (d : Nat) (x0 : Int32) (x1 : Int32) (x2 : Int32) (x3 : Option Nat) (σ : yH) (k n : Nat) (K : Option Value → yH → Prop) (X : String → Addr → yH → Prop) : Prop :=
  (((x0 < 0) → False) ∧ (¬ (x0 < 0) → (((x1 < x0) → False) ∧ (¬ (x1 < x0) → (((x1 ≤ x2) → K (some (.int x0)) σ) ∧ (¬ (x1 ≤ x2) → False))))))
set_option maxHeartbeats 4000000 in
theorem ok_J19_checkFromToIndex {en : yEn} {d : Nat} {x0 : Int32} {x1 : Int32} {x2 : Int32} {x3 : Option Nat} {σ : yH} {k n : Nat} {K : Option Value → yH → Prop} {X : String → Addr → yH → Prop} (h : wp_J19_checkFromToIndex en d  x0 x1 x2 x3 σ k n K X) : Wx en (d + 1) mJ19_checkFromToIndex 0 [(0, .int x0), (1, .int x1), (2, .int x2), (3, va_rf x3)] [] σ k n K X := by
  unfold wp_J19_checkFromToIndex at h
  refine sd_iload_n (pc := 0) dJ19_checkFromToIndex_0 rfl 0 rfl ?_
  refine sd_iflt (pc := 1) dJ19_checkFromToIndex_1 (tgt := 14) (by decide) ⟨fun c3 => ?_, fun c3 => ?_⟩
  · have h := h.1 c3
    refine sd_aload_nQ (pc := 14) dJ19_checkFromToIndex_14 rfl 3 rfl ?_
    refine sd_iload_n (pc := 15) dJ19_checkFromToIndex_15 rfl 0 rfl ?_
    refine sd_iload_n (pc := 16) dJ19_checkFromToIndex_16 rfl 1 rfl ?_
    refine sd_iload_n (pc := 17) dJ19_checkFromToIndex_17 rfl 2 rfl ?_
    exact h.elim
  · have h := h.2 c3
    refine sd_iload_n (pc := 4) dJ19_checkFromToIndex_4 rfl 0 rfl ?_
    refine sd_iload_n (pc := 5) dJ19_checkFromToIndex_5 rfl 1 rfl ?_
    refine sd_icmpgt (pc := 6) dJ19_checkFromToIndex_6 (tgt := 14) (by decide) ⟨fun c2 => ?_, fun c2 => ?_⟩
    · have h := h.1 c2
      refine sd_aload_nQ (pc := 14) dJ19_checkFromToIndex_14 rfl 3 rfl ?_
      refine sd_iload_n (pc := 15) dJ19_checkFromToIndex_15 rfl 0 rfl ?_
      refine sd_iload_n (pc := 16) dJ19_checkFromToIndex_16 rfl 1 rfl ?_
      refine sd_iload_n (pc := 17) dJ19_checkFromToIndex_17 rfl 2 rfl ?_
      exact h.elim
    · have h := h.2 c2
      refine sd_iload_n (pc := 9) dJ19_checkFromToIndex_9 rfl 1 rfl ?_
      refine sd_iload_n (pc := 10) dJ19_checkFromToIndex_10 rfl 2 rfl ?_
      refine sd_icmple (pc := 11) dJ19_checkFromToIndex_11 (tgt := 22) (by decide) ⟨fun c1 => ?_, fun c1 => ?_⟩
      · have h := h.1 c1
        refine sd_iload_n (pc := 22) dJ19_checkFromToIndex_22 rfl 0 rfl ?_
        exact sd_ireturn (pc := 23) dJ19_checkFromToIndex_23 (ty0 := .int) rfl rfl h
      · have h := h.2 c1
        refine sd_aload_nQ (pc := 14) dJ19_checkFromToIndex_14 rfl 3 rfl ?_
        refine sd_iload_n (pc := 15) dJ19_checkFromToIndex_15 rfl 0 rfl ?_
        refine sd_iload_n (pc := 16) dJ19_checkFromToIndex_16 rfl 1 rfl ?_
        refine sd_iload_n (pc := 17) dJ19_checkFromToIndex_17 rfl 2 rfl ?_
        exact h.elim
theorem cx_J19_checkFromToIndex {en : yEn} {d : Nat} {x0 : Int32} {x1 : Int32} {x2 : Int32} {x3 : Option Nat} {σ : yH} {k n : Nat} {K : Option Value → yH → Prop} {X : String → Addr → yH → Prop} (h : wp_J19_checkFromToIndex en d  x0 x1 x2 x3 σ k n K X) : Cx en (d + 1) k n mJ19_checkFromToIndex [.int x0, .int x1, .int x2, va_rf x3] σ K X := Cx.body (by decide +kernel) rfl (by cases x3 <;> exact Nat.le_of_ble_eq_true rfl) (ok_J19_checkFromToIndex h)
/-! jdk/internal/util/Preconditions.checkFromIndexSize(IIILjava/util/function/BiFunction;)I -/
def wp_J19_checkFromIndexSize (en : yEn) (d : Nat) (x0 : Int32) (x1 : Int32) (x2 : Int32) (x3 : Option Nat) (σ : yH) (k n : Nat) (K : Option Value → yH → Prop) (X : String → Addr → yH → Prop) : Prop :=
  (((((x2 ||| x0) ||| x1) < 0) → False) ∧ (¬ (((x2 ||| x0) ||| x1) < 0) → (((x1 ≤ (x2 - x0)) → K (some (.int x0)) σ) ∧ (¬ (x1 ≤ (x2 - x0)) → False))))
set_option maxHeartbeats 4000000 in
theorem ok_J19_checkFromIndexSize {en : yEn} {d : Nat} {x0 : Int32} {x1 : Int32} {x2 : Int32} {x3 : Option Nat} {σ : yH} {k n : Nat} {K : Option Value → yH → Prop} {X : String → Addr → yH → Prop} (h : wp_J19_checkFromIndexSize en d  x0 x1 x2 x3 σ k n K X) : Wx en (d + 1) mJ19_checkFromIndexSize 0 [(0, .int x0), (1, .int x1), (2, .int x2), (3, va_rf x3)] [] σ k n K X := by
  unfold wp_J19_checkFromIndexSize at h
  refine sd_iload_n (pc := 0) dJ19_checkFromIndexSize_0 rfl 2 rfl ?_
  refine sd_iload_n (pc := 1) dJ19_checkFromIndexSize_1 rfl 0 rfl ?_
  refine sd_ior (pc := 2) dJ19_checkFromIndexSize_2 ?_
  refine sd_iload_n (pc := 3) dJ19_checkFromIndexSize_3 rfl 1 rfl ?_
  refine sd_ior (pc := 4) dJ19_checkFromIndexSize_4 ?_
  refine sd_iflt (pc := 5) dJ19_checkFromIndexSize_5 (tgt := 15) (by decide) ⟨fun c2 => ?_, fun c2 => ?_⟩
  · have h := h.1 c2
    refine sd_aload_nQ (pc := 15) dJ19_checkFromIndexSize_15 rfl 3 rfl ?_
    refine sd_iload_n (pc := 16) dJ19_checkFromIndexSize_16 rfl 0 rfl ?_
    refine sd_iload_n (pc := 17) dJ19_checkFromIndexSize_17 rfl 1 rfl ?_
    refine sd_iload_n (pc := 18) dJ19_checkFromIndexSize_18 rfl 2 rfl ?_
    exact h.elim
  · have h := h.2 c2
    refine sd_iload_n (pc := 8) dJ19_checkFromIndexSize_8 rfl 1 rfl ?_
    refine sd_iload_n (pc := 9) dJ19_checkFromIndexSize_9 rfl 2 rfl ?_
    refine sd_iload_n (pc := 10) dJ19_checkFromIndexSize_10 rfl 0 rfl ?_
    refine sd_isub (pc := 11) dJ19_checkFromIndexSize_11 ?_
    refine sd_icmple (pc := 12) dJ19_checkFromIndexSize_12 (tgt := 23) (by decide) ⟨fun c1 => ?_, fun c1 => ?_⟩
    · have h := h.1 c1
      refine sd_iload_n (pc := 23) dJ19_checkFromIndexSize_23 rfl 0 rfl ?_
      exact sd_ireturn (pc := 24) dJ19_checkFromIndexSize_24 (ty0 := .int) rfl rfl h
    · have h := h.2 c1
      refine sd_aload_nQ (pc := 15) dJ19_checkFromIndexSize_15 rfl 3 rfl ?_
      refine sd_iload_n (pc := 16) dJ19_checkFromIndexSize_16 rfl 0 rfl ?_
      refine sd_iload_n (pc := 17) dJ19_checkFromIndexSize_17 rfl 1 rfl ?_
      refine sd_iload_n (pc := 18) dJ19_checkFromIndexSize_18 rfl 2 rfl ?_
      exact h.elim
theorem cx_J19_checkFromIndexSize {en : yEn} {d : Nat} {x0 : Int32} {x1 : Int32} {x2 : Int32} {x3 : Option Nat} {σ : yH} {k n : Nat} {K : Option Value → yH → Prop} {X : String → Addr → yH → Prop} (h : wp_J19_checkFromIndexSize en d  x0 x1 x2 x3 σ k n K X) : Cx en (d + 1) k n mJ19_checkFromIndexSize [.int x0, .int x1, .int x2, va_rf x3] σ K X := Cx.body (by decide +kernel) rfl (by cases x3 <;> exact Nat.le_of_ble_eq_true rfl) (ok_J19_checkFromIndexSize h)
/-! java/util/Arrays.checkLength(II)V -/
def wp_J3_checkLength (en : yEn) (d : Nat) (x0 : Int32) (x1 : Int32) (σ : yH) (k n : Nat) (K : Option Value → yH → Prop) (X : String → Addr → yH → Prop) : Prop :=
  (((x0 ≤ x1) → K none σ) ∧ (¬ (x0 ≤ x1) → False))
set_option maxHeartbeats 4000000 in
theorem ok_J3_checkLength {en : yEn} {d : Nat} {x0 : Int32} {x1 : Int32} {σ : yH} {k n : Nat} {K : Option Value → yH → Prop} {X : String → Addr → yH → Prop} (hd9 : 20 ≤ d) (h : wp_J3_checkLength en d  x0 x1 σ k n K X) : Wx en (d + 1) mJ3_checkLength 0 [(0, .int x0), (1, .int x1)] [] σ k n K X := by
  unfold wp_J3_checkLength at h
  refine sd_iload_n (pc := 0) dJ3_checkLength_0 rfl 1 rfl ?_
  refine sd_iload_n (pc := 1) dJ3_checkLength_1 rfl 0 rfl ?_
  refine sd_icmpge (pc := 2) dJ3_checkLength_2 (tgt := 37) (by decide) ⟨fun c1 => ?_, fun c1 => ?_⟩
  · have h := h.1 c1
    exact sd_return (pc := 37) dJ3_checkLength_37 rfl h
  · have h := h.2 c1
    exact h.elim
theorem cx_J3_checkLength {en : yEn} {d : Nat} {x0 : Int32} {x1 : Int32} {σ : yH} {k n : Nat} {K : Option Value → yH → Prop} {X : String → Addr → yH → Prop} (hd9 : 20 ≤ d) (h : wp_J3_checkLength en d  x0 x1 σ k n K X) : Cx en (d + 1) k n mJ3_checkLength [.int x0, .int x1] σ K X := Cx.body (by decide +kernel) rfl (Nat.le_of_ble_eq_true rfl) (ok_J3_checkLength hd9 h)
/-! java/util/Arrays.copyOfRangeByte([BII)[B -/
def wp_J3_copyOfRangeByte (en : yEn) (d : Nat) (p10 : Nat × Nat) (x0 : Nat) (x1 : Int32) (x2 : Int32) (σ : yH) (k n : Nat) (K : Option Value → yH → Prop) (X : String → Addr → yH → Prop) : Prop :=
  Cx en d 0 0 mJ3_checkLength [.int x1, .int x2] σ (kV (fun σ1 => (∃ M7 : Nat, ¬ (x2 - x1) < 0 ∧ (x2 - x1).toNatClampNeg = M7 ∧ M7 * componentBytes .byte ≤ 536870912 ∧ 1 ≤ p10.1 ∧ M7 ≤ p10.2 ∧ newV σ1 (.inl (en.2.2.2 1, M7, .inl (fun _ => 0))) (fun a2 σ3 => alenQ en σ3 x0 (fun v4 => yLet (if (x2 - x1) < (v4 - x1) then (x2 - x1) else (v4 - x1)) (fun r5 => cpyI σ3 (en.2.2.2 1) x0 a2 x1 (0 : Int32) r5 (fun x => fits .byte (.int x)) (fun σ6 => K (some (.ref a2)) σ6))))))) X
set_option maxHeartbeats 4000000 in
theorem ok_J3_copyOfRangeByte {en : yEn} {d : Nat} {p10 : Nat × Nat} {x0 : Nat} {x1 : Int32} {x2 : Int32} {σ : yH} {k n : Nat} {K : Option Value → yH → Prop} {X : String → Addr → yH → Prop} (h : wp_J3_copyOfRangeByte en d p10 x0 x1 x2 σ k n K X) : Wx en (d + 1) mJ3_copyOfRangeByte 0 [(0, .ref x0), (1, .int x1), (2, .int x2)] [] σ (k + p10.1) (n + p10.2) K X := by
  unfold wp_J3_copyOfRangeByte at h
  refine sd_iload_n (pc := 0) dJ3_copyOfRangeByte_0 rfl 1 rfl ?_
  refine sd_iload_n (pc := 1) dJ3_copyOfRangeByte_1 rfl 2 rfl ?_
  refine sd_callS (k := (k + p10.1)) (n := (n + p10.2)) (As := [.int x1, .int x2]) (st := []) (pc := 2) dJ3_copyOfRangeByte_2 q694 q695 q85 q696 2 (by decide +kernel) rfl (Nat.le_refl _) (by decide) (Nat.le_of_ble_eq_true rfl) (Cx.mono h (kV.to (fun σ1 h => ?_)) (xo rfl))
  refine sd_iload_n (pc := 5) dJ3_copyOfRangeByte_5 rfl 2 rfl ?_
  refine sd_iload_n (pc := 6) dJ3_copyOfRangeByte_6 rfl 1 rfl ?_
  refine sd_isub (pc := 7) dJ3_copyOfRangeByte_7 ?_
  refine sd_istore_n (pc := 8) dJ3_copyOfRangeByte_8 rfl (by decide) (ls' := [(3, .int (x2 - x1)), (0, .ref x0), (1, .int x1), (2, .int x2)]) rfl ?_
  refine sd_iload_n (pc := 9) dJ3_copyOfRangeByte_9 rfl 0 rfl ?_
  obtain ⟨M7, g1, g2, g3, g4, g5, h⟩ := h
  refine Wx.more (k' := k + 1) (n' := n + M7) ?_ (by omega) (by omega)
  refine sd_newa_byte (k := k) (n := n) (pc := 10) dJ3_copyOfRangeByte_10 q278 g1 g2 g3 (h.mono (fun a2 σ3 h => ?_))
  refine sd_astore (pc := 12) dJ3_copyOfRangeByte_12 (by decide) (ls' := [(4, .ref a2), (3, .int (x2 - x1)), (0, .ref x0), (1, .int x1), (2, .int x2)]) rfl ?_
  refine sd_aload_n (pc := 14) dJ3_copyOfRangeByte_14 rfl 2 rfl ?_
  refine sd_iload_n (pc := 15) dJ3_copyOfRangeByte_15 rfl 3 rfl ?_
  refine sd_aload (pc := 16) dJ3_copyOfRangeByte_16 0 rfl ?_
  refine sd_iconst (pc := 18) dJ3_copyOfRangeByte_18 (v := 0) (by decide) ?_
  refine sd_aload_n (pc := 19) dJ3_copyOfRangeByte_19 rfl 2 rfl ?_
  refine sd_alenQ (pc := 20) dJ3_copyOfRangeByte_20 (h.mono (fun v4 h => ?_))
  refine sd_iload_n (pc := 21) dJ3_copyOfRangeByte_21 rfl 3 rfl ?_
  refine sd_isub (pc := 22) dJ3_copyOfRangeByte_22 ?_
  refine sd_iload_n (pc := 23) dJ3_copyOfRangeByte_23 rfl 1 rfl ?_
  refine sd_mminL (pc := 24) dJ3_copyOfRangeByte_24 q554 q555 q101 q556 (by omega) (Nat.le_of_ble_eq_true rfl) (h.mono (fun r5 h => ?_))
  refine sd_copyb (pc := 27) dJ3_copyOfRangeByte_27 ⟨q557, q559, q558, q102⟩ (by omega) (Nat.le_of_ble_eq_true rfl) (h.mono (fun σ6 h => ?_))
  refine sd_aload (pc := 30) dJ3_copyOfRangeByte_30 0 rfl ?_
  exact sd_areturn (r := (some a2)) (pc := 32) dJ3_copyOfRangeByte_32 rfl (Or.inr ⟨_, rfl⟩) h
theorem cx_J3_copyOfRangeByte {en : yEn} {d : Nat} {p10 : Nat × Nat} {x0 : Nat} {x1 : Int32} {x2 : Int32} {σ : yH} {k n : Nat} {K : Option Value → yH → Prop} {X : String → Addr → yH → Prop} (h : wp_J3_copyOfRangeByte en d p10 x0 x1 x2 σ k n K X) : Cx en (d + 1) (k + p10.1) (n + p10.2) mJ3_copyOfRangeByte [.ref x0, .int x1, .int x2] σ K X := Cx.body (by decide +kernel) rfl (Nat.le_of_ble_eq_true rfl) (ok_J3_copyOfRangeByte h)
/-! java/util/Arrays.copyOfRange([BII)[B -/
def wp_J3_copyOfRange_2 (en : yEn) (d : Nat) (p13 : Nat × Nat) (x0 : Nat) (x1 : Int32) (x2 : Int32) (σ : yH) (k n : Nat) (K : Option Value → yH → Prop) (X : String → Addr → yH → Prop) : Prop :=
  ((¬ (x1 = 0) → Cx en d p13.1 p13.2 mJ3_copyOfRangeByte [.ref x0, .int x1, .int x2] σ (kA (fun r2 σ1 => K (some (.ref r2)) σ1)) X) ∧ ((x1 = 0) → alenQ en σ x0 (fun v3 => (((x2 = v3) → False) ∧ (¬ (x2 = v3) → Cx en d p13.1 p13.2 mJ3_copyOfRangeByte [.ref x0, .int x1, .int x2] σ (kA (fun r5 σ4 => K (some (.ref r5)) σ4)) X)))))
set_option maxHeartbeats 4000000 in
theorem ok_J3_copyOfRange_2 {en : yEn} {d : Nat} {p13 : Nat × Nat} {x0 : Nat} {x1 : Int32} {x2 : Int32} {σ : yH} {k n : Nat} {K : Option Value → yH → Prop} {X : String → Addr → yH → Prop} (h : wp_J3_copyOfRange_2 en d p13 x0 x1 x2 σ k n K X) : Wx en (d + 1) mJ3_copyOfRange_2 0 [(0, .ref x0), (1, .int x1), (2, .int x2)] [] σ (k + p13.1) (n + p13.2) K X := by
  unfold wp_J3_copyOfRange_2 at h
  refine sd_iload_n (pc := 0) dJ3_copyOfRange_2_0 rfl 1 rfl ?_
  refine sd_ifne (pc := 1) dJ3_copyOfRange_2_1 (tgt := 10) (by decide) ⟨fun c7 => ?_, fun c7 => ?_⟩
  · have h := h.1 c7
    refine sd_aload_n (pc := 10) dJ3_copyOfRange_2_10 rfl 0 rfl ?_
    refine sd_iload_n (pc := 11) dJ3_copyOfRange_2_11 rfl 1 rfl ?_
    refine sd_iload_n (pc := 12) dJ3_copyOfRange_2_12 rfl 2 rfl ?_
    refine sd_callS (k := k) (n := n) (As := [.ref x0, .int x1, .int x2]) (st := []) (pc := 13) dJ3_copyOfRange_2_13 q691 q692 q85 q693 3 (by decide +kernel) rfl (Nat.le_refl _) (by decide) (Nat.le_of_ble_eq_true rfl) (Cx.mono h (kA.to (fun r2 σ1 h => ?_)) (xo rfl))
    exact sd_areturn (r := (some r2)) (pc := 16) dJ3_copyOfRange_2_16 rfl (Or.inr ⟨_, rfl⟩) h
  · have h := h.2 c7
    refine sd_iload_n (pc := 4) dJ3_copyOfRange_2_4 rfl 2 rfl ?_
    refine sd_aload_n (pc := 5) dJ3_copyOfRange_2_5 rfl 0 rfl ?_
    refine sd_alenQ (pc := 6) dJ3_copyOfRange_2_6 (h.mono (fun v3 h => ?_))
    refine sd_icmpeq (pc := 7) dJ3_copyOfRange_2_7 (tgt := 17) (by decide) ⟨fun c6 => ?_, fun c6 => ?_⟩
    · have h := h.1 c6
      refine Wx.more (k' := k) (n' := n) ?_ (by omega) (by omega)
      refine sd_aload_n (pc := 17) dJ3_copyOfRange_2_17 rfl 0 rfl ?_
      exact h.elim
    · have h := h.2 c6
      refine sd_aload_n (pc := 10) dJ3_copyOfRange_2_10 rfl 0 rfl ?_
      refine sd_iload_n (pc := 11) dJ3_copyOfRange_2_11 rfl 1 rfl ?_
      refine sd_iload_n (pc := 12) dJ3_copyOfRange_2_12 rfl 2 rfl ?_
      refine sd_callS (k := k) (n := n) (As := [.ref x0, .int x1, .int x2]) (st := []) (pc := 13) dJ3_copyOfRange_2_13 q691 q692 q85 q693 3 (by decide +kernel) rfl (Nat.le_refl _) (by decide) (Nat.le_of_ble_eq_true rfl) (Cx.mono h (kA.to (fun r5 σ4 h => ?_)) (xo rfl))
      exact sd_areturn (r := (some r5)) (pc := 16) dJ3_copyOfRange_2_16 rfl (Or.inr ⟨_, rfl⟩) h
theorem cx_J3_copyOfRange_2 {en : yEn} {d : Nat} {p13 : Nat × Nat} {x0 : Nat} {x1 : Int32} {x2 : Int32} {σ : yH} {k n : Nat} {K : Option Value → yH → Prop} {X : String → Addr → yH → Prop} (h : wp_J3_copyOfRange_2 en d p13 x0 x1 x2 σ k n K X) : Cx en (d + 1) (k + p13.1) (n + p13.2) mJ3_copyOfRange_2 [.ref x0, .int x1, .int x2] σ K X := Cx.body (by decide +kernel) rfl (Nat.le_of_ble_eq_true rfl) (ok_J3_copyOfRange_2 h)
/-! java/lang/Number.<init>()V -/
def wp_J17_init (en : yEn) (d : Nat) (x0 : Nat) (σ : yH) (k n : Nat) (K : Option Value → yH → Prop) (X : String → Addr → yH → Prop) : Prop :=
  K none σ
set_option maxHeartbeats 4000000 in
theorem ok_J17_init {en : yEn} {d : Nat} {x0 : Nat} {σ : yH} {k n : Nat} {K : Option Value → yH → Prop} {X : String → Addr → yH → Prop} (h : wp_J17_init en d  x0 σ k n K X) : Wx en (d + 1) mJ17_init 0 [(0, .ref x0)] [] σ k n K X := by
  unfold wp_J17_init at h
  refine sd_aload_n (pc := 0) dJ17_init_0 rfl 0 rfl ?_
  refine sd_objInit (pc := 1) dJ17_init_1 q1217 q126 q127 (by omega) (Nat.le_of_ble_eq_true rfl) ?_
  exact sd_return (pc := 4) dJ17_init_4 rfl h
theorem cx_J17_init {en : yEn} {d : Nat} {x0 : Nat} {σ : yH} {k n : Nat} {K : Option Value → yH → Prop} {X : String → Addr → yH → Prop} (h : wp_J17_init en d  x0 σ k n K X) : Cx en (d + 1) k n mJ17_init [.ref x0] σ K X := Cx.body (by decide +kernel) rfl (Nat.le_of_ble_eq_true rfl) (ok_J17_init h)
/-! java/lang/Integer.<init>(I)V -/
def wp_J18_init (en : yEn) (d : Nat) (x0 : Nat) (x1 : Int32) (σ : yH) (k n : Nat) (K : Option Value → yH → Prop) (X : String → Addr → yH → Prop) : Prop :=
  Cx en d 0 0 mJ17_init [.ref x0] σ (kV (fun σ1 => (putV σ1 x0 10 0 (.int x1) (fun σ2 => K none σ2)))) X
set_option maxHeartbeats 4000000 in
theorem ok_J18_init {en : yEn} {d : Nat} {x0 : Nat} {x1 : Int32} {σ : yH} {k n : Nat} {K : Option Value → yH → Prop} {X : String → Addr → yH → Prop} (h : wp_J18_init en d  x0 x1 σ k n K X) : Wx en (d + 1) mJ18_init 0 [(0, .ref x0), (1, .int x1)] [] σ k n K X := by
  unfold wp_J18_init at h
  refine sd_aload_n (pc := 0) dJ18_init_0 rfl 0 rfl ?_
  refine sd_callI (k := k) (n := n) (As := []) (st := []) (pc := 1) dJ18_init_1 q1214 q1215 q103 q1216 rfl 0 (by decide +kernel) rfl (Nat.le_refl _) (by decide) (Nat.le_of_ble_eq_true rfl) (Cx.mono h (kV.to (fun σ1 h => ?_)) (xo rfl))
  refine sd_aload_n (pc := 4) dJ18_init_4 rfl 0 rfl ?_
  refine sd_iload_n (pc := 5) dJ18_init_5 rfl 1 rfl ?_
  refine sd_putfF (pc := 6) dJ18_init_6 (ci := 10) rfl in_J18 tyJ18 tyJ18_ok nmJ18 (kf := 0) (by decide) q1218 rfl rfl rfl (ty := .int) rfl rfl rfl (putV.mono h (fun σ2 h => ?_))
  exact sd_return (pc := 9) dJ18_init_9 rfl h
theorem cx_J18_init {en : yEn} {d : Nat} {x0 : Nat} {x1 : Int32} {σ : yH} {k n : Nat} {K : Option Value → yH → Prop} {X : String → Addr → yH → Prop} (h : wp_J18_init en d  x0 x1 σ k n K X) : Cx en (d + 1) k n mJ18_init [.ref x0, .int x1] σ K X := Cx.body (by decide +kernel) rfl (Nat.le_of_ble_eq_true rfl) (ok_J18_init h)
/-! java/lang/Integer.valueOf(I)Ljava/lang/Integer; -/
def wp_J18_valueOf (en : yEn) (d : Nat) (x0 : Int32) (σ : yH) (k n : Nat) (K : Option Value → yH → Prop) (X : String → Addr → yH → Prop) : Prop :=
  (((x0 < (-128 : Int32)) → newV σ (.inr (10, [.int 0])) (fun a1 σ2 => Cx en d 0 0 mJ18_init [.ref a1, .int x0] σ2 (kV (fun σ3 => K (some (.ref a1)) σ3)) X)) ∧ (¬ (x0 < (-128 : Int32)) → ((((127 : Int32) < x0) → newV σ (.inr (10, [.int 0])) (fun a4 σ5 => Cx en d 0 0 mJ18_init [.ref a4, .int x0] σ5 (kV (fun σ6 => K (some (.ref a4)) σ6)) X)) ∧ (¬ ((127 : Int32) < x0) → nonN (y_sr en "java/lang/Integer$IntegerCache" "cache" "[Ljava/lang/Integer;") (fun a7 => aldQ σ (en.2.2.2 5) a7 (x0 + (128 : Int32)) (fun v9 => K (some (va_rf v9)) σ))))))
set_option maxHeartbeats 4000000 in
theorem ok_J18_valueOf {en : yEn} {d : Nat} {x0 : Int32} {σ : yH} {k n : Nat} {K : Option Value → yH → Prop} {X : String → Addr → yH → Prop} (h : wp_J18_valueOf en d  x0 σ k n K X) : Wx en (d + 1) mJ18_valueOf 0 [(0, .int x0)] [] σ (k + 1) (n + 1) K X := by
  unfold wp_J18_valueOf at h
  refine sd_iload_n (pc := 0) dJ18_valueOf_0 rfl 0 rfl ?_
  refine sd_bipush (pc := 1) dJ18_valueOf_1 (v := -128) (by decide) ?_
  refine sd_icmplt (pc := 3) dJ18_valueOf_3 (tgt := 23) (by decide) ⟨fun c11 => ?_, fun c11 => ?_⟩
  · have h := h.1 c11
    refine sd_new (k := k) (n := n) (pc := 23) dJ18_valueOf_23 (ci := 10) rfl in_J18 tyJ18 tyJ18_ok q1209 q1210 q104 (fs := [.int 0]) (fun j hj => by rcases (show j = 0 by omega) with rfl <;> rfl) (h.mono (fun a1 σ2 h => ?_))
    refine sd_dup (pc := 26) dJ18_valueOf_26 rfl ?_
    refine sd_iload_n (pc := 27) dJ18_valueOf_27 rfl 0 rfl ?_
    refine sd_callI (k := k) (n := n) (As := [.int x0]) (st := [.ref a1]) (pc := 28) dJ18_valueOf_28 q1211 q1212 q104 q1213 rfl 1 (by decide +kernel) rfl (Nat.le_refl _) (by decide) (Nat.le_of_ble_eq_true rfl) (Cx.mono h (kV.to (fun σ3 h => ?_)) (xo rfl))
    exact sd_areturn (r := (some a1)) (pc := 31) dJ18_valueOf_31 rfl (Or.inl ⟨_, rfl⟩) h
  · have h := h.2 c11
    refine sd_iload_n (pc := 6) dJ18_valueOf_6 rfl 0 rfl ?_
    refine sd_getsI (pc := 7) dJ18_valueOf_7 (z := 127) q1205 q1206 (lw_all_tbl q113) yn221 ?_
    refine sd_icmpgt (pc := 10) dJ18_valueOf_10 (tgt := 23) (by decide) ⟨fun c10 => ?_, fun c10 => ?_⟩
    · have h := h.1 c10
      refine sd_new (k := k) (n := n) (pc := 23) dJ18_valueOf_23 (ci := 10) rfl in_J18 tyJ18 tyJ18_ok q1209 q1210 q104 (fs := [.int 0]) (fun j hj => by rcases (show j = 0 by omega) with rfl <;> rfl) (h.mono (fun a4 σ5 h => ?_))
      refine sd_dup (pc := 26) dJ18_valueOf_26 rfl ?_
      refine sd_iload_n (pc := 27) dJ18_valueOf_27 rfl 0 rfl ?_
      refine sd_callI (k := k) (n := n) (As := [.int x0]) (st := [.ref a4]) (pc := 28) dJ18_valueOf_28 q1211 q1212 q104 q1213 rfl 1 (by decide +kernel) rfl (Nat.le_refl _) (by decide) (Nat.le_of_ble_eq_true rfl) (Cx.mono h (kV.to (fun σ6 h => ?_)) (xo rfl))
      exact sd_areturn (r := (some a4)) (pc := 31) dJ18_valueOf_31 rfl (Or.inl ⟨_, rfl⟩) h
    · have h := h.2 c10
      refine Wx.more (k' := k) (n' := n) ?_ (by omega) (by omega)
      refine sd_getsQ (pc := 13) dJ18_valueOf_13 q1207 q1208 (lw_all_tbl q113) yn222 ?_
      refine sd_iload_n (pc := 16) dJ18_valueOf_16 rfl 0 rfl ?_
      refine sd_sipush (pc := 17) dJ18_valueOf_17 (v := 128) (by decide) ?_
      refine sd_iadd (pc := 20) dJ18_valueOf_20 ?_
      obtain ⟨a7, e8, h⟩ := h
      rw [e8]
      refine sd_aaload (pc := 21) dJ18_valueOf_21 (h.mono (fun v9 h => ?_))
      exact sd_areturn (r := v9) (pc := 22) dJ18_valueOf_22 rfl (Or.inl ⟨_, rfl⟩) h
theorem cx_J18_valueOf {en : yEn} {d : Nat} {x0 : Int32} {σ : yH} {k n : Nat} {K : Option Value → yH → Prop} {X : String → Addr → yH → Prop} (h : wp_J18_valueOf en d  x0 σ k n K X) : Cx en (d + 1) (k + 1) (n + 1) mJ18_valueOf [.int x0] σ K X := Cx.body (by decide +kernel) rfl (Nat.le_of_ble_eq_true rfl) (ok_J18_valueOf h)
/-! java/lang/Integer.intValue()I -/
def wp_J18_intValue (en : yEn) (d : Nat) (x0 : Nat) (σ : yH) (k n : Nat) (K : Option Value → yH → Prop) (X : String → Addr → yH → Prop) : Prop :=
  getI σ x0 10 0 (fun v1 => K (some (.int v1)) σ)
set_option maxHeartbeats 4000000 in
theorem ok_J18_intValue {en : yEn} {d : Nat} {x0 : Nat} {σ : yH} {k n : Nat} {K : Option Value → yH → Prop} {X : String → Addr → yH → Prop} (h : wp_J18_intValue en d  x0 σ k n K X) : Wx en (d + 1) mJ18_intValue 0 [(0, .ref x0)] [] σ k n K X := by
  unfold wp_J18_intValue at h
  refine sd_aload_n (pc := 0) dJ18_intValue_0 rfl 0 rfl ?_
  refine sd_getI (pc := 1) dJ18_intValue_1 (ci := 10) rfl in_J18 (kf := 0) (by decide) q1218 (h.mono (fun v1 h => ?_))
  exact sd_ireturn (pc := 4) dJ18_intValue_4 (ty0 := .int) rfl rfl h
theorem cx_J18_intValue {en : yEn} {d : Nat} {x0 : Nat} {σ : yH} {k n : Nat} {K : Option Value → yH → Prop} {X : String → Addr → yH → Prop} (h : wp_J18_intValue en d  x0 σ k n K X) : Cx en (d + 1) k n mJ18_intValue [.ref x0] σ K X := Cx.body (by decide +kernel) rfl (Nat.le_of_ble_eq_true rfl) (ok_J18_intValue h)
/-! jdk/internal/util/Preconditions.checkIndex(IILjava/util/function/BiFunction;)I -/
def wp_J19_checkIndex (en : yEn) (d : Nat) (x0 : Int32) (x1 : Int32) (x2 : Option Nat) (σ : yH) (k n : Nat) (K : Option Value → yH → Prop) (X : String → Addr → yH → Prop) : Prop :=
  (((x0 < 0) → False) ∧ (¬ (x0 < 0) → (((x0 < x1) → K (some (.int x0)) σ) ∧ (¬ (x0 < x1) → False))))
set_option maxHeartbeats 4000000 in
theorem ok_J19_checkIndex {en : yEn} {d : Nat} {x0 : Int32} {x1 : Int32} {x2 : Option Nat} {σ : yH} {k n : Nat} {K : Option Value → yH → Prop} {X : String → Addr → yH → Prop} (h : wp_J19_checkIndex en d  x0 x1 x2 σ k n K X) : Wx en (d + 1) mJ19_checkIndex 0 [(0, .int x0), (1, .int x1), (2, va_rf x2)] [] σ k n K X := by
  unfold wp_J19_checkIndex at h
  refine sd_iload_n (pc := 0) dJ19_checkIndex_0 rfl 0 rfl ?_
  refine sd_iflt (pc := 1) dJ19_checkIndex_1 (tgt := 9) (by decide) ⟨fun c2 => ?_, fun c2 => ?_⟩
  · have h := h.1 c2
    refine sd_aload_nQ (pc := 9) dJ19_checkIndex_9 rfl 2 rfl ?_
    refine sd_iload_n (pc := 10) dJ19_checkIndex_10 rfl 0 rfl ?_
    refine sd_iload_n (pc := 11) dJ19_checkIndex_11 rfl 1 rfl ?_
    exact h.elim
  · have h := h.2 c2
    refine sd_iload_n (pc := 4) dJ19_checkIndex_4 rfl 0 rfl ?_
    refine sd_iload_n (pc := 5) dJ19_checkIndex_5 rfl 1 rfl ?_
    refine sd_icmplt (pc := 6) dJ19_checkIndex_6 (tgt := 16) (by decide) ⟨fun c1 => ?_, fun c1 => ?_⟩
    · have h := h.1 c1
      refine sd_iload_n (pc := 16) dJ19_checkIndex_16 rfl 0 rfl ?_
      exact sd_ireturn (pc := 17) dJ19_checkIndex_17 (ty0 := .int) rfl rfl h
    · have h := h.2 c1
      refine sd_aload_nQ (pc := 9) dJ19_checkIndex_9 rfl 2 rfl ?_
      refine sd_iload_n (pc := 10) dJ19_checkIndex_10 rfl 0 rfl ?_
      refine sd_iload_n (pc := 11) dJ19_checkIndex_11 rfl 1 rfl ?_
      exact h.elim
theorem cx_J19_checkIndex {en : yEn} {d : Nat} {x0 : Int32} {x1 : Int32} {x2 : Option Nat} {σ : yH} {k n : Nat} {K : Option Value → yH → Prop} {X : String → Addr → yH → Prop} (h : wp_J19_checkIndex en d  x0 x1 x2 σ k n K X) : Cx en (d + 1) k n mJ19_checkIndex [.int x0, .int x1, va_rf x2] σ K X := Cx.body (by decide +kernel) rfl (by cases x2 <;> exact Nat.le_of_ble_eq_true rfl) (ok_J19_checkIndex h)
/-! java/util/ArrayList.<init>()V -/
def wp_J2_init (en : yEn) (d : Nat) (x0 : Nat) (σ : yH) (k n : Nat) (K : Option Value → yH → Prop) (X : String → Addr → yH → Prop) : Prop :=
  Cx en d 0 0 mJ1_init [.ref x0] σ (kV (fun σ1 => (putV σ1 x0 11 1 (va_rf (y_sr en "java/util/ArrayList" "DEFAULTCAPACITY_EMPTY_ELEMENTDATA" "[Ljava/lang/Object;")) (fun σ2 => K none σ2)))) X
set_option maxHeartbeats 4000000 in
theorem ok_J2_init {en : yEn} {d : Nat} {x0 : Nat} {σ : yH} {k n : Nat} {K : Option Value → yH → Prop} {X : String → Addr → yH → Prop} (h : wp_J2_init en d  x0 σ k n K X) : Wx en (d + 1) mJ2_init 0 [(0, .ref x0)] [] σ k n K X := by
  unfold wp_J2_init at h
  refine sd_aload_n (pc := 0) dJ2_init_0 rfl 0 rfl ?_
  refine sd_callI (k := k) (n := n) (As := []) (st := []) (pc := 1) dJ2_init_1 q139 q140 q83 q141 rfl 0 (by decide +kernel) rfl (Nat.le_refl _) (by decide) (Nat.le_of_ble_eq_true rfl) (Cx.mono h (kV.to (fun σ1 h => ?_)) (xo rfl))
  refine sd_aload_n (pc := 4) dJ2_init_4 rfl 0 rfl ?_
  refine sd_getsQ (pc := 5) dJ2_init_5 q146 q147 (lw_all_tbl q84) yn4 ?_
  refine sd_putf (pc := 8) dJ2_init_8 (ci := 11) rfl in_J2 tyJ2 tyJ2_ok nmJ2 (kf := 1) (by decide) q148 rfl (ty := (.array (.object "java/lang/Object"))) rfl (nr_rf _ (by decide)) (ft_rf _ (by decide)) (putV.mono h (fun σ2 h => ?_))
  exact sd_return (pc := 11) dJ2_init_11 rfl h
theorem cx_J2_init {en : yEn} {d : Nat} {x0 : Nat} {σ : yH} {k n : Nat} {K : Option Value → yH → Prop} {X : String → Addr → yH → Prop} (h : wp_J2_init en d  x0 σ k n K X) : Cx en (d + 1) k n mJ2_init [.ref x0] σ K X := Cx.body (by decide +kernel) rfl (Nat.le_of_ble_eq_true rfl) (ok_J2_init h)
/-! java/util/ArrayList$Itr.<init>(Ljava/util/ArrayList;)V -/
def wp_J25_init (en : yEn) (d : Nat) (x0 : Nat) (x1 : Nat) (σ : yH) (k n : Nat) (K : Option Value → yH → Prop) (X : String → Addr → yH → Prop) : Prop :=
  (putV σ x0 12 3 (.ref x1) (fun σ1 => (putV σ1 x0 12 1 (.int (-1 : Int32)) (fun σ2 => getR σ2 x0 12 3 (fun v3 => getI σ2 v3 11 0 (fun v4 => (putV σ2 x0 12 2 (.int v4) (fun σ5 => K none σ5))))))))
set_option maxHeartbeats 4000000 in
theorem ok_J25_init {en : yEn} {d : Nat} {x0 : Nat} {x1 : Nat} {σ : yH} {k n : Nat} {K : Option Value → yH → Prop} {X : String → Addr → yH → Prop} (h : wp_J25_init en d  x0 x1 σ k n K X) : Wx en (d + 1) mJ25_init 0 [(0, .ref x0), (1, .ref x1)] [] σ k n K X := by
  unfold wp_J25_init at h
  refine sd_aload_n (pc := 0) dJ25_init_0 rfl 0 rfl ?_
  refine sd_aload_n (pc := 1) dJ25_init_1 rfl 1 rfl ?_
  refine sd_putfF (pc := 2) dJ25_init_2 (ci := 12) rfl in_J25 tyJ25 tyJ25_ok nmJ25 (kf := 3) (by decide) q344 rfl rfl rfl (ty := (.object "java/util/ArrayList")) rfl rfl rfl (putV.mono h (fun σ1 h => ?_))
  refine sd_aload_n (pc := 5) dJ25_init_5 rfl 0 rfl ?_
  refine sd_objInit (pc := 6) dJ25_init_6 q340 q126 q127 (by omega) (Nat.le_of_ble_eq_true rfl) ?_
  refine sd_aload_n (pc := 9) dJ25_init_9 rfl 0 rfl ?_
  refine sd_iconst (pc := 10) dJ25_init_10 (v := -1) (by decide) ?_
  refine sd_putf (pc := 11) dJ25_init_11 (ci := 12) rfl in_J25 tyJ25 tyJ25_ok nmJ25 (kf := 1) (by decide) q342 rfl (ty := .int) rfl rfl rfl (putV.mono h (fun σ2 h => ?_))
  refine sd_aload_n (pc := 14) dJ25_init_14 rfl 0 rfl ?_
  refine sd_aload_n (pc := 15) dJ25_init_15 rfl 0 rfl ?_
  refine sd_getR (pc := 16) dJ25_init_16 (ci := 12) rfl in_J25 (kf := 3) (by decide) q344 (h.mono (fun v3 h => ?_))
  refine sd_getIS (pc := 19) dJ25_init_19 (ci := 11) rfl in_J2 (kf := 0) (by decide) q153 q154 (h.mono (fun v4 h => ?_))
  refine sd_putf (pc := 22) dJ25_init_22 (ci := 12) rfl in_J25 tyJ25 tyJ25_ok nmJ25 (kf := 2) (by decide) q343 rfl (ty := .int) rfl rfl rfl (putV.mono h (fun σ5 h => ?_))
  exact sd_return (pc := 25) dJ25_init_25 rfl h
theorem cx_J25_init {en : yEn} {d : Nat} {x0 : Nat} {x1 : Nat} {σ : yH} {k n : Nat} {K : Option Value → yH → Prop} {X : String → Addr → yH → Prop} (h : wp_J25_init en d  x0 x1 σ k n K X) : Cx en (d + 1) k n mJ25_init [.ref x0, .ref x1] σ K X := Cx.body (by decide +kernel) rfl (Nat.le_of_ble_eq_true rfl) (ok_J25_init h)
/-! java/util/ArrayList.iterator()Ljava/util/Iterator; -/
def wp_J2_iterator (en : yEn) (d : Nat) (x0 : Nat) (σ : yH) (k n : Nat) (K : Option Value → yH → Prop) (X : String → Addr → yH → Prop) : Prop :=
  newV σ (.inr (12, [.int 0, .int 0, .int 0, .null])) (fun a1 σ2 => Cx en d 0 0 mJ25_init [.ref a1, .ref x0] σ2 (kV (fun σ3 => K (some (.ref a1)) σ3)) X)
set_option maxHeartbeats 4000000 in
theorem ok_J2_iterator {en : yEn} {d : Nat} {x0 : Nat} {σ : yH} {k n : Nat} {K : Option Value → yH → Prop} {X : String → Addr → yH → Prop} (h : wp_J2_iterator en d  x0 σ k n K X) : Wx en (d + 1) mJ2_iterator 0 [(0, .ref x0)] [] σ (k + 1) (n + 4) K X := by
  unfold wp_J2_iterator at h
  refine sd_new (k := k) (n := n) (pc := 0) dJ2_iterator_0 (ci := 12) rfl in_J25 tyJ25 tyJ25_ok q335 q336 q112 (fs := [.int 0, .int 0, .int 0, .null]) (fun j hj => by rcases (show j = 0 ∨ j = 1 ∨ j = 2 ∨ j = 3 by omega) with rfl | rfl | rfl | rfl <;> rfl) (h.mono (fun a1 σ2 h => ?_))
  refine sd_dup (pc := 3) dJ2_iterator_3 rfl ?_
  refine sd_aload_n (pc := 4) dJ2_iterator_4 rfl 0 rfl ?_
  refine sd_callI (k := k) (n := n) (As := [.ref x0]) (st := [.ref a1]) (pc := 5) dJ2_iterator_5 q337 q338 q112 q339 rfl 1 (by decide +kernel) rfl (Nat.le_refl _) (by decide) (Nat.le_of_ble_eq_true rfl) (Cx.mono h (kV.to (fun σ3 h => ?_)) (xo rfl))
  exact sd_areturn (r := (some a1)) (pc := 8) dJ2_iterator_8 rfl (Or.inl ⟨_, rfl⟩) h
theorem cx_J2_iterator {en : yEn} {d : Nat} {x0 : Nat} {σ : yH} {k n : Nat} {K : Option Value → yH → Prop} {X : String → Addr → yH → Prop} (h : wp_J2_iterator en d  x0 σ k n K X) : Cx en (d + 1) (k + 1) (n + 4) mJ2_iterator [.ref x0] σ K X := Cx.body (by decide +kernel) rfl (Nat.le_of_ble_eq_true rfl) (ok_J2_iterator h)
/-! java/util/Arrays.copyOf([Ljava/lang/Object;ILjava/lang/Class;)[Ljava/lang/Object; -/
def wp_J3_copyOf_3 (en : yEn) (d : Nat) (p7 : Nat × Nat) (x0 : Nat) (x1 : Int32) (x2 : Nat) (σ : yH) (k n : Nat) (K : Option Value → yH → Prop) (X : String → Addr → yH → Prop) : Prop :=
  ((¬ ((some x2) = (some (y_mir en "[Ljava/lang/Object;"))) → False) ∧ (((some x2) = (some (y_mir en "[Ljava/lang/Object;"))) → (∃ M6 : Nat, ¬ x1 < 0 ∧ x1.toNatClampNeg = M6 ∧ M6 * 4 ≤ 536870912 ∧ 1 ≤ p7.1 ∧ M6 ≤ p7.2 ∧ newV σ (.inl (en.2.2.2 5, M6, .inr (.inr (.inr (.inr (fun _ => none)))))) (fun a1 σ2 => alenQ en σ2 x0 (fun v3 => yLet (if x1 < v3 then x1 else v3) (fun r4 => (cpyQ en σ2 x0 a1 (0 : Int32) (0 : Int32) r4 (fun σ5 => K (some (.ref a1)) σ5) ∨ cpyE en σ2 x0 a1 (0 : Int32) (0 : Int32) r4 (fun σ5 => K (some (.ref a1)) σ5))))))))
set_option maxHeartbeats 4000000 in
theorem ok_J3_copyOf_3 {en : yEn} {d : Nat} {p7 : Nat × Nat} {x0 : Nat} {x1 : Int32} {x2 : Nat} {σ : yH} {k n : Nat} {K : Option Value → yH → Prop} {X : String → Addr → yH → Prop} (h : wp_J3_copyOf_3 en d p7 x0 x1 x2 σ k n K X) : Wx en (d + 1) mJ3_copyOf_3 0 [(0, .ref x0), (1, .int x1), (2, .ref x2)] [] σ (k + p7.1) (n + p7.2) K X := by
  unfold wp_J3_copyOf_3 at h
  refine sd_aload_n (pc := 0) dJ3_copyOf_3_0 rfl 2 rfl ?_
  refine sd_ldcM (pc := 1) dJ3_copyOf_3_1 q737 yn492 ?_
  refine sd_acmpne (pc := 3) dJ3_copyOf_3_3 (x := (some x2)) (y := (some (y_mir en "[Ljava/lang/Object;"))) (tgt := 13) (by decide) ⟨fun c7 => ?_, fun c7 => ?_⟩
  · have h := h.1 c7
    refine Wx.more (k' := k) (n' := n) ?_ (by omega) (by omega)
    refine sd_aload_n (pc := 13) dJ3_copyOf_3_13 rfl 2 rfl ?_
    exact h.elim
  · have h := h.2 c7
    refine sd_iload_n (pc := 6) dJ3_copyOf_3_6 rfl 1 rfl ?_
    obtain ⟨M6, g1, g2, g3, g4, g5, h⟩ := h
    refine Wx.more (k' := k + 1) (n' := n + M6) ?_ (by omega) (by omega)
    refine sd_newq (k := k) (n := n) (pc := 7) dJ3_copyOf_3_7 q738 q235 g1 g2 g3 (h.mono (fun a1 σ2 h => ?_))
    refine sd_goto (pc := 10) dJ3_copyOf_3_10 (tgt := 24) (by decide) ?_
    refine sd_astore_n (pc := 24) dJ3_copyOf_3_24 rfl (by decide) (ls' := [(3, .ref a1), (0, .ref x0), (1, .int x1), (2, .ref x2)]) rfl ?_
    refine sd_aload_n (pc := 25) dJ3_copyOf_3_25 rfl 1 rfl ?_
    refine sd_iconst (pc := 26) dJ3_copyOf_3_26 (v := 0) (by decide) ?_
    refine sd_aload_n (pc := 27) dJ3_copyOf_3_27 rfl 0 rfl ?_
    refine sd_iconst (pc := 28) dJ3_copyOf_3_28 (v := 0) (by decide) ?_
    refine sd_aload_n (pc := 29) dJ3_copyOf_3_29 rfl 1 rfl ?_
    refine sd_alenQ (pc := 30) dJ3_copyOf_3_30 (h.mono (fun v3 h => ?_))
    refine sd_iload_n (pc := 31) dJ3_copyOf_3_31 rfl 2 rfl ?_
    refine sd_mminL (pc := 32) dJ3_copyOf_3_32 q554 q555 q101 q556 (by omega) (Nat.le_of_ble_eq_true rfl) (h.mono (fun r4 h => ?_))
    rcases h with h | h
    · refine sd_copyq (pc := 35) dJ3_copyOf_3_35 ⟨q557, q559, q558, q102⟩ (by omega) (Nat.le_of_ble_eq_true rfl) (h.mono (fun σ5 h => ?_))
      refine sd_aload_n (pc := 38) dJ3_copyOf_3_38 rfl 0 rfl ?_
      exact sd_areturn (r := (some a1)) (pc := 39) dJ3_copyOf_3_39 rfl (Or.inr ⟨_, rfl⟩) h
    · refine sd_copyE (pc := 35) dJ3_copyOf_3_35 ⟨q557, q559, q558, q102⟩ (by omega) (Nat.le_of_ble_eq_true rfl) (h.mono (fun σ5 h => ?_))
      refine sd_aload_n (pc := 38) dJ3_copyOf_3_38 rfl 0 rfl ?_
      exact sd_areturn (r := (some a1)) (pc := 39) dJ3_copyOf_3_39 rfl (Or.inr ⟨_, rfl⟩) h
theorem cx_J3_copyOf_3 {en : yEn} {d : Nat} {p7 : Nat × Nat} {x0 : Nat} {x1 : Int32} {x2 : Nat} {σ : yH} {k n : Nat} {K : Option Value → yH → Prop} {X : String → Addr → yH → Prop} (h : wp_J3_copyOf_3 en d p7 x0 x1 x2 σ k n K X) : Cx en (d + 1) (k + p7.1) (n + p7.2) mJ3_copyOf_3 [.ref x0, .int x1, .ref x2] σ K X := Cx.body (by decide +kernel) rfl (Nat.le_of_ble_eq_true rfl) (ok_J3_copyOf_3 h)
/-! java/util/Arrays.copyOf([Ljava/lang/Object;I)[Ljava/lang/Object; -/
def wp_J3_copyOf_2 (en : yEn) (d : Nat) (p6 : Nat × Nat) (x0 : Nat) (x1 : Int32) (σ : yH) (k n : Nat) (K : Option Value → yH → Prop) (X : String → Addr → yH → Prop) : Prop :=
  (((∃ x9 : vp_A, σ x0 = some (true, .inl (en.2.2.2 5, x9))) ∨ yEc en x0) ∧ Cx en d p6.1 p6.2 mJ3_copyOf_3 [.ref x0, .int x1, .ref (y_mir en "[Ljava/lang/Object;")] σ (kA (fun r2 σ1 => K (some (.ref r2)) σ1)) X)
set_option maxHeartbeats 4000000 in
theorem ok_J3_copyOf_2 {en : yEn} {d : Nat} {p6 : Nat × Nat} {x0 : Nat} {x1 : Int32} {σ : yH} {k n : Nat} {K : Option Value → yH → Prop} {X : String → Addr → yH → Prop} (h : wp_J3_copyOf_2 en d p6 x0 x1 σ k n K X) : Wx en (d + 1) mJ3_copyOf_2 0 [(0, .ref x0), (1, .int x1)] [] σ (k + p6.1) (n + p6.2) K X := by
  unfold wp_J3_copyOf_2 at h
  refine sd_aload_n (pc := 0) dJ3_copyOf_2_0 rfl 0 rfl ?_
  refine sd_iload_n (pc := 1) dJ3_copyOf_2_1 rfl 1 rfl ?_
  refine sd_aload_n (pc := 2) dJ3_copyOf_2_2 rfl 0 rfl ?_
  obtain ⟨⟨x9, h9⟩ | h9, h⟩ := h
  · refine sd_getClassA (w := true) (pc := 3) dJ3_copyOf_2_3 h9 q749 q2626 q2625 q750 q777 yn492 (by omega) (Nat.le_of_ble_eq_true rfl) ?_
    refine sd_callS (k := k) (n := n) (As := [.ref x0, .int x1, .ref (y_mir en "[Ljava/lang/Object;")]) (st := []) (pc := 6) dJ3_copyOf_2_6 q778 q779 q85 q780 3 (by decide +kernel) rfl (Nat.le_refl _) (by decide) (Nat.le_of_ble_eq_true rfl) (Cx.mono h (kA.to (fun r2 σ1 h => ?_)) (xo rfl))
    exact sd_areturn (r := (some r2)) (pc := 9) dJ3_copyOf_2_9 rfl (Or.inr ⟨_, rfl⟩) h
  · refine sd_getClassE (pc := 3) dJ3_copyOf_2_3 h9 q749 q2626 q2625 q750 q777 yn492 (by omega) (Nat.le_of_ble_eq_true rfl) ?_
    refine sd_callS (k := k) (n := n) (As := [.ref x0, .int x1, .ref (y_mir en "[Ljava/lang/Object;")]) (st := []) (pc := 6) dJ3_copyOf_2_6 q778 q779 q85 q780 3 (by decide +kernel) rfl (Nat.le_refl _) (by decide) (Nat.le_of_ble_eq_true rfl) (Cx.mono h (kA.to (fun r2 σ1 h => ?_)) (xo rfl))
    exact sd_areturn (r := (some r2)) (pc := 9) dJ3_copyOf_2_9 rfl (Or.inr ⟨_, rfl⟩) h
theorem cx_J3_copyOf_2 {en : yEn} {d : Nat} {p6 : Nat × Nat} {x0 : Nat} {x1 : Int32} {σ : yH} {k n : Nat} {K : Option Value → yH → Prop} {X : String → Addr → yH → Prop} (h : wp_J3_copyOf_2 en d p6 x0 x1 σ k n K X) : Cx en (d + 1) (k + p6.1) (n + p6.2) mJ3_copyOf_2 [.ref x0, .int x1] σ K X := Cx.body (by decide +kernel) rfl (Nat.le_of_ble_eq_true rfl) (ok_J3_copyOf_2 h)
/-! java/util/ArrayList.grow(I)[Ljava/lang/Object; -/
def wp_J2_grow_20 (en : yEn) (d : Nat) (p27 : Nat × Nat) (p37 : Nat × Nat) (l0 : Nat) (l1 : Int32) (l2 : Int32) (σ : yH) (k n : Nat) (K : Option Value → yH → Prop) (X : String → Addr → yH → Prop) : Prop :=
  Cx en d p27.1 p27.2 mJ15_newLength [.int l2, .int (l1 - l2), .int (l2 >>> ((1 : Int32) &&& 31))] σ (kI (fun r12 σ11 => getR σ11 l0 11 1 (fun v13 => Cx en d p37.1 p37.2 mJ3_copyOf_2 [.ref v13, .int r12] σ11 (kA (fun r15 σ14 => (putV σ14 l0 11 1 (.ref r15) (fun σ16 => K (some (.ref r15)) σ16)))) X))) X
set_option maxHeartbeats 4000000 in
theorem ok_J2_grow_20 {en : yEn} {d : Nat} {p27 : Nat × Nat} {p37 : Nat × Nat} {l0 : Nat} {l1 : Int32} {l2 : Int32} {σ : yH} {k n : Nat} {K : Option Value → yH → Prop} {X : String → Addr → yH → Prop} (h : wp_J2_grow_20 en d p27 p37 l0 l1 l2 σ k n K X) : Wx en (d + 1) mJ2_grow 20 [(0, .ref l0), (1, .int l1), (2, .int l2)] [] σ (k + p37.1 + p27.1) (n + p37.2 + p27.2) K X := by
  unfold wp_J2_grow_20 at h
  refine sd_iload_n (pc := 20) dJ2_grow_20 rfl 2 rfl ?_
  refine sd_iload_n (pc := 21) dJ2_grow_21 rfl 1 rfl ?_
  refine sd_iload_n (pc := 22) dJ2_grow_22 rfl 2 rfl ?_
  refine sd_isub (pc := 23) dJ2_grow_23 ?_
  refine sd_iload_n (pc := 24) dJ2_grow_24 rfl 2 rfl ?_
  refine sd_iconst (pc := 25) dJ2_grow_25 (v := 1) (by decide) ?_
  refine sd_ishr (pc := 26) dJ2_grow_26 ?_
  refine sd_callS (k := (k + p37.1)) (n := (n + p37.2)) (As := [.int l2, .int (l1 - l2), .int (l2 >>> ((1 : Int32) &&& 31))]) (st := []) (pc := 27) dJ2_grow_27 q785 q534 q100 q535 3 (by decide +kernel) rfl (Nat.le_refl _) (by decide) (Nat.le_of_ble_eq_true rfl) (Cx.mono h (kI.to (fun r12 σ11 h => ?_)) (xo rfl))
  refine sd_istore_n (pc := 30) dJ2_grow_30 rfl (by decide) (ls' := [(3, .int r12), (0, .ref l0), (1, .int l1), (2, .int l2)]) rfl ?_
  refine sd_aload_n (pc := 31) dJ2_grow_31 rfl 1 rfl ?_
  refine sd_aload_n (pc := 32) dJ2_grow_32 rfl 1 rfl ?_
  refine sd_getR (pc := 33) dJ2_grow_33 (ci := 11) rfl in_J2 (kf := 1) (by decide) q148 (h.mono (fun v13 h => ?_))
  refine sd_iload_n (pc := 36) dJ2_grow_36 rfl 0 rfl ?_
  refine sd_callS (k := k) (n := n) (As := [.ref v13, .int r12]) (st := [.ref l0]) (pc := 37) dJ2_grow_37 q746 q747 q85 q748 2 (by decide +kernel) rfl (Nat.le_refl _) (by decide) (Nat.le_of_ble_eq_true rfl) (Cx.mono h (kA.to (fun r15 σ14 h => ?_)) (xo rfl))
  refine sd_dup_x1 (pc := 40) dJ2_grow_40 rfl rfl ?_
  refine sd_putf (pc := 41) dJ2_grow_41 (ci := 11) rfl in_J2 tyJ2 tyJ2_ok nmJ2 (kf := 1) (by decide) q148 rfl (ty := (.array (.object "java/lang/Object"))) rfl rfl rfl (putV.mono h (fun σ16 h => ?_))
  exact sd_areturn (r := (some r15)) (pc := 44) dJ2_grow_44 rfl (Or.inr ⟨_, rfl⟩) h
def wp_J2_grow (en : yEn) (d : Nat) (p52 : Nat × Nat) (x0 : Nat) (x1 : Int32) (σ : yH) (k n : Nat) (K : Option Value → yH → Prop) (X : String → Addr → yH → Prop) : Prop :=
  getR σ x0 11 1 (fun v1 => alenQ en σ v1 (fun v2 => (((0 < v2) → Wx en (d + 1) mJ2_grow 20 [(0, .ref x0), (1, .int x1), (2, .int v2)] [] σ k n K X) ∧ (¬ (0 < v2) → getR σ x0 11 1 (fun v3 => ((((some v3) = (y_sr en "java/util/ArrayList" "DEFAULTCAPACITY_EMPTY_ELEMENTDATA" "[Ljava/lang/Object;")) → yLet (if (10 : Int32) < x1 then x1 else (10 : Int32)) (fun r4 => (∃ M8 : Nat, ¬ r4 < 0 ∧ r4.toNatClampNeg = M8 ∧ M8 * 4 ≤ 536870912 ∧ 1 ≤ p52.1 ∧ M8 ≤ p52.2 ∧ newV σ (.inl (en.2.2.2 5, M8, .inr (.inr (.inr (.inr (fun _ => none)))))) (fun a5 σ6 => (putV σ6 x0 11 1 (.ref a5) (fun σ7 => K (some (.ref a5)) σ7)))))) ∧ (¬ ((some v3) = (y_sr en "java/util/ArrayList" "DEFAULTCAPACITY_EMPTY_ELEMENTDATA" "[Ljava/lang/Object;")) → Wx en (d + 1) mJ2_grow 20 [(0, .ref x0), (1, .int x1), (2, .int v2)] [] σ k n K X)))))))
set_option maxHeartbeats 4000000 in
theorem ok_J2_grow {en : yEn} {d : Nat} {p52 : Nat × Nat} {x0 : Nat} {x1 : Int32} {σ : yH} {k n : Nat} {K : Option Value → yH → Prop} {X : String → Addr → yH → Prop} (h : wp_J2_grow en d p52 x0 x1 σ k n K X) : Wx en (d + 1) mJ2_grow 0 [(0, .ref x0), (1, .int x1)] [] σ (k + p52.1) (n + p52.2) K X := by
  unfold wp_J2_grow at h
  refine sd_aload_n (pc := 0) dJ2_grow_0 rfl 0 rfl ?_
  refine sd_getR (pc := 1) dJ2_grow_1 (ci := 11) rfl in_J2 (kf := 1) (by decide) q148 (h.mono (fun v1 h => ?_))
  refine sd_alenQ (pc := 4) dJ2_grow_4 (h.mono (fun v2 h => ?_))
  refine sd_istore_n (pc := 5) dJ2_grow_5 rfl (by decide) (ls' := [(2, .int v2), (0, .ref x0), (1, .int x1)]) rfl ?_
  refine sd_iload_n (pc := 6) dJ2_grow_6 rfl 0 rfl ?_
  refine sd_ifgt (pc := 7) dJ2_grow_7 (tgt := 20) (by decide) ⟨fun c10 => ?_, fun c10 => ?_⟩
  · have h := h.1 c10
    refine Wx.more (k' := k) (n' := n) ?_ (by omega) (by omega)
    exact sd_loc [1, 2, 0] rfl h
  · have h := h.2 c10
    refine sd_aload_n (pc := 10) dJ2_grow_10 rfl 1 rfl ?_
    refine sd_getR (pc := 11) dJ2_grow_11 (ci := 11) rfl in_J2 (kf := 1) (by decide) q148 (h.mono (fun v3 h => ?_))
    refine sd_getsQ (pc := 14) dJ2_grow_14 q146 q147 (lw_all_tbl q84) yn4 ?_
    refine sd_acmpeq (pc := 17) dJ2_grow_17 (x := (some v3)) (y := (y_sr en "java/util/ArrayList" "DEFAULTCAPACITY_EMPTY_ELEMENTDATA" "[Ljava/lang/Object;")) (tgt := 45) (by decide) ⟨fun c9 => ?_, fun c9 => ?_⟩
    · have h := h.1 c9
      refine sd_aload_n (pc := 45) dJ2_grow_45 rfl 1 rfl ?_
      refine sd_bipush (pc := 46) dJ2_grow_46 (v := 10) (by decide) ?_
      refine sd_iload_n (pc := 48) dJ2_grow_48 rfl 2 rfl ?_
      refine sd_mmaxL (pc := 49) dJ2_grow_49 q786 q537 q101 q538 (by omega) (Nat.le_of_ble_eq_true rfl) (h.mono (fun r4 h => ?_))
      obtain ⟨M8, g1, g2, g3, g4, g5, h⟩ := h
      refine Wx.more (k' := k + 1) (n' := n + M8) ?_ (by omega) (by omega)
      refine sd_newq (k := k) (n := n) (pc := 52) dJ2_grow_52 q787 q235 g1 g2 g3 (h.mono (fun a5 σ6 h => ?_))
      refine sd_dup_x1 (pc := 55) dJ2_grow_55 rfl rfl ?_
      refine sd_putf (pc := 56) dJ2_grow_56 (ci := 11) rfl in_J2 tyJ2 tyJ2_ok nmJ2 (kf := 1) (by decide) q148 rfl (ty := (.array (.object "java/lang/Object"))) rfl rfl rfl (putV.mono h (fun σ7 h => ?_))
      exact sd_areturn (r := (some a5)) (pc := 59) dJ2_grow_59 rfl (Or.inr ⟨_, rfl⟩) h
    · have h := h.2 c9
      refine Wx.more (k' := k) (n' := n) ?_ (by omega) (by omega)
      exact sd_loc [1, 2, 0] rfl h
theorem cx_J2_grow {en : yEn} {d : Nat} {p52 : Nat × Nat} {x0 : Nat} {x1 : Int32} {σ : yH} {k n : Nat} {K : Option Value → yH → Prop} {X : String → Addr → yH → Prop} (h : wp_J2_grow en d p52 x0 x1 σ k n K X) : Cx en (d + 1) (k + p52.1) (n + p52.2) mJ2_grow [.ref x0, .int x1] σ K X := Cx.body (by decide +kernel) rfl (Nat.le_of_ble_eq_true rfl) (ok_J2_grow h)
/-! java/util/ArrayList.toArray()[Ljava/lang/Object; -/
def wp_J2_toArray (en : yEn) (d : Nat) (p8 : Nat × Nat) (x0 : Nat) (σ : yH) (k n : Nat) (K : Option Value → yH → Prop) (X : String → Addr → yH → Prop) : Prop :=
  getR σ x0 11 1 (fun v1 => getI σ x0 11 2 (fun v2 => Cx en d p8.1 p8.2 mJ3_copyOf_2 [.ref v1, .int v2] σ (kA (fun r4 σ3 => K (some (.ref r4)) σ3)) X))
set_option maxHeartbeats 4000000 in
theorem ok_J2_toArray {en : yEn} {d : Nat} {p8 : Nat × Nat} {x0 : Nat} {σ : yH} {k n : Nat} {K : Option Value → yH → Prop} {X : String → Addr → yH → Prop} (h : wp_J2_toArray en d p8 x0 σ k n K X) : Wx en (d + 1) mJ2_toArray 0 [(0, .ref x0)] [] σ (k + p8.1) (n + p8.2) K X := by
  unfold wp_J2_toArray at h
  refine sd_aload_n (pc := 0) dJ2_toArray_0 rfl 0 rfl ?_
  refine sd_getR (pc := 1) dJ2_toArray_1 (ci := 11) rfl in_J2 (kf := 1) (by decide) q148 (h.mono (fun v1 h => ?_))
  refine sd_aload_n (pc := 4) dJ2_toArray_4 rfl 0 rfl ?_
  refine sd_getI (pc := 5) dJ2_toArray_5 (ci := 11) rfl in_J2 (kf := 2) (by decide) q151 (h.mono (fun v2 h => ?_))
  refine sd_callS (k := k) (n := n) (As := [.ref v1, .int v2]) (st := []) (pc := 8) dJ2_toArray_8 q746 q747 q85 q748 2 (by decide +kernel) rfl (Nat.le_refl _) (by decide) (Nat.le_of_ble_eq_true rfl) (Cx.mono h (kA.to (fun r4 σ3 h => ?_)) (xo rfl))
  exact sd_areturn (r := (some r4)) (pc := 11) dJ2_toArray_11 rfl (Or.inr ⟨_, rfl⟩) h
theorem cx_J2_toArray {en : yEn} {d : Nat} {p8 : Nat × Nat} {x0 : Nat} {σ : yH} {k n : Nat} {K : Option Value → yH → Prop} {X : String → Addr → yH → Prop} (h : wp_J2_toArray en d p8 x0 σ k n K X) : Cx en (d + 1) (k + p8.1) (n + p8.2) mJ2_toArray [.ref x0] σ K X := Cx.body (by decide +kernel) rfl (Nat.le_of_ble_eq_true rfl) (ok_J2_toArray h)
/-! java/util/Arrays.copyOfRange([Ljava/lang/Object;IILjava/lang/Class;)[Ljava/lang/Object; -/
def wp_J3_copyOfRange (en : yEn) (d : Nat) (p50 : Nat × Nat) (x0 : Nat) (x1 : Int32) (x2 : Int32) (x3 : Nat) (σ : yH) (k n : Nat) (K : Option Value → yH → Prop) (X : String → Addr → yH → Prop) : Prop :=
  (((0 ≤ (x2 - x1)) → ((¬ ((some x3) = (some (y_mir en "[Ljava/lang/Object;"))) → False) ∧ (((some x3) = (some (y_mir en "[Ljava/lang/Object;"))) → (∃ M6 : Nat, ¬ (x2 - x1) < 0 ∧ (x2 - x1).toNatClampNeg = M6 ∧ M6 * 4 ≤ 536870912 ∧ 1 ≤ p50.1 ∧ M6 ≤ p50.2 ∧ newV σ (.inl (en.2.2.2 5, M6, .inr (.inr (.inr (.inr (fun _ => none)))))) (fun a1 σ2 => alenQ en σ2 x0 (fun v3 => yLet (if (x2 - x1) < (v3 - x1) then (x2 - x1) else (v3 - x1)) (fun r4 => cpyI σ2 (en.2.2.2 1) x0 a1 x1 (0 : Int32) r4 (fun x => fits .byte (.int x)) (fun σ5 => K (some (.ref a1)) σ5)))))))) ∧ (¬ (0 ≤ (x2 - x1)) → False))
set_option maxHeartbeats 4000000 in
theorem ok_J3_copyOfRange {en : yEn} {d : Nat} {p50 : Nat × Nat} {x0 : Nat} {x1 : Int32} {x2 : Int32} {x3 : Nat} {σ : yH} {k n : Nat} {K : Option Value → yH → Prop} {X : String → Addr → yH → Prop} (hd9 : 20 ≤ d) (h : wp_J3_copyOfRange en d p50 x0 x1 x2 x3 σ k n K X) : Wx en (d + 1) mJ3_copyOfRange 0 [(0, .ref x0), (1, .int x1), (2, .int x2), (3, .ref x3)] [] σ (k + p50.1) (n + p50.2) K X := by
  unfold wp_J3_copyOfRange at h
  refine sd_iload_n (pc := 0) dJ3_copyOfRange_0 rfl 2 rfl ?_
  refine sd_iload_n (pc := 1) dJ3_copyOfRange_1 rfl 1 rfl ?_
  refine sd_isub (pc := 2) dJ3_copyOfRange_2 ?_
  refine sd_istore (pc := 3) dJ3_copyOfRange_3 (by decide) (ls' := [(4, .int (x2 - x1)), (0, .ref x0), (1, .int x1), (2, .int x2), (3, .ref x3)]) rfl ?_
  refine sd_iload (pc := 5) dJ3_copyOfRange_5 0 rfl ?_
  refine sd_ifge (pc := 7) dJ3_copyOfRange_7 (tgt := 42) (by decide) ⟨fun c8 => ?_, fun c8 => ?_⟩
  · have h := h.1 c8
    refine sd_aload_n (pc := 42) dJ3_copyOfRange_42 rfl 4 rfl ?_
    refine sd_ldcM (pc := 43) dJ3_copyOfRange_43 q737 yn492 ?_
    refine sd_acmpne (pc := 45) dJ3_copyOfRange_45 (x := (some x3)) (y := (some (y_mir en "[Ljava/lang/Object;"))) (tgt := 56) (by decide) ⟨fun c7 => ?_, fun c7 => ?_⟩
    · have h := h.1 c7
      refine Wx.more (k' := k) (n' := n) ?_ (by omega) (by omega)
      refine sd_aload_n (pc := 56) dJ3_copyOfRange_56 rfl 4 rfl ?_
      exact h.elim
    · have h := h.2 c7
      refine sd_iload (pc := 48) dJ3_copyOfRange_48 0 rfl ?_
      obtain ⟨M6, g1, g2, g3, g4, g5, h⟩ := h
      refine Wx.more (k' := k + 1) (n' := n + M6) ?_ (by omega) (by omega)
      refine sd_newq (k := k) (n := n) (pc := 50) dJ3_copyOfRange_50 q738 q235 g1 g2 g3 (h.mono (fun a1 σ2 h => ?_))
      refine sd_goto (pc := 53) dJ3_copyOfRange_53 (tgt := 68) (by decide) ?_
      refine sd_astore (pc := 68) dJ3_copyOfRange_68 (by decide) (ls' := [(5, .ref a1), (4, .int (x2 - x1)), (0, .ref x0), (1, .int x1), (2, .int x2), (3, .ref x3)]) rfl ?_
      refine sd_aload_n (pc := 70) dJ3_copyOfRange_70 rfl 2 rfl ?_
      refine sd_iload_n (pc := 71) dJ3_copyOfRange_71 rfl 3 rfl ?_
      refine sd_aload (pc := 72) dJ3_copyOfRange_72 0 rfl ?_
      refine sd_iconst (pc := 74) dJ3_copyOfRange_74 (v := 0) (by decide) ?_
      refine sd_aload_n (pc := 75) dJ3_copyOfRange_75 rfl 2 rfl ?_
      refine sd_alenQ (pc := 76) dJ3_copyOfRange_76 (h.mono (fun v3 h => ?_))
      refine sd_iload_n (pc := 77) dJ3_copyOfRange_77 rfl 3 rfl ?_
      refine sd_isub (pc := 78) dJ3_copyOfRange_78 ?_
      refine sd_iload (pc := 79) dJ3_copyOfRange_79 1 rfl ?_
      refine sd_mminL (pc := 81) dJ3_copyOfRange_81 q554 q555 q101 q556 (by omega) (Nat.le_of_ble_eq_true rfl) (h.mono (fun r4 h => ?_))
      refine sd_copyb (pc := 84) dJ3_copyOfRange_84 ⟨q557, q559, q558, q102⟩ (by omega) (Nat.le_of_ble_eq_true rfl) (h.mono (fun σ5 h => ?_))
      refine sd_aload (pc := 87) dJ3_copyOfRange_87 0 rfl ?_
      exact sd_areturn (r := (some a1)) (pc := 89) dJ3_copyOfRange_89 rfl (Or.inr ⟨_, rfl⟩) h
  · have h := h.2 c8
    refine Wx.more (k' := k) (n' := n) ?_ (by omega) (by omega)
    exact h.elim
theorem cx_J3_copyOfRange {en : yEn} {d : Nat} {p50 : Nat × Nat} {x0 : Nat} {x1 : Int32} {x2 : Int32} {x3 : Nat} {σ : yH} {k n : Nat} {K : Option Value → yH → Prop} {X : String → Addr → yH → Prop} (hd9 : 20 ≤ d) (h : wp_J3_copyOfRange en d p50 x0 x1 x2 x3 σ k n K X) : Cx en (d + 1) (k + p50.1) (n + p50.2) mJ3_copyOfRange [.ref x0, .int x1, .int x2, .ref x3] σ K X := Cx.body (by decide +kernel) rfl (Nat.le_of_ble_eq_true rfl) (ok_J3_copyOfRange hd9 h)
/-! java/util/ArrayList.addAll(Ljava/util/Collection;)Z -/
def wp_J2_addAll (en : yEn) (d : Nat) (p1 : Nat × Nat) (p51 : Nat × Nat) (x0 : Nat) (x1 : Nat) (σ : yH) (k n : Nat) (K : Option Value → yH → Prop) (X : String → Addr → yH → Prop) : Prop :=
  ((isC σ x1 13 ∧ Cx en d p1.1 p1.2 mJ4_toArray [.ref x1] σ (kA (fun r2 σ1 => getI σ1 x0 11 0 (fun v3 => (putV σ1 x0 11 0 (.int (v3 + (1 : Int32))) (fun σ4 => alenQ en σ4 r2 (fun v5 => ((¬ (v5 = 0) → getR σ4 x0 11 1 (fun v6 => alenQ en σ4 v6 (fun v7 => getI σ4 x0 11 2 (fun v8 => (((v5 ≤ (v7 - v8)) → cpyQ en σ4 r2 v6 (0 : Int32) v8 v5 (fun σ9 => (putV σ9 x0 11 2 (.int (v8 + v5)) (fun σ10 => K (some (.int (1 : Int32))) σ10)))) ∧ (¬ (v5 ≤ (v7 - v8)) → (isC σ4 x0 11 ∧ Cx en d p51.1 p51.2 mJ2_grow [.ref x0, .int (v8 + v5)] σ4 (kA (fun r12 σ11 => cpyQ en σ11 r2 r12 (0 : Int32) v8 v5 (fun σ13 => (putV σ13 x0 11 2 (.int (v8 + v5)) (fun σ14 => K (some (.int (1 : Int32))) σ14))))) X))))))) ∧ ((v5 = 0) → K (some (.int (0 : Int32))) σ4)))))))) X) ∨ (isC σ x1 11 ∧ Cx en d p1.1 p1.2 mJ2_toArray [.ref x1] σ (kA (fun r18 σ17 => getI σ17 x0 11 0 (fun v19 => (putV σ17 x0 11 0 (.int (v19 + (1 : Int32))) (fun σ20 => alenQ en σ20 r18 (fun v21 => ((¬ (v21 = 0) → getR σ20 x0 11 1 (fun v22 => alenQ en σ20 v22 (fun v23 => getI σ20 x0 11 2 (fun v24 => (((v21 ≤ (v23 - v24)) → cpyQ en σ20 r18 v22 (0 : Int32) v24 v21 (fun σ25 => (putV σ25 x0 11 2 (.int (v24 + v21)) (fun σ26 => K (some (.int (1 : Int32))) σ26)))) ∧ (¬ (v21 ≤ (v23 - v24)) → (isC σ20 x0 11 ∧ Cx en d p51.1 p51.2 mJ2_grow [.ref x0, .int (v24 + v21)] σ20 (kA (fun r28 σ27 => cpyQ en σ27 r18 r28 (0 : Int32) v24 v21 (fun σ29 => (putV σ29 x0 11 2 (.int (v24 + v21)) (fun σ30 => K (some (.int (1 : Int32))) σ30))))) X))))))) ∧ ((v21 = 0) → K (some (.int (0 : Int32))) σ20)))))))) X))
set_option maxHeartbeats 4000000 in
theorem ok_J2_addAll {en : yEn} {d : Nat} {p1 : Nat × Nat} {p51 : Nat × Nat} {x0 : Nat} {x1 : Nat} {σ : yH} {k n : Nat} {K : Option Value → yH → Prop} {X : String → Addr → yH → Prop} (h : wp_J2_addAll en d p1 p51 x0 x1 σ k n K X) : Wx en (d + 1) mJ2_addAll 0 [(0, .ref x0), (1, .ref x1)] [] σ (k + p51.1 + p1.1) (n + p51.2 + p1.2) K X := by
  unfold wp_J2_addAll at h
  refine sd_aload_n (pc := 0) dJ2_addAll_0 rfl 1 rfl ?_
  rcases h with h | h
  · refine sd_callF (k := (k + p51.1)) (n := (n + p51.2)) (As := []) (st := []) (pc := 1) dJ2_addAll_1 (ci := 13) rfl h.1 (x := ⟨"java/util/Collection", "toArray", "()[Ljava/lang/Object;"⟩) q487 q491 q493 q86 q495 q489 q488 q494 q492 q490 0 (by decide +kernel) rfl 0 (by decide +kernel) rfl (Nat.le_refl _) (by decide) (Nat.le_of_ble_eq_true rfl) (Cx.mono h.2 (kA.to (fun r2 σ1 h => ?_)) (xo rfl))
    refine sd_astore_n (pc := 6) dJ2_addAll_6 rfl (by decide) (ls' := [(2, .ref r2), (0, .ref x0), (1, .ref x1)]) rfl ?_
    refine sd_aload_n (pc := 7) dJ2_addAll_7 rfl 1 rfl ?_
    refine sd_dup (pc := 8) dJ2_addAll_8 rfl ?_
    refine sd_getIS (pc := 9) dJ2_addAll_9 (ci := 11) rfl in_J2 (kf := 0) (by decide) q155 q154 (h.mono (fun v3 h => ?_))
    refine sd_iconst (pc := 12) dJ2_addAll_12 (v := 1) (by decide) ?_
    refine sd_iadd (pc := 13) dJ2_addAll_13 ?_
    refine sd_putfS (pc := 14) dJ2_addAll_14 (ci := 11) rfl in_J2 tyJ2 tyJ2_ok nmJ2 (kf := 0) (by decide) q155 q154 rfl (ty := .int) rfl rfl rfl (putV.mono h (fun σ4 h => ?_))
    refine sd_aload_n (pc := 17) dJ2_addAll_17 rfl 0 rfl ?_
    refine sd_alenQ (pc := 18) dJ2_addAll_18 (h.mono (fun v5 h => ?_))
    refine sd_istore_n (pc := 19) dJ2_addAll_19 rfl (by decide) (ls' := [(3, .int v5), (2, .ref r2), (0, .ref x0), (1, .ref x1)]) rfl ?_
    refine sd_iload_n (pc := 20) dJ2_addAll_20 rfl 0 rfl ?_
    refine sd_ifne (pc := 21) dJ2_addAll_21 (tgt := 26) (by decide) ⟨fun c16 => ?_, fun c16 => ?_⟩
    · have h := h.1 c16
      refine sd_iload_n (pc := 26) dJ2_addAll_26 rfl 0 rfl ?_
      refine sd_aload_n (pc := 27) dJ2_addAll_27 rfl 2 rfl ?_
      refine sd_getR (pc := 28) dJ2_addAll_28 (ci := 11) rfl in_J2 (kf := 1) (by decide) q148 (h.mono (fun v6 h => ?_))
      refine sd_dup (pc := 31) dJ2_addAll_31 rfl ?_
      refine sd_astore (pc := 32) dJ2_addAll_32 (by decide) (ls' := [(4, .ref v6), (3, .int v5), (2, .ref r2), (0, .ref x0), (1, .ref x1)]) rfl ?_
      refine sd_alenQ (pc := 34) dJ2_addAll_34 (h.mono (fun v7 h => ?_))
      refine sd_aload_n (pc := 35) dJ2_addAll_35 rfl 3 rfl ?_
      refine sd_getI (pc := 36) dJ2_addAll_36 (ci := 11) rfl in_J2 (kf := 2) (by decide) q151 (h.mono (fun v8 h => ?_))
      refine sd_dup (pc := 39) dJ2_addAll_39 rfl ?_
      refine sd_istore (pc := 40) dJ2_addAll_40 (by decide) (ls' := [(5, .int v8), (4, .ref v6), (3, .int v5), (2, .ref r2), (0, .ref x0), (1, .ref x1)]) rfl ?_
      refine sd_isub (pc := 42) dJ2_addAll_42 ?_
      refine sd_icmple (pc := 43) dJ2_addAll_43 (tgt := 56) (by decide) ⟨fun c15 => ?_, fun c15 => ?_⟩
      · have h := h.1 c15
        refine Wx.more (k' := k) (n' := n) ?_ (by omega) (by omega)
        refine sd_aload_n (pc := 56) dJ2_addAll_56 rfl 3 rfl ?_
        refine sd_iconst (pc := 57) dJ2_addAll_57 (v := 0) (by decide) ?_
        refine sd_aload (pc := 58) dJ2_addAll_58 1 rfl ?_
        refine sd_iload (pc := 60) dJ2_addAll_60 0 rfl ?_
        refine sd_iload_n (pc := 62) dJ2_addAll_62 rfl 2 rfl ?_
        refine sd_copyq (pc := 63) dJ2_addAll_63 ⟨q788, q559, q558, q102⟩ (by omega) (Nat.le_of_ble_eq_true rfl) (h.mono (fun σ9 h => ?_))
        refine sd_aload_n (pc := 66) dJ2_addAll_66 rfl 4 rfl ?_
        refine sd_iload (pc := 67) dJ2_addAll_67 0 rfl ?_
        refine sd_iload_n (pc := 69) dJ2_addAll_69 rfl 2 rfl ?_
        refine sd_iadd (pc := 70) dJ2_addAll_70 ?_
        refine sd_putf (pc := 71) dJ2_addAll_71 (ci := 11) rfl in_J2 tyJ2 tyJ2_ok nmJ2 (kf := 2) (by decide) q151 rfl (ty := .int) rfl rfl rfl (putV.mono h (fun σ10 h => ?_))
        refine sd_iconst (pc := 74) dJ2_addAll_74 (v := 1) (by decide) ?_
        exact sd_ireturn (pc := 75) dJ2_addAll_75 (ty0 := .boolean) rfl rfl h
      · have h := h.2 c15
        refine sd_aload_n (pc := 46) dJ2_addAll_46 rfl 4 rfl ?_
        refine sd_iload (pc := 47) dJ2_addAll_47 0 rfl ?_
        refine sd_iload_n (pc := 49) dJ2_addAll_49 rfl 2 rfl ?_
        refine sd_iadd (pc := 50) dJ2_addAll_50 ?_
        refine sd_callV (k := k) (n := n) (As := [.int (v8 + v5)]) (st := []) (pc := 51) dJ2_addAll_51 (ci := 11) rfl h.1 rfl q781 q783 qs3 q84 q784 1 (by decide +kernel) rfl (Nat.le_refl _) (by decide) (Nat.le_of_ble_eq_true rfl) (Cx.mono h.2 (kA.to (fun r12 σ11 h => ?_)) (xo rfl))
        refine sd_astore (pc := 54) dJ2_addAll_54 (by decide) (ls' := [(4, .ref r12), (5, .int v8), (3, .int v5), (2, .ref r2), (0, .ref x0), (1, .ref x1)]) rfl ?_
        refine sd_aload_n (pc := 56) dJ2_addAll_56 rfl 3 rfl ?_
        refine sd_iconst (pc := 57) dJ2_addAll_57 (v := 0) (by decide) ?_
        refine sd_aload (pc := 58) dJ2_addAll_58 0 rfl ?_
        refine sd_iload (pc := 60) dJ2_addAll_60 1 rfl ?_
        refine sd_iload_n (pc := 62) dJ2_addAll_62 rfl 2 rfl ?_
        refine sd_copyq (pc := 63) dJ2_addAll_63 ⟨q788, q559, q558, q102⟩ (by omega) (Nat.le_of_ble_eq_true rfl) (h.mono (fun σ13 h => ?_))
        refine sd_aload_n (pc := 66) dJ2_addAll_66 rfl 4 rfl ?_
        refine sd_iload (pc := 67) dJ2_addAll_67 1 rfl ?_
        refine sd_iload_n (pc := 69) dJ2_addAll_69 rfl 2 rfl ?_
        refine sd_iadd (pc := 70) dJ2_addAll_70 ?_
        refine sd_putf (pc := 71) dJ2_addAll_71 (ci := 11) rfl in_J2 tyJ2 tyJ2_ok nmJ2 (kf := 2) (by decide) q151 rfl (ty := .int) rfl rfl rfl (putV.mono h (fun σ14 h => ?_))
        refine sd_iconst (pc := 74) dJ2_addAll_74 (v := 1) (by decide) ?_
        exact sd_ireturn (pc := 75) dJ2_addAll_75 (ty0 := .boolean) rfl rfl h
    · have h := h.2 c16
      refine Wx.more (k' := k) (n' := n) ?_ (by omega) (by omega)
      refine sd_iconst (pc := 24) dJ2_addAll_24 (v := 0) (by decide) ?_
      exact sd_ireturn (pc := 25) dJ2_addAll_25 (ty0 := .boolean) rfl rfl h
  · refine sd_callF (k := (k + p51.1)) (n := (n + p51.2)) (As := []) (st := []) (pc := 1) dJ2_addAll_1 (ci := 11) rfl h.1 (x := ⟨"java/util/Collection", "toArray", "()[Ljava/lang/Object;"⟩) q487 q741 q743 q84 q745 q489 q488 q744 q742 q740 0 (by decide +kernel) rfl 0 (by decide +kernel) rfl (Nat.le_refl _) (by decide) (Nat.le_of_ble_eq_true rfl) (Cx.mono h.2 (kA.to (fun r18 σ17 h => ?_)) (xo rfl))
    refine sd_astore_n (pc := 6) dJ2_addAll_6 rfl (by decide) (ls' := [(2, .ref r18), (0, .ref x0), (1, .ref x1)]) rfl ?_
    refine sd_aload_n (pc := 7) dJ2_addAll_7 rfl 1 rfl ?_
    refine sd_dup (pc := 8) dJ2_addAll_8 rfl ?_
    refine sd_getIS (pc := 9) dJ2_addAll_9 (ci := 11) rfl in_J2 (kf := 0) (by decide) q155 q154 (h.mono (fun v19 h => ?_))
    refine sd_iconst (pc := 12) dJ2_addAll_12 (v := 1) (by decide) ?_
    refine sd_iadd (pc := 13) dJ2_addAll_13 ?_
    refine sd_putfS (pc := 14) dJ2_addAll_14 (ci := 11) rfl in_J2 tyJ2 tyJ2_ok nmJ2 (kf := 0) (by decide) q155 q154 rfl (ty := .int) rfl rfl rfl (putV.mono h (fun σ20 h => ?_))
    refine sd_aload_n (pc := 17) dJ2_addAll_17 rfl 0 rfl ?_
    refine sd_alenQ (pc := 18) dJ2_addAll_18 (h.mono (fun v21 h => ?_))
    refine sd_istore_n (pc := 19) dJ2_addAll_19 rfl (by decide) (ls' := [(3, .int v21), (2, .ref r18), (0, .ref x0), (1, .ref x1)]) rfl ?_
    refine sd_iload_n (pc := 20) dJ2_addAll_20 rfl 0 rfl ?_
    refine sd_ifne (pc := 21) dJ2_addAll_21 (tgt := 26) (by decide) ⟨fun c32 => ?_, fun c32 => ?_⟩
    · have h := h.1 c32
      refine sd_iload_n (pc := 26) dJ2_addAll_26 rfl 0 rfl ?_
      refine sd_aload_n (pc := 27) dJ2_addAll_27 rfl 2 rfl ?_
      refine sd_getR (pc := 28) dJ2_addAll_28 (ci := 11) rfl in_J2 (kf := 1) (by decide) q148 (h.mono (fun v22 h => ?_))
      refine sd_dup (pc := 31) dJ2_addAll_31 rfl ?_
      refine sd_astore (pc := 32) dJ2_addAll_32 (by decide) (ls' := [(4, .ref v22), (3, .int v21), (2, .ref r18), (0, .ref x0), (1, .ref x1)]) rfl ?_
      refine sd_alenQ (pc := 34) dJ2_addAll_34 (h.mono (fun v23 h => ?_))
      refine sd_aload_n (pc := 35) dJ2_addAll_35 rfl 3 rfl ?_
      refine sd_getI (pc := 36) dJ2_addAll_36 (ci := 11) rfl in_J2 (kf := 2) (by decide) q151 (h.mono (fun v24 h => ?_))
      refine sd_dup (pc := 39) dJ2_addAll_39 rfl ?_
      refine sd_istore (pc := 40) dJ2_addAll_40 (by decide) (ls' := [(5, .int v24), (4, .ref v22), (3, .int v21), (2, .ref r18), (0, .ref x0), (1, .ref x1)]) rfl ?_
      refine sd_isub (pc := 42) dJ2_addAll_42 ?_
      refine sd_icmple (pc := 43) dJ2_addAll_43 (tgt := 56) (by decide) ⟨fun c31 => ?_, fun c31 => ?_⟩
      · have h := h.1 c31
        refine Wx.more (k' := k) (n' := n) ?_ (by omega) (by omega)
        refine sd_aload_n (pc := 56) dJ2_addAll_56 rfl 3 rfl ?_
        refine sd_iconst (pc := 57) dJ2_addAll_57 (v := 0) (by decide) ?_
        refine sd_aload (pc := 58) dJ2_addAll_58 1 rfl ?_
        refine sd_iload (pc := 60) dJ2_addAll_60 0 rfl ?_
        refine sd_iload_n (pc := 62) dJ2_addAll_62 rfl 2 rfl ?_
        refine sd_copyq (pc := 63) dJ2_addAll_63 ⟨q788, q559, q558, q102⟩ (by omega) (Nat.le_of_ble_eq_true rfl) (h.mono (fun σ25 h => ?_))
        refine sd_aload_n (pc := 66) dJ2_addAll_66 rfl 4 rfl ?_
        refine sd_iload (pc := 67) dJ2_addAll_67 0 rfl ?_
        refine sd_iload_n (pc := 69) dJ2_addAll_69 rfl 2 rfl ?_
        refine sd_iadd (pc := 70) dJ2_addAll_70 ?_
        refine sd_putf (pc := 71) dJ2_addAll_71 (ci := 11) rfl in_J2 tyJ2 tyJ2_ok nmJ2 (kf := 2) (by decide) q151 rfl (ty := .int) rfl rfl rfl (putV.mono h (fun σ26 h => ?_))
        refine sd_iconst (pc := 74) dJ2_addAll_74 (v := 1) (by decide) ?_
        exact sd_ireturn (pc := 75) dJ2_addAll_75 (ty0 := .boolean) rfl rfl h
      · have h := h.2 c31
        refine sd_aload_n (pc := 46) dJ2_addAll_46 rfl 4 rfl ?_
        refine sd_iload (pc := 47) dJ2_addAll_47 0 rfl ?_
        refine sd_iload_n (pc := 49) dJ2_addAll_49 rfl 2 rfl ?_
        refine sd_iadd (pc := 50) dJ2_addAll_50 ?_
        refine sd_callV (k := k) (n := n) (As := [.int (v24 + v21)]) (st := []) (pc := 51) dJ2_addAll_51 (ci := 11) rfl h.1 rfl q781 q783 qs3 q84 q784 1 (by decide +kernel) rfl (Nat.le_refl _) (by decide) (Nat.le_of_ble_eq_true rfl) (Cx.mono h.2 (kA.to (fun r28 σ27 h => ?_)) (xo rfl))
        refine sd_astore (pc := 54) dJ2_addAll_54 (by decide) (ls' := [(4, .ref r28), (5, .int v24), (3, .int v21), (2, .ref r18), (0, .ref x0), (1, .ref x1)]) rfl ?_
        refine sd_aload_n (pc := 56) dJ2_addAll_56 rfl 3 rfl ?_
        refine sd_iconst (pc := 57) dJ2_addAll_57 (v := 0) (by decide) ?_
        refine sd_aload (pc := 58) dJ2_addAll_58 0 rfl ?_
        refine sd_iload (pc := 60) dJ2_addAll_60 1 rfl ?_
        refine sd_iload_n (pc := 62) dJ2_addAll_62 rfl 2 rfl ?_
        refine sd_copyq (pc := 63) dJ2_addAll_63 ⟨q788, q559, q558, q102⟩ (by omega) (Nat.le_of_ble_eq_true rfl) (h.mono (fun σ29 h => ?_))
        refine sd_aload_n (pc := 66) dJ2_addAll_66 rfl 4 rfl ?_
        refine sd_iload (pc := 67) dJ2_addAll_67 1 rfl ?_
        refine sd_iload_n (pc := 69) dJ2_addAll_69 rfl 2 rfl ?_
        refine sd_iadd (pc := 70) dJ2_addAll_70 ?_
        refine sd_putf (pc := 71) dJ2_addAll_71 (ci := 11) rfl in_J2 tyJ2 tyJ2_ok nmJ2 (kf := 2) (by decide) q151 rfl (ty := .int) rfl rfl rfl (putV.mono h (fun σ30 h => ?_))
        refine sd_iconst (pc := 74) dJ2_addAll_74 (v := 1) (by decide) ?_
        exact sd_ireturn (pc := 75) dJ2_addAll_75 (ty0 := .boolean) rfl rfl h
    · have h := h.2 c32
      refine Wx.more (k' := k) (n' := n) ?_ (by omega) (by omega)
      refine sd_iconst (pc := 24) dJ2_addAll_24 (v := 0) (by decide) ?_
      exact sd_ireturn (pc := 25) dJ2_addAll_25 (ty0 := .boolean) rfl rfl h
theorem cx_J2_addAll {en : yEn} {d : Nat} {p1 : Nat × Nat} {p51 : Nat × Nat} {x0 : Nat} {x1 : Nat} {σ : yH} {k n : Nat} {K : Option Value → yH → Prop} {X : String → Addr → yH → Prop} (h : wp_J2_addAll en d p1 p51 x0 x1 σ k n K X) : Cx en (d + 1) (k + p51.1 + p1.1) (n + p51.2 + p1.2) mJ2_addAll [.ref x0, .ref x1] σ K X := Cx.body (by decide +kernel) rfl (Nat.le_of_ble_eq_true rfl) (ok_J2_addAll h)
/-! java/util/ArrayList.size()I -/
def wp_J2_size (en : yEn) (d : Nat) (x0 : Nat) (σ : yH) (k n : Nat) (K : Option Value → yH → Prop) (X : String → Addr → yH → Prop) : Prop :=
  getI σ x0 11 2 (fun v1 => K (some (.int v1)) σ)
set_option maxHeartbeats 4000000 in
theorem ok_J2_size {en : yEn} {d : Nat} {x0 : Nat} {σ : yH} {k n : Nat} {K : Option Value → yH → Prop} {X : String → Addr → yH → Prop} (h : wp_J2_size en d  x0 σ k n K X) : Wx en (d + 1) mJ2_size 0 [(0, .ref x0)] [] σ k n K X := by
  unfold wp_J2_size at h
  refine sd_aload_n (pc := 0) dJ2_size_0 rfl 0 rfl ?_
  refine sd_getI (pc := 1) dJ2_size_1 (ci := 11) rfl in_J2 (kf := 2) (by decide) q151 (h.mono (fun v1 h => ?_))
  exact sd_ireturn (pc := 4) dJ2_size_4 (ty0 := .int) rfl rfl h
theorem cx_J2_size {en : yEn} {d : Nat} {x0 : Nat} {σ : yH} {k n : Nat} {K : Option Value → yH → Prop} {X : String → Addr → yH → Prop} (h : wp_J2_size en d  x0 σ k n K X) : Cx en (d + 1) k n mJ2_size [.ref x0] σ K X := Cx.body (by decide +kernel) rfl (Nat.le_of_ble_eq_true rfl) (ok_J2_size h)
/-! java/util/ArrayList.grow()[Ljava/lang/Object; -/
def wp_J2_grow_2 (en : yEn) (d : Nat) (p7 : Nat × Nat) (x0 : Nat) (σ : yH) (k n : Nat) (K : Option Value → yH → Prop) (X : String → Addr → yH → Prop) : Prop :=
  getI σ x0 11 2 (fun v1 => (isC σ x0 11 ∧ Cx en d p7.1 p7.2 mJ2_grow [.ref x0, .int (v1 + (1 : Int32))] σ (kA (fun r3 σ2 => K (some (.ref r3)) σ2)) X))
set_option maxHeartbeats 4000000 in
theorem ok_J2_grow_2 {en : yEn} {d : Nat} {p7 : Nat × Nat} {x0 : Nat} {σ : yH} {k n : Nat} {K : Option Value → yH → Prop} {X : String → Addr → yH → Prop} (h : wp_J2_grow_2 en d p7 x0 σ k n K X) : Wx en (d + 1) mJ2_grow_2 0 [(0, .ref x0)] [] σ (k + p7.1) (n + p7.2) K X := by
  unfold wp_J2_grow_2 at h
  refine sd_aload_n (pc := 0) dJ2_grow_2_0 rfl 0 rfl ?_
  refine sd_aload_n (pc := 1) dJ2_grow_2_1 rfl 0 rfl ?_
  refine sd_getI (pc := 2) dJ2_grow_2_2 (ci := 11) rfl in_J2 (kf := 2) (by decide) q151 (h.mono (fun v1 h => ?_))
  refine sd_iconst (pc := 5) dJ2_grow_2_5 (v := 1) (by decide) ?_
  refine sd_iadd (pc := 6) dJ2_grow_2_6 ?_
  refine sd_callV (k := k) (n := n) (As := [.int (v1 + (1 : Int32))]) (st := []) (pc := 7) dJ2_grow_2_7 (ci := 11) rfl h.1 rfl q781 q783 qs3 q84 q784 1 (by decide +kernel) rfl (Nat.le_refl _) (by decide) (Nat.le_of_ble_eq_true rfl) (Cx.mono h.2 (kA.to (fun r3 σ2 h => ?_)) (xo rfl))
  exact sd_areturn (r := (some r3)) (pc := 10) dJ2_grow_2_10 rfl (Or.inr ⟨_, rfl⟩) h
theorem cx_J2_grow_2 {en : yEn} {d : Nat} {p7 : Nat × Nat} {x0 : Nat} {σ : yH} {k n : Nat} {K : Option Value → yH → Prop} {X : String → Addr → yH → Prop} (h : wp_J2_grow_2 en d p7 x0 σ k n K X) : Cx en (d + 1) (k + p7.1) (n + p7.2) mJ2_grow_2 [.ref x0] σ K X := Cx.body (by decide +kernel) rfl (Nat.le_of_ble_eq_true rfl) (ok_J2_grow_2 h)
/-! java/util/ArrayList.add(Ljava/lang/Object;[Ljava/lang/Object;I)V -/
def wp_J2_add_2 (en : yEn) (d : Nat) (p7 : Nat × Nat) (x0 : Nat) (x1 : Nat) (x2 : Nat) (x3 : Int32) (σ : yH) (k n : Nat) (K : Option Value → yH → Prop) (X : String → Addr → yH → Prop) : Prop :=
  alenQ en σ x2 (fun v1 => ((¬ (x3 = v1) → (y_any en σ x1 ∧ astQ σ (en.2.2.2 5) x2 x3 (some x1) (fun σ2 => (putV σ2 x0 11 2 (.int (x3 + (1 : Int32))) (fun σ3 => K none σ3))))) ∧ ((x3 = v1) → (isC σ x0 11 ∧ Cx en d p7.1 p7.2 mJ2_grow_2 [.ref x0] σ (kA (fun r5 σ4 => (y_any en σ4 x1 ∧ astQ σ4 (en.2.2.2 5) r5 x3 (some x1) (fun σ6 => (putV σ6 x0 11 2 (.int (x3 + (1 : Int32))) (fun σ7 => K none σ7)))))) X))))
set_option maxHeartbeats 4000000 in
theorem ok_J2_add_2 {en : yEn} {d : Nat} {p7 : Nat × Nat} {x0 : Nat} {x1 : Nat} {x2 : Nat} {x3 : Int32} {σ : yH} {k n : Nat} {K : Option Value → yH → Prop} {X : String → Addr → yH → Prop} (h : wp_J2_add_2 en d p7 x0 x1 x2 x3 σ k n K X) : Wx en (d + 1) mJ2_add_2 0 [(0, .ref x0), (1, .ref x1), (2, .ref x2), (3, .int x3)] [] σ (k + p7.1) (n + p7.2) K X := by
  unfold wp_J2_add_2 at h
  refine sd_iload_n (pc := 0) dJ2_add_2_0 rfl 3 rfl ?_
  refine sd_aload_n (pc := 1) dJ2_add_2_1 rfl 2 rfl ?_
  refine sd_alenQ (pc := 2) dJ2_add_2_2 (h.mono (fun v1 h => ?_))
  refine sd_icmpne (pc := 3) dJ2_add_2_3 (tgt := 11) (by decide) ⟨fun c8 => ?_, fun c8 => ?_⟩
  · have h := h.1 c8
    refine Wx.more (k' := k) (n' := n) ?_ (by omega) (by omega)
    refine sd_aload_n (pc := 11) dJ2_add_2_11 rfl 2 rfl ?_
    refine sd_iload_n (pc := 12) dJ2_add_2_12 rfl 3 rfl ?_
    refine sd_aload_n (pc := 13) dJ2_add_2_13 rfl 1 rfl ?_
    refine sd_aastore (pc := 14) dJ2_add_2_14 h.1 (h.2.mono (fun σ2 h => ?_))
    refine sd_aload_n (pc := 15) dJ2_add_2_15 rfl 0 rfl ?_
    refine sd_iload_n (pc := 16) dJ2_add_2_16 rfl 3 rfl ?_
    refine sd_iconst (pc := 17) dJ2_add_2_17 (v := 1) (by decide) ?_
    refine sd_iadd (pc := 18) dJ2_add_2_18 ?_
    refine sd_putf (pc := 19) dJ2_add_2_19 (ci := 11) rfl in_J2 tyJ2 tyJ2_ok nmJ2 (kf := 2) (by decide) q151 rfl (ty := .int) rfl rfl rfl (putV.mono h (fun σ3 h => ?_))
    exact sd_return (pc := 22) dJ2_add_2_22 rfl h
  · have h := h.2 c8
    refine sd_aload_n (pc := 6) dJ2_add_2_6 rfl 0 rfl ?_
    refine sd_callV (k := k) (n := n) (As := []) (st := []) (pc := 7) dJ2_add_2_7 (ci := 11) rfl h.1 rfl q959 q961 qs6 q84 q962 0 (by decide +kernel) rfl (Nat.le_refl _) (by decide) (Nat.le_of_ble_eq_true rfl) (Cx.mono h.2 (kA.to (fun r5 σ4 h => ?_)) (xo rfl))
    refine sd_astore_n (pc := 10) dJ2_add_2_10 rfl (by decide) (ls' := [(2, .ref r5), (0, .ref x0), (1, .ref x1), (3, .int x3)]) rfl ?_
    refine sd_aload_n (pc := 11) dJ2_add_2_11 rfl 0 rfl ?_
    refine sd_iload_n (pc := 12) dJ2_add_2_12 rfl 3 rfl ?_
    refine sd_aload_n (pc := 13) dJ2_add_2_13 rfl 2 rfl ?_
    refine sd_aastore (pc := 14) dJ2_add_2_14 h.1 (h.2.mono (fun σ6 h => ?_))
    refine sd_aload_n (pc := 15) dJ2_add_2_15 rfl 1 rfl ?_
    refine sd_iload_n (pc := 16) dJ2_add_2_16 rfl 3 rfl ?_
    refine sd_iconst (pc := 17) dJ2_add_2_17 (v := 1) (by decide) ?_
    refine sd_iadd (pc := 18) dJ2_add_2_18 ?_
    refine sd_putf (pc := 19) dJ2_add_2_19 (ci := 11) rfl in_J2 tyJ2 tyJ2_ok nmJ2 (kf := 2) (by decide) q151 rfl (ty := .int) rfl rfl rfl (putV.mono h (fun σ7 h => ?_))
    exact sd_return (pc := 22) dJ2_add_2_22 rfl h
theorem cx_J2_add_2 {en : yEn} {d : Nat} {p7 : Nat × Nat} {x0 : Nat} {x1 : Nat} {x2 : Nat} {x3 : Int32} {σ : yH} {k n : Nat} {K : Option Value → yH → Prop} {X : String → Addr → yH → Prop} (h : wp_J2_add_2 en d p7 x0 x1 x2 x3 σ k n K X) : Cx en (d + 1) (k + p7.1) (n + p7.2) mJ2_add_2 [.ref x0, .ref x1, .ref x2, .int x3] σ K X := Cx.body (by decide +kernel) rfl (Nat.le_of_ble_eq_true rfl) (ok_J2_add_2 h)
/-! java/util/ArrayList.add(Ljava/lang/Object;)Z -/
def wp_J2_add (en : yEn) (d : Nat) (p20 : Nat × Nat) (x0 : Nat) (x1 : Nat) (σ : yH) (k n : Nat) (K : Option Value → yH → Prop) (X : String → Addr → yH → Prop) : Prop :=
  getI σ x0 11 0 (fun v1 => (putV σ x0 11 0 (.int (v1 + (1 : Int32))) (fun σ2 => getR σ2 x0 11 1 (fun v3 => getI σ2 x0 11 2 (fun v4 => (isC σ2 x0 11 ∧ Cx en d p20.1 p20.2 mJ2_add_2 [.ref x0, .ref x1, .ref v3, .int v4] σ2 (kV (fun σ5 => K (some (.int (1 : Int32))) σ5)) X))))))
set_option maxHeartbeats 4000000 in
theorem ok_J2_add {en : yEn} {d : Nat} {p20 : Nat × Nat} {x0 : Nat} {x1 : Nat} {σ : yH} {k n : Nat} {K : Option Value → yH → Prop} {X : String → Addr → yH → Prop} (h : wp_J2_add en d p20 x0 x1 σ k n K X) : Wx en (d + 1) mJ2_add 0 [(0, .ref x0), (1, .ref x1)] [] σ (k + p20.1) (n + p20.2) K X := by
  unfold wp_J2_add at h
  refine sd_aload_n (pc := 0) dJ2_add_0 rfl 0 rfl ?_
  refine sd_dup (pc := 1) dJ2_add_1 rfl ?_
  refine sd_getIS (pc := 2) dJ2_add_2 (ci := 11) rfl in_J2 (kf := 0) (by decide) q155 q154 (h.mono (fun v1 h => ?_))
  refine sd_iconst (pc := 5) dJ2_add_5 (v := 1) (by decide) ?_
  refine sd_iadd (pc := 6) dJ2_add_6 ?_
  refine sd_putfS (pc := 7) dJ2_add_7 (ci := 11) rfl in_J2 tyJ2 tyJ2_ok nmJ2 (kf := 0) (by decide) q155 q154 rfl (ty := .int) rfl rfl rfl (putV.mono h (fun σ2 h => ?_))
  refine sd_aload_n (pc := 10) dJ2_add_10 rfl 0 rfl ?_
  refine sd_aload_n (pc := 11) dJ2_add_11 rfl 1 rfl ?_
  refine sd_aload_n (pc := 12) dJ2_add_12 rfl 0 rfl ?_
  refine sd_getR (pc := 13) dJ2_add_13 (ci := 11) rfl in_J2 (kf := 1) (by decide) q148 (h.mono (fun v3 h => ?_))
  refine sd_aload_n (pc := 16) dJ2_add_16 rfl 0 rfl ?_
  refine sd_getI (pc := 17) dJ2_add_17 (ci := 11) rfl in_J2 (kf := 2) (by decide) q151 (h.mono (fun v4 h => ?_))
  refine sd_callV (k := k) (n := n) (As := [.ref x1, .ref v3, .int v4]) (st := []) (pc := 20) dJ2_add_20 (ci := 11) rfl h.1 rfl q955 q957 qs5 q84 q958 3 (by decide +kernel) rfl (Nat.le_refl _) (by decide) (Nat.le_of_ble_eq_true rfl) (Cx.mono h.2 (kV.to (fun σ5 h => ?_)) (xo rfl))
  refine sd_iconst (pc := 23) dJ2_add_23 (v := 1) (by decide) ?_
  exact sd_ireturn (pc := 24) dJ2_add_24 (ty0 := .boolean) rfl rfl h
theorem cx_J2_add {en : yEn} {d : Nat} {p20 : Nat × Nat} {x0 : Nat} {x1 : Nat} {σ : yH} {k n : Nat} {K : Option Value → yH → Prop} {X : String → Addr → yH → Prop} (h : wp_J2_add en d p20 x0 x1 σ k n K X) : Cx en (d + 1) (k + p20.1) (n + p20.2) mJ2_add [.ref x0, .ref x1] σ K X := Cx.body (by decide +kernel) rfl (Nat.le_of_ble_eq_true rfl) (ok_J2_add h)
/-! java/util/Objects.checkIndex(II)I -/
def wp_J24_checkIndex (en : yEn) (d : Nat) (x0 : Int32) (x1 : Int32) (σ : yH) (k n : Nat) (K : Option Value → yH → Prop) (X : String → Addr → yH → Prop) : Prop :=
  Cx en d 0 0 mJ19_checkIndex [.int x0, .int x1, .null] σ (kI (fun r2 σ1 => K (some (.int r2)) σ1)) X
set_option maxHeartbeats 4000000 in
theorem ok_J24_checkIndex {en : yEn} {d : Nat} {x0 : Int32} {x1 : Int32} {σ : yH} {k n : Nat} {K : Option Value → yH → Prop} {X : String → Addr → yH → Prop} (h : wp_J24_checkIndex en d  x0 x1 σ k n K X) : Wx en (d + 1) mJ24_checkIndex 0 [(0, .int x0), (1, .int x1)] [] σ k n K X := by
  unfold wp_J24_checkIndex at h
  refine sd_iload_n (pc := 0) dJ24_checkIndex_0 rfl 0 rfl ?_
  refine sd_iload_n (pc := 1) dJ24_checkIndex_1 rfl 1 rfl ?_
  refine sd_null (pc := 2) dJ24_checkIndex_2 ?_
  refine sd_callS (k := k) (n := n) (As := [.int x0, .int x1, .null]) (st := []) (pc := 3) dJ24_checkIndex_3 q1093 q1094 q105 q1095 3 (by decide +kernel) rfl (Nat.le_refl _) (by decide) (Nat.le_of_ble_eq_true rfl) (Cx.mono h (kI.to (fun r2 σ1 h => ?_)) (xo rfl))
  exact sd_ireturn (pc := 6) dJ24_checkIndex_6 (ty0 := .int) rfl rfl h
theorem cx_J24_checkIndex {en : yEn} {d : Nat} {x0 : Int32} {x1 : Int32} {σ : yH} {k n : Nat} {K : Option Value → yH → Prop} {X : String → Addr → yH → Prop} (h : wp_J24_checkIndex en d  x0 x1 σ k n K X) : Cx en (d + 1) k n mJ24_checkIndex [.int x0, .int x1] σ K X := Cx.body (by decide +kernel) rfl (Nat.le_of_ble_eq_true rfl) (ok_J24_checkIndex h)
/-! java/util/ArrayList.elementData(I)Ljava/lang/Object; -/
def wp_J2_elementData (en : yEn) (d : Nat) (x0 : Nat) (x1 : Int32) (σ : yH) (k n : Nat) (K : Option Value → yH → Prop) (X : String → Addr → yH → Prop) : Prop :=
  getR σ x0 11 1 (fun v1 => aldQ σ (en.2.2.2 5) v1 x1 (fun v2 => K (some (va_rf v2)) σ))
set_option maxHeartbeats 4000000 in
theorem ok_J2_elementData {en : yEn} {d : Nat} {x0 : Nat} {x1 : Int32} {σ : yH} {k n : Nat} {K : Option Value → yH → Prop} {X : String → Addr → yH → Prop} (h : wp_J2_elementData en d  x0 x1 σ k n K X) : Wx en (d + 1) mJ2_elementData 0 [(0, .ref x0), (1, .int x1)] [] σ k n K X := by
  unfold wp_J2_elementData at h
  refine sd_aload_n (pc := 0) dJ2_elementData_0 rfl 0 rfl ?_
  refine sd_getR (pc := 1) dJ2_elementData_1 (ci := 11) rfl in_J2 (kf := 1) (by decide) q148 (h.mono (fun v1 h => ?_))
  refine sd_iload_n (pc := 4) dJ2_elementData_4 rfl 1 rfl ?_
  refine sd_aaload (pc := 5) dJ2_elementData_5 (h.mono (fun v2 h => ?_))
  exact sd_areturn (r := v2) (pc := 6) dJ2_elementData_6 rfl (Or.inl ⟨_, rfl⟩) h
theorem cx_J2_elementData {en : yEn} {d : Nat} {x0 : Nat} {x1 : Int32} {σ : yH} {k n : Nat} {K : Option Value → yH → Prop} {X : String → Addr → yH → Prop} (h : wp_J2_elementData en d  x0 x1 σ k n K X) : Cx en (d + 1) k n mJ2_elementData [.ref x0, .int x1] σ K X := Cx.body (by decide +kernel) rfl (Nat.le_of_ble_eq_true rfl) (ok_J2_elementData h)
/-! java/util/ArrayList.get(I)Ljava/lang/Object; -/
def wp_J2_get (en : yEn) (d : Nat) (x0 : Nat) (x1 : Int32) (σ : yH) (k n : Nat) (K : Option Value → yH → Prop) (X : String → Addr → yH → Prop) : Prop :=
  getI σ x0 11 2 (fun v1 => Cx en d 0 0 mJ24_checkIndex [.int x1, .int v1] σ (kI (fun r3 σ2 => (isC σ2 x0 11 ∧ Cx en d 0 0 mJ2_elementData [.ref x0, .int x1] σ2 (kA (fun r5 σ4 => K (some (.ref r5)) σ4)) X))) X)
set_option maxHeartbeats 4000000 in
theorem ok_J2_get {en : yEn} {d : Nat} {x0 : Nat} {x1 : Int32} {σ : yH} {k n : Nat} {K : Option Value → yH → Prop} {X : String → Addr → yH → Prop} (h : wp_J2_get en d  x0 x1 σ k n K X) : Wx en (d + 1) mJ2_get 0 [(0, .ref x0), (1, .int x1)] [] σ k n K X := by
  unfold wp_J2_get at h
  refine sd_iload_n (pc := 0) dJ2_get_0 rfl 1 rfl ?_
  refine sd_aload_n (pc := 1) dJ2_get_1 rfl 0 rfl ?_
  refine sd_getI (pc := 2) dJ2_get_2 (ci := 11) rfl in_J2 (kf := 2) (by decide) q151 (h.mono (fun v1 h => ?_))
  refine sd_callS (k := k) (n := n) (As := [.int x1, .int v1]) (st := []) (pc := 5) dJ2_get_5 q1090 q1091 q110 q1092 2 (by decide +kernel) rfl (Nat.le_refl _) (by decide) (Nat.le_of_ble_eq_true rfl) (Cx.mono h (kI.to (fun r3 σ2 h => ?_)) (xo rfl))
  refine sd_pop (pc := 8) dJ2_get_8 rfl ?_
  refine sd_aload_n (pc := 9) dJ2_get_9 rfl 0 rfl ?_
  refine sd_iload_n (pc := 10) dJ2_get_10 rfl 1 rfl ?_
  refine sd_callV (k := k) (n := n) (As := [.int x1]) (st := []) (pc := 11) dJ2_get_11 (ci := 11) rfl h.1 rfl q1096 q1097 q1098 q84 q1099 1 (by decide +kernel) rfl (Nat.le_refl _) (by decide) (Nat.le_of_ble_eq_true rfl) (Cx.mono h.2 (kA.to (fun r5 σ4 h => ?_)) (xo rfl))
  exact sd_areturn (r := (some r5)) (pc := 14) dJ2_get_14 rfl (Or.inl ⟨_, rfl⟩) h
theorem cx_J2_get {en : yEn} {d : Nat} {x0 : Nat} {x1 : Int32} {σ : yH} {k n : Nat} {K : Option Value → yH → Prop} {X : String → Addr → yH → Prop} (h : wp_J2_get en d  x0 x1 σ k n K X) : Cx en (d + 1) k n mJ2_get [.ref x0, .int x1] σ K X := Cx.body (by decide +kernel) rfl (Nat.le_of_ble_eq_true rfl) (ok_J2_get h)
/-! java/util/ArrayList.set(ILjava/lang/Object;)Ljava/lang/Object; -/
def wp_J2_set (en : yEn) (d : Nat) (x0 : Nat) (x1 : Int32) (x2 : Nat) (σ : yH) (k n : Nat) (K : Option Value → yH → Prop) (X : String → Addr → yH → Prop) : Prop :=
  getI σ x0 11 2 (fun v1 => Cx en d 0 0 mJ24_checkIndex [.int x1, .int v1] σ (kI (fun r3 σ2 => (isC σ2 x0 11 ∧ Cx en d 0 0 mJ2_elementData [.ref x0, .int x1] σ2 (kA (fun r5 σ4 => getR σ4 x0 11 1 (fun v6 => (y_any en σ4 x2 ∧ astQ σ4 (en.2.2.2 5) v6 x1 (some x2) (fun σ7 => K (some (.ref r5)) σ7))))) X))) X)
set_option maxHeartbeats 4000000 in
theorem ok_J2_set {en : yEn} {d : Nat} {x0 : Nat} {x1 : Int32} {x2 : Nat} {σ : yH} {k n : Nat} {K : Option Value → yH → Prop} {X : String → Addr → yH → Prop} (h : wp_J2_set en d  x0 x1 x2 σ k n K X) : Wx en (d + 1) mJ2_set 0 [(0, .ref x0), (1, .int x1), (2, .ref x2)] [] σ k n K X := by
  unfold wp_J2_set at h
  refine sd_iload_n (pc := 0) dJ2_set_0 rfl 1 rfl ?_
  refine sd_aload_n (pc := 1) dJ2_set_1 rfl 0 rfl ?_
  refine sd_getI (pc := 2) dJ2_set_2 (ci := 11) rfl in_J2 (kf := 2) (by decide) q151 (h.mono (fun v1 h => ?_))
  refine sd_callS (k := k) (n := n) (As := [.int x1, .int v1]) (st := []) (pc := 5) dJ2_set_5 q1090 q1091 q110 q1092 2 (by decide +kernel) rfl (Nat.le_refl _) (by decide) (Nat.le_of_ble_eq_true rfl) (Cx.mono h (kI.to (fun r3 σ2 h => ?_)) (xo rfl))
  refine sd_pop (pc := 8) dJ2_set_8 rfl ?_
  refine sd_aload_n (pc := 9) dJ2_set_9 rfl 0 rfl ?_
  refine sd_iload_n (pc := 10) dJ2_set_10 rfl 1 rfl ?_
  refine sd_callV (k := k) (n := n) (As := [.int x1]) (st := []) (pc := 11) dJ2_set_11 (ci := 11) rfl h.1 rfl q1096 q1097 q1098 q84 q1099 1 (by decide +kernel) rfl (Nat.le_refl _) (by decide) (Nat.le_of_ble_eq_true rfl) (Cx.mono h.2 (kA.to (fun r5 σ4 h => ?_)) (xo rfl))
  refine sd_astore_n (pc := 14) dJ2_set_14 rfl (by decide) (ls' := [(3, .ref r5), (0, .ref x0), (1, .int x1), (2, .ref x2)]) rfl ?_
  refine sd_aload_n (pc := 15) dJ2_set_15 rfl 1 rfl ?_
  refine sd_getR (pc := 16) dJ2_set_16 (ci := 11) rfl in_J2 (kf := 1) (by decide) q148 (h.mono (fun v6 h => ?_))
  refine sd_iload_n (pc := 19) dJ2_set_19 rfl 2 rfl ?_
  refine sd_aload_n (pc := 20) dJ2_set_20 rfl 3 rfl ?_
  refine sd_aastore (pc := 21) dJ2_set_21 h.1 (h.2.mono (fun σ7 h => ?_))
  refine sd_aload_n (pc := 22) dJ2_set_22 rfl 0 rfl ?_
  exact sd_areturn (r := (some r5)) (pc := 23) dJ2_set_23 rfl (Or.inl ⟨_, rfl⟩) h
theorem cx_J2_set {en : yEn} {d : Nat} {x0 : Nat} {x1 : Int32} {x2 : Nat} {σ : yH} {k n : Nat} {K : Option Value → yH → Prop} {X : String → Addr → yH → Prop} (h : wp_J2_set en d  x0 x1 x2 σ k n K X) : Cx en (d + 1) k n mJ2_set [.ref x0, .int x1, .ref x2] σ K X := Cx.body (by decide +kernel) rfl (Nat.le_of_ble_eq_true rfl) (ok_J2_set h)
/-! java/util/Arrays.rangeCheck(III)V -/
def wp_J3_rangeCheck (en : yEn) (d : Nat) (x0 : Int32) (x1 : Int32) (x2 : Int32) (σ : yH) (k n : Nat) (K : Option Value → yH → Prop) (X : String → Addr → yH → Prop) : Prop :=
  (((x1 ≤ x2) → (((0 ≤ x1) → (((x2 ≤ x0) → K none σ) ∧ (¬ (x2 ≤ x0) → False))) ∧ (¬ (0 ≤ x1) → False))) ∧ (¬ (x1 ≤ x2) → False))
set_option maxHeartbeats 4000000 in
theorem ok_J3_rangeCheck {en : yEn} {d : Nat} {x0 : Int32} {x1 : Int32} {x2 : Int32} {σ : yH} {k n : Nat} {K : Option Value → yH → Prop} {X : String → Addr → yH → Prop} (hd9 : 20 ≤ d) (h : wp_J3_rangeCheck en d  x0 x1 x2 σ k n K X) : Wx en (d + 1) mJ3_rangeCheck 0 [(0, .int x0), (1, .int x1), (2, .int x2)] [] σ k n K X := by
  unfold wp_J3_rangeCheck at h
  refine sd_iload_n (pc := 0) dJ3_rangeCheck_0 rfl 1 rfl ?_
  refine sd_iload_n (pc := 1) dJ3_rangeCheck_1 rfl 2 rfl ?_
  refine sd_icmple (pc := 2) dJ3_rangeCheck_2 (tgt := 46) (by decide) ⟨fun c3 => ?_, fun c3 => ?_⟩
  · have h := h.1 c3
    refine sd_iload_n (pc := 46) dJ3_rangeCheck_46 rfl 1 rfl ?_
    refine sd_ifge (pc := 47) dJ3_rangeCheck_47 (tgt := 59) (by decide) ⟨fun c2 => ?_, fun c2 => ?_⟩
    · have h := h.1 c2
      refine sd_iload_n (pc := 59) dJ3_rangeCheck_59 rfl 2 rfl ?_
      refine sd_iload_n (pc := 60) dJ3_rangeCheck_60 rfl 0 rfl ?_
      refine sd_icmple (pc := 61) dJ3_rangeCheck_61 (tgt := 73) (by decide) ⟨fun c1 => ?_, fun c1 => ?_⟩
      · have h := h.1 c1
        exact sd_return (pc := 73) dJ3_rangeCheck_73 rfl h
      · have h := h.2 c1
        exact h.elim
    · have h := h.2 c2
      exact h.elim
  · have h := h.2 c3
    exact h.elim
theorem cx_J3_rangeCheck {en : yEn} {d : Nat} {x0 : Int32} {x1 : Int32} {x2 : Int32} {σ : yH} {k n : Nat} {K : Option Value → yH → Prop} {X : String → Addr → yH → Prop} (hd9 : 20 ≤ d) (h : wp_J3_rangeCheck en d  x0 x1 x2 σ k n K X) : Cx en (d + 1) k n mJ3_rangeCheck [.int x0, .int x1, .int x2] σ K X := Cx.body (by decide +kernel) rfl (Nat.le_of_ble_eq_true rfl) (ok_J3_rangeCheck hd9 h)
/-! java/util/Arrays.fill([BIIB)V -/
def wp_J3_fill_2_10 (en : yEn) (d : Nat) (l0 : Nat) (l2 : Int32) (l3 : Int32) (l4 : Int32) (σ : yH) (k n : Nat) (K : Option Value → yH → Prop) (X : String → Addr → yH → Prop) : Prop :=
  (((l2 ≤ l4) → K none σ) ∧ (¬ (l2 ≤ l4) → astI σ (en.2.2.2 1) l0 l4 (vp_nar .byte l3) (fun σ3 => Wx en (d + 1) mJ3_fill_2 10 [(0, .ref l0), (2, .int l2), (3, .int l3), (4, .int (l4 + (1 : Int32)))] [] σ3 k n K X)))
set_option maxHeartbeats 4000000 in
theorem ok_J3_fill_2_10 {en : yEn} {d : Nat} {l0 : Nat} {l2 : Int32} {l3 : Int32} {l4 : Int32} {σ : yH} {k n : Nat} {K : Option Value → yH → Prop} {X : String → Addr → yH → Prop} (h : wp_J3_fill_2_10 en d  l0 l2 l3 l4 σ k n K X) : Wx en (d + 1) mJ3_fill_2 10 [(0, .ref l0), (2, .int l2), (3, .int l3), (4, .int l4)] [] σ k n K X := by
  unfold wp_J3_fill_2_10 at h
  refine sd_iload (pc := 10) dJ3_fill_2_10 3 rfl ?_
  refine sd_iload_n (pc := 12) dJ3_fill_2_12 rfl 1 rfl ?_
  refine sd_icmpge (pc := 13) dJ3_fill_2_13 (tgt := 27) (by decide) ⟨fun c4 => ?_, fun c4 => ?_⟩
  · have h := h.1 c4
    exact sd_return (pc := 27) dJ3_fill_2_27 rfl h
  · have h := h.2 c4
    refine sd_aload_n (pc := 16) dJ3_fill_2_16 rfl 0 rfl ?_
    refine sd_iload (pc := 17) dJ3_fill_2_17 3 rfl ?_
    refine sd_iload_n (pc := 19) dJ3_fill_2_19 rfl 2 rfl ?_
    refine sd_bastore (pc := 20) dJ3_fill_2_20 (h.mono (fun σ3 h => ?_))
    refine sd_iinc (pc := 21) dJ3_fill_2_21 3 rfl (v := (l4 + (1 : Int32))) rfl (by decide) (ls' := [(4, .int (l4 + (1 : Int32))), (0, .ref l0), (2, .int l2), (3, .int l3)]) rfl ?_
    refine sd_goto (pc := 24) dJ3_fill_2_24 (tgt := 10) (by decide) ?_
    exact sd_loc [1, 2, 3, 0] rfl h
def wp_J3_fill_2 (en : yEn) (d : Nat) (x0 : Nat) (x1 : Int32) (x2 : Int32) (x3 : Int32) (σ : yH) (k n : Nat) (K : Option Value → yH → Prop) (X : String → Addr → yH → Prop) : Prop :=
  alenQ en σ x0 (fun v1 => Cx en d 0 0 mJ3_rangeCheck [.int v1, .int x1, .int x2] σ (kV (fun σ2 => Wx en (d + 1) mJ3_fill_2 10 [(0, .ref x0), (2, .int x2), (3, .int x3), (4, .int x1)] [] σ2 k n K X)) X)
set_option maxHeartbeats 4000000 in
theorem ok_J3_fill_2 {en : yEn} {d : Nat} {x0 : Nat} {x1 : Int32} {x2 : Int32} {x3 : Int32} {σ : yH} {k n : Nat} {K : Option Value → yH → Prop} {X : String → Addr → yH → Prop} (h : wp_J3_fill_2 en d  x0 x1 x2 x3 σ k n K X) : Wx en (d + 1) mJ3_fill_2 0 [(0, .ref x0), (1, .int x1), (2, .int x2), (3, .int x3)] [] σ k n K X := by
  unfold wp_J3_fill_2 at h
  refine sd_aload_n (pc := 0) dJ3_fill_2_0 rfl 0 rfl ?_
  refine sd_alenQ (pc := 1) dJ3_fill_2_1 (h.mono (fun v1 h => ?_))
  refine sd_iload_n (pc := 2) dJ3_fill_2_2 rfl 1 rfl ?_
  refine sd_iload_n (pc := 3) dJ3_fill_2_3 rfl 2 rfl ?_
  refine sd_callS (k := k) (n := n) (As := [.int v1, .int x1, .int x2]) (st := []) (pc := 4) dJ3_fill_2_4 q1980 q1981 q85 q1982 3 (by decide +kernel) rfl (Nat.le_refl _) (by decide) (Nat.le_of_ble_eq_true rfl) (Cx.mono h (kV.to (fun σ2 h => ?_)) (xo rfl))
  refine sd_iload_n (pc := 7) dJ3_fill_2_7 rfl 1 rfl ?_
  refine sd_istore (pc := 8) dJ3_fill_2_8 (by decide) (ls' := [(4, .int x1), (0, .ref x0), (1, .int x1), (2, .int x2), (3, .int x3)]) rfl ?_
  exact sd_loc [1, 3, 4, 0] rfl h
theorem cx_J3_fill_2 {en : yEn} {d : Nat} {x0 : Nat} {x1 : Int32} {x2 : Int32} {x3 : Int32} {σ : yH} {k n : Nat} {K : Option Value → yH → Prop} {X : String → Addr → yH → Prop} (h : wp_J3_fill_2 en d  x0 x1 x2 x3 σ k n K X) : Cx en (d + 1) k n mJ3_fill_2 [.ref x0, .int x1, .int x2, .int x3] σ K X := Cx.body (by decide +kernel) rfl (Nat.le_of_ble_eq_true rfl) (ok_J3_fill_2 h)
/-! java/util/ArrayList$Itr.hasNext()Z -/
def wp_J25_hasNext (en : yEn) (d : Nat) (x0 : Nat) (σ : yH) (k n : Nat) (K : Option Value → yH → Prop) (X : String → Addr → yH → Prop) : Prop :=
  getI σ x0 12 0 (fun v1 => getR σ x0 12 3 (fun v2 => getI σ v2 11 2 (fun v3 => K (some (.int (if (v1 = v3) then (0 : Int32) else (1 : Int32)))) σ)))
set_option maxHeartbeats 4000000 in
theorem ok_J25_hasNext {en : yEn} {d : Nat} {x0 : Nat} {σ : yH} {k n : Nat} {K : Option Value → yH → Prop} {X : String → Addr → yH → Prop} (h : wp_J25_hasNext en d  x0 σ k n K X) : Wx en (d + 1) mJ25_hasNext 0 [(0, .ref x0)] [] σ k n K X := by
  unfold wp_J25_hasNext at h
  refine sd_aload_n (pc := 0) dJ25_hasNext_0 rfl 0 rfl ?_
  refine sd_getI (pc := 1) dJ25_hasNext_1 (ci := 12) rfl in_J25 (kf := 0) (by decide) q341 (h.mono (fun v1 h => ?_))
  refine sd_aload_n (pc := 4) dJ25_hasNext_4 rfl 0 rfl ?_
  refine sd_getR (pc := 5) dJ25_hasNext_5 (ci := 12) rfl in_J25 (kf := 3) (by decide) q344 (h.mono (fun v2 h => ?_))
  refine sd_getIN (pc := 8) dJ25_hasNext_8 (ci := 11) rfl in_J2 (kf := 2) (by decide) q150 (h.mono (fun v3 h => ?_))
  have h5 : Wx en (d + 1) mJ25_hasNext 19 [(0, .ref x0)] (.int (if (v1 = v3) then (0 : Int32) else (1 : Int32)) :: []) σ k n K X := by
    exact sd_ireturn (pc := 19) dJ25_hasNext_19 (ty0 := .boolean) rfl (nb_ite rfl rfl) h
  have e6 := sd_iteI h5
  refine sd_icmpeq (pc := 11) dJ25_hasNext_11 (tgt := 18) (by decide) ⟨fun c4 => ?_, fun c4 => ?_⟩
  · refine sd_iconst (pc := 18) dJ25_hasNext_18 (v := 0) (by decide) ?_
    exact (e6.1 c4)
  · refine sd_iconst (pc := 14) dJ25_hasNext_14 (v := 1) (by decide) ?_
    refine sd_goto (pc := 15) dJ25_hasNext_15 (tgt := 19) (by decide) ?_
    exact (e6.2 c4)
theorem cx_J25_hasNext {en : yEn} {d : Nat} {x0 : Nat} {σ : yH} {k n : Nat} {K : Option Value → yH → Prop} {X : String → Addr → yH → Prop} (h : wp_J25_hasNext en d  x0 σ k n K X) : Cx en (d + 1) k n mJ25_hasNext [.ref x0] σ K X := Cx.body (by decide +kernel) rfl (Nat.le_of_ble_eq_true rfl) (ok_J25_hasNext h)
/-! java/util/ArrayList$Itr.next()Ljava/lang/Object; -/
def wp_J25_next (en : yEn) (d : Nat) (p1 : Nat × Nat) (x0 : Nat) (σ : yH) (k n : Nat) (K : Option Value → yH → Prop) (X : String → Addr → yH → Prop) : Prop :=
  (isC σ x0 12 ∧ Cx en d p1.1 p1.2 mJ25_checkForComodification [.ref x0] σ (kV (fun σ1 => getI σ1 x0 12 0 (fun v2 => getR σ1 x0 12 3 (fun v3 => getI σ1 v3 11 2 (fun v4 => (((v2 < v4) → getR σ1 x0 12 3 (fun v5 => getR σ1 v5 11 1 (fun v6 => alenQ en σ1 v6 (fun v7 => (((v2 < v7) → (putV σ1 x0 12 0 (.int (v2 + (1 : Int32))) (fun σ8 => (putV σ8 x0 12 1 (.int v2) (fun σ9 => aldQ σ9 (en.2.2.2 5) v6 v2 (fun v10 => K (some (va_rf v10)) σ9)))))) ∧ (¬ (v2 < v7) → False)))))) ∧ (¬ (v2 < v4) → newV σ1 (.inr (18, [])) (fun a12 σ13 => ((∃ fs, σ13 a12 = some (true, .inr (18, fs))) ∧ X "java/util/NoSuchElementException" a12 σ13))))))))) X)
set_option maxHeartbeats 4000000 in
theorem ok_J25_next {en : yEn} {d : Nat} {p1 : Nat × Nat} {x0 : Nat} {σ : yH} {k n : Nat} {K : Option Value → yH → Prop} {X : String → Addr → yH → Prop} (hd9 : 20 ≤ d) (h : wp_J25_next en d p1 x0 σ k n K X) : Wx en (d + 1) mJ25_next 0 [(0, .ref x0)] [] σ (k + 1 + p1.1) (n + 6 + p1.2) K X := by
  unfold wp_J25_next at h
  refine sd_aload_n (pc := 0) dJ25_next_0 rfl 0 rfl ?_
  refine sd_callV (k := (k + 1)) (n := (n + 6)) (As := []) (st := []) (pc := 1) dJ25_next_1 (ci := 12) rfl h.1 rfl q373 q374 q375 q112 q376 0 (by decide +kernel) rfl (Nat.le_refl _) (by decide) (Nat.le_of_ble_eq_true rfl) (Cx.mono h.2 (kV.to (fun σ1 h => ?_)) (xo rfl))
  refine sd_aload_n (pc := 4) dJ25_next_4 rfl 0 rfl ?_
  refine sd_getI (pc := 5) dJ25_next_5 (ci := 12) rfl in_J25 (kf := 0) (by decide) q341 (h.mono (fun v2 h => ?_))
  refine sd_istore_n (pc := 8) dJ25_next_8 rfl (by decide) (ls' := [(1, .int v2), (0, .ref x0)]) rfl ?_
  refine sd_iload_n (pc := 9) dJ25_next_9 rfl 0 rfl ?_
  refine sd_aload_n (pc := 10) dJ25_next_10 rfl 1 rfl ?_
  refine sd_getR (pc := 11) dJ25_next_11 (ci := 12) rfl in_J25 (kf := 3) (by decide) q344 (h.mono (fun v3 h => ?_))
  refine sd_getIN (pc := 14) dJ25_next_14 (ci := 11) rfl in_J2 (kf := 2) (by decide) q150 (h.mono (fun v4 h => ?_))
  refine sd_icmplt (pc := 17) dJ25_next_17 (tgt := 28) (by decide) ⟨fun c14 => ?_, fun c14 => ?_⟩
  · have h := h.1 c14
    refine Wx.more (k' := k) (n' := n) ?_ (by omega) (by omega)
    refine sd_aload_n (pc := 28) dJ25_next_28 rfl 1 rfl ?_
    refine sd_getR (pc := 29) dJ25_next_29 (ci := 12) rfl in_J25 (kf := 3) (by decide) q344 (h.mono (fun v5 h => ?_))
    refine sd_getR (pc := 32) dJ25_next_32 (ci := 11) rfl in_J2 (kf := 1) (by decide) q149 (h.mono (fun v6 h => ?_))
    refine sd_astore_n (pc := 35) dJ25_next_35 rfl (by decide) (ls' := [(2, .ref v6), (1, .int v2), (0, .ref x0)]) rfl ?_
    refine sd_iload_n (pc := 36) dJ25_next_36 rfl 1 rfl ?_
    refine sd_aload_n (pc := 37) dJ25_next_37 rfl 0 rfl ?_
    refine sd_alenQ (pc := 38) dJ25_next_38 (h.mono (fun v7 h => ?_))
    refine sd_icmplt (pc := 39) dJ25_next_39 (tgt := 50) (by decide) ⟨fun c11 => ?_, fun c11 => ?_⟩
    · have h := h.1 c11
      refine sd_aload_n (pc := 50) dJ25_next_50 rfl 2 rfl ?_
      refine sd_iload_n (pc := 51) dJ25_next_51 rfl 1 rfl ?_
      refine sd_iconst (pc := 52) dJ25_next_52 (v := 1) (by decide) ?_
      refine sd_iadd (pc := 53) dJ25_next_53 ?_
      refine sd_putf (pc := 54) dJ25_next_54 (ci := 12) rfl in_J25 tyJ25 tyJ25_ok nmJ25 (kf := 0) (by decide) q341 rfl (ty := .int) rfl rfl rfl (putV.mono h (fun σ8 h => ?_))
      refine sd_aload_n (pc := 57) dJ25_next_57 rfl 0 rfl ?_
      refine sd_aload_n (pc := 58) dJ25_next_58 rfl 2 rfl ?_
      refine sd_iload_n (pc := 59) dJ25_next_59 rfl 1 rfl ?_
      refine sd_dup_x1 (pc := 60) dJ25_next_60 rfl rfl ?_
      refine sd_putf (pc := 61) dJ25_next_61 (ci := 12) rfl in_J25 tyJ25 tyJ25_ok nmJ25 (kf := 1) (by decide) q342 rfl (ty := .int) rfl rfl rfl (putV.mono h (fun σ9 h => ?_))
      refine sd_aaload (pc := 64) dJ25_next_64 (h.mono (fun v10 h => ?_))
      exact sd_areturn (r := v10) (pc := 65) dJ25_next_65 rfl (Or.inl ⟨_, rfl⟩) h
    · have h := h.2 c11
      exact h.elim
  · have h := h.2 c14
    refine sd_make0 (k := k) (n := n) (pc := 20) dJ25_next_20 dJ25_next_23 dJ25_next_24 (cls := "java/util/NoSuchElementException") (names := ["java/lang/RuntimeException", "java/lang/Exception"]) (ci := 18) (T0 := TJ21) rfl (by decide) q377 q107 (at0_J21 q425) rfl (by simp only [List.length]; omega) (by decide) (Nat.le_of_ble_eq_true rfl) (h.mono (fun a12 σ13 h => ?_)) z_1 z_2 z_3 z_4 z_5
    obtain ⟨⟨fs9, h9⟩, h⟩ := h
    refine sd_athrow (pc := 27) dJ25_next_27 (ci := 18) rfl h9 ?_
    exact st_out rfl h
theorem cx_J25_next {en : yEn} {d : Nat} {p1 : Nat × Nat} {x0 : Nat} {σ : yH} {k n : Nat} {K : Option Value → yH → Prop} {X : String → Addr → yH → Prop} (hd9 : 20 ≤ d) (h : wp_J25_next en d p1 x0 σ k n K X) : Cx en (d + 1) (k + 1 + p1.1) (n + 6 + p1.2) mJ25_next [.ref x0] σ K X := Cx.body (by decide +kernel) rfl (Nat.le_of_ble_eq_true rfl) (ok_J25_next hd9 h)
/-! java/util/Arrays.fill([II)V -/
def wp_J3_fill_5 (en : yEn) (d : Nat) (l0 : Nat) (l1 : Int32) (l2 : Int32) (l3 : Int32) (σ : yH) (k n : Nat) (K : Option Value → yH → Prop) (X : String → Addr → yH → Prop) : Prop :=
  (((l3 ≤ l2) → K none σ) ∧ (¬ (l3 ≤ l2) → astI σ (en.2.2.2 0) l0 l2 l1 (fun σ2 => Wx en (d + 1) mJ3_fill 5 [(0, .ref l0), (1, .int l1), (2, .int (l2 + (1 : Int32))), (3, .int l3)] [] σ2 k n K X)))
set_option maxHeartbeats 4000000 in
theorem ok_J3_fill_5 {en : yEn} {d : Nat} {l0 : Nat} {l1 : Int32} {l2 : Int32} {l3 : Int32} {σ : yH} {k n : Nat} {K : Option Value → yH → Prop} {X : String → Addr → yH → Prop} (h : wp_J3_fill_5 en d  l0 l1 l2 l3 σ k n K X) : Wx en (d + 1) mJ3_fill 5 [(0, .ref l0), (1, .int l1), (2, .int l2), (3, .int l3)] [] σ k n K X := by
  unfold wp_J3_fill_5 at h
  refine sd_iload_n (pc := 5) dJ3_fill_5 rfl 2 rfl ?_
  refine sd_iload_n (pc := 6) dJ3_fill_6 rfl 3 rfl ?_
  refine sd_icmpge (pc := 7) dJ3_fill_7 (tgt := 20) (by decide) ⟨fun c3 => ?_, fun c3 => ?_⟩
  · have h := h.1 c3
    exact sd_return (pc := 20) dJ3_fill_20 rfl h
  · have h := h.2 c3
    refine sd_aload_n (pc := 10) dJ3_fill_10 rfl 0 rfl ?_
    refine sd_iload_n (pc := 11) dJ3_fill_11 rfl 2 rfl ?_
    refine sd_iload_n (pc := 12) dJ3_fill_12 rfl 1 rfl ?_
    refine sd_iastore (pc := 13) dJ3_fill_13 (h.mono (fun σ2 h => ?_))
    refine sd_iinc (pc := 14) dJ3_fill_14 2 rfl (v := (l2 + (1 : Int32))) rfl (by decide) (ls' := [(2, .int (l2 + (1 : Int32))), (0, .ref l0), (1, .int l1), (3, .int l3)]) rfl ?_
    refine sd_goto (pc := 17) dJ3_fill_17 (tgt := 5) (by decide) ?_
    exact sd_loc [1, 2, 0, 3] rfl h
def wp_J3_fill (en : yEn) (d : Nat) (x0 : Nat) (x1 : Int32) (σ : yH) (k n : Nat) (K : Option Value → yH → Prop) (X : String → Addr → yH → Prop) : Prop :=
  alenQ en σ x0 (fun v1 => Wx en (d + 1) mJ3_fill 5 [(0, .ref x0), (1, .int x1), (2, .int (0 : Int32)), (3, .int v1)] [] σ k n K X)
set_option maxHeartbeats 4000000 in
theorem ok_J3_fill {en : yEn} {d : Nat} {x0 : Nat} {x1 : Int32} {σ : yH} {k n : Nat} {K : Option Value → yH → Prop} {X : String → Addr → yH → Prop} (h : wp_J3_fill en d  x0 x1 σ k n K X) : Wx en (d + 1) mJ3_fill 0 [(0, .ref x0), (1, .int x1)] [] σ k n K X := by
  unfold wp_J3_fill at h
  refine sd_iconst (pc := 0) dJ3_fill_0 (v := 0) (by decide) ?_
  refine sd_istore_n (pc := 1) dJ3_fill_1 rfl (by decide) (ls' := [(2, .int (0 : Int32)), (0, .ref x0), (1, .int x1)]) rfl ?_
  refine sd_aload_n (pc := 2) dJ3_fill_2 rfl 1 rfl ?_
  refine sd_alenQ (pc := 3) dJ3_fill_3 (h.mono (fun v1 h => ?_))
  refine sd_istore_n (pc := 4) dJ3_fill_4 rfl (by decide) (ls' := [(3, .int v1), (2, .int (0 : Int32)), (0, .ref x0), (1, .int x1)]) rfl ?_
  exact sd_loc [2, 3, 1, 0] rfl h
theorem cx_J3_fill {en : yEn} {d : Nat} {x0 : Nat} {x1 : Int32} {σ : yH} {k n : Nat} {K : Option Value → yH → Prop} {X : String → Addr → yH → Prop} (h : wp_J3_fill en d  x0 x1 σ k n K X) : Cx en (d + 1) k n mJ3_fill [.ref x0, .int x1] σ K X := Cx.body (by decide +kernel) rfl (Nat.le_of_ble_eq_true rfl) (ok_J3_fill h)
