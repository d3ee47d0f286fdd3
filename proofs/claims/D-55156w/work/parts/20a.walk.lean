/-! WALKS 20a.walk -/
set_option maxRecDepth 100000
/-! PeacockLawns$Garden.<init>()V -/
def wp_X2_init (en : yEn) (d : Nat) (x0 : Nat) (σ : yH) (k n : Nat) (K : Option Value → yH → Prop) (X : String → Addr → yH → Prop) : Prop :=
  newV σ (.inr (11, [.int 0, .null, .int 0])) (fun a1 σ2 => Cx en d 0 0 mJ2_init [.ref a1] σ2 (kV (fun σ3 => (putV σ3 x0 1 0 (.ref a1) (fun σ4 => newV σ4 (.inr (11, [.int 0, .null, .int 0])) (fun a5 σ6 => Cx en d 0 0 mJ2_init [.ref a5] σ6 (kV (fun σ7 => (putV σ7 x0 1 1 (.ref a5) (fun σ8 => newV σ8 (.inr (11, [.int 0, .null, .int 0])) (fun a9 σ10 => Cx en d 0 0 mJ2_init [.ref a9] σ10 (kV (fun σ11 => (putV σ11 x0 1 2 (.ref a9) (fun σ12 => newV σ12 (.inl (en.2.2.2 0, 12, .inl (fun _ => 0))) (fun a13 σ14 => (putV σ14 x0 1 3 (.ref a13) (fun σ15 => newV σ15 (.inl (en.2.2.2 0, 9, .inl (fun _ => 0))) (fun a16 σ17 => (putV σ17 x0 1 4 (.ref a16) (fun σ18 => getR σ18 x0 1 3 (fun v19 => Cx en d 0 0 mJ3_fill [.ref v19, .int (5 : Int32)] σ18 (kV (fun σ20 => (putV σ20 x0 1 6 (.int (4 : Int32)) (fun σ21 => (putV σ21 x0 1 7 (.int (30 : Int32)) (fun σ22 => K none σ22)))))) X))))))))))) X))))) X))))) X)
set_option maxHeartbeats 4000000 in
theorem ok_X2_init {en : yEn} {d : Nat} {x0 : Nat} {σ : yH} {k n : Nat} {K : Option Value → yH → Prop} {X : String → Addr → yH → Prop} (h : wp_X2_init en d  x0 σ k n K X) : Wx en (d + 1) mX2_init 0 [(0, .ref x0)] [] σ (k + 5) (n + 30) K X := by
  unfold wp_X2_init at h
  refine sd_aload_n (pc := 0) dX2_init_0 rfl 0 rfl ?_
  refine sd_objInit (pc := 1) dX2_init_1 q133 q126 q127 (by omega) (Nat.le_of_ble_eq_true rfl) ?_
  refine sd_aload_n (pc := 4) dX2_init_4 rfl 0 rfl ?_
  refine sd_new (k := (k + 4)) (n := (n + 27)) (pc := 5) dX2_init_5 (ci := 11) rfl in_J2 tyJ2 tyJ2_ok q134 q135 q84 (fs := [.int 0, .null, .int 0]) (fun j hj => by rcases (show j = 0 ∨ j = 1 ∨ j = 2 by omega) with rfl | rfl | rfl <;> rfl) (h.mono (fun a1 σ2 h => ?_))
  refine sd_dup (pc := 8) dX2_init_8 rfl ?_
  refine sd_callI (k := (k + 4)) (n := (n + 27)) (As := []) (st := [.ref a1, .ref x0]) (pc := 9) dX2_init_9 q136 q137 q84 q138 rfl 0 (by decide +kernel) rfl (Nat.le_refl _) (by decide) (Nat.le_of_ble_eq_true rfl) (Cx.mono h (kV.to (fun σ3 h => ?_)) (xo rfl))
  refine sd_putfF (pc := 12) dX2_init_12 (ci := 1) rfl in_X2 tyX2 tyX2_ok nmX2 (kf := 0) (by decide) q166 rfl rfl rfl (ty := (.object "java/util/List")) rfl rfl rfl (putV.mono h (fun σ4 h => ?_))
  refine sd_aload_n (pc := 15) dX2_init_15 rfl 0 rfl ?_
  refine sd_new (k := (k + 3)) (n := (n + 24)) (pc := 16) dX2_init_16 (ci := 11) rfl in_J2 tyJ2 tyJ2_ok q134 q135 q84 (fs := [.int 0, .null, .int 0]) (fun j hj => by rcases (show j = 0 ∨ j = 1 ∨ j = 2 by omega) with rfl | rfl | rfl <;> rfl) (h.mono (fun a5 σ6 h => ?_))
  refine sd_dup (pc := 19) dX2_init_19 rfl ?_
  refine sd_callI (k := (k + 3)) (n := (n + 24)) (As := []) (st := [.ref a5, .ref x0]) (pc := 20) dX2_init_20 q136 q137 q84 q138 rfl 0 (by decide +kernel) rfl (Nat.le_refl _) (by decide) (Nat.le_of_ble_eq_true rfl) (Cx.mono h (kV.to (fun σ7 h => ?_)) (xo rfl))
  refine sd_putfF (pc := 23) dX2_init_23 (ci := 1) rfl in_X2 tyX2 tyX2_ok nmX2 (kf := 1) (by decide) q168 rfl rfl rfl (ty := (.object "java/util/List")) rfl rfl rfl (putV.mono h (fun σ8 h => ?_))
  refine sd_aload_n (pc := 26) dX2_init_26 rfl 0 rfl ?_
  refine sd_new (k := (k + 2)) (n := (n + 21)) (pc := 27) dX2_init_27 (ci := 11) rfl in_J2 tyJ2 tyJ2_ok q134 q135 q84 (fs := [.int 0, .null, .int 0]) (fun j hj => by rcases (show j = 0 ∨ j = 1 ∨ j = 2 by omega) with rfl | rfl | rfl <;> rfl) (h.mono (fun a9 σ10 h => ?_))
  refine sd_dup (pc := 30) dX2_init_30 rfl ?_
  refine sd_callI (k := (k + 2)) (n := (n + 21)) (As := []) (st := [.ref a9, .ref x0]) (pc := 31) dX2_init_31 q136 q137 q84 q138 rfl 0 (by decide +kernel) rfl (Nat.le_refl _) (by decide) (Nat.le_of_ble_eq_true rfl) (Cx.mono h (kV.to (fun σ11 h => ?_)) (xo rfl))
  refine sd_putfF (pc := 34) dX2_init_34 (ci := 1) rfl in_X2 tyX2 tyX2_ok nmX2 (kf := 2) (by decide) q170 rfl rfl rfl (ty := (.object "java/util/List")) rfl rfl rfl (putV.mono h (fun σ12 h => ?_))
  refine sd_aload_n (pc := 37) dX2_init_37 rfl 0 rfl ?_
  refine sd_bipush (pc := 38) dX2_init_38 (v := 12) (by decide) ?_
  refine sd_newa_int (k := (k + 1)) (n := (n + 9)) (pc := 40) dX2_init_40 q227 (by decide) (M := 12) rfl (by decide) (h.mono (fun a13 σ14 h => ?_))
  refine sd_putfF (pc := 42) dX2_init_42 (ci := 1) rfl in_X2 tyX2 tyX2_ok nmX2 (kf := 3) (by decide) q172 rfl rfl rfl (ty := (.array .int)) rfl rfl rfl (putV.mono h (fun σ15 h => ?_))
  refine sd_aload_n (pc := 45) dX2_init_45 rfl 0 rfl ?_
  refine sd_bipush (pc := 46) dX2_init_46 (v := 9) (by decide) ?_
  refine sd_newa_int (k := k) (n := n) (pc := 48) dX2_init_48 q227 (by decide) (M := 9) rfl (by decide) (h.mono (fun a16 σ17 h => ?_))
  refine sd_putfF (pc := 50) dX2_init_50 (ci := 1) rfl in_X2 tyX2 tyX2_ok nmX2 (kf := 4) (by decide) q174 rfl rfl rfl (ty := (.array .int)) rfl rfl rfl (putV.mono h (fun σ18 h => ?_))
  refine sd_aload_n (pc := 53) dX2_init_53 rfl 0 rfl ?_
  refine sd_getR (pc := 54) dX2_init_54 (ci := 1) rfl in_X2 (kf := 3) (by decide) q172 (h.mono (fun v19 h => ?_))
  refine sd_iconst (pc := 57) dX2_init_57 (v := 5) (by decide) ?_
  refine sd_callS (k := k) (n := n) (As := [.ref v19, .int (5 : Int32)]) (st := []) (pc := 58) dX2_init_58 q163 q164 q85 q165 2 (by decide +kernel) rfl (Nat.le_refl _) (by decide) (Nat.le_of_ble_eq_true rfl) (Cx.mono h (kV.to (fun σ20 h => ?_)) (xo rfl))
  refine sd_aload_n (pc := 61) dX2_init_61 rfl 0 rfl ?_
  refine sd_iconst (pc := 62) dX2_init_62 (v := 4) (by decide) ?_
  refine sd_putf (pc := 63) dX2_init_63 (ci := 1) rfl in_X2 tyX2 tyX2_ok nmX2 (kf := 6) (by decide) q178 rfl (ty := .int) rfl rfl rfl (putV.mono h (fun σ21 h => ?_))
  refine sd_aload_n (pc := 66) dX2_init_66 rfl 0 rfl ?_
  refine sd_bipush (pc := 67) dX2_init_67 (v := 30) (by decide) ?_
  refine sd_putf (pc := 69) dX2_init_69 (ci := 1) rfl in_X2 tyX2 tyX2_ok nmX2 (kf := 7) (by decide) q180 rfl (ty := .int) rfl rfl rfl (putV.mono h (fun σ22 h => ?_))
  exact sd_return (pc := 72) dX2_init_72 rfl h
theorem cx_X2_init {en : yEn} {d : Nat} {x0 : Nat} {σ : yH} {k n : Nat} {K : Option Value → yH → Prop} {X : String → Addr → yH → Prop} (h : wp_X2_init en d  x0 σ k n K X) : Cx en (d + 1) (k + 5) (n + 30) mX2_init [.ref x0] σ K X := Cx.body (by decide +kernel) rfl (Nat.le_of_ble_eq_true rfl) (ok_X2_init h)
/-! PeacockLawns$Garden.sumOf(LPeacockLawns$Part;)I -/
def wp_X2_sumOf_12 (en : yEn) (d : Nat) (p22 : Nat × Nat) (l1 : Nat) (l2 : Int32) (l3 : Nat) (σ : yH) (k n : Nat) (K : Option Value → yH → Prop) (X : String → Addr → yH → Prop) : Prop :=
  (isC σ l3 12 ∧ Cx en d 0 0 mJ25_hasNext [.ref l3] σ (kI (fun r5 σ4 => (((r5 = 0) → K (some (.int l2)) σ4) ∧ (¬ (r5 = 0) → (isC σ4 l3 12 ∧ Cx en d p22.1 p22.2 mJ25_next [.ref l3] σ4 (kA (fun r7 σ6 => (isC σ6 r7 3 ∧ False))) X))))) X)
set_option maxHeartbeats 4000000 in
theorem ok_X2_sumOf_12 {en : yEn} {d : Nat} {p22 : Nat × Nat} {l1 : Nat} {l2 : Int32} {l3 : Nat} {σ : yH} {k n : Nat} {K : Option Value → yH → Prop} {X : String → Addr → yH → Prop} (h : wp_X2_sumOf_12 en d p22 l1 l2 l3 σ k n K X) : Wx en (d + 1) mX2_sumOf 12 [(1, .ref l1), (2, .int l2), (3, .ref l3)] [] σ (k + p22.1) (n + p22.2) K X := by
  unfold wp_X2_sumOf_12 at h
  refine sd_aload_n (pc := 12) dX2_sumOf_12 rfl 2 rfl ?_
  refine sd_callF (k := (k + p22.1)) (n := (n + p22.2)) (As := []) (st := []) (pc := 13) dX2_sumOf_13 (ci := 12) rfl h.1 (x := ⟨"java/util/Iterator", "hasNext", "()Z"⟩) q355 q359 q361 q112 q363 q357 q356 q362 q360 q358 0 (by decide +kernel) rfl 0 (by decide +kernel) rfl (Nat.le_refl _) (by decide) (Nat.le_of_ble_eq_true rfl) (Cx.mono h.2 (kI.to (fun r5 σ4 h => ?_)) (xo rfl))
  refine sd_ifeq (pc := 18) dX2_sumOf_18 (tgt := 46) (by decide) ⟨fun c8 => ?_, fun c8 => ?_⟩
  · have h := h.1 c8
    refine Wx.more (k' := k) (n' := n) ?_ (by omega) (by omega)
    refine sd_iload_n (pc := 46) dX2_sumOf_46 rfl 1 rfl ?_
    exact sd_ireturn (pc := 47) dX2_sumOf_47 (ty0 := .int) rfl rfl h
  · have h := h.2 c8
    refine sd_aload_n (pc := 21) dX2_sumOf_21 rfl 2 rfl ?_
    refine sd_callF (k := k) (n := n) (As := []) (st := []) (pc := 22) dX2_sumOf_22 (ci := 12) rfl h.1 (x := ⟨"java/util/Iterator", "next", "()Ljava/lang/Object;"⟩) q365 q368 q370 q112 q372 q367 q366 q371 q369 q358 0 (by decide +kernel) rfl 0 (by decide +kernel) rfl (Nat.le_refl _) (by decide) (Nat.le_of_ble_eq_true rfl) (Cx.mono h.2 (kA.to (fun r7 σ6 h => ?_)) (xo rfl))
    refine sd_castE (r := (RX4, TX4, 6)) (pc := 27) dX2_sumOf_27 q448 (ci := 3) rfl h.1 ?_
    have h := h.2
    refine sd_astore (pc := 30) dX2_sumOf_30 (by decide) (ls' := [(4, .ref r7), (1, .ref l1), (2, .int l2), (3, .ref l3)]) rfl ?_
    refine sd_iload_n (pc := 32) dX2_sumOf_32 rfl 2 rfl ?_
    refine sd_aload_n (pc := 33) dX2_sumOf_33 rfl 1 rfl ?_
    refine sd_aload (pc := 34) dX2_sumOf_34 0 rfl ?_
    exact h.elim
def wp_X2_sumOf (en : yEn) (d : Nat) (x0 : Nat) (x1 : Nat) (σ : yH) (k n : Nat) (K : Option Value → yH → Prop) (X : String → Addr → yH → Prop) : Prop :=
  getR σ x0 1 0 (fun v1 => (isC σ v1 11 ∧ Cx en d 1 4 mJ2_iterator [.ref v1] σ (kA (fun r3 σ2 => Wx en (d + 1) mX2_sumOf 12 [(1, .ref x1), (2, .int (0 : Int32)), (3, .ref r3)] [] σ2 k n K X)) X))
set_option maxHeartbeats 4000000 in
theorem ok_X2_sumOf {en : yEn} {d : Nat} {x0 : Nat} {x1 : Nat} {σ : yH} {k n : Nat} {K : Option Value → yH → Prop} {X : String → Addr → yH → Prop} (h : wp_X2_sumOf en d  x0 x1 σ k n K X) : Wx en (d + 1) mX2_sumOf 0 [(0, .ref x0), (1, .ref x1)] [] σ (k + 1) (n + 4) K X := by
  unfold wp_X2_sumOf at h
  refine sd_iconst (pc := 0) dX2_sumOf_0 (v := 0) (by decide) ?_
  refine sd_istore_n (pc := 1) dX2_sumOf_1 rfl (by decide) (ls' := [(2, .int (0 : Int32)), (0, .ref x0), (1, .ref x1)]) rfl ?_
  refine sd_aload_n (pc := 2) dX2_sumOf_2 rfl 1 rfl ?_
  refine sd_getR (pc := 3) dX2_sumOf_3 (ci := 1) rfl in_X2 (kf := 0) (by decide) q166 (h.mono (fun v1 h => ?_))
  refine sd_callF (k := k) (n := n) (As := []) (st := []) (pc := 6) dX2_sumOf_6 (ci := 11) rfl h.1 (x := ⟨"java/util/List", "iterator", "()Ljava/util/Iterator;"⟩) q326 q330 q332 q84 q334 q328 q327 q333 q331 q329 0 (by decide +kernel) rfl 0 (by decide +kernel) rfl (Nat.le_refl _) (by decide) (Nat.le_of_ble_eq_true rfl) (Cx.mono h.2 (kA.to (fun r3 σ2 h => ?_)) (xo rfl))
  refine sd_astore_n (pc := 11) dX2_sumOf_11 rfl (by decide) (ls' := [(3, .ref r3), (2, .int (0 : Int32)), (0, .ref x0), (1, .ref x1)]) rfl ?_
  exact sd_loc [3, 1, 0] rfl h
theorem cx_X2_sumOf {en : yEn} {d : Nat} {x0 : Nat} {x1 : Nat} {σ : yH} {k n : Nat} {K : Option Value → yH → Prop} {X : String → Addr → yH → Prop} (h : wp_X2_sumOf en d  x0 x1 σ k n K X) : Cx en (d + 1) (k + 1) (n + 4) mX2_sumOf [.ref x0, .ref x1] σ K X := Cx.body (by decide +kernel) rfl (Nat.le_of_ble_eq_true rfl) (ok_X2_sumOf h)
/-! PeacockLawns$Garden.noise()I -/
def wp_X2_noise (en : yEn) (d : Nat) (x0 : Nat) (σ : yH) (k n : Nat) (K : Option Value → yH → Prop) (X : String → Addr → yH → Prop) : Prop :=
  False
set_option maxHeartbeats 4000000 in
theorem ok_X2_noise {en : yEn} {d : Nat} {x0 : Nat} {σ : yH} {k n : Nat} {K : Option Value → yH → Prop} {X : String → Addr → yH → Prop} (h : wp_X2_noise en d  x0 σ k n K X) : Wx en (d + 1) mX2_noise 0 [(0, .ref x0)] [] σ k n K X := by
  unfold wp_X2_noise at h
  refine sd_aload_n (pc := 0) dX2_noise_0 rfl 0 rfl ?_
  exact h.elim
theorem cx_X2_noise {en : yEn} {d : Nat} {x0 : Nat} {σ : yH} {k n : Nat} {K : Option Value → yH → Prop} {X : String → Addr → yH → Prop} (h : wp_X2_noise en d  x0 σ k n K X) : Cx en (d + 1) k n mX2_noise [.ref x0] σ K X := Cx.body (by decide +kernel) rfl (Nat.le_of_ble_eq_true rfl) (ok_X2_noise h)
/-! PeacockLawns$Garden.<init>(LPeacockLawns$Garden;)V -/
def wp_X2_init_2 (en : yEn) (d : Nat) (p12 : Nat × Nat) (p26 : Nat × Nat) (p40 : Nat × Nat) (x0 : Nat) (x1 : Nat) (σ : yH) (k n : Nat) (K : Option Value → yH → Prop) (X : String → Addr → yH → Prop) : Prop :=
  Cx en d 5 30 mX2_init [.ref x0] σ (kV (fun σ1 => getR σ1 x0 1 0 (fun v2 => getR σ1 x1 1 0 (fun v3 => (isC σ1 v2 11 ∧ Cx en d p12.1 p12.2 mJ2_addAll [.ref v2, .ref v3] σ1 (kI (fun r5 σ4 => getR σ4 x0 1 1 (fun v6 => getR σ4 x1 1 1 (fun v7 => (isC σ4 v6 11 ∧ Cx en d p26.1 p26.2 mJ2_addAll [.ref v6, .ref v7] σ4 (kI (fun r9 σ8 => getR σ8 x0 1 2 (fun v10 => getR σ8 x1 1 2 (fun v11 => (isC σ8 v10 11 ∧ Cx en d p40.1 p40.2 mJ2_addAll [.ref v10, .ref v11] σ8 (kI (fun r13 σ12 => getR σ12 x1 1 3 (fun v14 => getR σ12 x0 1 3 (fun v15 => ((∀ f N0, σ12 v14 ≠ some (false, .inl (en.2.2.2 0, N0, .inl f))) ∧ cpyI σ12 (en.2.2.2 0) v14 v15 (0 : Int32) (0 : Int32) (12 : Int32) (fun x => fits .int (.int x)) (fun σ16 => getR σ16 x1 1 4 (fun v17 => getR σ16 x0 1 4 (fun v18 => ((∀ f N0, σ16 v17 ≠ some (false, .inl (en.2.2.2 0, N0, .inl f))) ∧ cpyI σ16 (en.2.2.2 0) v17 v18 (0 : Int32) (0 : Int32) (9 : Int32) (fun x => fits .int (.int x)) (fun σ19 => getI σ19 x1 1 5 (fun v20 => (putV σ19 x0 1 5 (.int v20) (fun σ21 => getI σ21 x1 1 6 (fun v22 => (putV σ21 x0 1 6 (.int v22) (fun σ23 => getI σ23 x1 1 7 (fun v24 => (putV σ23 x0 1 7 (.int v24) (fun σ25 => getI σ25 x1 1 8 (fun v26 => (putV σ25 x0 1 8 (.int v26) (fun σ27 => getI σ27 x1 1 9 (fun v28 => (putV σ27 x0 1 9 (.int v28) (fun σ29 => getI σ29 x1 1 10 (fun v30 => (putV σ29 x0 1 10 (.int v30) (fun σ31 => getI σ31 x1 1 11 (fun v32 => (putV σ31 x0 1 11 (.int v32) (fun σ33 => getI σ33 x1 1 12 (fun v34 => (putV σ33 x0 1 12 (.int v34) (fun σ35 => getI σ35 x1 1 13 (fun v36 => (putV σ35 x0 1 13 (.int v36) (fun σ37 => getI σ37 x1 1 14 (fun v38 => (putV σ37 x0 1 14 (.int v38) (fun σ39 => K none σ39)))))))))))))))))))))))))))))))))))))))) X))))) X))))) X))))) X
set_option maxHeartbeats 4000000 in
theorem ok_X2_init_2 {en : yEn} {d : Nat} {p12 : Nat × Nat} {p26 : Nat × Nat} {p40 : Nat × Nat} {x0 : Nat} {x1 : Nat} {σ : yH} {k n : Nat} {K : Option Value → yH → Prop} {X : String → Addr → yH → Prop} (h : wp_X2_init_2 en d p12 p26 p40 x0 x1 σ k n K X) : Wx en (d + 1) mX2_init_2 0 [(0, .ref x0), (1, .ref x1)] [] σ (k + 5 + p40.1 + p26.1 + p12.1) (n + 30 + p40.2 + p26.2 + p12.2) K X := by
  unfold wp_X2_init_2 at h
  refine sd_aload_n (pc := 0) dX2_init_2_0 rfl 0 rfl ?_
  refine Wx.more (k' := (k + p40.1 + p26.1 + p12.1) + 5) (n' := (n + p40.2 + p26.2 + p12.2) + 30) ?_ (by omega) (by omega)
  refine sd_callI (k := (k + p40.1 + p26.1 + p12.1)) (n := (n + p40.2 + p26.2 + p12.2)) (As := []) (st := []) (pc := 1) dX2_init_2_1 q476 q131 q81 q132 rfl 0 (by decide +kernel) rfl (Nat.le_refl _) (by decide) (Nat.le_of_ble_eq_true rfl) (Cx.mono h (kV.to (fun σ1 h => ?_)) (xo rfl))
  refine sd_aload_n (pc := 4) dX2_init_2_4 rfl 0 rfl ?_
  refine sd_getR (pc := 5) dX2_init_2_5 (ci := 1) rfl in_X2 (kf := 0) (by decide) q166 (h.mono (fun v2 h => ?_))
  refine sd_aload_n (pc := 8) dX2_init_2_8 rfl 1 rfl ?_
  refine sd_getR (pc := 9) dX2_init_2_9 (ci := 1) rfl in_X2 (kf := 0) (by decide) q166 (h.mono (fun v3 h => ?_))
  refine sd_callF (k := (k + p40.1 + p26.1)) (n := (n + p40.2 + p26.2)) (As := [.ref v3]) (st := []) (pc := 12) dX2_init_2_12 (ci := 11) rfl h.1 (x := ⟨"java/util/List", "addAll", "(Ljava/util/Collection;)Z"⟩) q478 q481 q483 q84 q485 q480 q479 q484 q482 q329 1 (by decide +kernel) rfl 1 (by decide +kernel) rfl (Nat.le_refl _) (by decide) (Nat.le_of_ble_eq_true rfl) (Cx.mono h.2 (kI.to (fun r5 σ4 h => ?_)) (xo rfl))
  refine sd_pop (pc := 17) dX2_init_2_17 rfl ?_
  refine sd_aload_n (pc := 18) dX2_init_2_18 rfl 0 rfl ?_
  refine sd_getR (pc := 19) dX2_init_2_19 (ci := 1) rfl in_X2 (kf := 1) (by decide) q168 (h.mono (fun v6 h => ?_))
  refine sd_aload_n (pc := 22) dX2_init_2_22 rfl 1 rfl ?_
  refine sd_getR (pc := 23) dX2_init_2_23 (ci := 1) rfl in_X2 (kf := 1) (by decide) q168 (h.mono (fun v7 h => ?_))
  refine sd_callF (k := (k + p40.1)) (n := (n + p40.2)) (As := [.ref v7]) (st := []) (pc := 26) dX2_init_2_26 (ci := 11) rfl h.1 (x := ⟨"java/util/List", "addAll", "(Ljava/util/Collection;)Z"⟩) q478 q481 q483 q84 q485 q480 q479 q484 q482 q329 1 (by decide +kernel) rfl 1 (by decide +kernel) rfl (Nat.le_refl _) (by decide) (Nat.le_of_ble_eq_true rfl) (Cx.mono h.2 (kI.to (fun r9 σ8 h => ?_)) (xo rfl))
  refine sd_pop (pc := 31) dX2_init_2_31 rfl ?_
  refine sd_aload_n (pc := 32) dX2_init_2_32 rfl 0 rfl ?_
  refine sd_getR (pc := 33) dX2_init_2_33 (ci := 1) rfl in_X2 (kf := 2) (by decide) q170 (h.mono (fun v10 h => ?_))
  refine sd_aload_n (pc := 36) dX2_init_2_36 rfl 1 rfl ?_
  refine sd_getR (pc := 37) dX2_init_2_37 (ci := 1) rfl in_X2 (kf := 2) (by decide) q170 (h.mono (fun v11 h => ?_))
  refine sd_callF (k := k) (n := n) (As := [.ref v11]) (st := []) (pc := 40) dX2_init_2_40 (ci := 11) rfl h.1 (x := ⟨"java/util/List", "addAll", "(Ljava/util/Collection;)Z"⟩) q478 q481 q483 q84 q485 q480 q479 q484 q482 q329 1 (by decide +kernel) rfl 1 (by decide +kernel) rfl (Nat.le_refl _) (by decide) (Nat.le_of_ble_eq_true rfl) (Cx.mono h.2 (kI.to (fun r13 σ12 h => ?_)) (xo rfl))
  refine sd_pop (pc := 45) dX2_init_2_45 rfl ?_
  refine sd_aload_n (pc := 46) dX2_init_2_46 rfl 1 rfl ?_
  refine sd_getR (pc := 47) dX2_init_2_47 (ci := 1) rfl in_X2 (kf := 3) (by decide) q172 (h.mono (fun v14 h => ?_))
  refine sd_iconst (pc := 50) dX2_init_2_50 (v := 0) (by decide) ?_
  refine sd_aload_n (pc := 51) dX2_init_2_51 rfl 0 rfl ?_
  refine sd_getR (pc := 52) dX2_init_2_52 (ci := 1) rfl in_X2 (kf := 3) (by decide) q172 (h.mono (fun v15 h => ?_))
  refine sd_iconst (pc := 55) dX2_init_2_55 (v := 0) (by decide) ?_
  refine sd_bipush (pc := 56) dX2_init_2_56 (v := 12) (by decide) ?_
  refine sd_copyi (pc := 58) dX2_init_2_58 ⟨q789, q559, q558, q102⟩ (by omega) (Nat.le_of_ble_eq_true rfl) h.1 (h.2.mono (fun σ16 h => ?_))
  refine sd_aload_n (pc := 61) dX2_init_2_61 rfl 1 rfl ?_
  refine sd_getR (pc := 62) dX2_init_2_62 (ci := 1) rfl in_X2 (kf := 4) (by decide) q174 (h.mono (fun v17 h => ?_))
  refine sd_iconst (pc := 65) dX2_init_2_65 (v := 0) (by decide) ?_
  refine sd_aload_n (pc := 66) dX2_init_2_66 rfl 0 rfl ?_
  refine sd_getR (pc := 67) dX2_init_2_67 (ci := 1) rfl in_X2 (kf := 4) (by decide) q174 (h.mono (fun v18 h => ?_))
  refine sd_iconst (pc := 70) dX2_init_2_70 (v := 0) (by decide) ?_
  refine sd_bipush (pc := 71) dX2_init_2_71 (v := 9) (by decide) ?_
  refine sd_copyi (pc := 73) dX2_init_2_73 ⟨q789, q559, q558, q102⟩ (by omega) (Nat.le_of_ble_eq_true rfl) h.1 (h.2.mono (fun σ19 h => ?_))
  refine sd_aload_n (pc := 76) dX2_init_2_76 rfl 0 rfl ?_
  refine sd_aload_n (pc := 77) dX2_init_2_77 rfl 1 rfl ?_
  refine sd_getI (pc := 78) dX2_init_2_78 (ci := 1) rfl in_X2 (kf := 5) (by decide) q176 (h.mono (fun v20 h => ?_))
  refine sd_putf (pc := 81) dX2_init_2_81 (ci := 1) rfl in_X2 tyX2 tyX2_ok nmX2 (kf := 5) (by decide) q176 rfl (ty := .int) rfl rfl rfl (putV.mono h (fun σ21 h => ?_))
  refine sd_aload_n (pc := 84) dX2_init_2_84 rfl 0 rfl ?_
  refine sd_aload_n (pc := 85) dX2_init_2_85 rfl 1 rfl ?_
  refine sd_getI (pc := 86) dX2_init_2_86 (ci := 1) rfl in_X2 (kf := 6) (by decide) q178 (h.mono (fun v22 h => ?_))
  refine sd_putf (pc := 89) dX2_init_2_89 (ci := 1) rfl in_X2 tyX2 tyX2_ok nmX2 (kf := 6) (by decide) q178 rfl (ty := .int) rfl rfl rfl (putV.mono h (fun σ23 h => ?_))
  refine sd_aload_n (pc := 92) dX2_init_2_92 rfl 0 rfl ?_
  refine sd_aload_n (pc := 93) dX2_init_2_93 rfl 1 rfl ?_
  refine sd_getI (pc := 94) dX2_init_2_94 (ci := 1) rfl in_X2 (kf := 7) (by decide) q180 (h.mono (fun v24 h => ?_))
  refine sd_putf (pc := 97) dX2_init_2_97 (ci := 1) rfl in_X2 tyX2 tyX2_ok nmX2 (kf := 7) (by decide) q180 rfl (ty := .int) rfl rfl rfl (putV.mono h (fun σ25 h => ?_))
  refine sd_aload_n (pc := 100) dX2_init_2_100 rfl 0 rfl ?_
  refine sd_aload_n (pc := 101) dX2_init_2_101 rfl 1 rfl ?_
  refine sd_getI (pc := 102) dX2_init_2_102 (ci := 1) rfl in_X2 (kf := 8) (by decide) q182 (h.mono (fun v26 h => ?_))
  refine sd_putf (pc := 105) dX2_init_2_105 (ci := 1) rfl in_X2 tyX2 tyX2_ok nmX2 (kf := 8) (by decide) q182 rfl (ty := .int) rfl rfl rfl (putV.mono h (fun σ27 h => ?_))
  refine sd_aload_n (pc := 108) dX2_init_2_108 rfl 0 rfl ?_
  refine sd_aload_n (pc := 109) dX2_init_2_109 rfl 1 rfl ?_
  refine sd_getI (pc := 110) dX2_init_2_110 (ci := 1) rfl in_X2 (kf := 9) (by decide) q184 (h.mono (fun v28 h => ?_))
  refine sd_putf (pc := 113) dX2_init_2_113 (ci := 1) rfl in_X2 tyX2 tyX2_ok nmX2 (kf := 9) (by decide) q184 rfl (ty := .int) rfl rfl rfl (putV.mono h (fun σ29 h => ?_))
  refine sd_aload_n (pc := 116) dX2_init_2_116 rfl 0 rfl ?_
  refine sd_aload_n (pc := 117) dX2_init_2_117 rfl 1 rfl ?_
  refine sd_getI (pc := 118) dX2_init_2_118 (ci := 1) rfl in_X2 (kf := 10) (by decide) q186 (h.mono (fun v30 h => ?_))
  refine sd_putf (pc := 121) dX2_init_2_121 (ci := 1) rfl in_X2 tyX2 tyX2_ok nmX2 (kf := 10) (by decide) q186 rfl (ty := .int) rfl rfl rfl (putV.mono h (fun σ31 h => ?_))
  refine sd_aload_n (pc := 124) dX2_init_2_124 rfl 0 rfl ?_
  refine sd_aload_n (pc := 125) dX2_init_2_125 rfl 1 rfl ?_
  refine sd_getI (pc := 126) dX2_init_2_126 (ci := 1) rfl in_X2 (kf := 11) (by decide) q188 (h.mono (fun v32 h => ?_))
  refine sd_putf (pc := 129) dX2_init_2_129 (ci := 1) rfl in_X2 tyX2 tyX2_ok nmX2 (kf := 11) (by decide) q188 rfl (ty := .int) rfl rfl rfl (putV.mono h (fun σ33 h => ?_))
  refine sd_aload_n (pc := 132) dX2_init_2_132 rfl 0 rfl ?_
  refine sd_aload_n (pc := 133) dX2_init_2_133 rfl 1 rfl ?_
  refine sd_getI (pc := 134) dX2_init_2_134 (ci := 1) rfl in_X2 (kf := 12) (by decide) q190 (h.mono (fun v34 h => ?_))
  refine sd_putf (pc := 137) dX2_init_2_137 (ci := 1) rfl in_X2 tyX2 tyX2_ok nmX2 (kf := 12) (by decide) q190 rfl (ty := .int) rfl rfl rfl (putV.mono h (fun σ35 h => ?_))
  refine sd_aload_n (pc := 140) dX2_init_2_140 rfl 0 rfl ?_
  refine sd_aload_n (pc := 141) dX2_init_2_141 rfl 1 rfl ?_
  refine sd_getI (pc := 142) dX2_init_2_142 (ci := 1) rfl in_X2 (kf := 13) (by decide) q192 (h.mono (fun v36 h => ?_))
  refine sd_putf (pc := 145) dX2_init_2_145 (ci := 1) rfl in_X2 tyX2 tyX2_ok nmX2 (kf := 13) (by decide) q192 rfl (ty := .int) rfl rfl rfl (putV.mono h (fun σ37 h => ?_))
  refine sd_aload_n (pc := 148) dX2_init_2_148 rfl 0 rfl ?_
  refine sd_aload_n (pc := 149) dX2_init_2_149 rfl 1 rfl ?_
  refine sd_getI (pc := 150) dX2_init_2_150 (ci := 1) rfl in_X2 (kf := 14) (by decide) q194 (h.mono (fun v38 h => ?_))
  refine sd_putf (pc := 153) dX2_init_2_153 (ci := 1) rfl in_X2 tyX2 tyX2_ok nmX2 (kf := 14) (by decide) q194 rfl (ty := .int) rfl rfl rfl (putV.mono h (fun σ39 h => ?_))
  exact sd_return (pc := 156) dX2_init_2_156 rfl h
theorem cx_X2_init_2 {en : yEn} {d : Nat} {p12 : Nat × Nat} {p26 : Nat × Nat} {p40 : Nat × Nat} {x0 : Nat} {x1 : Nat} {σ : yH} {k n : Nat} {K : Option Value → yH → Prop} {X : String → Addr → yH → Prop} (h : wp_X2_init_2 en d p12 p26 p40 x0 x1 σ k n K X) : Cx en (d + 1) (k + 5 + p40.1 + p26.1 + p12.1) (n + 30 + p40.2 + p26.2 + p12.2) mX2_init_2 [.ref x0, .ref x1] σ K X := Cx.body (by decide +kernel) rfl (Nat.le_of_ble_eq_true rfl) (ok_X2_init_2 h)
/-! PeacockLawns$Garden.add(Ljava/util/List;Ljava/lang/Object;I)I -/
def wp_X2_add (en : yEn) (d : Nat) (p22 : Nat × Nat) (x0 : Nat) (x1 : Nat) (x2 : Int32) (σ : yH) (k n : Nat) (K : Option Value → yH → Prop) (X : String → Addr → yH → Prop) : Prop :=
  (isC σ x0 11 ∧ Cx en d 0 0 mJ2_size [.ref x0] σ (kI (fun r2 σ1 => Cx en d 1 8 mX1_allow [.int (if (x2 ≤ r2) then (0 : Int32) else (1 : Int32)), .int (1 : Int32), .int x2] σ1 (kV (fun σ4 => (isC σ4 x0 11 ∧ Cx en d p22.1 p22.2 mJ2_add [.ref x0, .ref x1] σ4 (kI (fun r6 σ5 => (isC σ5 x0 11 ∧ Cx en d 0 0 mJ2_size [.ref x0] σ5 (kI (fun r8 σ7 => K (some (.int (r8 - (1 : Int32)))) σ7)) X))) X))) X)) X)
set_option maxHeartbeats 4000000 in
theorem ok_X2_add {en : yEn} {d : Nat} {p22 : Nat × Nat} {x0 : Nat} {x1 : Nat} {x2 : Int32} {σ : yH} {k n : Nat} {K : Option Value → yH → Prop} {X : String → Addr → yH → Prop} (h : wp_X2_add en d p22 x0 x1 x2 σ k n K X) : Wx en (d + 1) mX2_add 0 [(0, .ref x0), (1, .ref x1), (2, .int x2)] [] σ (k + 1 + p22.1) (n + 8 + p22.2) K X := by
  unfold wp_X2_add at h
  refine sd_aload_n (pc := 0) dX2_add_0 rfl 0 rfl ?_
  refine sd_callF (k := (k + 1 + p22.1)) (n := (n + 8 + p22.2)) (As := []) (st := []) (pc := 1) dX2_add_1 (ci := 11) rfl h.1 (x := ⟨"java/util/List", "size", "()I"⟩) q908 q794 q796 q84 q798 q793 q792 q797 q795 q329 0 (by decide +kernel) rfl 0 (by decide +kernel) rfl (Nat.le_refl _) (by decide) (Nat.le_of_ble_eq_true rfl) (Cx.mono h.2 (kI.to (fun r2 σ1 h => ?_)) (xo rfl))
  refine sd_iload_n (pc := 6) dX2_add_6 rfl 2 rfl ?_
  have h9 : Wx en (d + 1) mX2_add 15 [(0, .ref x0), (1, .ref x1), (2, .int x2)] (.int (if (x2 ≤ r2) then (0 : Int32) else (1 : Int32)) :: []) σ1 (k + 1 + p22.1) (n + 8 + p22.2) K X := by
    refine sd_iconst (pc := 15) dX2_add_15 (v := 1) (by decide) ?_
    refine sd_iload_n (pc := 16) dX2_add_16 rfl 2 rfl ?_
    refine Wx.more (k' := (k + p22.1) + 1) (n' := (n + p22.2) + 8) ?_ (by omega) (by omega)
    refine sd_callSN (k := (k + p22.1)) (n := (n + p22.2)) (As := [.int (if (x2 ≤ r2) then (0 : Int32) else (1 : Int32)), .int (1 : Int32), .int x2]) (st := []) (pc := 17) dX2_add_17 q909 q910 q80 q911 3 (by decide +kernel) rfl (Nat.le_refl _) (by decide) (Nat.le_of_ble_eq_true rfl) (Cx.mono h (kV.to (fun σ4 h => ?_)) (xo rfl))
    refine sd_aload_n (pc := 20) dX2_add_20 rfl 0 rfl ?_
    refine sd_aload_n (pc := 21) dX2_add_21 rfl 1 rfl ?_
    refine sd_callF (k := k) (n := n) (As := [.ref x1]) (st := []) (pc := 22) dX2_add_22 (ci := 11) rfl h.1 (x := ⟨"java/util/List", "add", "(Ljava/lang/Object;)Z"⟩) q947 q950 q952 q84 q954 q949 q948 q953 q951 q329 1 (by decide +kernel) rfl 1 (by decide +kernel) rfl (Nat.le_refl _) (by decide) (Nat.le_of_ble_eq_true rfl) (Cx.mono h.2 (kI.to (fun r6 σ5 h => ?_)) (xo rfl))
    refine sd_pop (pc := 27) dX2_add_27 rfl ?_
    refine sd_aload_n (pc := 28) dX2_add_28 rfl 0 rfl ?_
    refine sd_callF (k := k) (n := n) (As := []) (st := []) (pc := 29) dX2_add_29 (ci := 11) rfl h.1 (x := ⟨"java/util/List", "size", "()I"⟩) q908 q794 q796 q84 q798 q793 q792 q797 q795 q329 0 (by decide +kernel) rfl 0 (by decide +kernel) rfl (Nat.le_refl _) (by decide) (Nat.le_of_ble_eq_true rfl) (Cx.mono h.2 (kI.to (fun r8 σ7 h => ?_)) (xo rfl))
    refine sd_iconst (pc := 34) dX2_add_34 (v := 1) (by decide) ?_
    refine sd_isub (pc := 35) dX2_add_35 ?_
    exact sd_ireturn (pc := 36) dX2_add_36 (ty0 := .int) rfl rfl h
  have e10 := sd_iteI h9
  refine sd_icmpge (pc := 7) dX2_add_7 (tgt := 14) (by decide) ⟨fun c3 => ?_, fun c3 => ?_⟩
  · refine sd_iconst (pc := 14) dX2_add_14 (v := 0) (by decide) ?_
    exact (e10.1 c3)
  · refine sd_iconst (pc := 10) dX2_add_10 (v := 1) (by decide) ?_
    refine sd_goto (pc := 11) dX2_add_11 (tgt := 15) (by decide) ?_
    exact (e10.2 c3)
theorem cx_X2_add {en : yEn} {d : Nat} {p22 : Nat × Nat} {x0 : Nat} {x1 : Nat} {x2 : Int32} {σ : yH} {k n : Nat} {K : Option Value → yH → Prop} {X : String → Addr → yH → Prop} (h : wp_X2_add en d p22 x0 x1 x2 σ k n K X) : Cx en (d + 1) (k + 1 + p22.1) (n + 8 + p22.2) mX2_add [.ref x0, .ref x1, .int x2] σ K X := Cx.body (by decide +kernel) rfl (Nat.le_of_ble_eq_true rfl) (ok_X2_add h)
/-! PeacockLawns$Garden.buy(LPeacockLawns$Bird;I)I -/
def wp_X2_buy (en : yEn) (d : Nat) (p66 : Nat × Nat) (x0 : Nat) (x1 : Nat) (x2 : Int32) (σ : yH) (k n : Nat) (K : Option Value → yH → Prop) (X : String → Addr → yH → Prop) : Prop :=
  getR σ x0 1 0 (fun v1 => (isC σ v1 11 ∧ Cx en d 0 0 mJ2_size [.ref v1] σ (kI (fun r3 σ2 => Cx en d 1 8 mX1_allow [.int (if ((12 : Int32) ≤ r3) then (0 : Int32) else (1 : Int32)), .int (1 : Int32), .int (12 : Int32)] σ2 (kV (fun σ5 => getI σ5 x0 1 7 (fun v6 => getI σ5 x0 1 7 (fun v8 => Cx en d 1 8 mX1_allow [.int (if (v6 < x2) then (0 : Int32) else (1 : Int32)), .int (10 : Int32), .int (x2 - v8)] σ5 (kV (fun σ9 => getI σ9 x0 1 7 (fun v10 => (putV σ9 x0 1 7 (.int (v10 - x2)) (fun σ11 => getR σ11 x0 1 0 (fun v12 => Cx en d p66.1 p66.2 mX2_add [.ref v12, .ref x1, .int (12 : Int32)] σ11 (kI (fun r14 σ13 => K (some (.int r14)) σ13)) X)))))) X)))) X)) X))
set_option maxHeartbeats 4000000 in
theorem ok_X2_buy {en : yEn} {d : Nat} {p66 : Nat × Nat} {x0 : Nat} {x1 : Nat} {x2 : Int32} {σ : yH} {k n : Nat} {K : Option Value → yH → Prop} {X : String → Addr → yH → Prop} (h : wp_X2_buy en d p66 x0 x1 x2 σ k n K X) : Wx en (d + 1) mX2_buy 0 [(0, .ref x0), (1, .ref x1), (2, .int x2)] [] σ (k + 2 + p66.1) (n + 16 + p66.2) K X := by
  unfold wp_X2_buy at h
  refine sd_aload_n (pc := 0) dX2_buy_0 rfl 0 rfl ?_
  refine sd_getR (pc := 1) dX2_buy_1 (ci := 1) rfl in_X2 (kf := 0) (by decide) q166 (h.mono (fun v1 h => ?_))
  refine sd_callF (k := (k + 2 + p66.1)) (n := (n + 16 + p66.2)) (As := []) (st := []) (pc := 4) dX2_buy_4 (ci := 11) rfl h.1 (x := ⟨"java/util/List", "size", "()I"⟩) q908 q794 q796 q84 q798 q793 q792 q797 q795 q329 0 (by decide +kernel) rfl 0 (by decide +kernel) rfl (Nat.le_refl _) (by decide) (Nat.le_of_ble_eq_true rfl) (Cx.mono h.2 (kI.to (fun r3 σ2 h => ?_)) (xo rfl))
  refine sd_bipush (pc := 9) dX2_buy_9 (v := 12) (by decide) ?_
  have h15 : Wx en (d + 1) mX2_buy 19 [(0, .ref x0), (1, .ref x1), (2, .int x2)] (.int (if ((12 : Int32) ≤ r3) then (0 : Int32) else (1 : Int32)) :: []) σ2 (k + 2 + p66.1) (n + 16 + p66.2) K X := by
    refine sd_iconst (pc := 19) dX2_buy_19 (v := 1) (by decide) ?_
    refine sd_bipush (pc := 20) dX2_buy_20 (v := 12) (by decide) ?_
    refine Wx.more (k' := (k + 1 + p66.1) + 1) (n' := (n + 8 + p66.2) + 8) ?_ (by omega) (by omega)
    refine sd_callSN (k := (k + 1 + p66.1)) (n := (n + 8 + p66.2)) (As := [.int (if ((12 : Int32) ≤ r3) then (0 : Int32) else (1 : Int32)), .int (1 : Int32), .int (12 : Int32)]) (st := []) (pc := 22) dX2_buy_22 q909 q910 q80 q911 3 (by decide +kernel) rfl (Nat.le_refl _) (by decide) (Nat.le_of_ble_eq_true rfl) (Cx.mono h (kV.to (fun σ5 h => ?_)) (xo rfl))
    refine sd_aload_n (pc := 25) dX2_buy_25 rfl 0 rfl ?_
    refine sd_getI (pc := 26) dX2_buy_26 (ci := 1) rfl in_X2 (kf := 7) (by decide) q180 (h.mono (fun v6 h => ?_))
    refine sd_iload_n (pc := 29) dX2_buy_29 rfl 2 rfl ?_
    have h16 : Wx en (d + 1) mX2_buy 38 [(0, .ref x0), (1, .ref x1), (2, .int x2)] (.int (if (v6 < x2) then (0 : Int32) else (1 : Int32)) :: []) σ5 (k + 1 + p66.1) (n + 8 + p66.2) K X := by
      refine sd_bipush (pc := 38) dX2_buy_38 (v := 10) (by decide) ?_
      refine sd_iload_n (pc := 40) dX2_buy_40 rfl 2 rfl ?_
      refine sd_aload_n (pc := 41) dX2_buy_41 rfl 0 rfl ?_
      refine sd_getI (pc := 42) dX2_buy_42 (ci := 1) rfl in_X2 (kf := 7) (by decide) q180 (h.mono (fun v8 h => ?_))
      refine sd_isub (pc := 45) dX2_buy_45 ?_
      refine Wx.more (k' := (k + p66.1) + 1) (n' := (n + p66.2) + 8) ?_ (by omega) (by omega)
      refine sd_callSN (k := (k + p66.1)) (n := (n + p66.2)) (As := [.int (if (v6 < x2) then (0 : Int32) else (1 : Int32)), .int (10 : Int32), .int (x2 - v8)]) (st := []) (pc := 46) dX2_buy_46 q909 q910 q80 q911 3 (by decide +kernel) rfl (Nat.le_refl _) (by decide) (Nat.le_of_ble_eq_true rfl) (Cx.mono h (kV.to (fun σ9 h => ?_)) (xo rfl))
      refine sd_aload_n (pc := 49) dX2_buy_49 rfl 0 rfl ?_
      refine sd_dup (pc := 50) dX2_buy_50 rfl ?_
      refine sd_getI (pc := 51) dX2_buy_51 (ci := 1) rfl in_X2 (kf := 7) (by decide) q180 (h.mono (fun v10 h => ?_))
      refine sd_iload_n (pc := 54) dX2_buy_54 rfl 2 rfl ?_
      refine sd_isub (pc := 55) dX2_buy_55 ?_
      refine sd_putf (pc := 56) dX2_buy_56 (ci := 1) rfl in_X2 tyX2 tyX2_ok nmX2 (kf := 7) (by decide) q180 rfl (ty := .int) rfl rfl rfl (putV.mono h (fun σ11 h => ?_))
      refine sd_aload_n (pc := 59) dX2_buy_59 rfl 0 rfl ?_
      refine sd_getR (pc := 60) dX2_buy_60 (ci := 1) rfl in_X2 (kf := 0) (by decide) q166 (h.mono (fun v12 h => ?_))
      refine sd_aload_n (pc := 63) dX2_buy_63 rfl 1 rfl ?_
      refine sd_bipush (pc := 64) dX2_buy_64 (v := 12) (by decide) ?_
      refine sd_callS (k := k) (n := n) (As := [.ref v12, .ref x1, .int (12 : Int32)]) (st := []) (pc := 66) dX2_buy_66 q943 q944 q81 q945 3 (by decide +kernel) rfl (Nat.le_refl _) (by decide) (Nat.le_of_ble_eq_true rfl) (Cx.mono h (kI.to (fun r14 σ13 h => ?_)) (xo rfl))
      exact sd_ireturn (pc := 69) dX2_buy_69 (ty0 := .int) rfl rfl h
    have e17 := sd_iteI h16
    refine sd_icmplt (pc := 30) dX2_buy_30 (tgt := 37) (by decide) ⟨fun c7 => ?_, fun c7 => ?_⟩
    · refine sd_iconst (pc := 37) dX2_buy_37 (v := 0) (by decide) ?_
      exact (e17.1 c7)
    · refine sd_iconst (pc := 33) dX2_buy_33 (v := 1) (by decide) ?_
      refine sd_goto (pc := 34) dX2_buy_34 (tgt := 38) (by decide) ?_
      exact (e17.2 c7)
  have e18 := sd_iteI h15
  refine sd_icmpge (pc := 11) dX2_buy_11 (tgt := 18) (by decide) ⟨fun c4 => ?_, fun c4 => ?_⟩
  · refine sd_iconst (pc := 18) dX2_buy_18 (v := 0) (by decide) ?_
    exact (e18.1 c4)
  · refine sd_iconst (pc := 14) dX2_buy_14 (v := 1) (by decide) ?_
    refine sd_goto (pc := 15) dX2_buy_15 (tgt := 19) (by decide) ?_
    exact (e18.2 c4)
theorem cx_X2_buy {en : yEn} {d : Nat} {p66 : Nat × Nat} {x0 : Nat} {x1 : Nat} {x2 : Int32} {σ : yH} {k n : Nat} {K : Option Value → yH → Prop} {X : String → Addr → yH → Prop} (h : wp_X2_buy en d p66 x0 x1 x2 σ k n K X) : Cx en (d + 1) (k + 2 + p66.1) (n + 16 + p66.2) mX2_buy [.ref x0, .ref x1, .int x2] σ K X := Cx.body (by decide +kernel) rfl (Nat.le_of_ble_eq_true rfl) (ok_X2_buy h)
/-! PeacockLawns$Garden.lawn(I)I -/
def wp_X2_lawn (en : yEn) (d : Nat) (x0 : Int32) (σ : yH) (k n : Nat) (K : Option Value → yH → Prop) (X : String → Addr → yH → Prop) : Prop :=
  Cx en d 0 0 mX1_inRange [.int x0, .int (0 : Int32), .int (8 : Int32)] σ (kI (fun r2 σ1 => Cx en d 1 6 mX1_requireIndex [.int r2] σ1 (kV (fun σ3 => K (some (.int x0)) σ3)) X)) X
set_option maxHeartbeats 4000000 in
theorem ok_X2_lawn {en : yEn} {d : Nat} {x0 : Int32} {σ : yH} {k n : Nat} {K : Option Value → yH → Prop} {X : String → Addr → yH → Prop} (h : wp_X2_lawn en d  x0 σ k n K X) : Wx en (d + 1) mX2_lawn 0 [(0, .int x0)] [] σ (k + 1) (n + 6) K X := by
  unfold wp_X2_lawn at h
  refine sd_iload_n (pc := 0) dX2_lawn_0 rfl 0 rfl ?_
  refine sd_iconst (pc := 1) dX2_lawn_1 (v := 0) (by decide) ?_
  refine sd_bipush (pc := 2) dX2_lawn_2 (v := 8) (by decide) ?_
  refine sd_callSN (k := (k + 1)) (n := (n + 6)) (As := [.int x0, .int (0 : Int32), .int (8 : Int32)]) (st := []) (pc := 4) dX2_lawn_4 q836 q837 q80 q838 3 (by decide +kernel) rfl (Nat.le_refl _) (by decide) (Nat.le_of_ble_eq_true rfl) (Cx.mono h (kI.to (fun r2 σ1 h => ?_)) (xo rfl))
  refine sd_callSN (k := k) (n := n) (As := [.int r2]) (st := []) (pc := 7) dX2_lawn_7 q839 q840 q80 q841 1 (by decide +kernel) rfl (Nat.le_refl _) (by decide) (Nat.le_of_ble_eq_true rfl) (Cx.mono h (kV.to (fun σ3 h => ?_)) (xo rfl))
  refine sd_iload_n (pc := 10) dX2_lawn_10 rfl 0 rfl ?_
  exact sd_ireturn (pc := 11) dX2_lawn_11 (ty0 := .int) rfl rfl h
theorem cx_X2_lawn {en : yEn} {d : Nat} {x0 : Int32} {σ : yH} {k n : Nat} {K : Option Value → yH → Prop} {X : String → Addr → yH → Prop} (h : wp_X2_lawn en d  x0 σ k n K X) : Cx en (d + 1) (k + 1) (n + 6) mX2_lawn [.int x0] σ K X := Cx.body (by decide +kernel) rfl (Nat.le_of_ble_eq_true rfl) (ok_X2_lawn h)
/-! PeacockLawns$Garden.addCock(III)I -/
def wp_X2_addCock (en : yEn) (d : Nat) (p50 : Nat × Nat) (x0 : Nat) (x1 : Int32) (x2 : Int32) (x3 : Int32) (σ : yH) (k n : Nat) (K : Option Value → yH → Prop) (X : String → Addr → yH → Prop) : Prop :=
  Cx en d 1 6 mX2_lawn [.int x1] σ (kI (fun r2 σ1 => Cx en d 0 0 mX1_inRange [.int x2, .int (0 : Int32), .int (150 : Int32)] σ1 (kI (fun r4 σ3 => (((r4 = 0) → Cx en d 1 6 mX1_require [.int (0 : Int32)] σ3 (kV (fun σ5 => newV σ5 (.inr (3, [.int 0, .int 0, .int 0, .int 0, .int 0, .int 0])) (fun a6 σ7 => Cx en d 0 0 mX4_init [.ref a6, .int (0 : Int32), .int r2, .int x2, .int x3] σ7 (kV (fun σ8 => (isC σ8 x0 1 ∧ Cx en d p50.1 p50.2 mX2_buy [.ref x0, .ref a6, .int (8 : Int32)] σ8 (kI (fun r10 σ9 => K (some (.int r10)) σ9)) X))) X))) X) ∧ (¬ (r4 = 0) → Cx en d 0 0 mX1_inRange [.int x3, .int (1 : Int32), .int (9 : Int32)] σ3 (kI (fun r12 σ11 => Cx en d 1 6 mX1_require [.int (if (r12 = 0) then (0 : Int32) else (1 : Int32))] σ11 (kV (fun σ14 => newV σ14 (.inr (3, [.int 0, .int 0, .int 0, .int 0, .int 0, .int 0])) (fun a15 σ16 => Cx en d 0 0 mX4_init [.ref a15, .int (0 : Int32), .int r2, .int x2, .int x3] σ16 (kV (fun σ17 => (isC σ17 x0 1 ∧ Cx en d p50.1 p50.2 mX2_buy [.ref x0, .ref a15, .int (8 : Int32)] σ17 (kI (fun r19 σ18 => K (some (.int r19)) σ18)) X))) X))) X)) X)))) X)) X
set_option maxHeartbeats 4000000 in
theorem ok_X2_addCock {en : yEn} {d : Nat} {p50 : Nat × Nat} {x0 : Nat} {x1 : Int32} {x2 : Int32} {x3 : Int32} {σ : yH} {k n : Nat} {K : Option Value → yH → Prop} {X : String → Addr → yH → Prop} (h : wp_X2_addCock en d p50 x0 x1 x2 x3 σ k n K X) : Wx en (d + 1) mX2_addCock 0 [(0, .ref x0), (1, .int x1), (2, .int x2), (3, .int x3)] [] σ (k + 3 + p50.1) (n + 18 + p50.2) K X := by
  unfold wp_X2_addCock at h
  refine sd_iload_n (pc := 0) dX2_addCock_0 rfl 1 rfl ?_
  refine Wx.more (k' := (k + 2 + p50.1) + 1) (n' := (n + 12 + p50.2) + 6) ?_ (by omega) (by omega)
  refine sd_callS (k := (k + 2 + p50.1)) (n := (n + 12 + p50.2)) (As := [.int x1]) (st := []) (pc := 1) dX2_addCock_1 q833 q834 q81 q835 1 (by decide +kernel) rfl (Nat.le_refl _) (by decide) (Nat.le_of_ble_eq_true rfl) (Cx.mono h (kI.to (fun r2 σ1 h => ?_)) (xo rfl))
  refine sd_istore (pc := 4) dX2_addCock_4 (by decide) (ls' := [(4, .int r2), (0, .ref x0), (1, .int x1), (2, .int x2), (3, .int x3)]) rfl ?_
  refine sd_iload_n (pc := 6) dX2_addCock_6 rfl 3 rfl ?_
  refine sd_iconst (pc := 7) dX2_addCock_7 (v := 0) (by decide) ?_
  refine sd_sipush (pc := 8) dX2_addCock_8 (v := 150) (by decide) ?_
  refine sd_callSN (k := (k + 2 + p50.1)) (n := (n + 12 + p50.2)) (As := [.int x2, .int (0 : Int32), .int (150 : Int32)]) (st := []) (pc := 11) dX2_addCock_11 q836 q837 q80 q838 3 (by decide +kernel) rfl (Nat.le_refl _) (by decide) (Nat.le_of_ble_eq_true rfl) (Cx.mono h (kI.to (fun r4 σ3 h => ?_)) (xo rfl))
  refine sd_ifeq (pc := 14) dX2_addCock_14 (tgt := 31) (by decide) ⟨fun c20 => ?_, fun c20 => ?_⟩
  · have h := h.1 c20
    refine sd_iconst (pc := 31) dX2_addCock_31 (v := 0) (by decide) ?_
    refine Wx.more (k' := (k + 1 + p50.1) + 1) (n' := (n + 6 + p50.2) + 6) ?_ (by omega) (by omega)
    refine sd_callSN (k := (k + 1 + p50.1)) (n := (n + 6 + p50.2)) (As := [.int (0 : Int32)]) (st := []) (pc := 32) dX2_addCock_32 q857 q858 q80 q859 1 (by decide +kernel) rfl (Nat.le_refl _) (by decide) (Nat.le_of_ble_eq_true rfl) (Cx.mono h (kV.to (fun σ5 h => ?_)) (xo rfl))
    refine sd_aload_n (pc := 35) dX2_addCock_35 rfl 1 rfl ?_
    refine Wx.more (k' := (k + p50.1) + 1) (n' := (n + p50.2) + 6) ?_ (by omega) (by omega)
    refine sd_new (k := (k + p50.1)) (n := (n + p50.2)) (pc := 36) dX2_addCock_36 (ci := 3) rfl in_X4 tyX4 tyX4_ok q448 q865 q98 (fs := [.int 0, .int 0, .int 0, .int 0, .int 0, .int 0]) (fun j hj => by rcases (show j = 0 ∨ j = 1 ∨ j = 2 ∨ j = 3 ∨ j = 4 ∨ j = 5 by omega) with rfl | rfl | rfl | rfl | rfl | rfl <;> rfl) (h.mono (fun a6 σ7 h => ?_))
    refine sd_dup (pc := 39) dX2_addCock_39 rfl ?_
    refine sd_iconst (pc := 40) dX2_addCock_40 (v := 0) (by decide) ?_
    refine sd_iload (pc := 41) dX2_addCock_41 0 rfl ?_
    refine sd_iload_n (pc := 43) dX2_addCock_43 rfl 3 rfl ?_
    refine sd_iload_n (pc := 44) dX2_addCock_44 rfl 4 rfl ?_
    refine sd_callI (k := (k + p50.1)) (n := (n + p50.2)) (As := [.int (0 : Int32), .int r2, .int x2, .int x3]) (st := [.ref a6, .ref x0]) (pc := 45) dX2_addCock_45 q866 q867 q98 q868 rfl 4 (by decide +kernel) rfl (Nat.le_refl _) (by decide) (Nat.le_of_ble_eq_true rfl) (Cx.mono h (kV.to (fun σ8 h => ?_)) (xo rfl))
    refine sd_bipush (pc := 48) dX2_addCock_48 (v := 8) (by decide) ?_
    refine sd_callV (k := k) (n := n) (As := [.ref a6, .int (8 : Int32)]) (st := []) (pc := 50) dX2_addCock_50 (ci := 1) rfl h.1 rfl q903 q905 qs4 q81 q906 2 (by decide +kernel) rfl (Nat.le_refl _) (by decide) (Nat.le_of_ble_eq_true rfl) (Cx.mono h.2 (kI.to (fun r10 σ9 h => ?_)) (xo rfl))
    exact sd_ireturn (pc := 53) dX2_addCock_53 (ty0 := .int) rfl rfl h
  · have h := h.2 c20
    refine sd_iload_n (pc := 17) dX2_addCock_17 rfl 4 rfl ?_
    refine sd_iconst (pc := 18) dX2_addCock_18 (v := 1) (by decide) ?_
    refine sd_bipush (pc := 19) dX2_addCock_19 (v := 9) (by decide) ?_
    refine sd_callSN (k := (k + 2 + p50.1)) (n := (n + 12 + p50.2)) (As := [.int x3, .int (1 : Int32), .int (9 : Int32)]) (st := []) (pc := 21) dX2_addCock_21 q836 q837 q80 q838 3 (by decide +kernel) rfl (Nat.le_refl _) (by decide) (Nat.le_of_ble_eq_true rfl) (Cx.mono h (kI.to (fun r12 σ11 h => ?_)) (xo rfl))
    have h21 : Wx en (d + 1) mX2_addCock 32 [(4, .int r2), (0, .ref x0), (1, .int x1), (2, .int x2), (3, .int x3)] (.int (if (r12 = 0) then (0 : Int32) else (1 : Int32)) :: []) σ11 (k + 2 + p50.1) (n + 12 + p50.2) K X := by
      refine Wx.more (k' := (k + 1 + p50.1) + 1) (n' := (n + 6 + p50.2) + 6) ?_ (by omega) (by omega)
      refine sd_callSN (k := (k + 1 + p50.1)) (n := (n + 6 + p50.2)) (As := [.int (if (r12 = 0) then (0 : Int32) else (1 : Int32))]) (st := []) (pc := 32) dX2_addCock_32 q857 q858 q80 q859 1 (by decide +kernel) rfl (Nat.le_refl _) (by decide) (Nat.le_of_ble_eq_true rfl) (Cx.mono h (kV.to (fun σ14 h => ?_)) (xo rfl))
      refine sd_aload_n (pc := 35) dX2_addCock_35 rfl 1 rfl ?_
      refine Wx.more (k' := (k + p50.1) + 1) (n' := (n + p50.2) + 6) ?_ (by omega) (by omega)
      refine sd_new (k := (k + p50.1)) (n := (n + p50.2)) (pc := 36) dX2_addCock_36 (ci := 3) rfl in_X4 tyX4 tyX4_ok q448 q865 q98 (fs := [.int 0, .int 0, .int 0, .int 0, .int 0, .int 0]) (fun j hj => by rcases (show j = 0 ∨ j = 1 ∨ j = 2 ∨ j = 3 ∨ j = 4 ∨ j = 5 by omega) with rfl | rfl | rfl | rfl | rfl | rfl <;> rfl) (h.mono (fun a15 σ16 h => ?_))
      refine sd_dup (pc := 39) dX2_addCock_39 rfl ?_
      refine sd_iconst (pc := 40) dX2_addCock_40 (v := 0) (by decide) ?_
      refine sd_iload (pc := 41) dX2_addCock_41 0 rfl ?_
      refine sd_iload_n (pc := 43) dX2_addCock_43 rfl 3 rfl ?_
      refine sd_iload_n (pc := 44) dX2_addCock_44 rfl 4 rfl ?_
      refine sd_callI (k := (k + p50.1)) (n := (n + p50.2)) (As := [.int (0 : Int32), .int r2, .int x2, .int x3]) (st := [.ref a15, .ref x0]) (pc := 45) dX2_addCock_45 q866 q867 q98 q868 rfl 4 (by decide +kernel) rfl (Nat.le_refl _) (by decide) (Nat.le_of_ble_eq_true rfl) (Cx.mono h (kV.to (fun σ17 h => ?_)) (xo rfl))
      refine sd_bipush (pc := 48) dX2_addCock_48 (v := 8) (by decide) ?_
      refine sd_callV (k := k) (n := n) (As := [.ref a15, .int (8 : Int32)]) (st := []) (pc := 50) dX2_addCock_50 (ci := 1) rfl h.1 rfl q903 q905 qs4 q81 q906 2 (by decide +kernel) rfl (Nat.le_refl _) (by decide) (Nat.le_of_ble_eq_true rfl) (Cx.mono h.2 (kI.to (fun r19 σ18 h => ?_)) (xo rfl))
      exact sd_ireturn (pc := 53) dX2_addCock_53 (ty0 := .int) rfl rfl h
    have e22 := sd_iteI h21
    refine sd_ifeq (pc := 24) dX2_addCock_24 (tgt := 31) (by decide) ⟨fun c13 => ?_, fun c13 => ?_⟩
    · refine sd_iconst (pc := 31) dX2_addCock_31 (v := 0) (by decide) ?_
      exact (e22.1 c13)
    · refine sd_iconst (pc := 27) dX2_addCock_27 (v := 1) (by decide) ?_
      refine sd_goto (pc := 28) dX2_addCock_28 (tgt := 32) (by decide) ?_
      exact (e22.2 c13)
theorem cx_X2_addCock {en : yEn} {d : Nat} {p50 : Nat × Nat} {x0 : Nat} {x1 : Int32} {x2 : Int32} {x3 : Int32} {σ : yH} {k n : Nat} {K : Option Value → yH → Prop} {X : String → Addr → yH → Prop} (h : wp_X2_addCock en d p50 x0 x1 x2 x3 σ k n K X) : Cx en (d + 1) (k + 3 + p50.1) (n + 18 + p50.2) mX2_addCock [.ref x0, .int x1, .int x2, .int x3] σ K X := Cx.body (by decide +kernel) rfl (Nat.le_of_ble_eq_true rfl) (ok_X2_addCock h)
/-! PeacockLawns$Garden.addHen(I)I -/
def wp_X2_addHen (en : yEn) (d : Nat) (p16 : Nat × Nat) (x0 : Nat) (x1 : Int32) (σ : yH) (k n : Nat) (K : Option Value → yH → Prop) (X : String → Addr → yH → Prop) : Prop :=
  newV σ (.inr (3, [.int 0, .int 0, .int 0, .int 0, .int 0, .int 0])) (fun a1 σ2 => Cx en d 1 6 mX2_lawn [.int x1] σ2 (kI (fun r4 σ3 => Cx en d 0 0 mX4_init [.ref a1, .int (1 : Int32), .int r4, .int (0 : Int32), .int (0 : Int32)] σ3 (kV (fun σ5 => (isC σ5 x0 1 ∧ Cx en d p16.1 p16.2 mX2_buy [.ref x0, .ref a1, .int (5 : Int32)] σ5 (kI (fun r7 σ6 => K (some (.int r7)) σ6)) X))) X)) X)
set_option maxHeartbeats 4000000 in
theorem ok_X2_addHen {en : yEn} {d : Nat} {p16 : Nat × Nat} {x0 : Nat} {x1 : Int32} {σ : yH} {k n : Nat} {K : Option Value → yH → Prop} {X : String → Addr → yH → Prop} (h : wp_X2_addHen en d p16 x0 x1 σ k n K X) : Wx en (d + 1) mX2_addHen 0 [(0, .ref x0), (1, .int x1)] [] σ (k + 2 + p16.1) (n + 12 + p16.2) K X := by
  unfold wp_X2_addHen at h
  refine sd_aload_n (pc := 0) dX2_addHen_0 rfl 0 rfl ?_
  refine Wx.more (k' := (k + 1 + p16.1) + 1) (n' := (n + 6 + p16.2) + 6) ?_ (by omega) (by omega)
  refine sd_new (k := (k + 1 + p16.1)) (n := (n + 6 + p16.2)) (pc := 1) dX2_addHen_1 (ci := 3) rfl in_X4 tyX4 tyX4_ok q448 q865 q98 (fs := [.int 0, .int 0, .int 0, .int 0, .int 0, .int 0]) (fun j hj => by rcases (show j = 0 ∨ j = 1 ∨ j = 2 ∨ j = 3 ∨ j = 4 ∨ j = 5 by omega) with rfl | rfl | rfl | rfl | rfl | rfl <;> rfl) (h.mono (fun a1 σ2 h => ?_))
  refine sd_dup (pc := 4) dX2_addHen_4 rfl ?_
  refine sd_iconst (pc := 5) dX2_addHen_5 (v := 1) (by decide) ?_
  refine sd_iload_n (pc := 6) dX2_addHen_6 rfl 1 rfl ?_
  refine Wx.more (k' := (k + p16.1) + 1) (n' := (n + p16.2) + 6) ?_ (by omega) (by omega)
  refine sd_callS (k := (k + p16.1)) (n := (n + p16.2)) (As := [.int x1]) (st := [.int (1 : Int32), .ref a1, .ref a1, .ref x0]) (pc := 7) dX2_addHen_7 q833 q834 q81 q835 1 (by decide +kernel) rfl (Nat.le_refl _) (by decide) (Nat.le_of_ble_eq_true rfl) (Cx.mono h (kI.to (fun r4 σ3 h => ?_)) (xo rfl))
  refine sd_iconst (pc := 10) dX2_addHen_10 (v := 0) (by decide) ?_
  refine sd_iconst (pc := 11) dX2_addHen_11 (v := 0) (by decide) ?_
  refine sd_callI (k := (k + p16.1)) (n := (n + p16.2)) (As := [.int (1 : Int32), .int r4, .int (0 : Int32), .int (0 : Int32)]) (st := [.ref a1, .ref x0]) (pc := 12) dX2_addHen_12 q866 q867 q98 q868 rfl 4 (by decide +kernel) rfl (Nat.le_refl _) (by decide) (Nat.le_of_ble_eq_true rfl) (Cx.mono h (kV.to (fun σ5 h => ?_)) (xo rfl))
  refine sd_iconst (pc := 15) dX2_addHen_15 (v := 5) (by decide) ?_
  refine sd_callV (k := k) (n := n) (As := [.ref a1, .int (5 : Int32)]) (st := []) (pc := 16) dX2_addHen_16 (ci := 1) rfl h.1 rfl q903 q905 qs4 q81 q906 2 (by decide +kernel) rfl (Nat.le_refl _) (by decide) (Nat.le_of_ble_eq_true rfl) (Cx.mono h.2 (kI.to (fun r7 σ6 h => ?_)) (xo rfl))
  exact sd_ireturn (pc := 19) dX2_addHen_19 (ty0 := .int) rfl rfl h
theorem cx_X2_addHen {en : yEn} {d : Nat} {p16 : Nat × Nat} {x0 : Nat} {x1 : Int32} {σ : yH} {k n : Nat} {K : Option Value → yH → Prop} {X : String → Addr → yH → Prop} (h : wp_X2_addHen en d p16 x0 x1 σ k n K X) : Cx en (d + 1) (k + 2 + p16.1) (n + 12 + p16.2) mX2_addHen [.ref x0, .int x1] σ K X := Cx.body (by decide +kernel) rfl (Nat.le_of_ble_eq_true rfl) (ok_X2_addHen h)
/-! PeacockLawns$Garden.at(Ljava/util/List;I)Ljava/lang/Object; -/
def wp_X2_at (en : yEn) (d : Nat) (x0 : Nat) (x1 : Int32) (σ : yH) (k n : Nat) (K : Option Value → yH → Prop) (X : String → Addr → yH → Prop) : Prop :=
  (isC σ x0 11 ∧ Cx en d 0 0 mJ2_size [.ref x0] σ (kI (fun r2 σ1 => Cx en d 0 0 mX1_inRange [.int x1, .int (0 : Int32), .int (r2 - (1 : Int32))] σ1 (kI (fun r4 σ3 => Cx en d 1 6 mX1_requireIndex [.int r4] σ3 (kV (fun σ5 => (isC σ5 x0 11 ∧ Cx en d 0 0 mJ2_get [.ref x0, .int x1] σ5 (kA (fun r7 σ6 => K (some (.ref r7)) σ6)) X))) X)) X)) X)
set_option maxHeartbeats 4000000 in
theorem ok_X2_at {en : yEn} {d : Nat} {x0 : Nat} {x1 : Int32} {σ : yH} {k n : Nat} {K : Option Value → yH → Prop} {X : String → Addr → yH → Prop} (h : wp_X2_at en d  x0 x1 σ k n K X) : Wx en (d + 1) mX2_at 0 [(0, .ref x0), (1, .int x1)] [] σ (k + 1) (n + 6) K X := by
  unfold wp_X2_at at h
  refine sd_iload_n (pc := 0) dX2_at_0 rfl 1 rfl ?_
  refine sd_iconst (pc := 1) dX2_at_1 (v := 0) (by decide) ?_
  refine sd_aload_n (pc := 2) dX2_at_2 rfl 0 rfl ?_
  refine sd_callF (k := (k + 1)) (n := (n + 6)) (As := []) (st := [.int (0 : Int32), .int x1]) (pc := 3) dX2_at_3 (ci := 11) rfl h.1 (x := ⟨"java/util/List", "size", "()I"⟩) q908 q794 q796 q84 q798 q793 q792 q797 q795 q329 0 (by decide +kernel) rfl 0 (by decide +kernel) rfl (Nat.le_refl _) (by decide) (Nat.le_of_ble_eq_true rfl) (Cx.mono h.2 (kI.to (fun r2 σ1 h => ?_)) (xo rfl))
  refine sd_iconst (pc := 8) dX2_at_8 (v := 1) (by decide) ?_
  refine sd_isub (pc := 9) dX2_at_9 ?_
  refine sd_callSN (k := (k + 1)) (n := (n + 6)) (As := [.int x1, .int (0 : Int32), .int (r2 - (1 : Int32))]) (st := []) (pc := 10) dX2_at_10 q836 q837 q80 q838 3 (by decide +kernel) rfl (Nat.le_refl _) (by decide) (Nat.le_of_ble_eq_true rfl) (Cx.mono h (kI.to (fun r4 σ3 h => ?_)) (xo rfl))
  refine sd_callSN (k := k) (n := n) (As := [.int r4]) (st := []) (pc := 13) dX2_at_13 q839 q840 q80 q841 1 (by decide +kernel) rfl (Nat.le_refl _) (by decide) (Nat.le_of_ble_eq_true rfl) (Cx.mono h (kV.to (fun σ5 h => ?_)) (xo rfl))
  refine sd_aload_n (pc := 16) dX2_at_16 rfl 0 rfl ?_
  refine sd_iload_n (pc := 17) dX2_at_17 rfl 1 rfl ?_
  refine sd_callF (k := k) (n := n) (As := [.int x1]) (st := []) (pc := 18) dX2_at_18 (ci := 11) rfl h.1 (x := ⟨"java/util/List", "get", "(I)Ljava/lang/Object;"⟩) q1082 q1085 q1087 q84 q1089 q1084 q1083 q1088 q1086 q329 1 (by decide +kernel) rfl 1 (by decide +kernel) rfl (Nat.le_refl _) (by decide) (Nat.le_of_ble_eq_true rfl) (Cx.mono h.2 (kA.to (fun r7 σ6 h => ?_)) (xo rfl))
  exact sd_areturn (r := (some r7)) (pc := 23) dX2_at_23 rfl (Or.inl ⟨_, rfl⟩) h
theorem cx_X2_at {en : yEn} {d : Nat} {x0 : Nat} {x1 : Int32} {σ : yH} {k n : Nat} {K : Option Value → yH → Prop} {X : String → Addr → yH → Prop} (h : wp_X2_at en d  x0 x1 σ k n K X) : Cx en (d + 1) (k + 1) (n + 6) mX2_at [.ref x0, .int x1] σ K X := Cx.body (by decide +kernel) rfl (Nat.le_of_ble_eq_true rfl) (ok_X2_at h)
/-! PeacockLawns$Garden.put(ILPeacockLawns$Bird;)V -/
def wp_X2_put (en : yEn) (d : Nat) (x0 : Nat) (x1 : Int32) (x2 : Nat) (σ : yH) (k n : Nat) (K : Option Value → yH → Prop) (X : String → Addr → yH → Prop) : Prop :=
  getR σ x0 1 0 (fun v1 => (isC σ v1 11 ∧ Cx en d 0 0 mJ2_set [.ref v1, .int x1, .ref x2] σ (kA (fun r3 σ2 => (isC σ2 r3 3 ∧ K none σ2))) X))
set_option maxHeartbeats 4000000 in
theorem ok_X2_put {en : yEn} {d : Nat} {x0 : Nat} {x1 : Int32} {x2 : Nat} {σ : yH} {k n : Nat} {K : Option Value → yH → Prop} {X : String → Addr → yH → Prop} (h : wp_X2_put en d  x0 x1 x2 σ k n K X) : Wx en (d + 1) mX2_put 0 [(0, .ref x0), (1, .int x1), (2, .ref x2)] [] σ k n K X := by
  unfold wp_X2_put at h
  refine sd_aload_n (pc := 0) dX2_put_0 rfl 0 rfl ?_
  refine sd_getR (pc := 1) dX2_put_1 (ci := 1) rfl in_X2 (kf := 0) (by decide) q166 (h.mono (fun v1 h => ?_))
  refine sd_iload_n (pc := 4) dX2_put_4 rfl 1 rfl ?_
  refine sd_aload_n (pc := 5) dX2_put_5 rfl 2 rfl ?_
  refine sd_callF (k := k) (n := n) (As := [.int x1, .ref x2]) (st := []) (pc := 6) dX2_put_6 (ci := 11) rfl h.1 (x := ⟨"java/util/List", "set", "(ILjava/lang/Object;)Ljava/lang/Object;"⟩) q1110 q1113 q1115 q84 q1117 q1112 q1111 q1116 q1114 q329 2 (by decide +kernel) rfl 2 (by decide +kernel) rfl (Nat.le_refl _) (by decide) (Nat.le_of_ble_eq_true rfl) (Cx.mono h.2 (kA.to (fun r3 σ2 h => ?_)) (xo rfl))
  refine sd_castE (r := (RX4, TX4, 6)) (pc := 11) dX2_put_11 q448 (ci := 3) rfl h.1 ?_
  have h := h.2
  refine sd_astore_n (pc := 14) dX2_put_14 rfl (by decide) (ls' := [(3, .ref r3), (0, .ref x0), (1, .int x1), (2, .ref x2)]) rfl ?_
  exact sd_return (pc := 15) dX2_put_15 rfl h
theorem cx_X2_put {en : yEn} {d : Nat} {x0 : Nat} {x1 : Int32} {x2 : Nat} {σ : yH} {k n : Nat} {K : Option Value → yH → Prop} {X : String → Addr → yH → Prop} (h : wp_X2_put en d  x0 x1 x2 σ k n K X) : Cx en (d + 1) k n mX2_put [.ref x0, .int x1, .ref x2] σ K X := Cx.body (by decide +kernel) rfl (Nat.le_of_ble_eq_true rfl) (ok_X2_put h)
/-! PeacockLawns$Garden.lay(I)I -/
def wp_X2_lay (en : yEn) (d : Nat) (x0 : Nat) (x1 : Int32) (σ : yH) (k n : Nat) (K : Option Value → yH → Prop) (X : String → Addr → yH → Prop) : Prop :=
  getR σ x0 1 0 (fun v1 => Cx en d 1 6 mX2_at [.ref v1, .int x1] σ (kA (fun r3 σ2 => (isC σ2 r3 3 ∧ getI σ2 r3 3 0 (fun v4 => Cx en d 1 8 mX1_allow [.int v4, .int (2 : Int32), .int x1] σ2 (kV (fun σ5 => getI σ5 r3 3 2 (fun v6 => Cx en d 1 8 mX1_allow [.int (if ((6 : Int32) ≤ v6) then (0 : Int32) else (1 : Int32)), .int (3 : Int32), .int (6 : Int32)] σ5 (kV (fun σ8 => getI σ8 r3 3 2 (fun v9 => getI σ8 r3 3 3 (fun v10 => (isC σ8 r3 3 ∧ Cx en d 1 6 mX4_with [.ref r3, .int (v9 + (1 : Int32)), .int v10] σ8 (kA (fun r12 σ11 => (isC σ11 x0 1 ∧ Cx en d 0 0 mX2_put [.ref x0, .int x1, .ref r12] σ11 (kV (fun σ13 => getI σ13 r3 3 2 (fun v14 => K (some (.int (v14 + (1 : Int32)))) σ13))) X))) X))))) X))) X)))) X)
set_option maxHeartbeats 4000000 in
theorem ok_X2_lay {en : yEn} {d : Nat} {x0 : Nat} {x1 : Int32} {σ : yH} {k n : Nat} {K : Option Value → yH → Prop} {X : String → Addr → yH → Prop} (h : wp_X2_lay en d  x0 x1 σ k n K X) : Wx en (d + 1) mX2_lay 0 [(0, .ref x0), (1, .int x1)] [] σ (k + 4) (n + 28) K X := by
  unfold wp_X2_lay at h
  refine sd_aload_n (pc := 0) dX2_lay_0 rfl 0 rfl ?_
  refine sd_getR (pc := 1) dX2_lay_1 (ci := 1) rfl in_X2 (kf := 0) (by decide) q166 (h.mono (fun v1 h => ?_))
  refine sd_iload_n (pc := 4) dX2_lay_4 rfl 1 rfl ?_
  refine sd_callS (k := (k + 3)) (n := (n + 22)) (As := [.ref v1, .int x1]) (st := []) (pc := 5) dX2_lay_5 q1078 q1079 q81 q1080 2 (by decide +kernel) rfl (Nat.le_refl _) (by decide) (Nat.le_of_ble_eq_true rfl) (Cx.mono h (kA.to (fun r3 σ2 h => ?_)) (xo rfl))
  refine sd_castE (r := (RX4, TX4, 6)) (pc := 8) dX2_lay_8 q448 (ci := 3) rfl h.1 ?_
  have h := h.2
  refine sd_astore_n (pc := 11) dX2_lay_11 rfl (by decide) (ls' := [(2, .ref r3), (0, .ref x0), (1, .int x1)]) rfl ?_
  refine sd_aload_n (pc := 12) dX2_lay_12 rfl 0 rfl ?_
  refine sd_getIN (pc := 13) dX2_lay_13 (ci := 3) rfl in_X4 (kf := 0) (by decide) q875 (h.mono (fun v4 h => ?_))
  refine sd_iconst (pc := 16) dX2_lay_16 (v := 2) (by decide) ?_
  refine sd_iload_n (pc := 17) dX2_lay_17 rfl 2 rfl ?_
  refine sd_callSN (k := (k + 2)) (n := (n + 14)) (As := [.int v4, .int (2 : Int32), .int x1]) (st := []) (pc := 18) dX2_lay_18 q909 q910 q80 q911 3 (by decide +kernel) rfl (Nat.le_refl _) (by decide) (Nat.le_of_ble_eq_true rfl) (Cx.mono h (kV.to (fun σ5 h => ?_)) (xo rfl))
  refine sd_aload_n (pc := 21) dX2_lay_21 rfl 0 rfl ?_
  refine sd_getIN (pc := 22) dX2_lay_22 (ci := 3) rfl in_X4 (kf := 2) (by decide) q881 (h.mono (fun v6 h => ?_))
  refine sd_bipush (pc := 25) dX2_lay_25 (v := 6) (by decide) ?_
  have h15 : Wx en (d + 1) mX2_lay 35 [(2, .ref r3), (0, .ref x0), (1, .int x1)] (.int (if ((6 : Int32) ≤ v6) then (0 : Int32) else (1 : Int32)) :: []) σ5 (k + 2) (n + 14) K X := by
    refine sd_iconst (pc := 35) dX2_lay_35 (v := 3) (by decide) ?_
    refine sd_bipush (pc := 36) dX2_lay_36 (v := 6) (by decide) ?_
    refine sd_callSN (k := (k + 1)) (n := (n + 6)) (As := [.int (if ((6 : Int32) ≤ v6) then (0 : Int32) else (1 : Int32)), .int (3 : Int32), .int (6 : Int32)]) (st := []) (pc := 38) dX2_lay_38 q909 q910 q80 q911 3 (by decide +kernel) rfl (Nat.le_refl _) (by decide) (Nat.le_of_ble_eq_true rfl) (Cx.mono h (kV.to (fun σ8 h => ?_)) (xo rfl))
    refine sd_aload_n (pc := 41) dX2_lay_41 rfl 1 rfl ?_
    refine sd_iload_n (pc := 42) dX2_lay_42 rfl 2 rfl ?_
    refine sd_aload_n (pc := 43) dX2_lay_43 rfl 0 rfl ?_
    refine sd_aload_n (pc := 44) dX2_lay_44 rfl 0 rfl ?_
    refine sd_getIN (pc := 45) dX2_lay_45 (ci := 3) rfl in_X4 (kf := 2) (by decide) q881 (h.mono (fun v9 h => ?_))
    refine sd_iconst (pc := 48) dX2_lay_48 (v := 1) (by decide) ?_
    refine sd_iadd (pc := 49) dX2_lay_49 ?_
    refine sd_aload_n (pc := 50) dX2_lay_50 rfl 0 rfl ?_
    refine sd_getIN (pc := 51) dX2_lay_51 (ci := 3) rfl in_X4 (kf := 3) (by decide) q884 (h.mono (fun v10 h => ?_))
    refine sd_callV (k := k) (n := n) (As := [.int (v9 + (1 : Int32)), .int v10]) (st := [.int x1, .ref x0]) (pc := 54) dX2_lay_54 (ci := 3) rfl h.1 rfl q1100 q1101 q1102 q98 q1103 2 (by decide +kernel) rfl (Nat.le_refl _) (by decide) (Nat.le_of_ble_eq_true rfl) (Cx.mono h.2 (kA.to (fun r12 σ11 h => ?_)) (xo rfl))
    refine sd_callV (k := k) (n := n) (As := [.int x1, .ref r12]) (st := []) (pc := 57) dX2_lay_57 (ci := 1) rfl h.1 rfl q1105 q1107 qs12 q81 q1108 2 (by decide +kernel) rfl (Nat.le_refl _) (by decide) (Nat.le_of_ble_eq_true rfl) (Cx.mono h.2 (kV.to (fun σ13 h => ?_)) (xo rfl))
    refine sd_aload_n (pc := 60) dX2_lay_60 rfl 0 rfl ?_
    refine sd_getIN (pc := 61) dX2_lay_61 (ci := 3) rfl in_X4 (kf := 2) (by decide) q881 (h.mono (fun v14 h => ?_))
    refine sd_iconst (pc := 64) dX2_lay_64 (v := 1) (by decide) ?_
    refine sd_iadd (pc := 65) dX2_lay_65 ?_
    exact sd_ireturn (pc := 66) dX2_lay_66 (ty0 := .int) rfl rfl h
  have e16 := sd_iteI h15
  refine sd_icmpge (pc := 27) dX2_lay_27 (tgt := 34) (by decide) ⟨fun c7 => ?_, fun c7 => ?_⟩
  · refine sd_iconst (pc := 34) dX2_lay_34 (v := 0) (by decide) ?_
    exact (e16.1 c7)
  · refine sd_iconst (pc := 30) dX2_lay_30 (v := 1) (by decide) ?_
    refine sd_goto (pc := 31) dX2_lay_31 (tgt := 35) (by decide) ?_
    exact (e16.2 c7)
theorem cx_X2_lay {en : yEn} {d : Nat} {x0 : Nat} {x1 : Int32} {σ : yH} {k n : Nat} {K : Option Value → yH → Prop} {X : String → Addr → yH → Prop} (h : wp_X2_lay en d  x0 x1 σ k n K X) : Cx en (d + 1) (k + 4) (n + 28) mX2_lay [.ref x0, .int x1] σ K X := Cx.body (by decide +kernel) rfl (Nat.le_of_ble_eq_true rfl) (ok_X2_lay h)
/-! PeacockLawns$Garden.between(II)I -/
def wp_X2_between (en : yEn) (d : Nat) (x0 : Int32) (x1 : Int32) (σ : yH) (k n : Nat) (K : Option Value → yH → Prop) (X : String → Addr → yH → Prop) : Prop :=
  yLet (if x1 < x0 then x1 else x0) (fun r1 => yLet (if x0 < x1 then x1 else x0) (fun r2 => ((¬ ((r2 - r1) = (3 : Int32)) → K (some (.int (if ((r2 - r1) = (1 : Int32)) then (if ((2 : Int32) ≤ (r1 - r1 / (3 : Int32) * (3 : Int32))) then (-1 : Int32) else (((2 : Int32) * (r1 / (3 : Int32))) + (r1 - r1 / (3 : Int32) * (3 : Int32)))) else (-1 : Int32)))) σ) ∧ (((r2 - r1) = (3 : Int32)) → K (some (.int (((6 : Int32) + ((3 : Int32) * (r1 / (3 : Int32)))) + (r1 - r1 / (3 : Int32) * (3 : Int32))))) σ))))
set_option maxHeartbeats 4000000 in
theorem ok_X2_between {en : yEn} {d : Nat} {x0 : Int32} {x1 : Int32} {σ : yH} {k n : Nat} {K : Option Value → yH → Prop} {X : String → Addr → yH → Prop} (h : wp_X2_between en d  x0 x1 σ k n K X) : Wx en (d + 1) mX2_between 0 [(0, .int x0), (1, .int x1)] [] σ k n K X := by
  unfold wp_X2_between at h
  refine sd_iload_n (pc := 0) dX2_between_0 rfl 0 rfl ?_
  refine sd_iload_n (pc := 1) dX2_between_1 rfl 1 rfl ?_
  refine sd_mminL (pc := 2) dX2_between_2 q1186 q555 q101 q556 (by omega) (Nat.le_of_ble_eq_true rfl) (h.mono (fun r1 h => ?_))
  refine sd_istore_n (pc := 5) dX2_between_5 rfl (by decide) (ls' := [(2, .int r1), (0, .int x0), (1, .int x1)]) rfl ?_
  refine sd_iload_n (pc := 6) dX2_between_6 rfl 1 rfl ?_
  refine sd_iload_n (pc := 7) dX2_between_7 rfl 2 rfl ?_
  refine sd_mmaxL (pc := 8) dX2_between_8 q1187 q537 q101 q538 (by omega) (Nat.le_of_ble_eq_true rfl) (h.mono (fun r2 h => ?_))
  refine sd_iload_n (pc := 11) dX2_between_11 rfl 0 rfl ?_
  refine sd_isub (pc := 12) dX2_between_12 ?_
  refine sd_istore_n (pc := 13) dX2_between_13 rfl (by decide) (ls' := [(3, .int (r2 - r1)), (2, .int r1), (0, .int x0), (1, .int x1)]) rfl ?_
  refine sd_iload_n (pc := 14) dX2_between_14 rfl 1 rfl ?_
  refine sd_iconst (pc := 15) dX2_between_15 (v := 3) (by decide) ?_
  refine sd_idiv (pc := 16) dX2_between_16 (by decide) ?_
  refine sd_istore (pc := 17) dX2_between_17 (by decide) (ls' := [(4, .int (r1 / (3 : Int32))), (3, .int (r2 - r1)), (2, .int r1), (0, .int x0), (1, .int x1)]) rfl ?_
  refine sd_iload_n (pc := 19) dX2_between_19 rfl 2 rfl ?_
  refine sd_iconst (pc := 20) dX2_between_20 (v := 3) (by decide) ?_
  refine sd_irem (pc := 21) dX2_between_21 (by decide) ?_
  refine sd_istore (pc := 22) dX2_between_22 (by decide) (ls' := [(5, .int (r1 - r1 / (3 : Int32) * (3 : Int32))), (4, .int (r1 / (3 : Int32))), (3, .int (r2 - r1)), (2, .int r1), (0, .int x0), (1, .int x1)]) rfl ?_
  refine sd_iload_n (pc := 24) dX2_between_24 rfl 2 rfl ?_
  refine sd_iconst (pc := 25) dX2_between_25 (v := 3) (by decide) ?_
  refine sd_icmpne (pc := 26) dX2_between_26 (tgt := 40) (by decide) ⟨fun c5 => ?_, fun c5 => ?_⟩
  · have h := h.1 c5
    refine sd_iload_n (pc := 40) dX2_between_40 rfl 2 rfl ?_
    refine sd_iconst (pc := 41) dX2_between_41 (v := 1) (by decide) ?_
    have h6 : Wx en (d + 1) mX2_between 62 [(5, .int (r1 - r1 / (3 : Int32) * (3 : Int32))), (4, .int (r1 / (3 : Int32))), (3, .int (r2 - r1)), (2, .int r1), (0, .int x0), (1, .int x1)] (.int (if ((r2 - r1) = (1 : Int32)) then (if ((2 : Int32) ≤ (r1 - r1 / (3 : Int32) * (3 : Int32))) then (-1 : Int32) else (((2 : Int32) * (r1 / (3 : Int32))) + (r1 - r1 / (3 : Int32) * (3 : Int32)))) else (-1 : Int32)) :: []) σ k n K X := by
      exact sd_ireturn (pc := 62) dX2_between_62 (ty0 := .int) rfl rfl h
    have e7 := sd_iteIN h6
    refine sd_icmpne (pc := 42) dX2_between_42 (tgt := 61) (by decide) ⟨fun c4 => ?_, fun c4 => ?_⟩
    · refine sd_iconst (pc := 61) dX2_between_61 (v := -1) (by decide) ?_
      exact (e7.1 c4)
    · refine sd_iload (pc := 45) dX2_between_45 0 rfl ?_
      refine sd_iconst (pc := 47) dX2_between_47 (v := 2) (by decide) ?_
      have e8 := sd_iteI (e7.2 c4)
      refine sd_icmpge (pc := 48) dX2_between_48 (tgt := 61) (by decide) ⟨fun c3 => ?_, fun c3 => ?_⟩
      · refine sd_iconst (pc := 61) dX2_between_61 (v := -1) (by decide) ?_
        exact (e8.1 c3)
      · refine sd_iconst (pc := 51) dX2_between_51 (v := 2) (by decide) ?_
        refine sd_iload (pc := 52) dX2_between_52 1 rfl ?_
        refine sd_imul (pc := 54) dX2_between_54 ?_
        refine sd_iload (pc := 55) dX2_between_55 0 rfl ?_
        refine sd_iadd (pc := 57) dX2_between_57 ?_
        refine sd_goto (pc := 58) dX2_between_58 (tgt := 62) (by decide) ?_
        exact (e8.2 c3)
  · have h := h.2 c5
    refine sd_bipush (pc := 29) dX2_between_29 (v := 6) (by decide) ?_
    refine sd_iconst (pc := 31) dX2_between_31 (v := 3) (by decide) ?_
    refine sd_iload (pc := 32) dX2_between_32 1 rfl ?_
    refine sd_imul (pc := 34) dX2_between_34 ?_
    refine sd_iadd (pc := 35) dX2_between_35 ?_
    refine sd_iload (pc := 36) dX2_between_36 0 rfl ?_
    refine sd_iadd (pc := 38) dX2_between_38 ?_
    exact sd_ireturn (pc := 39) dX2_between_39 (ty0 := .int) rfl rfl h
theorem cx_X2_between {en : yEn} {d : Nat} {x0 : Int32} {x1 : Int32} {σ : yH} {k n : Nat} {K : Option Value → yH → Prop} {X : String → Addr → yH → Prop} (h : wp_X2_between en d  x0 x1 σ k n K X) : Cx en (d + 1) k n mX2_between [.int x0, .int x1] σ K X := Cx.body (by decide +kernel) rfl (Nat.le_of_ble_eq_true rfl) (ok_X2_between h)
/-! PeacockLawns$Garden.way(II)I -/
def wp_X2_way_10 (en : yEn) (d : Nat) (l0 : Nat) (l1 : Int32) (l3 : Int32) (l4 : Int32) (l5 : Int32) (σ : yH) (k n : Nat) (K : Option Value → yH → Prop) (X : String → Addr → yH → Prop) : Prop :=
  ((((9 : Int32) ≤ l5) → K (some (.int l3)) σ) ∧ (¬ ((9 : Int32) ≤ l5) → ((¬ (l5 = l1) → Cx en d 0 0 mX2_between [.int l1, .int l5] σ (kI (fun r2 σ1 => Wx en (d + 1) mX2_way 33 [(0, .ref l0), (1, .int l1), (3, .int l3), (4, .int l4), (5, .int l5)] [.int r2] σ1 k n K X)) X) ∧ ((l5 = l1) → Wx en (d + 1) mX2_way 33 [(0, .ref l0), (1, .int l1), (3, .int l3), (4, .int l4), (5, .int l5)] [.int (-1 : Int32)] σ k n K X))))
set_option maxHeartbeats 4000000 in
theorem ok_X2_way_10 {en : yEn} {d : Nat} {l0 : Nat} {l1 : Int32} {l3 : Int32} {l4 : Int32} {l5 : Int32} {σ : yH} {k n : Nat} {K : Option Value → yH → Prop} {X : String → Addr → yH → Prop} (h : wp_X2_way_10 en d  l0 l1 l3 l4 l5 σ k n K X) : Wx en (d + 1) mX2_way 10 [(0, .ref l0), (1, .int l1), (3, .int l3), (4, .int l4), (5, .int l5)] [] σ k n K X := by
  unfold wp_X2_way_10 at h
  refine sd_iload (pc := 10) dX2_way_10 4 rfl ?_
  refine sd_bipush (pc := 12) dX2_way_12 (v := 9) (by decide) ?_
  refine sd_icmpge (pc := 14) dX2_way_14 (tgt := 71) (by decide) ⟨fun c4 => ?_, fun c4 => ?_⟩
  · have h := h.1 c4
    refine sd_iload_n (pc := 71) dX2_way_71 rfl 2 rfl ?_
    exact sd_ireturn (pc := 72) dX2_way_72 (ty0 := .int) rfl rfl h
  · have h := h.2 c4
    refine sd_iload (pc := 17) dX2_way_17 4 rfl ?_
    refine sd_iload_n (pc := 19) dX2_way_19 rfl 1 rfl ?_
    refine sd_icmpne (pc := 20) dX2_way_20 (tgt := 27) (by decide) ⟨fun c3 => ?_, fun c3 => ?_⟩
    · have h := h.1 c3
      refine sd_iload_n (pc := 27) dX2_way_27 rfl 1 rfl ?_
      refine sd_iload (pc := 28) dX2_way_28 4 rfl ?_
      refine sd_callS (k := k) (n := n) (As := [.int l1, .int l5]) (st := []) (pc := 30) dX2_way_30 q1183 q1184 q81 q1185 2 (by decide +kernel) rfl (Nat.le_refl _) (by decide) (Nat.le_of_ble_eq_true rfl) (Cx.mono h (kI.to (fun r2 σ1 h => ?_)) (xo rfl))
      exact h
    · have h := h.2 c3
      refine sd_iconst (pc := 23) dX2_way_23 (v := -1) (by decide) ?_
      refine sd_goto (pc := 24) dX2_way_24 (tgt := 33) (by decide) ?_
      exact h
def wp_X2_way_33 (en : yEn) (d : Nat) (l0 : Nat) (l1 : Int32) (l3 : Int32) (l4 : Int32) (l5 : Int32) (t0 : Int32) (σ : yH) (k n : Nat) (K : Option Value → yH → Prop) (X : String → Addr → yH → Prop) : Prop :=
  (((t0 = (-1 : Int32)) → Wx en (d + 1) mX2_way 10 [(0, .ref l0), (1, .int l1), (3, .int l3), (4, .int l4), (5, .int (l5 + (1 : Int32)))] [] σ k n K X) ∧ (¬ (t0 = (-1 : Int32)) → getR σ l0 1 3 (fun v5 => aldI σ (en.2.2.2 0) v5 t0 (fun v6 => (((l4 ≤ v6) → Wx en (d + 1) mX2_way 10 [(0, .ref l0), (1, .int l1), (3, .int l3), (4, .int l4), (5, .int (l5 + (1 : Int32)))] [] σ k n K X) ∧ (¬ (l4 ≤ v6) → getR σ l0 1 3 (fun v7 => aldI σ (en.2.2.2 0) v7 t0 (fun v8 => Wx en (d + 1) mX2_way 10 [(0, .ref l0), (1, .int l1), (3, .int l5), (4, .int v8), (5, .int (l5 + (1 : Int32)))] [] σ k n K X))))))))
set_option maxHeartbeats 4000000 in
theorem ok_X2_way_33 {en : yEn} {d : Nat} {l0 : Nat} {l1 : Int32} {l3 : Int32} {l4 : Int32} {l5 : Int32} {t0 : Int32} {σ : yH} {k n : Nat} {K : Option Value → yH → Prop} {X : String → Addr → yH → Prop} (h : wp_X2_way_33 en d  l0 l1 l3 l4 l5 t0 σ k n K X) : Wx en (d + 1) mX2_way 33 [(0, .ref l0), (1, .int l1), (3, .int l3), (4, .int l4), (5, .int l5)] [.int t0] σ k n K X := by
  unfold wp_X2_way_33 at h
  refine sd_istore (pc := 33) dX2_way_33 (by decide) (ls' := [(6, .int t0), (0, .ref l0), (1, .int l1), (3, .int l3), (4, .int l4), (5, .int l5)]) rfl ?_
  refine sd_iload (pc := 35) dX2_way_35 0 rfl ?_
  refine sd_iconst (pc := 37) dX2_way_37 (v := -1) (by decide) ?_
  refine sd_icmpeq (pc := 38) dX2_way_38 (tgt := 65) (by decide) ⟨fun c10 => ?_, fun c10 => ?_⟩
  · have h := h.1 c10
    refine sd_iinc (pc := 65) dX2_way_65 5 rfl (v := (l5 + (1 : Int32))) rfl (by decide) (ls' := [(5, .int (l5 + (1 : Int32))), (6, .int t0), (0, .ref l0), (1, .int l1), (3, .int l3), (4, .int l4)]) rfl ?_
    refine sd_goto (pc := 68) dX2_way_68 (tgt := 10) (by decide) ?_
    exact sd_loc [2, 3, 4, 5, 0] rfl h
  · have h := h.2 c10
    refine sd_aload_n (pc := 41) dX2_way_41 rfl 1 rfl ?_
    refine sd_getR (pc := 42) dX2_way_42 (ci := 1) rfl in_X2 (kf := 3) (by decide) q172 (h.mono (fun v5 h => ?_))
    refine sd_iload (pc := 45) dX2_way_45 0 rfl ?_
    refine sd_iaload (pc := 47) dX2_way_47 (h.mono (fun v6 h => ?_))
    refine sd_iload (pc := 48) dX2_way_48 4 rfl ?_
    refine sd_icmpge (pc := 50) dX2_way_50 (tgt := 65) (by decide) ⟨fun c9 => ?_, fun c9 => ?_⟩
    · have h := h.1 c9
      refine sd_iinc (pc := 65) dX2_way_65 5 rfl (v := (l5 + (1 : Int32))) rfl (by decide) (ls' := [(5, .int (l5 + (1 : Int32))), (6, .int t0), (0, .ref l0), (1, .int l1), (3, .int l3), (4, .int l4)]) rfl ?_
      refine sd_goto (pc := 68) dX2_way_68 (tgt := 10) (by decide) ?_
      exact sd_loc [2, 3, 4, 5, 0] rfl h
    · have h := h.2 c9
      refine sd_iload (pc := 53) dX2_way_53 5 rfl ?_
      refine sd_istore_n (pc := 55) dX2_way_55 rfl (by decide) (ls' := [(3, .int l5), (6, .int t0), (0, .ref l0), (1, .int l1), (4, .int l4), (5, .int l5)]) rfl ?_
      refine sd_aload_n (pc := 56) dX2_way_56 rfl 2 rfl ?_
      refine sd_getR (pc := 57) dX2_way_57 (ci := 1) rfl in_X2 (kf := 3) (by decide) q172 (h.mono (fun v7 h => ?_))
      refine sd_iload (pc := 60) dX2_way_60 1 rfl ?_
      refine sd_iaload (pc := 62) dX2_way_62 (h.mono (fun v8 h => ?_))
      refine sd_istore (pc := 63) dX2_way_63 (by decide) (ls' := [(4, .int v8), (3, .int l5), (6, .int t0), (0, .ref l0), (1, .int l1), (5, .int l5)]) rfl ?_
      refine sd_iinc (pc := 65) dX2_way_65 5 rfl (v := (l5 + (1 : Int32))) rfl (by decide) (ls' := [(5, .int (l5 + (1 : Int32))), (4, .int v8), (3, .int l5), (6, .int t0), (0, .ref l0), (1, .int l1)]) rfl ?_
      refine sd_goto (pc := 68) dX2_way_68 (tgt := 10) (by decide) ?_
      exact sd_loc [4, 5, 2, 1, 0] rfl h
def wp_X2_way (en : yEn) (d : Nat) (x0 : Nat) (x1 : Int32) (x2 : Int32) (σ : yH) (k n : Nat) (K : Option Value → yH → Prop) (X : String → Addr → yH → Prop) : Prop :=
  Wx en (d + 1) mX2_way 10 [(0, .ref x0), (1, .int x1), (3, .int x1), (4, .int (x2 + (1 : Int32))), (5, .int (0 : Int32))] [] σ k n K X
set_option maxHeartbeats 4000000 in
theorem ok_X2_way {en : yEn} {d : Nat} {x0 : Nat} {x1 : Int32} {x2 : Int32} {σ : yH} {k n : Nat} {K : Option Value → yH → Prop} {X : String → Addr → yH → Prop} (h : wp_X2_way en d  x0 x1 x2 σ k n K X) : Wx en (d + 1) mX2_way 0 [(0, .ref x0), (1, .int x1), (2, .int x2)] [] σ k n K X := by
  unfold wp_X2_way at h
  refine sd_iload_n (pc := 0) dX2_way_0 rfl 1 rfl ?_
  refine sd_istore_n (pc := 1) dX2_way_1 rfl (by decide) (ls' := [(3, .int x1), (0, .ref x0), (1, .int x1), (2, .int x2)]) rfl ?_
  refine sd_iload_n (pc := 2) dX2_way_2 rfl 3 rfl ?_
  refine sd_iconst (pc := 3) dX2_way_3 (v := 1) (by decide) ?_
  refine sd_iadd (pc := 4) dX2_way_4 ?_
  refine sd_istore (pc := 5) dX2_way_5 (by decide) (ls' := [(4, .int (x2 + (1 : Int32))), (3, .int x1), (0, .ref x0), (1, .int x1), (2, .int x2)]) rfl ?_
  refine sd_iconst (pc := 7) dX2_way_7 (v := 0) (by decide) ?_
  refine sd_istore (pc := 8) dX2_way_8 (by decide) (ls' := [(5, .int (0 : Int32)), (4, .int (x2 + (1 : Int32))), (3, .int x1), (0, .ref x0), (1, .int x1), (2, .int x2)]) rfl ?_
  exact sd_loc [3, 4, 2, 1, 0] rfl h
theorem cx_X2_way {en : yEn} {d : Nat} {x0 : Nat} {x1 : Int32} {x2 : Int32} {σ : yH} {k n : Nat} {K : Option Value → yH → Prop} {X : String → Addr → yH → Prop} (h : wp_X2_way en d  x0 x1 x2 σ k n K X) : Cx en (d + 1) k n mX2_way [.ref x0, .int x1, .int x2] σ K X := Cx.body (by decide +kernel) rfl (Nat.le_of_ble_eq_true rfl) (ok_X2_way h)
/-! PeacockLawns$Garden.goesTo(LPeacockLawns$Bird;)I -/
def wp_X2_goesTo (en : yEn) (d : Nat) (x0 : Nat) (x1 : Nat) (σ : yH) (k n : Nat) (K : Option Value → yH → Prop) (X : String → Addr → yH → Prop) : Prop :=
  (isC σ x1 3 ∧ Cx en d 0 0 mX4_isSitting [.ref x1] σ (kI (fun r2 σ1 => (((r2 = 0) → getI σ1 x1 3 1 (fun v3 => (isC σ1 x0 1 ∧ Cx en d 0 0 mX2_way [.ref x0, .int v3, .int (6 : Int32)] σ1 (kI (fun r5 σ4 => K (some (.int r5)) σ4)) X))) ∧ (¬ (r2 = 0) → getI σ1 x1 3 1 (fun v6 => K (some (.int v6)) σ1))))) X)
set_option maxHeartbeats 4000000 in
theorem ok_X2_goesTo {en : yEn} {d : Nat} {x0 : Nat} {x1 : Nat} {σ : yH} {k n : Nat} {K : Option Value → yH → Prop} {X : String → Addr → yH → Prop} (h : wp_X2_goesTo en d  x0 x1 σ k n K X) : Wx en (d + 1) mX2_goesTo 0 [(0, .ref x0), (1, .ref x1)] [] σ k n K X := by
  unfold wp_X2_goesTo at h
  refine sd_aload_n (pc := 0) dX2_goesTo_0 rfl 1 rfl ?_
  refine sd_callV (k := k) (n := n) (As := []) (st := []) (pc := 1) dX2_goesTo_1 (ci := 3) rfl h.1 rfl q1175 q1176 q1177 q98 q1178 0 (by decide +kernel) rfl (Nat.le_refl _) (by decide) (Nat.le_of_ble_eq_true rfl) (Cx.mono h.2 (kI.to (fun r2 σ1 h => ?_)) (xo rfl))
  refine sd_ifeq (pc := 4) dX2_goesTo_4 (tgt := 14) (by decide) ⟨fun c7 => ?_, fun c7 => ?_⟩
  · have h := h.1 c7
    refine sd_aload_n (pc := 14) dX2_goesTo_14 rfl 0 rfl ?_
    refine sd_aload_n (pc := 15) dX2_goesTo_15 rfl 1 rfl ?_
    refine sd_getIN (pc := 16) dX2_goesTo_16 (ci := 3) rfl in_X4 (kf := 1) (by decide) q878 (h.mono (fun v3 h => ?_))
    refine sd_bipush (pc := 19) dX2_goesTo_19 (v := 6) (by decide) ?_
    refine sd_callV (k := k) (n := n) (As := [.int v3, .int (6 : Int32)]) (st := []) (pc := 21) dX2_goesTo_21 (ci := 1) rfl h.1 rfl q1179 q1180 q1181 q81 q1182 2 (by decide +kernel) rfl (Nat.le_refl _) (by decide) (Nat.le_of_ble_eq_true rfl) (Cx.mono h.2 (kI.to (fun r5 σ4 h => ?_)) (xo rfl))
    exact sd_ireturn (pc := 24) dX2_goesTo_24 (ty0 := .int) rfl rfl h
  · have h := h.2 c7
    refine sd_aload_n (pc := 7) dX2_goesTo_7 rfl 1 rfl ?_
    refine sd_getIN (pc := 8) dX2_goesTo_8 (ci := 3) rfl in_X4 (kf := 1) (by decide) q878 (h.mono (fun v6 h => ?_))
    refine sd_goto (pc := 11) dX2_goesTo_11 (tgt := 24) (by decide) ?_
    exact sd_ireturn (pc := 24) dX2_goesTo_24 (ty0 := .int) rfl rfl h
theorem cx_X2_goesTo {en : yEn} {d : Nat} {x0 : Nat} {x1 : Nat} {σ : yH} {k n : Nat} {K : Option Value → yH → Prop} {X : String → Addr → yH → Prop} (h : wp_X2_goesTo en d  x0 x1 σ k n K X) : Cx en (d + 1) k n mX2_goesTo [.ref x0, .ref x1] σ K X := Cx.body (by decide +kernel) rfl (Nat.le_of_ble_eq_true rfl) (ok_X2_goesTo h)
/-! PeacockLawns$Garden.count(LPeacockLawns$Kind;)I -/
def wp_X2_count_12 (en : yEn) (d : Nat) (p22 : Nat × Nat) (l1 : Nat) (l2 : Int32) (l3 : Nat) (σ : yH) (k n : Nat) (K : Option Value → yH → Prop) (X : String → Addr → yH → Prop) : Prop :=
  (isC σ l3 12 ∧ Cx en d 0 0 mJ25_hasNext [.ref l3] σ (kI (fun r5 σ4 => (((r5 = 0) → K (some (.int l2)) σ4) ∧ (¬ (r5 = 0) → (isC σ4 l3 12 ∧ Cx en d p22.1 p22.2 mJ25_next [.ref l3] σ4 (kA (fun r7 σ6 => (isC σ6 r7 3 ∧ False))) X))))) X)
set_option maxHeartbeats 4000000 in
theorem ok_X2_count_12 {en : yEn} {d : Nat} {p22 : Nat × Nat} {l1 : Nat} {l2 : Int32} {l3 : Nat} {σ : yH} {k n : Nat} {K : Option Value → yH → Prop} {X : String → Addr → yH → Prop} (h : wp_X2_count_12 en d p22 l1 l2 l3 σ k n K X) : Wx en (d + 1) mX2_count 12 [(1, .ref l1), (2, .int l2), (3, .ref l3)] [] σ (k + p22.1) (n + p22.2) K X := by
  unfold wp_X2_count_12 at h
  refine sd_aload_n (pc := 12) dX2_count_12 rfl 2 rfl ?_
  refine sd_callF (k := (k + p22.1)) (n := (n + p22.2)) (As := []) (st := []) (pc := 13) dX2_count_13 (ci := 12) rfl h.1 (x := ⟨"java/util/Iterator", "hasNext", "()Z"⟩) q355 q359 q361 q112 q363 q357 q356 q362 q360 q358 0 (by decide +kernel) rfl 0 (by decide +kernel) rfl (Nat.le_refl _) (by decide) (Nat.le_of_ble_eq_true rfl) (Cx.mono h.2 (kI.to (fun r5 σ4 h => ?_)) (xo rfl))
  refine sd_ifeq (pc := 18) dX2_count_18 (tgt := 54) (by decide) ⟨fun c8 => ?_, fun c8 => ?_⟩
  · have h := h.1 c8
    refine Wx.more (k' := k) (n' := n) ?_ (by omega) (by omega)
    refine sd_iload_n (pc := 54) dX2_count_54 rfl 1 rfl ?_
    exact sd_ireturn (pc := 55) dX2_count_55 (ty0 := .int) rfl rfl h
  · have h := h.2 c8
    refine sd_aload_n (pc := 21) dX2_count_21 rfl 2 rfl ?_
    refine sd_callF (k := k) (n := n) (As := []) (st := []) (pc := 22) dX2_count_22 (ci := 12) rfl h.1 (x := ⟨"java/util/Iterator", "next", "()Ljava/lang/Object;"⟩) q365 q368 q370 q112 q372 q367 q366 q371 q369 q358 0 (by decide +kernel) rfl 0 (by decide +kernel) rfl (Nat.le_refl _) (by decide) (Nat.le_of_ble_eq_true rfl) (Cx.mono h.2 (kA.to (fun r7 σ6 h => ?_)) (xo rfl))
    refine sd_castE (r := (RX4, TX4, 6)) (pc := 27) dX2_count_27 q448 (ci := 3) rfl h.1 ?_
    have h := h.2
    refine sd_astore (pc := 30) dX2_count_30 (by decide) (ls' := [(4, .ref r7), (1, .ref l1), (2, .int l2), (3, .ref l3)]) rfl ?_
    refine sd_iload_n (pc := 32) dX2_count_32 rfl 2 rfl ?_
    refine sd_aload_n (pc := 33) dX2_count_33 rfl 1 rfl ?_
    refine sd_aload (pc := 34) dX2_count_34 0 rfl ?_
    exact h.elim
def wp_X2_count (en : yEn) (d : Nat) (x0 : Nat) (x1 : Nat) (σ : yH) (k n : Nat) (K : Option Value → yH → Prop) (X : String → Addr → yH → Prop) : Prop :=
  getR σ x0 1 0 (fun v1 => (isC σ v1 11 ∧ Cx en d 1 4 mJ2_iterator [.ref v1] σ (kA (fun r3 σ2 => Wx en (d + 1) mX2_count 12 [(1, .ref x1), (2, .int (0 : Int32)), (3, .ref r3)] [] σ2 k n K X)) X))
set_option maxHeartbeats 4000000 in
theorem ok_X2_count {en : yEn} {d : Nat} {x0 : Nat} {x1 : Nat} {σ : yH} {k n : Nat} {K : Option Value → yH → Prop} {X : String → Addr → yH → Prop} (h : wp_X2_count en d  x0 x1 σ k n K X) : Wx en (d + 1) mX2_count 0 [(0, .ref x0), (1, .ref x1)] [] σ (k + 1) (n + 4) K X := by
  unfold wp_X2_count at h
  refine sd_iconst (pc := 0) dX2_count_0 (v := 0) (by decide) ?_
  refine sd_istore_n (pc := 1) dX2_count_1 rfl (by decide) (ls' := [(2, .int (0 : Int32)), (0, .ref x0), (1, .ref x1)]) rfl ?_
  refine sd_aload_n (pc := 2) dX2_count_2 rfl 1 rfl ?_
  refine sd_getR (pc := 3) dX2_count_3 (ci := 1) rfl in_X2 (kf := 0) (by decide) q166 (h.mono (fun v1 h => ?_))
  refine sd_callF (k := k) (n := n) (As := []) (st := []) (pc := 6) dX2_count_6 (ci := 11) rfl h.1 (x := ⟨"java/util/List", "iterator", "()Ljava/util/Iterator;"⟩) q326 q330 q332 q84 q334 q328 q327 q333 q331 q329 0 (by decide +kernel) rfl 0 (by decide +kernel) rfl (Nat.le_refl _) (by decide) (Nat.le_of_ble_eq_true rfl) (Cx.mono h.2 (kA.to (fun r3 σ2 h => ?_)) (xo rfl))
  refine sd_astore_n (pc := 11) dX2_count_11 rfl (by decide) (ls' := [(3, .ref r3), (2, .int (0 : Int32)), (0, .ref x0), (1, .ref x1)]) rfl ?_
  exact sd_loc [3, 1, 0] rfl h
theorem cx_X2_count {en : yEn} {d : Nat} {x0 : Nat} {x1 : Nat} {σ : yH} {k n : Nat} {K : Option Value → yH → Prop} {X : String → Addr → yH → Prop} (h : wp_X2_count en d  x0 x1 σ k n K X) : Cx en (d + 1) (k + 1) (n + 4) mX2_count [.ref x0, .ref x1] σ K X := Cx.body (by decide +kernel) rfl (Nat.le_of_ble_eq_true rfl) (ok_X2_count h)
/-! PeacockLawns$Garden.reached(III)I -/
def wp_X2_reached_10 (en : yEn) (d : Nat) (l0 : Nat) (l1 : Int32) (l2 : Int32) (l4 : Int32) (l5 : Int32) (σ : yH) (k n : Nat) (K : Option Value → yH → Prop) (X : String → Addr → yH → Prop) : Prop :=
  ((((9 : Int32) ≤ l5) → K (some (.int l4)) σ) ∧ (¬ ((9 : Int32) ≤ l5) → ((¬ (((l4 >>> (l5 &&& 31)) &&& (1 : Int32)) = (1 : Int32)) → Cx en d 0 0 mX2_between [.int l1, .int l5] σ (kI (fun r2 σ1 => Wx en (d + 1) mX2_reached 38 [(0, .ref l0), (1, .int l1), (2, .int l2), (4, .int l4), (5, .int l5)] [.int r2] σ1 k n K X)) X) ∧ ((((l4 >>> (l5 &&& 31)) &&& (1 : Int32)) = (1 : Int32)) → Wx en (d + 1) mX2_reached 38 [(0, .ref l0), (1, .int l1), (2, .int l2), (4, .int l4), (5, .int l5)] [.int (-1 : Int32)] σ k n K X))))
set_option maxHeartbeats 4000000 in
theorem ok_X2_reached_10 {en : yEn} {d : Nat} {l0 : Nat} {l1 : Int32} {l2 : Int32} {l4 : Int32} {l5 : Int32} {σ : yH} {k n : Nat} {K : Option Value → yH → Prop} {X : String → Addr → yH → Prop} (h : wp_X2_reached_10 en d  l0 l1 l2 l4 l5 σ k n K X) : Wx en (d + 1) mX2_reached 10 [(0, .ref l0), (1, .int l1), (2, .int l2), (4, .int l4), (5, .int l5)] [] σ k n K X := by
  unfold wp_X2_reached_10 at h
  refine sd_iload (pc := 10) dX2_reached_10 4 rfl ?_
  refine sd_bipush (pc := 12) dX2_reached_12 (v := 9) (by decide) ?_
  refine sd_icmpge (pc := 14) dX2_reached_14 (tgt := 79) (by decide) ⟨fun c4 => ?_, fun c4 => ?_⟩
  · have h := h.1 c4
    refine sd_iload (pc := 79) dX2_reached_79 3 rfl ?_
    exact sd_ireturn (pc := 81) dX2_reached_81 (ty0 := .int) rfl rfl h
  · have h := h.2 c4
    refine sd_iload (pc := 17) dX2_reached_17 3 rfl ?_
    refine sd_iload (pc := 19) dX2_reached_19 4 rfl ?_
    refine sd_ishr (pc := 21) dX2_reached_21 ?_
    refine sd_iconst (pc := 22) dX2_reached_22 (v := 1) (by decide) ?_
    refine sd_iand (pc := 23) dX2_reached_23 ?_
    refine sd_iconst (pc := 24) dX2_reached_24 (v := 1) (by decide) ?_
    refine sd_icmpne (pc := 25) dX2_reached_25 (tgt := 32) (by decide) ⟨fun c3 => ?_, fun c3 => ?_⟩
    · have h := h.1 c3
      refine sd_iload_n (pc := 32) dX2_reached_32 rfl 1 rfl ?_
      refine sd_iload (pc := 33) dX2_reached_33 4 rfl ?_
      refine sd_callS (k := k) (n := n) (As := [.int l1, .int l5]) (st := []) (pc := 35) dX2_reached_35 q1183 q1184 q81 q1185 2 (by decide +kernel) rfl (Nat.le_refl _) (by decide) (Nat.le_of_ble_eq_true rfl) (Cx.mono h (kI.to (fun r2 σ1 h => ?_)) (xo rfl))
      exact h
    · have h := h.2 c3
      refine sd_iconst (pc := 28) dX2_reached_28 (v := -1) (by decide) ?_
      refine sd_goto (pc := 29) dX2_reached_29 (tgt := 38) (by decide) ?_
      exact h
def wp_X2_reached_38 (en : yEn) (d : Nat) (p63 : Nat × Nat) (l0 : Nat) (l1 : Int32) (l2 : Int32) (l4 : Int32) (l5 : Int32) (t0 : Int32) (σ : yH) (k n : Nat) (K : Option Value → yH → Prop) (X : String → Addr → yH → Prop) : Prop :=
  (((t0 = (-1 : Int32)) → Wx en (d + 1) mX2_reached 10 [(0, .ref l0), (1, .int l1), (2, .int l2), (4, .int l4), (5, .int (l5 + (1 : Int32)))] [] σ k n K X) ∧ (¬ (t0 = (-1 : Int32)) → getR σ l0 1 3 (fun v5 => aldI σ (en.2.2.2 0) v5 t0 (fun v6 => (((l2 < v6) → Wx en (d + 1) mX2_reached 10 [(0, .ref l0), (1, .int l1), (2, .int l2), (4, .int l4), (5, .int (l5 + (1 : Int32)))] [] σ k n K X) ∧ (¬ (l2 < v6) → (isC σ l0 1 ∧ Cx en d p63.1 p63.2 mX2_reached [.ref l0, .int l5, .int l2, .int l4] σ (kI (fun r8 σ7 => Wx en (d + 1) mX2_reached 10 [(0, .ref l0), (1, .int l1), (2, .int l2), (4, .int r8), (5, .int (l5 + (1 : Int32)))] [] σ7 k n K X)) X)))))))
set_option maxHeartbeats 4000000 in
theorem ok_X2_reached_38 {en : yEn} {d : Nat} {p63 : Nat × Nat} {l0 : Nat} {l1 : Int32} {l2 : Int32} {l4 : Int32} {l5 : Int32} {t0 : Int32} {σ : yH} {k n : Nat} {K : Option Value → yH → Prop} {X : String → Addr → yH → Prop} (h : wp_X2_reached_38 en d p63 l0 l1 l2 l4 l5 t0 σ k n K X) : Wx en (d + 1) mX2_reached 38 [(0, .ref l0), (1, .int l1), (2, .int l2), (4, .int l4), (5, .int l5)] [.int t0] σ (k + p63.1) (n + p63.2) K X := by
  unfold wp_X2_reached_38 at h
  refine sd_istore (pc := 38) dX2_reached_38 (by decide) (ls' := [(6, .int t0), (0, .ref l0), (1, .int l1), (2, .int l2), (4, .int l4), (5, .int l5)]) rfl ?_
  refine sd_iload (pc := 40) dX2_reached_40 0 rfl ?_
  refine sd_iconst (pc := 42) dX2_reached_42 (v := -1) (by decide) ?_
  refine sd_icmpeq (pc := 43) dX2_reached_43 (tgt := 69) (by decide) ⟨fun c10 => ?_, fun c10 => ?_⟩
  · have h := h.1 c10
    refine Wx.more (k' := k) (n' := n) ?_ (by omega) (by omega)
    refine sd_iload (pc := 69) dX2_reached_69 4 rfl ?_
    refine sd_istore (pc := 71) dX2_reached_71 (by decide) (ls' := [(4, .int l4), (6, .int t0), (0, .ref l0), (1, .int l1), (2, .int l2), (5, .int l5)]) rfl ?_
    refine sd_iinc (pc := 73) dX2_reached_73 5 rfl (v := (l5 + (1 : Int32))) rfl (by decide) (ls' := [(5, .int (l5 + (1 : Int32))), (4, .int l4), (6, .int t0), (0, .ref l0), (1, .int l1), (2, .int l2)]) rfl ?_
    refine sd_goto (pc := 76) dX2_reached_76 (tgt := 10) (by decide) ?_
    exact sd_loc [3, 4, 5, 1, 0] rfl h
  · have h := h.2 c10
    refine sd_aload_n (pc := 46) dX2_reached_46 rfl 1 rfl ?_
    refine sd_getR (pc := 47) dX2_reached_47 (ci := 1) rfl in_X2 (kf := 3) (by decide) q172 (h.mono (fun v5 h => ?_))
    refine sd_iload (pc := 50) dX2_reached_50 0 rfl ?_
    refine sd_iaload (pc := 52) dX2_reached_52 (h.mono (fun v6 h => ?_))
    refine sd_iload_n (pc := 53) dX2_reached_53 rfl 3 rfl ?_
    refine sd_icmpgt (pc := 54) dX2_reached_54 (tgt := 69) (by decide) ⟨fun c9 => ?_, fun c9 => ?_⟩
    · have h := h.1 c9
      refine Wx.more (k' := k) (n' := n) ?_ (by omega) (by omega)
      refine sd_iload (pc := 69) dX2_reached_69 4 rfl ?_
      refine sd_istore (pc := 71) dX2_reached_71 (by decide) (ls' := [(4, .int l4), (6, .int t0), (0, .ref l0), (1, .int l1), (2, .int l2), (5, .int l5)]) rfl ?_
      refine sd_iinc (pc := 73) dX2_reached_73 5 rfl (v := (l5 + (1 : Int32))) rfl (by decide) (ls' := [(5, .int (l5 + (1 : Int32))), (4, .int l4), (6, .int t0), (0, .ref l0), (1, .int l1), (2, .int l2)]) rfl ?_
      refine sd_goto (pc := 76) dX2_reached_76 (tgt := 10) (by decide) ?_
      exact sd_loc [3, 4, 5, 1, 0] rfl h
    · have h := h.2 c9
      refine sd_aload_n (pc := 57) dX2_reached_57 rfl 1 rfl ?_
      refine sd_iload (pc := 58) dX2_reached_58 5 rfl ?_
      refine sd_iload_n (pc := 60) dX2_reached_60 rfl 3 rfl ?_
      refine sd_iload (pc := 61) dX2_reached_61 4 rfl ?_
      refine sd_callV (k := k) (n := n) (As := [.int l5, .int l2, .int l4]) (st := []) (pc := 63) dX2_reached_63 (ci := 1) rfl h.1 rfl q1282 q1279 q1280 q81 q1281 3 (by decide +kernel) rfl (Nat.le_refl _) (by decide) (Nat.le_of_ble_eq_true rfl) (Cx.mono h.2 (kI.to (fun r8 σ7 h => ?_)) (xo rfl))
      refine sd_goto (pc := 66) dX2_reached_66 (tgt := 71) (by decide) ?_
      refine sd_istore (pc := 71) dX2_reached_71 (by decide) (ls' := [(4, .int r8), (6, .int t0), (0, .ref l0), (1, .int l1), (2, .int l2), (5, .int l5)]) rfl ?_
      refine sd_iinc (pc := 73) dX2_reached_73 5 rfl (v := (l5 + (1 : Int32))) rfl (by decide) (ls' := [(5, .int (l5 + (1 : Int32))), (4, .int r8), (6, .int t0), (0, .ref l0), (1, .int l1), (2, .int l2)]) rfl ?_
      refine sd_goto (pc := 76) dX2_reached_76 (tgt := 10) (by decide) ?_
      exact sd_loc [3, 4, 5, 1, 0] rfl h
def wp_X2_reached (en : yEn) (d : Nat) (x0 : Nat) (x1 : Int32) (x2 : Int32) (x3 : Int32) (σ : yH) (k n : Nat) (K : Option Value → yH → Prop) (X : String → Addr → yH → Prop) : Prop :=
  Wx en (d + 1) mX2_reached 10 [(0, .ref x0), (1, .int x1), (2, .int x2), (4, .int (x3 ||| ((1 : Int32) <<< (x1 &&& 31)))), (5, .int (0 : Int32))] [] σ k n K X
set_option maxHeartbeats 4000000 in
theorem ok_X2_reached {en : yEn} {d : Nat} {x0 : Nat} {x1 : Int32} {x2 : Int32} {x3 : Int32} {σ : yH} {k n : Nat} {K : Option Value → yH → Prop} {X : String → Addr → yH → Prop} (h : wp_X2_reached en d  x0 x1 x2 x3 σ k n K X) : Wx en (d + 1) mX2_reached 0 [(0, .ref x0), (1, .int x1), (2, .int x2), (3, .int x3)] [] σ k n K X := by
  unfold wp_X2_reached at h
  refine sd_iload_n (pc := 0) dX2_reached_0 rfl 3 rfl ?_
  refine sd_iconst (pc := 1) dX2_reached_1 (v := 1) (by decide) ?_
  refine sd_iload_n (pc := 2) dX2_reached_2 rfl 1 rfl ?_
  refine sd_ishl (pc := 3) dX2_reached_3 ?_
  refine sd_ior (pc := 4) dX2_reached_4 ?_
  refine sd_istore (pc := 5) dX2_reached_5 (by decide) (ls' := [(4, .int (x3 ||| ((1 : Int32) <<< (x1 &&& 31)))), (0, .ref x0), (1, .int x1), (2, .int x2), (3, .int x3)]) rfl ?_
  refine sd_iconst (pc := 7) dX2_reached_7 (v := 0) (by decide) ?_
  refine sd_istore (pc := 8) dX2_reached_8 (by decide) (ls' := [(5, .int (0 : Int32)), (4, .int (x3 ||| ((1 : Int32) <<< (x1 &&& 31)))), (0, .ref x0), (1, .int x1), (2, .int x2), (3, .int x3)]) rfl ?_
  exact sd_loc [2, 3, 4, 1, 0] rfl h
theorem cx_X2_reached {en : yEn} {d : Nat} {x0 : Nat} {x1 : Int32} {x2 : Int32} {x3 : Int32} {σ : yH} {k n : Nat} {K : Option Value → yH → Prop} {X : String → Addr → yH → Prop} (h : wp_X2_reached en d  x0 x1 x2 x3 σ k n K X) : Cx en (d + 1) k n mX2_reached [.ref x0, .int x1, .int x2, .int x3] σ K X := Cx.body (by decide +kernel) rfl (Nat.le_of_ble_eq_true rfl) (ok_X2_reached h)
/-! PeacockLawns$Garden.reachedAgain(II)I -/
def wp_X2_reachedAgain_7 (en : yEn) (d : Nat) (l0 : Nat) (l2 : Int32) (l3 : Int32) (l4 : Int32) (σ : yH) (k n : Nat) (K : Option Value → yH → Prop) (X : String → Addr → yH → Prop) : Prop :=
  (((l3 = l4) → K (some (.int l3)) σ) ∧ (¬ (l3 = l4) → Wx en (d + 1) mX2_reachedAgain 19 [(0, .ref l0), (2, .int l2), (3, .int l3), (4, .int l3), (5, .int (0 : Int32))] [] σ k n K X))
set_option maxHeartbeats 4000000 in
theorem ok_X2_reachedAgain_7 {en : yEn} {d : Nat} {l0 : Nat} {l2 : Int32} {l3 : Int32} {l4 : Int32} {σ : yH} {k n : Nat} {K : Option Value → yH → Prop} {X : String → Addr → yH → Prop} (h : wp_X2_reachedAgain_7 en d  l0 l2 l3 l4 σ k n K X) : Wx en (d + 1) mX2_reachedAgain 7 [(0, .ref l0), (2, .int l2), (3, .int l3), (4, .int l4)] [] σ k n K X := by
  unfold wp_X2_reachedAgain_7 at h
  refine sd_iload_n (pc := 7) dX2_reachedAgain_7 rfl 2 rfl ?_
  refine sd_iload (pc := 8) dX2_reachedAgain_8 3 rfl ?_
  refine sd_icmpeq (pc := 10) dX2_reachedAgain_10 (tgt := 109) (by decide) ⟨fun c1 => ?_, fun c1 => ?_⟩
  · have h := h.1 c1
    refine sd_iload_n (pc := 109) dX2_reachedAgain_109 rfl 2 rfl ?_
    exact sd_ireturn (pc := 110) dX2_reachedAgain_110 (ty0 := .int) rfl rfl h
  · have h := h.2 c1
    refine sd_iload_n (pc := 13) dX2_reachedAgain_13 rfl 2 rfl ?_
    refine sd_istore (pc := 14) dX2_reachedAgain_14 (by decide) (ls' := [(4, .int l3), (0, .ref l0), (2, .int l2), (3, .int l3)]) rfl ?_
    refine sd_iconst (pc := 16) dX2_reachedAgain_16 (v := 0) (by decide) ?_
    refine sd_istore (pc := 17) dX2_reachedAgain_17 (by decide) (ls' := [(5, .int (0 : Int32)), (4, .int l3), (0, .ref l0), (2, .int l2), (3, .int l3)]) rfl ?_
    exact sd_loc [2, 3, 4, 1, 0] rfl h
def wp_X2_reachedAgain_19 (en : yEn) (d : Nat) (l0 : Nat) (l2 : Int32) (l3 : Int32) (l4 : Int32) (l5 : Int32) (σ : yH) (k n : Nat) (K : Option Value → yH → Prop) (X : String → Addr → yH → Prop) : Prop :=
  ((((9 : Int32) ≤ l5) → Wx en (d + 1) mX2_reachedAgain 7 [(0, .ref l0), (2, .int l2), (3, .int l3), (4, .int l4)] [] σ k n K X) ∧ (¬ ((9 : Int32) ≤ l5) → Wx en (d + 1) mX2_reachedAgain 29 [(0, .ref l0), (2, .int l2), (3, .int l3), (4, .int l4), (5, .int l5), (6, .int (0 : Int32))] [] σ k n K X))
set_option maxHeartbeats 4000000 in
theorem ok_X2_reachedAgain_19 {en : yEn} {d : Nat} {l0 : Nat} {l2 : Int32} {l3 : Int32} {l4 : Int32} {l5 : Int32} {σ : yH} {k n : Nat} {K : Option Value → yH → Prop} {X : String → Addr → yH → Prop} (h : wp_X2_reachedAgain_19 en d  l0 l2 l3 l4 l5 σ k n K X) : Wx en (d + 1) mX2_reachedAgain 19 [(0, .ref l0), (2, .int l2), (3, .int l3), (4, .int l4), (5, .int l5)] [] σ k n K X := by
  unfold wp_X2_reachedAgain_19 at h
  refine sd_iload (pc := 19) dX2_reachedAgain_19 4 rfl ?_
  refine sd_bipush (pc := 21) dX2_reachedAgain_21 (v := 9) (by decide) ?_
  refine sd_icmpge (pc := 23) dX2_reachedAgain_23 (tgt := 106) (by decide) ⟨fun c2 => ?_, fun c2 => ?_⟩
  · have h := h.1 c2
    refine sd_goto (pc := 106) dX2_reachedAgain_106 (tgt := 7) (by decide) ?_
    exact sd_loc [0, 1, 2, 3] rfl h
  · have h := h.2 c2
    refine sd_iconst (pc := 26) dX2_reachedAgain_26 (v := 0) (by decide) ?_
    refine sd_istore (pc := 27) dX2_reachedAgain_27 (by decide) (ls' := [(6, .int (0 : Int32)), (0, .ref l0), (2, .int l2), (3, .int l3), (4, .int l4), (5, .int l5)]) rfl ?_
    exact sd_loc [1, 2, 3, 4, 5, 0] rfl h
def wp_X2_reachedAgain_29 (en : yEn) (d : Nat) (l0 : Nat) (l2 : Int32) (l3 : Int32) (l4 : Int32) (l5 : Int32) (l6 : Int32) (σ : yH) (k n : Nat) (K : Option Value → yH → Prop) (X : String → Addr → yH → Prop) : Prop :=
  ((((9 : Int32) ≤ l6) → Wx en (d + 1) mX2_reachedAgain 19 [(0, .ref l0), (2, .int l2), (3, .int l3), (4, .int l4), (5, .int (l5 + (1 : Int32)))] [] σ k n K X) ∧ (¬ ((9 : Int32) ≤ l6) → ((¬ (((l3 >>> (l5 &&& 31)) &&& (1 : Int32)) = (1 : Int32)) → Wx en (d + 1) mX2_reachedAgain 64 [(0, .ref l0), (2, .int l2), (3, .int l3), (4, .int l4), (5, .int l5), (6, .int l6)] [.int (-1 : Int32)] σ k n K X) ∧ ((((l3 >>> (l5 &&& 31)) &&& (1 : Int32)) = (1 : Int32)) → (((l5 = l6) → Wx en (d + 1) mX2_reachedAgain 64 [(0, .ref l0), (2, .int l2), (3, .int l3), (4, .int l4), (5, .int l5), (6, .int l6)] [.int (-1 : Int32)] σ k n K X) ∧ (¬ (l5 = l6) → Cx en d 0 0 mX2_between [.int l5, .int l6] σ (kI (fun r4 σ3 => Wx en (d + 1) mX2_reachedAgain 64 [(0, .ref l0), (2, .int l2), (3, .int l3), (4, .int l4), (5, .int l5), (6, .int l6)] [.int r4] σ3 k n K X)) X))))))
set_option maxHeartbeats 4000000 in
theorem ok_X2_reachedAgain_29 {en : yEn} {d : Nat} {l0 : Nat} {l2 : Int32} {l3 : Int32} {l4 : Int32} {l5 : Int32} {l6 : Int32} {σ : yH} {k n : Nat} {K : Option Value → yH → Prop} {X : String → Addr → yH → Prop} (h : wp_X2_reachedAgain_29 en d  l0 l2 l3 l4 l5 l6 σ k n K X) : Wx en (d + 1) mX2_reachedAgain 29 [(0, .ref l0), (2, .int l2), (3, .int l3), (4, .int l4), (5, .int l5), (6, .int l6)] [] σ k n K X := by
  unfold wp_X2_reachedAgain_29 at h
  refine sd_iload (pc := 29) dX2_reachedAgain_29 5 rfl ?_
  refine sd_bipush (pc := 31) dX2_reachedAgain_31 (v := 9) (by decide) ?_
  refine sd_icmpge (pc := 33) dX2_reachedAgain_33 (tgt := 100) (by decide) ⟨fun c7 => ?_, fun c7 => ?_⟩
  · have h := h.1 c7
    refine sd_iinc (pc := 100) dX2_reachedAgain_100 4 rfl (v := (l5 + (1 : Int32))) rfl (by decide) (ls' := [(5, .int (l5 + (1 : Int32))), (0, .ref l0), (2, .int l2), (3, .int l3), (4, .int l4), (6, .int l6)]) rfl ?_
    refine sd_goto (pc := 103) dX2_reachedAgain_103 (tgt := 19) (by decide) ?_
    exact sd_loc [1, 2, 3, 4, 0] rfl h
  · have h := h.2 c7
    refine sd_iload_n (pc := 36) dX2_reachedAgain_36 rfl 2 rfl ?_
    refine sd_iload (pc := 37) dX2_reachedAgain_37 4 rfl ?_
    refine sd_ishr (pc := 39) dX2_reachedAgain_39 ?_
    refine sd_iconst (pc := 40) dX2_reachedAgain_40 (v := 1) (by decide) ?_
    refine sd_iand (pc := 41) dX2_reachedAgain_41 ?_
    refine sd_iconst (pc := 42) dX2_reachedAgain_42 (v := 1) (by decide) ?_
    refine sd_icmpne (pc := 43) dX2_reachedAgain_43 (tgt := 63) (by decide) ⟨fun c6 => ?_, fun c6 => ?_⟩
    · have h := h.1 c6
      refine sd_iconst (pc := 63) dX2_reachedAgain_63 (v := -1) (by decide) ?_
      exact h
    · have h := h.2 c6
      refine sd_iload (pc := 46) dX2_reachedAgain_46 4 rfl ?_
      refine sd_iload (pc := 48) dX2_reachedAgain_48 5 rfl ?_
      refine sd_icmpeq (pc := 50) dX2_reachedAgain_50 (tgt := 63) (by decide) ⟨fun c5 => ?_, fun c5 => ?_⟩
      · have h := h.1 c5
        refine sd_iconst (pc := 63) dX2_reachedAgain_63 (v := -1) (by decide) ?_
        exact h
      · have h := h.2 c5
        refine sd_iload (pc := 53) dX2_reachedAgain_53 4 rfl ?_
        refine sd_iload (pc := 55) dX2_reachedAgain_55 5 rfl ?_
        refine sd_callS (k := k) (n := n) (As := [.int l5, .int l6]) (st := []) (pc := 57) dX2_reachedAgain_57 q1183 q1184 q81 q1185 2 (by decide +kernel) rfl (Nat.le_refl _) (by decide) (Nat.le_of_ble_eq_true rfl) (Cx.mono h (kI.to (fun r4 σ3 h => ?_)) (xo rfl))
        refine sd_goto (pc := 60) dX2_reachedAgain_60 (tgt := 64) (by decide) ?_
        exact h
def wp_X2_reachedAgain_64 (en : yEn) (d : Nat) (l0 : Nat) (l2 : Int32) (l3 : Int32) (l4 : Int32) (l5 : Int32) (l6 : Int32) (t0 : Int32) (σ : yH) (k n : Nat) (K : Option Value → yH → Prop) (X : String → Addr → yH → Prop) : Prop :=
  (((t0 = (-1 : Int32)) → Wx en (d + 1) mX2_reachedAgain 29 [(0, .ref l0), (2, .int l2), (3, .int (l3 ||| (0 : Int32))), (4, .int l4), (5, .int l5), (6, .int (l6 + (1 : Int32)))] [] σ k n K X) ∧ (¬ (t0 = (-1 : Int32)) → getR σ l0 1 3 (fun v8 => aldI σ (en.2.2.2 0) v8 t0 (fun v9 => Wx en (d + 1) mX2_reachedAgain 29 [(0, .ref l0), (2, .int l2), (3, .int (l3 ||| (if (l2 < v9) then (0 : Int32) else ((1 : Int32) <<< (l6 &&& 31))))), (4, .int l4), (5, .int l5), (6, .int (l6 + (1 : Int32)))] [] σ k n K X))))
set_option maxHeartbeats 4000000 in
theorem ok_X2_reachedAgain_64 {en : yEn} {d : Nat} {l0 : Nat} {l2 : Int32} {l3 : Int32} {l4 : Int32} {l5 : Int32} {l6 : Int32} {t0 : Int32} {σ : yH} {k n : Nat} {K : Option Value → yH → Prop} {X : String → Addr → yH → Prop} (h : wp_X2_reachedAgain_64 en d  l0 l2 l3 l4 l5 l6 t0 σ k n K X) : Wx en (d + 1) mX2_reachedAgain 64 [(0, .ref l0), (2, .int l2), (3, .int l3), (4, .int l4), (5, .int l5), (6, .int l6)] [.int t0] σ k n K X := by
  unfold wp_X2_reachedAgain_64 at h
  refine sd_istore (pc := 64) dX2_reachedAgain_64 (by decide) (ls' := [(7, .int t0), (0, .ref l0), (2, .int l2), (3, .int l3), (4, .int l4), (5, .int l5), (6, .int l6)]) rfl ?_
  refine sd_iload_n (pc := 66) dX2_reachedAgain_66 rfl 3 rfl ?_
  refine sd_iload (pc := 67) dX2_reachedAgain_67 0 rfl ?_
  refine sd_iconst (pc := 69) dX2_reachedAgain_69 (v := -1) (by decide) ?_
  refine sd_icmpeq (pc := 70) dX2_reachedAgain_70 (tgt := 91) (by decide) ⟨fun c11 => ?_, fun c11 => ?_⟩
  · have h := h.1 c11
    refine sd_iconst (pc := 91) dX2_reachedAgain_91 (v := 0) (by decide) ?_
    refine sd_ior (pc := 92) dX2_reachedAgain_92 ?_
    refine sd_istore_n (pc := 93) dX2_reachedAgain_93 rfl (by decide) (ls' := [(3, .int (l3 ||| (0 : Int32))), (7, .int t0), (0, .ref l0), (2, .int l2), (4, .int l4), (5, .int l5), (6, .int l6)]) rfl ?_
    refine sd_iinc (pc := 94) dX2_reachedAgain_94 6 rfl (v := (l6 + (1 : Int32))) rfl (by decide) (ls' := [(6, .int (l6 + (1 : Int32))), (3, .int (l3 ||| (0 : Int32))), (7, .int t0), (0, .ref l0), (2, .int l2), (4, .int l4), (5, .int l5)]) rfl ?_
    refine sd_goto (pc := 97) dX2_reachedAgain_97 (tgt := 29) (by decide) ?_
    exact sd_loc [3, 4, 1, 5, 6, 0] rfl h
  · have h := h.2 c11
    refine sd_aload_n (pc := 73) dX2_reachedAgain_73 rfl 1 rfl ?_
    refine sd_getR (pc := 74) dX2_reachedAgain_74 (ci := 1) rfl in_X2 (kf := 3) (by decide) q172 (h.mono (fun v8 h => ?_))
    refine sd_iload (pc := 77) dX2_reachedAgain_77 0 rfl ?_
    refine sd_iaload (pc := 79) dX2_reachedAgain_79 (h.mono (fun v9 h => ?_))
    refine sd_iload_n (pc := 80) dX2_reachedAgain_80 rfl 2 rfl ?_
    have h12 : Wx en (d + 1) mX2_reachedAgain 92 [(7, .int t0), (0, .ref l0), (2, .int l2), (3, .int l3), (4, .int l4), (5, .int l5), (6, .int l6)] (.int (if (l2 < v9) then (0 : Int32) else ((1 : Int32) <<< (l6 &&& 31))) :: .int l3 :: []) σ k n K X := by
      refine sd_ior (pc := 92) dX2_reachedAgain_92 ?_
      refine sd_istore_n (pc := 93) dX2_reachedAgain_93 rfl (by decide) (ls' := [(3, .int (l3 ||| (if (l2 < v9) then (0 : Int32) else ((1 : Int32) <<< (l6 &&& 31))))), (7, .int t0), (0, .ref l0), (2, .int l2), (4, .int l4), (5, .int l5), (6, .int l6)]) rfl ?_
      refine sd_iinc (pc := 94) dX2_reachedAgain_94 6 rfl (v := (l6 + (1 : Int32))) rfl (by decide) (ls' := [(6, .int (l6 + (1 : Int32))), (3, .int (l3 ||| (if (l2 < v9) then (0 : Int32) else ((1 : Int32) <<< (l6 &&& 31))))), (7, .int t0), (0, .ref l0), (2, .int l2), (4, .int l4), (5, .int l5)]) rfl ?_
      refine sd_goto (pc := 97) dX2_reachedAgain_97 (tgt := 29) (by decide) ?_
      exact sd_loc [3, 4, 1, 5, 6, 0] rfl h
    have e13 := sd_iteI h12
    refine sd_icmpgt (pc := 81) dX2_reachedAgain_81 (tgt := 91) (by decide) ⟨fun c10 => ?_, fun c10 => ?_⟩
    · refine sd_iconst (pc := 91) dX2_reachedAgain_91 (v := 0) (by decide) ?_
      exact (e13.1 c10)
    · refine sd_iconst (pc := 84) dX2_reachedAgain_84 (v := 1) (by decide) ?_
      refine sd_iload (pc := 85) dX2_reachedAgain_85 6 rfl ?_
      refine sd_ishl (pc := 87) dX2_reachedAgain_87 ?_
      refine sd_goto (pc := 88) dX2_reachedAgain_88 (tgt := 92) (by decide) ?_
      exact (e13.2 c10)
def wp_X2_reachedAgain (en : yEn) (d : Nat) (x0 : Nat) (x1 : Int32) (x2 : Int32) (σ : yH) (k n : Nat) (K : Option Value → yH → Prop) (X : String → Addr → yH → Prop) : Prop :=
  Wx en (d + 1) mX2_reachedAgain 7 [(0, .ref x0), (2, .int x2), (3, .int ((1 : Int32) <<< (x1 &&& 31))), (4, .int (0 : Int32))] [] σ k n K X
set_option maxHeartbeats 4000000 in
theorem ok_X2_reachedAgain {en : yEn} {d : Nat} {x0 : Nat} {x1 : Int32} {x2 : Int32} {σ : yH} {k n : Nat} {K : Option Value → yH → Prop} {X : String → Addr → yH → Prop} (h : wp_X2_reachedAgain en d  x0 x1 x2 σ k n K X) : Wx en (d + 1) mX2_reachedAgain 0 [(0, .ref x0), (1, .int x1), (2, .int x2)] [] σ k n K X := by
  unfold wp_X2_reachedAgain at h
  refine sd_iconst (pc := 0) dX2_reachedAgain_0 (v := 1) (by decide) ?_
  refine sd_iload_n (pc := 1) dX2_reachedAgain_1 rfl 1 rfl ?_
  refine sd_ishl (pc := 2) dX2_reachedAgain_2 ?_
  refine sd_istore_n (pc := 3) dX2_reachedAgain_3 rfl (by decide) (ls' := [(3, .int ((1 : Int32) <<< (x1 &&& 31))), (0, .ref x0), (1, .int x1), (2, .int x2)]) rfl ?_
  refine sd_iconst (pc := 4) dX2_reachedAgain_4 (v := 0) (by decide) ?_
  refine sd_istore (pc := 5) dX2_reachedAgain_5 (by decide) (ls' := [(4, .int (0 : Int32)), (3, .int ((1 : Int32) <<< (x1 &&& 31))), (0, .ref x0), (1, .int x1), (2, .int x2)]) rfl ?_
  exact sd_loc [2, 4, 1, 0] rfl h
theorem cx_X2_reachedAgain {en : yEn} {d : Nat} {x0 : Nat} {x1 : Int32} {x2 : Int32} {σ : yH} {k n : Nat} {K : Option Value → yH → Prop} {X : String → Addr → yH → Prop} (h : wp_X2_reachedAgain en d  x0 x1 x2 σ k n K X) : Cx en (d + 1) k n mX2_reachedAgain [.ref x0, .int x1, .int x2] σ K X := Cx.body (by decide +kernel) rfl (Nat.le_of_ble_eq_true rfl) (ok_X2_reachedAgain h)
/-! PeacockLawns$Garden.walk(II)I -/
def wp_X2_walk (en : yEn) (d : Nat) (x0 : Nat) (x1 : Int32) (x2 : Int32) (σ : yH) (k n : Nat) (K : Option Value → yH → Prop) (X : String → Addr → yH → Prop) : Prop :=
  getR σ x0 1 1 (fun v1 => Cx en d 1 6 mX2_at [.ref v1, .int x1] σ (kA (fun r3 σ2 => (isC σ2 r3 6 ∧ Cx en d 1 6 mX2_lawn [.int x2] σ2 (kI (fun r5 σ4 => getI σ4 r3 6 0 (fun v6 => yLet (if 0 ≤ ((r5 / (3 : Int32)) - (v6 / (3 : Int32))) then ((r5 / (3 : Int32)) - (v6 / (3 : Int32))) else 0 - ((r5 / (3 : Int32)) - (v6 / (3 : Int32)))) (fun r7 => getI σ4 r3 6 0 (fun v8 => yLet (if 0 ≤ ((r5 - r5 / (3 : Int32) * (3 : Int32)) - (v8 - v8 / (3 : Int32) * (3 : Int32))) then ((r5 - r5 / (3 : Int32) * (3 : Int32)) - (v8 - v8 / (3 : Int32) * (3 : Int32))) else 0 - ((r5 - r5 / (3 : Int32) * (3 : Int32)) - (v8 - v8 / (3 : Int32) * (3 : Int32)))) (fun r9 => getI σ4 r3 6 1 (fun v10 => getI σ4 r3 6 1 (fun v12 => Cx en d 1 8 mX1_allow [.int (if (v10 < (r7 + r9)) then (0 : Int32) else (1 : Int32)), .int (6 : Int32), .int ((r7 + r9) - v12)] σ4 (kV (fun σ13 => getR σ13 x0 1 1 (fun v14 => (isC σ13 r3 6 ∧ Cx en d 1 4 mX7_walked [.ref r3, .int r5, .int (r7 + r9)] σ13 (kA (fun r16 σ15 => (isC σ15 v14 11 ∧ Cx en d 0 0 mJ2_set [.ref v14, .int x1, .ref r16] σ15 (kA (fun r18 σ17 => (isC σ17 r18 6 ∧ getI σ17 r3 6 1 (fun v19 => K (some (.int (v19 - (r7 + r9)))) σ17)))) X))) X)))) X)))))))) X))) X)
set_option maxHeartbeats 4000000 in
theorem ok_X2_walk {en : yEn} {d : Nat} {x0 : Nat} {x1 : Int32} {x2 : Int32} {σ : yH} {k n : Nat} {K : Option Value → yH → Prop} {X : String → Addr → yH → Prop} (h : wp_X2_walk en d  x0 x1 x2 σ k n K X) : Wx en (d + 1) mX2_walk 0 [(0, .ref x0), (1, .int x1), (2, .int x2)] [] σ (k + 4) (n + 24) K X := by
  unfold wp_X2_walk at h
  refine sd_aload_n (pc := 0) dX2_walk_0 rfl 0 rfl ?_
  refine sd_getR (pc := 1) dX2_walk_1 (ci := 1) rfl in_X2 (kf := 1) (by decide) q168 (h.mono (fun v1 h => ?_))
  refine sd_iload_n (pc := 4) dX2_walk_4 rfl 1 rfl ?_
  refine sd_callS (k := (k + 3)) (n := (n + 18)) (As := [.ref v1, .int x1]) (st := []) (pc := 5) dX2_walk_5 q1078 q1079 q81 q1080 2 (by decide +kernel) rfl (Nat.le_refl _) (by decide) (Nat.le_of_ble_eq_true rfl) (Cx.mono h (kA.to (fun r3 σ2 h => ?_)) (xo rfl))
  refine sd_castE (r := (RX7, TX7, 4)) (pc := 8) dX2_walk_8 q1358 (ci := 6) rfl h.1 ?_
  have h := h.2
  refine sd_astore_n (pc := 11) dX2_walk_11 rfl (by decide) (ls' := [(3, .ref r3), (0, .ref x0), (1, .int x1), (2, .int x2)]) rfl ?_
  refine sd_iload_n (pc := 12) dX2_walk_12 rfl 3 rfl ?_
  refine sd_callS (k := (k + 2)) (n := (n + 12)) (As := [.int x2]) (st := []) (pc := 13) dX2_walk_13 q833 q834 q81 q835 1 (by decide +kernel) rfl (Nat.le_refl _) (by decide) (Nat.le_of_ble_eq_true rfl) (Cx.mono h (kI.to (fun r5 σ4 h => ?_)) (xo rfl))
  refine sd_istore (pc := 16) dX2_walk_16 (by decide) (ls' := [(4, .int r5), (3, .ref r3), (0, .ref x0), (1, .int x1), (2, .int x2)]) rfl ?_
  refine sd_iload (pc := 18) dX2_walk_18 0 rfl ?_
  refine sd_iconst (pc := 20) dX2_walk_20 (v := 3) (by decide) ?_
  refine sd_idiv (pc := 21) dX2_walk_21 (by decide) ?_
  refine sd_aload_n (pc := 22) dX2_walk_22 rfl 1 rfl ?_
  refine sd_getIN (pc := 23) dX2_walk_23 (ci := 6) rfl in_X7 (kf := 0) (by decide) q1319 (h.mono (fun v6 h => ?_))
  refine sd_iconst (pc := 26) dX2_walk_26 (v := 3) (by decide) ?_
  refine sd_idiv (pc := 27) dX2_walk_27 (by decide) ?_
  refine sd_isub (pc := 28) dX2_walk_28 ?_
  refine sd_mabsL (pc := 29) dX2_walk_29 q1359 q1360 q101 q1361 (by omega) (Nat.le_of_ble_eq_true rfl) (h.mono (fun r7 h => ?_))
  refine sd_iload (pc := 32) dX2_walk_32 0 rfl ?_
  refine sd_iconst (pc := 34) dX2_walk_34 (v := 3) (by decide) ?_
  refine sd_irem (pc := 35) dX2_walk_35 (by decide) ?_
  refine sd_aload_n (pc := 36) dX2_walk_36 rfl 1 rfl ?_
  refine sd_getIN (pc := 37) dX2_walk_37 (ci := 6) rfl in_X7 (kf := 0) (by decide) q1319 (h.mono (fun v8 h => ?_))
  refine sd_iconst (pc := 40) dX2_walk_40 (v := 3) (by decide) ?_
  refine sd_irem (pc := 41) dX2_walk_41 (by decide) ?_
  refine sd_isub (pc := 42) dX2_walk_42 ?_
  refine sd_mabsL (pc := 43) dX2_walk_43 q1359 q1360 q101 q1361 (by omega) (Nat.le_of_ble_eq_true rfl) (h.mono (fun r9 h => ?_))
  refine sd_iadd (pc := 46) dX2_walk_46 ?_
  refine sd_istore (pc := 47) dX2_walk_47 (by decide) (ls' := [(5, .int (r7 + r9)), (4, .int r5), (3, .ref r3), (0, .ref x0), (1, .int x1), (2, .int x2)]) rfl ?_
  refine sd_aload_n (pc := 49) dX2_walk_49 rfl 2 rfl ?_
  refine sd_getIN (pc := 50) dX2_walk_50 (ci := 6) rfl in_X7 (kf := 1) (by decide) q1322 (h.mono (fun v10 h => ?_))
  refine sd_iload (pc := 53) dX2_walk_53 0 rfl ?_
  have h20 : Wx en (d + 1) mX2_walk 63 [(5, .int (r7 + r9)), (4, .int r5), (3, .ref r3), (0, .ref x0), (1, .int x1), (2, .int x2)] (.int (if (v10 < (r7 + r9)) then (0 : Int32) else (1 : Int32)) :: []) σ4 (k + 2) (n + 12) K X := by
    refine sd_bipush (pc := 63) dX2_walk_63 (v := 6) (by decide) ?_
    refine sd_iload (pc := 65) dX2_walk_65 0 rfl ?_
    refine sd_aload_n (pc := 67) dX2_walk_67 rfl 2 rfl ?_
    refine sd_getIN (pc := 68) dX2_walk_68 (ci := 6) rfl in_X7 (kf := 1) (by decide) q1322 (h.mono (fun v12 h => ?_))
    refine sd_isub (pc := 71) dX2_walk_71 ?_
    refine sd_callSN (k := (k + 1)) (n := (n + 4)) (As := [.int (if (v10 < (r7 + r9)) then (0 : Int32) else (1 : Int32)), .int (6 : Int32), .int ((r7 + r9) - v12)]) (st := []) (pc := 72) dX2_walk_72 q909 q910 q80 q911 3 (by decide +kernel) rfl (Nat.le_refl _) (by decide) (Nat.le_of_ble_eq_true rfl) (Cx.mono h (kV.to (fun σ13 h => ?_)) (xo rfl))
    refine sd_aload_n (pc := 75) dX2_walk_75 rfl 3 rfl ?_
    refine sd_getR (pc := 76) dX2_walk_76 (ci := 1) rfl in_X2 (kf := 1) (by decide) q168 (h.mono (fun v14 h => ?_))
    refine sd_iload_n (pc := 79) dX2_walk_79 rfl 4 rfl ?_
    refine sd_aload_n (pc := 80) dX2_walk_80 rfl 2 rfl ?_
    refine sd_iload (pc := 81) dX2_walk_81 1 rfl ?_
    refine sd_iload (pc := 83) dX2_walk_83 0 rfl ?_
    refine sd_callV (k := k) (n := n) (As := [.int r5, .int (r7 + r9)]) (st := [.int x1, .ref v14]) (pc := 85) dX2_walk_85 (ci := 6) rfl h.1 rfl q1362 q1363 q1364 q114 q1365 2 (by decide +kernel) rfl (Nat.le_refl _) (by decide) (Nat.le_of_ble_eq_true rfl) (Cx.mono h.2 (kA.to (fun r16 σ15 h => ?_)) (xo rfl))
    refine sd_callF (k := k) (n := n) (As := [.int x1, .ref r16]) (st := []) (pc := 88) dX2_walk_88 (ci := 11) rfl h.1 (x := ⟨"java/util/List", "set", "(ILjava/lang/Object;)Ljava/lang/Object;"⟩) q1110 q1113 q1115 q84 q1117 q1112 q1111 q1116 q1114 q329 2 (by decide +kernel) rfl 2 (by decide +kernel) rfl (Nat.le_refl _) (by decide) (Nat.le_of_ble_eq_true rfl) (Cx.mono h.2 (kA.to (fun r18 σ17 h => ?_)) (xo rfl))
    refine sd_castE (r := (RX7, TX7, 4)) (pc := 93) dX2_walk_93 q1358 (ci := 6) rfl h.1 ?_
    have h := h.2
    refine sd_astore (pc := 96) dX2_walk_96 (by decide) (ls' := [(6, .ref r18), (5, .int (r7 + r9)), (4, .int r5), (3, .ref r3), (0, .ref x0), (1, .int x1), (2, .int x2)]) rfl ?_
    refine sd_aload_n (pc := 98) dX2_walk_98 rfl 3 rfl ?_
    refine sd_getIN (pc := 99) dX2_walk_99 (ci := 6) rfl in_X7 (kf := 1) (by decide) q1322 (h.mono (fun v19 h => ?_))
    refine sd_iload (pc := 102) dX2_walk_102 1 rfl ?_
    refine sd_isub (pc := 104) dX2_walk_104 ?_
    exact sd_ireturn (pc := 105) dX2_walk_105 (ty0 := .int) rfl rfl h
  have e21 := sd_iteI h20
  refine sd_icmplt (pc := 55) dX2_walk_55 (tgt := 62) (by decide) ⟨fun c11 => ?_, fun c11 => ?_⟩
  · refine sd_iconst (pc := 62) dX2_walk_62 (v := 0) (by decide) ?_
    exact (e21.1 c11)
  · refine sd_iconst (pc := 58) dX2_walk_58 (v := 1) (by decide) ?_
    refine sd_goto (pc := 59) dX2_walk_59 (tgt := 63) (by decide) ?_
    exact (e21.2 c11)
theorem cx_X2_walk {en : yEn} {d : Nat} {x0 : Nat} {x1 : Int32} {x2 : Int32} {σ : yH} {k n : Nat} {K : Option Value → yH → Prop} {X : String → Addr → yH → Prop} (h : wp_X2_walk en d  x0 x1 x2 σ k n K X) : Cx en (d + 1) (k + 4) (n + 24) mX2_walk [.ref x0, .int x1, .int x2] σ K X := Cx.body (by decide +kernel) rfl (Nat.le_of_ble_eq_true rfl) (ok_X2_walk h)
/-! PeacockLawns$Garden.isBeside(II)Z -/
def wp_X2_isBeside_2 (en : yEn) (d : Nat) (l0 : Int32) (l1 : Int32) (l2 : Int32) (σ : yH) (k n : Nat) (K : Option Value → yH → Prop) (X : String → Addr → yH → Prop) : Prop :=
  ((((9 : Int32) ≤ l2) → K (some (.int (0 : Int32))) σ) ∧ (¬ ((9 : Int32) ≤ l2) → (((l2 = l1) → Wx en (d + 1) mX2_isBeside 2 [(0, .int l0), (1, .int l1), (2, .int (l2 + (1 : Int32)))] [] σ k n K X) ∧ (¬ (l2 = l1) → Cx en d 0 0 mX2_between [.int l1, .int l2] σ (kI (fun r2 σ1 => ((¬ (r2 = l0) → Wx en (d + 1) mX2_isBeside 2 [(0, .int l0), (1, .int l1), (2, .int (l2 + (1 : Int32)))] [] σ1 k n K X) ∧ ((r2 = l0) → K (some (.int (1 : Int32))) σ1)))) X))))
set_option maxHeartbeats 4000000 in
theorem ok_X2_isBeside_2 {en : yEn} {d : Nat} {l0 : Int32} {l1 : Int32} {l2 : Int32} {σ : yH} {k n : Nat} {K : Option Value → yH → Prop} {X : String → Addr → yH → Prop} (h : wp_X2_isBeside_2 en d  l0 l1 l2 σ k n K X) : Wx en (d + 1) mX2_isBeside 2 [(0, .int l0), (1, .int l1), (2, .int l2)] [] σ k n K X := by
  unfold wp_X2_isBeside_2 at h
  refine sd_iload_n (pc := 2) dX2_isBeside_2 rfl 2 rfl ?_
  refine sd_bipush (pc := 3) dX2_isBeside_3 (v := 9) (by decide) ?_
  refine sd_icmpge (pc := 5) dX2_isBeside_5 (tgt := 30) (by decide) ⟨fun c5 => ?_, fun c5 => ?_⟩
  · have h := h.1 c5
    refine sd_iconst (pc := 30) dX2_isBeside_30 (v := 0) (by decide) ?_
    exact sd_ireturn (pc := 31) dX2_isBeside_31 (ty0 := .boolean) rfl rfl h
  · have h := h.2 c5
    refine sd_iload_n (pc := 8) dX2_isBeside_8 rfl 2 rfl ?_
    refine sd_iload_n (pc := 9) dX2_isBeside_9 rfl 1 rfl ?_
    refine sd_icmpeq (pc := 10) dX2_isBeside_10 (tgt := 24) (by decide) ⟨fun c4 => ?_, fun c4 => ?_⟩
    · have h := h.1 c4
      refine sd_iinc (pc := 24) dX2_isBeside_24 2 rfl (v := (l2 + (1 : Int32))) rfl (by decide) (ls' := [(2, .int (l2 + (1 : Int32))), (0, .int l0), (1, .int l1)]) rfl ?_
      refine sd_goto (pc := 27) dX2_isBeside_27 (tgt := 2) (by decide) ?_
      exact sd_loc [1, 2, 0] rfl h
    · have h := h.2 c4
      refine sd_iload_n (pc := 13) dX2_isBeside_13 rfl 1 rfl ?_
      refine sd_iload_n (pc := 14) dX2_isBeside_14 rfl 2 rfl ?_
      refine sd_callS (k := k) (n := n) (As := [.int l1, .int l2]) (st := []) (pc := 15) dX2_isBeside_15 q1183 q1184 q81 q1185 2 (by decide +kernel) rfl (Nat.le_refl _) (by decide) (Nat.le_of_ble_eq_true rfl) (Cx.mono h (kI.to (fun r2 σ1 h => ?_)) (xo rfl))
      refine sd_iload_n (pc := 18) dX2_isBeside_18 rfl 0 rfl ?_
      refine sd_icmpne (pc := 19) dX2_isBeside_19 (tgt := 24) (by decide) ⟨fun c3 => ?_, fun c3 => ?_⟩
      · have h := h.1 c3
        refine sd_iinc (pc := 24) dX2_isBeside_24 2 rfl (v := (l2 + (1 : Int32))) rfl (by decide) (ls' := [(2, .int (l2 + (1 : Int32))), (0, .int l0), (1, .int l1)]) rfl ?_
        refine sd_goto (pc := 27) dX2_isBeside_27 (tgt := 2) (by decide) ?_
        exact sd_loc [1, 2, 0] rfl h
      · have h := h.2 c3
        refine sd_iconst (pc := 22) dX2_isBeside_22 (v := 1) (by decide) ?_
        exact sd_ireturn (pc := 23) dX2_isBeside_23 (ty0 := .boolean) rfl rfl h
def wp_X2_isBeside (en : yEn) (d : Nat) (x0 : Int32) (x1 : Int32) (σ : yH) (k n : Nat) (K : Option Value → yH → Prop) (X : String → Addr → yH → Prop) : Prop :=
  Wx en (d + 1) mX2_isBeside 2 [(0, .int x0), (1, .int x1), (2, .int (0 : Int32))] [] σ k n K X
set_option maxHeartbeats 4000000 in
theorem ok_X2_isBeside {en : yEn} {d : Nat} {x0 : Int32} {x1 : Int32} {σ : yH} {k n : Nat} {K : Option Value → yH → Prop} {X : String → Addr → yH → Prop} (h : wp_X2_isBeside en d  x0 x1 σ k n K X) : Wx en (d + 1) mX2_isBeside 0 [(0, .int x0), (1, .int x1)] [] σ k n K X := by
  unfold wp_X2_isBeside at h
  refine sd_iconst (pc := 0) dX2_isBeside_0 (v := 0) (by decide) ?_
  refine sd_istore_n (pc := 1) dX2_isBeside_1 rfl (by decide) (ls' := [(2, .int (0 : Int32)), (0, .int x0), (1, .int x1)]) rfl ?_
  exact sd_loc [1, 2, 0] rfl h
theorem cx_X2_isBeside {en : yEn} {d : Nat} {x0 : Int32} {x1 : Int32} {σ : yH} {k n : Nat} {K : Option Value → yH → Prop} {X : String → Addr → yH → Prop} (h : wp_X2_isBeside en d  x0 x1 σ k n K X) : Cx en (d + 1) k n mX2_isBeside [.int x0, .int x1] σ K X := Cx.body (by decide +kernel) rfl (Nat.le_of_ble_eq_true rfl) (ok_X2_isBeside h)
/-! PeacockLawns$Garden.shear(III)I -/
def wp_X2_shear (en : yEn) (d : Nat) (x0 : Nat) (x1 : Int32) (x2 : Int32) (x3 : Int32) (σ : yH) (k n : Nat) (K : Option Value → yH → Prop) (X : String → Addr → yH → Prop) : Prop :=
  getR σ x0 1 1 (fun v1 => Cx en d 1 6 mX2_at [.ref v1, .int x1] σ (kA (fun r3 σ2 => (isC σ2 r3 6 ∧ Cx en d 0 0 mX1_inRange [.int x2, .int (0 : Int32), .int (11 : Int32)] σ2 (kI (fun r5 σ4 => Cx en d 1 6 mX1_requireIndex [.int r5] σ4 (kV (fun σ6 => Cx en d 0 0 mX1_inRange [.int x3, .int (0 : Int32), .int (20 : Int32)] σ6 (kI (fun r8 σ7 => Cx en d 1 6 mX1_require [.int r8] σ7 (kV (fun σ9 => getI σ9 r3 6 0 (fun v10 => Cx en d 0 0 mX2_isBeside [.int x2, .int v10] σ9 (kI (fun r12 σ11 => Cx en d 1 8 mX1_allow [.int r12, .int (4 : Int32), .int x2] σ11 (kV (fun σ13 => getR σ13 x0 1 3 (fun v14 => aldI σ13 (en.2.2.2 0) v14 x2 (fun v15 => getR σ13 x0 1 3 (fun v17 => aldI σ13 (en.2.2.2 0) v17 x2 (fun v18 => Cx en d 1 8 mX1_allow [.int (if ((v15 - x3) ≤ 0) then (0 : Int32) else (1 : Int32)), .int (5 : Int32), .int v18] σ13 (kV (fun σ19 => getI σ19 r3 6 1 (fun v20 => getI σ19 r3 6 1 (fun v22 => Cx en d 1 8 mX1_allow [.int (if (v20 < (((v15 - x3) + (3 : Int32)) / (4 : Int32))) then (0 : Int32) else (1 : Int32)), .int (6 : Int32), .int ((((v15 - x3) + (3 : Int32)) / (4 : Int32)) - v22)] σ19 (kV (fun σ23 => getR σ23 x0 1 3 (fun v24 => astI σ23 (en.2.2.2 0) v24 x2 x3 (fun σ25 => getR σ25 x0 1 1 (fun v26 => (isC σ25 r3 6 ∧ Cx en d 1 4 mX7_sheared [.ref r3, .int (v15 - x3), .int (((v15 - x3) + (3 : Int32)) / (4 : Int32))] σ25 (kA (fun r28 σ27 => (isC σ27 v26 11 ∧ Cx en d 0 0 mJ2_set [.ref v26, .int x1, .ref r28] σ27 (kA (fun r30 σ29 => (isC σ29 r30 6 ∧ K (some (.int (v15 - x3))) σ29))) X))) X)))))) X)))) X)))))) X)) X))) X)) X)) X)) X))) X)
set_option maxHeartbeats 4000000 in
theorem ok_X2_shear {en : yEn} {d : Nat} {x0 : Nat} {x1 : Int32} {x2 : Int32} {x3 : Int32} {σ : yH} {k n : Nat} {K : Option Value → yH → Prop} {X : String → Addr → yH → Prop} (h : wp_X2_shear en d  x0 x1 x2 x3 σ k n K X) : Wx en (d + 1) mX2_shear 0 [(0, .ref x0), (1, .int x1), (2, .int x2), (3, .int x3)] [] σ (k + 7) (n + 46) K X := by
  unfold wp_X2_shear at h
  refine sd_aload_n (pc := 0) dX2_shear_0 rfl 0 rfl ?_
  refine sd_getR (pc := 1) dX2_shear_1 (ci := 1) rfl in_X2 (kf := 1) (by decide) q168 (h.mono (fun v1 h => ?_))
  refine sd_iload_n (pc := 4) dX2_shear_4 rfl 1 rfl ?_
  refine sd_callS (k := (k + 6)) (n := (n + 40)) (As := [.ref v1, .int x1]) (st := []) (pc := 5) dX2_shear_5 q1078 q1079 q81 q1080 2 (by decide +kernel) rfl (Nat.le_refl _) (by decide) (Nat.le_of_ble_eq_true rfl) (Cx.mono h (kA.to (fun r3 σ2 h => ?_)) (xo rfl))
  refine sd_castE (r := (RX7, TX7, 4)) (pc := 8) dX2_shear_8 q1358 (ci := 6) rfl h.1 ?_
  have h := h.2
  refine sd_astore (pc := 11) dX2_shear_11 (by decide) (ls' := [(4, .ref r3), (0, .ref x0), (1, .int x1), (2, .int x2), (3, .int x3)]) rfl ?_
  refine sd_iload_n (pc := 13) dX2_shear_13 rfl 3 rfl ?_
  refine sd_iconst (pc := 14) dX2_shear_14 (v := 0) (by decide) ?_
  refine sd_bipush (pc := 15) dX2_shear_15 (v := 11) (by decide) ?_
  refine sd_callSN (k := (k + 6)) (n := (n + 40)) (As := [.int x2, .int (0 : Int32), .int (11 : Int32)]) (st := []) (pc := 17) dX2_shear_17 q836 q837 q80 q838 3 (by decide +kernel) rfl (Nat.le_refl _) (by decide) (Nat.le_of_ble_eq_true rfl) (Cx.mono h (kI.to (fun r5 σ4 h => ?_)) (xo rfl))
  refine sd_callSN (k := (k + 5)) (n := (n + 34)) (As := [.int r5]) (st := []) (pc := 20) dX2_shear_20 q839 q840 q80 q841 1 (by decide +kernel) rfl (Nat.le_refl _) (by decide) (Nat.le_of_ble_eq_true rfl) (Cx.mono h (kV.to (fun σ6 h => ?_)) (xo rfl))
  refine sd_iload_n (pc := 23) dX2_shear_23 rfl 4 rfl ?_
  refine sd_iconst (pc := 24) dX2_shear_24 (v := 0) (by decide) ?_
  refine sd_bipush (pc := 25) dX2_shear_25 (v := 20) (by decide) ?_
  refine sd_callSN (k := (k + 5)) (n := (n + 34)) (As := [.int x3, .int (0 : Int32), .int (20 : Int32)]) (st := []) (pc := 27) dX2_shear_27 q836 q837 q80 q838 3 (by decide +kernel) rfl (Nat.le_refl _) (by decide) (Nat.le_of_ble_eq_true rfl) (Cx.mono h (kI.to (fun r8 σ7 h => ?_)) (xo rfl))
  refine sd_callSN (k := (k + 4)) (n := (n + 28)) (As := [.int r8]) (st := []) (pc := 30) dX2_shear_30 q857 q858 q80 q859 1 (by decide +kernel) rfl (Nat.le_refl _) (by decide) (Nat.le_of_ble_eq_true rfl) (Cx.mono h (kV.to (fun σ9 h => ?_)) (xo rfl))
  refine sd_iload_n (pc := 33) dX2_shear_33 rfl 3 rfl ?_
  refine sd_aload (pc := 34) dX2_shear_34 0 rfl ?_
  refine sd_getIN (pc := 36) dX2_shear_36 (ci := 6) rfl in_X7 (kf := 0) (by decide) q1319 (h.mono (fun v10 h => ?_))
  refine sd_callS (k := (k + 4)) (n := (n + 28)) (As := [.int x2, .int v10]) (st := []) (pc := 39) dX2_shear_39 q1380 q1381 q81 q1382 2 (by decide +kernel) rfl (Nat.le_refl _) (by decide) (Nat.le_of_ble_eq_true rfl) (Cx.mono h (kI.to (fun r12 σ11 h => ?_)) (xo rfl))
  refine sd_iconst (pc := 42) dX2_shear_42 (v := 4) (by decide) ?_
  refine sd_iload_n (pc := 43) dX2_shear_43 rfl 3 rfl ?_
  refine sd_callSN (k := (k + 3)) (n := (n + 20)) (As := [.int r12, .int (4 : Int32), .int x2]) (st := []) (pc := 44) dX2_shear_44 q909 q910 q80 q911 3 (by decide +kernel) rfl (Nat.le_refl _) (by decide) (Nat.le_of_ble_eq_true rfl) (Cx.mono h (kV.to (fun σ13 h => ?_)) (xo rfl))
  refine sd_aload_n (pc := 47) dX2_shear_47 rfl 1 rfl ?_
  refine sd_getR (pc := 48) dX2_shear_48 (ci := 1) rfl in_X2 (kf := 3) (by decide) q172 (h.mono (fun v14 h => ?_))
  refine sd_iload_n (pc := 51) dX2_shear_51 rfl 3 rfl ?_
  refine sd_iaload (pc := 52) dX2_shear_52 (h.mono (fun v15 h => ?_))
  refine sd_iload_n (pc := 53) dX2_shear_53 rfl 4 rfl ?_
  refine sd_isub (pc := 54) dX2_shear_54 ?_
  refine sd_istore (pc := 55) dX2_shear_55 (by decide) (ls' := [(5, .int (v15 - x3)), (4, .ref r3), (0, .ref x0), (1, .int x1), (2, .int x2), (3, .int x3)]) rfl ?_
  refine sd_iload (pc := 57) dX2_shear_57 0 rfl ?_
  have h31 : Wx en (d + 1) mX2_shear 67 [(5, .int (v15 - x3)), (4, .ref r3), (0, .ref x0), (1, .int x1), (2, .int x2), (3, .int x3)] (.int (if ((v15 - x3) ≤ 0) then (0 : Int32) else (1 : Int32)) :: []) σ13 (k + 3) (n + 20) K X := by
    refine sd_iconst (pc := 67) dX2_shear_67 (v := 5) (by decide) ?_
    refine sd_aload_n (pc := 68) dX2_shear_68 rfl 2 rfl ?_
    refine sd_getR (pc := 69) dX2_shear_69 (ci := 1) rfl in_X2 (kf := 3) (by decide) q172 (h.mono (fun v17 h => ?_))
    refine sd_iload_n (pc := 72) dX2_shear_72 rfl 4 rfl ?_
    refine sd_iaload (pc := 73) dX2_shear_73 (h.mono (fun v18 h => ?_))
    refine sd_callSN (k := (k + 2)) (n := (n + 12)) (As := [.int (if ((v15 - x3) ≤ 0) then (0 : Int32) else (1 : Int32)), .int (5 : Int32), .int v18]) (st := []) (pc := 74) dX2_shear_74 q909 q910 q80 q911 3 (by decide +kernel) rfl (Nat.le_refl _) (by decide) (Nat.le_of_ble_eq_true rfl) (Cx.mono h (kV.to (fun σ19 h => ?_)) (xo rfl))
    refine sd_iload (pc := 77) dX2_shear_77 0 rfl ?_
    refine sd_iconst (pc := 79) dX2_shear_79 (v := 3) (by decide) ?_
    refine sd_iadd (pc := 80) dX2_shear_80 ?_
    refine sd_iconst (pc := 81) dX2_shear_81 (v := 4) (by decide) ?_
    refine sd_idiv (pc := 82) dX2_shear_82 (by decide) ?_
    refine sd_istore (pc := 83) dX2_shear_83 (by decide) (ls' := [(6, .int (((v15 - x3) + (3 : Int32)) / (4 : Int32))), (5, .int (v15 - x3)), (4, .ref r3), (0, .ref x0), (1, .int x1), (2, .int x2), (3, .int x3)]) rfl ?_
    refine sd_aload (pc := 85) dX2_shear_85 2 rfl ?_
    refine sd_getIN (pc := 87) dX2_shear_87 (ci := 6) rfl in_X7 (kf := 1) (by decide) q1322 (h.mono (fun v20 h => ?_))
    refine sd_iload (pc := 90) dX2_shear_90 0 rfl ?_
    have h32 : Wx en (d + 1) mX2_shear 100 [(6, .int (((v15 - x3) + (3 : Int32)) / (4 : Int32))), (5, .int (v15 - x3)), (4, .ref r3), (0, .ref x0), (1, .int x1), (2, .int x2), (3, .int x3)] (.int (if (v20 < (((v15 - x3) + (3 : Int32)) / (4 : Int32))) then (0 : Int32) else (1 : Int32)) :: []) σ19 (k + 2) (n + 12) K X := by
      refine sd_bipush (pc := 100) dX2_shear_100 (v := 6) (by decide) ?_
      refine sd_iload (pc := 102) dX2_shear_102 0 rfl ?_
      refine sd_aload (pc := 104) dX2_shear_104 2 rfl ?_
      refine sd_getIN (pc := 106) dX2_shear_106 (ci := 6) rfl in_X7 (kf := 1) (by decide) q1322 (h.mono (fun v22 h => ?_))
      refine sd_isub (pc := 109) dX2_shear_109 ?_
      refine sd_callSN (k := (k + 1)) (n := (n + 4)) (As := [.int (if (v20 < (((v15 - x3) + (3 : Int32)) / (4 : Int32))) then (0 : Int32) else (1 : Int32)), .int (6 : Int32), .int ((((v15 - x3) + (3 : Int32)) / (4 : Int32)) - v22)]) (st := []) (pc := 110) dX2_shear_110 q909 q910 q80 q911 3 (by decide +kernel) rfl (Nat.le_refl _) (by decide) (Nat.le_of_ble_eq_true rfl) (Cx.mono h (kV.to (fun σ23 h => ?_)) (xo rfl))
      refine sd_aload_n (pc := 113) dX2_shear_113 rfl 3 rfl ?_
      refine sd_getR (pc := 114) dX2_shear_114 (ci := 1) rfl in_X2 (kf := 3) (by decide) q172 (h.mono (fun v24 h => ?_))
      refine sd_iload_n (pc := 117) dX2_shear_117 rfl 5 rfl ?_
      refine sd_iload_n (pc := 118) dX2_shear_118 rfl 6 rfl ?_
      refine sd_iastore (pc := 119) dX2_shear_119 (h.mono (fun σ25 h => ?_))
      refine sd_aload_n (pc := 120) dX2_shear_120 rfl 3 rfl ?_
      refine sd_getR (pc := 121) dX2_shear_121 (ci := 1) rfl in_X2 (kf := 1) (by decide) q168 (h.mono (fun v26 h => ?_))
      refine sd_iload_n (pc := 124) dX2_shear_124 rfl 4 rfl ?_
      refine sd_aload (pc := 125) dX2_shear_125 2 rfl ?_
      refine sd_iload (pc := 127) dX2_shear_127 1 rfl ?_
      refine sd_iload (pc := 129) dX2_shear_129 0 rfl ?_
      refine sd_callV (k := k) (n := n) (As := [.int (v15 - x3), .int (((v15 - x3) + (3 : Int32)) / (4 : Int32))]) (st := [.int x1, .ref v26]) (pc := 131) dX2_shear_131 (ci := 6) rfl h.1 rfl q1383 q1384 q1385 q114 q1386 2 (by decide +kernel) rfl (Nat.le_refl _) (by decide) (Nat.le_of_ble_eq_true rfl) (Cx.mono h.2 (kA.to (fun r28 σ27 h => ?_)) (xo rfl))
      refine sd_callF (k := k) (n := n) (As := [.int x1, .ref r28]) (st := []) (pc := 134) dX2_shear_134 (ci := 11) rfl h.1 (x := ⟨"java/util/List", "set", "(ILjava/lang/Object;)Ljava/lang/Object;"⟩) q1110 q1113 q1115 q84 q1117 q1112 q1111 q1116 q1114 q329 2 (by decide +kernel) rfl 2 (by decide +kernel) rfl (Nat.le_refl _) (by decide) (Nat.le_of_ble_eq_true rfl) (Cx.mono h.2 (kA.to (fun r30 σ29 h => ?_)) (xo rfl))
      refine sd_castE (r := (RX7, TX7, 4)) (pc := 139) dX2_shear_139 q1358 (ci := 6) rfl h.1 ?_
      have h := h.2
      refine sd_astore (pc := 142) dX2_shear_142 (by decide) (ls' := [(7, .ref r30), (6, .int (((v15 - x3) + (3 : Int32)) / (4 : Int32))), (5, .int (v15 - x3)), (4, .ref r3), (0, .ref x0), (1, .int x1), (2, .int x2), (3, .int x3)]) rfl ?_
      refine sd_iload (pc := 144) dX2_shear_144 2 rfl ?_
      exact sd_ireturn (pc := 146) dX2_shear_146 (ty0 := .int) rfl rfl h
    have e33 := sd_iteI h32
    refine sd_icmplt (pc := 92) dX2_shear_92 (tgt := 99) (by decide) ⟨fun c21 => ?_, fun c21 => ?_⟩
    · refine sd_iconst (pc := 99) dX2_shear_99 (v := 0) (by decide) ?_
      exact (e33.1 c21)
    · refine sd_iconst (pc := 95) dX2_shear_95 (v := 1) (by decide) ?_
      refine sd_goto (pc := 96) dX2_shear_96 (tgt := 100) (by decide) ?_
      exact (e33.2 c21)
  have e34 := sd_iteI h31
  refine sd_ifle (pc := 59) dX2_shear_59 (tgt := 66) (by decide) ⟨fun c16 => ?_, fun c16 => ?_⟩
  · refine sd_iconst (pc := 66) dX2_shear_66 (v := 0) (by decide) ?_
    exact (e34.1 c16)
  · refine sd_iconst (pc := 62) dX2_shear_62 (v := 1) (by decide) ?_
    refine sd_goto (pc := 63) dX2_shear_63 (tgt := 67) (by decide) ?_
    exact (e34.2 c16)
theorem cx_X2_shear {en : yEn} {d : Nat} {x0 : Nat} {x1 : Int32} {x2 : Int32} {x3 : Int32} {σ : yH} {k n : Nat} {K : Option Value → yH → Prop} {X : String → Addr → yH → Prop} (h : wp_X2_shear en d  x0 x1 x2 x3 σ k n K X) : Cx en (d + 1) (k + 7) (n + 46) mX2_shear [.ref x0, .int x1, .int x2, .int x3] σ K X := Cx.body (by decide +kernel) rfl (Nat.le_of_ble_eq_true rfl) (ok_X2_shear h)
/-! PeacockLawns$Garden.find(I)I -/
def wp_X2_find (en : yEn) (d : Nat) (x0 : Nat) (x1 : Int32) (σ : yH) (k n : Nat) (K : Option Value → yH → Prop) (X : String → Addr → yH → Prop) : Prop :=
  getR σ x0 1 1 (fun v1 => Cx en d 1 6 mX2_at [.ref v1, .int x1] σ (kA (fun r3 σ2 => (isC σ2 r3 6 ∧ getR σ2 x0 1 4 (fun v4 => getI σ2 r3 6 0 (fun v5 => aldI σ2 (en.2.2.2 0) v4 v5 (fun v6 => getI σ2 r3 6 0 (fun v8 => Cx en d 1 8 mX1_allow [.int (if (v6 ≤ 0) then (0 : Int32) else (1 : Int32)), .int (7 : Int32), .int v8] σ2 (kV (fun σ9 => getI σ9 r3 6 1 (fun v10 => Cx en d 1 8 mX1_allow [.int (if (v10 ≤ 0) then (0 : Int32) else (1 : Int32)), .int (6 : Int32), .int (1 : Int32)] σ9 (kV (fun σ12 => getR σ12 x0 1 4 (fun v13 => getI σ12 r3 6 0 (fun v14 => aldI σ12 (en.2.2.2 0) v13 v14 (fun v15 => yLet (if v15 < (15 : Int32) then v15 else (15 : Int32)) (fun r16 => getR σ12 x0 1 4 (fun v17 => getI σ12 r3 6 0 (fun v18 => aldI σ12 (en.2.2.2 0) v17 v18 (fun v19 => astI σ12 (en.2.2.2 0) v17 v18 (v19 - r16) (fun σ20 => getI σ20 x0 1 9 (fun v21 => (putV σ20 x0 1 9 (.int (v21 + r16)) (fun σ22 => getR σ22 x0 1 1 (fun v23 => (isC σ22 r3 6 ∧ Cx en d 1 4 mX7_finding [.ref r3, .int r16] σ22 (kA (fun r25 σ24 => (isC σ24 v23 11 ∧ Cx en d 0 0 mJ2_set [.ref v23, .int x1, .ref r25] σ24 (kA (fun r27 σ26 => (isC σ26 r27 6 ∧ K (some (.int r16)) σ26))) X))) X))))))))))))))) X))) X))))))) X)
set_option maxHeartbeats 4000000 in
theorem ok_X2_find {en : yEn} {d : Nat} {x0 : Nat} {x1 : Int32} {σ : yH} {k n : Nat} {K : Option Value → yH → Prop} {X : String → Addr → yH → Prop} (h : wp_X2_find en d  x0 x1 σ k n K X) : Wx en (d + 1) mX2_find 0 [(0, .ref x0), (1, .int x1)] [] σ (k + 4) (n + 26) K X := by
  unfold wp_X2_find at h
  refine sd_aload_n (pc := 0) dX2_find_0 rfl 0 rfl ?_
  refine sd_getR (pc := 1) dX2_find_1 (ci := 1) rfl in_X2 (kf := 1) (by decide) q168 (h.mono (fun v1 h => ?_))
  refine sd_iload_n (pc := 4) dX2_find_4 rfl 1 rfl ?_
  refine sd_callS (k := (k + 3)) (n := (n + 20)) (As := [.ref v1, .int x1]) (st := []) (pc := 5) dX2_find_5 q1078 q1079 q81 q1080 2 (by decide +kernel) rfl (Nat.le_refl _) (by decide) (Nat.le_of_ble_eq_true rfl) (Cx.mono h (kA.to (fun r3 σ2 h => ?_)) (xo rfl))
  refine sd_castE (r := (RX7, TX7, 4)) (pc := 8) dX2_find_8 q1358 (ci := 6) rfl h.1 ?_
  have h := h.2
  refine sd_astore_n (pc := 11) dX2_find_11 rfl (by decide) (ls' := [(2, .ref r3), (0, .ref x0), (1, .int x1)]) rfl ?_
  refine sd_aload_n (pc := 12) dX2_find_12 rfl 1 rfl ?_
  refine sd_getR (pc := 13) dX2_find_13 (ci := 1) rfl in_X2 (kf := 4) (by decide) q174 (h.mono (fun v4 h => ?_))
  refine sd_aload_n (pc := 16) dX2_find_16 rfl 0 rfl ?_
  refine sd_getIN (pc := 17) dX2_find_17 (ci := 6) rfl in_X7 (kf := 0) (by decide) q1319 (h.mono (fun v5 h => ?_))
  refine sd_iaload (pc := 20) dX2_find_20 (h.mono (fun v6 h => ?_))
  have h28 : Wx en (d + 1) mX2_find 29 [(2, .ref r3), (0, .ref x0), (1, .int x1)] (.int (if (v6 ≤ 0) then (0 : Int32) else (1 : Int32)) :: []) σ2 (k + 3) (n + 20) K X := by
    refine sd_bipush (pc := 29) dX2_find_29 (v := 7) (by decide) ?_
    refine sd_aload_n (pc := 31) dX2_find_31 rfl 0 rfl ?_
    refine sd_getIN (pc := 32) dX2_find_32 (ci := 6) rfl in_X7 (kf := 0) (by decide) q1319 (h.mono (fun v8 h => ?_))
    refine sd_callSN (k := (k + 2)) (n := (n + 12)) (As := [.int (if (v6 ≤ 0) then (0 : Int32) else (1 : Int32)), .int (7 : Int32), .int v8]) (st := []) (pc := 35) dX2_find_35 q909 q910 q80 q911 3 (by decide +kernel) rfl (Nat.le_refl _) (by decide) (Nat.le_of_ble_eq_true rfl) (Cx.mono h (kV.to (fun σ9 h => ?_)) (xo rfl))
    refine sd_aload_n (pc := 38) dX2_find_38 rfl 0 rfl ?_
    refine sd_getIN (pc := 39) dX2_find_39 (ci := 6) rfl in_X7 (kf := 1) (by decide) q1322 (h.mono (fun v10 h => ?_))
    have h29 : Wx en (d + 1) mX2_find 50 [(2, .ref r3), (0, .ref x0), (1, .int x1)] (.int (if (v10 ≤ 0) then (0 : Int32) else (1 : Int32)) :: []) σ9 (k + 2) (n + 12) K X := by
      refine sd_bipush (pc := 50) dX2_find_50 (v := 6) (by decide) ?_
      refine sd_iconst (pc := 52) dX2_find_52 (v := 1) (by decide) ?_
      refine sd_callSN (k := (k + 1)) (n := (n + 4)) (As := [.int (if (v10 ≤ 0) then (0 : Int32) else (1 : Int32)), .int (6 : Int32), .int (1 : Int32)]) (st := []) (pc := 53) dX2_find_53 q909 q910 q80 q911 3 (by decide +kernel) rfl (Nat.le_refl _) (by decide) (Nat.le_of_ble_eq_true rfl) (Cx.mono h (kV.to (fun σ12 h => ?_)) (xo rfl))
      refine sd_bipush (pc := 56) dX2_find_56 (v := 15) (by decide) ?_
      refine sd_aload_n (pc := 58) dX2_find_58 rfl 1 rfl ?_
      refine sd_getR (pc := 59) dX2_find_59 (ci := 1) rfl in_X2 (kf := 4) (by decide) q174 (h.mono (fun v13 h => ?_))
      refine sd_aload_n (pc := 62) dX2_find_62 rfl 0 rfl ?_
      refine sd_getIN (pc := 63) dX2_find_63 (ci := 6) rfl in_X7 (kf := 0) (by decide) q1319 (h.mono (fun v14 h => ?_))
      refine sd_iaload (pc := 66) dX2_find_66 (h.mono (fun v15 h => ?_))
      refine sd_mminL (pc := 67) dX2_find_67 q1186 q555 q101 q556 (by omega) (Nat.le_of_ble_eq_true rfl) (h.mono (fun r16 h => ?_))
      refine sd_istore_n (pc := 70) dX2_find_70 rfl (by decide) (ls' := [(3, .int r16), (2, .ref r3), (0, .ref x0), (1, .int x1)]) rfl ?_
      refine sd_aload_n (pc := 71) dX2_find_71 rfl 2 rfl ?_
      refine sd_getR (pc := 72) dX2_find_72 (ci := 1) rfl in_X2 (kf := 4) (by decide) q174 (h.mono (fun v17 h => ?_))
      refine sd_aload_n (pc := 75) dX2_find_75 rfl 1 rfl ?_
      refine sd_getIN (pc := 76) dX2_find_76 (ci := 6) rfl in_X7 (kf := 0) (by decide) q1319 (h.mono (fun v18 h => ?_))
      refine sd_dup2 (pc := 79) dX2_find_79 rfl rfl ?_
      refine sd_iaload (pc := 80) dX2_find_80 (h.mono (fun v19 h => ?_))
      refine sd_iload_n (pc := 81) dX2_find_81 rfl 0 rfl ?_
      refine sd_isub (pc := 82) dX2_find_82 ?_
      refine sd_iastore (pc := 83) dX2_find_83 (h.mono (fun σ20 h => ?_))
      refine sd_aload_n (pc := 84) dX2_find_84 rfl 2 rfl ?_
      refine sd_dup (pc := 85) dX2_find_85 rfl ?_
      refine sd_getI (pc := 86) dX2_find_86 (ci := 1) rfl in_X2 (kf := 9) (by decide) q184 (h.mono (fun v21 h => ?_))
      refine sd_iload_n (pc := 89) dX2_find_89 rfl 0 rfl ?_
      refine sd_iadd (pc := 90) dX2_find_90 ?_
      refine sd_putf (pc := 91) dX2_find_91 (ci := 1) rfl in_X2 tyX2 tyX2_ok nmX2 (kf := 9) (by decide) q184 rfl (ty := .int) rfl rfl rfl (putV.mono h (fun σ22 h => ?_))
      refine sd_aload_n (pc := 94) dX2_find_94 rfl 2 rfl ?_
      refine sd_getR (pc := 95) dX2_find_95 (ci := 1) rfl in_X2 (kf := 1) (by decide) q168 (h.mono (fun v23 h => ?_))
      refine sd_iload_n (pc := 98) dX2_find_98 rfl 3 rfl ?_
      refine sd_aload_n (pc := 99) dX2_find_99 rfl 1 rfl ?_
      refine sd_iload_n (pc := 100) dX2_find_100 rfl 0 rfl ?_
      refine sd_callV (k := k) (n := n) (As := [.int r16]) (st := [.int x1, .ref v23]) (pc := 101) dX2_find_101 (ci := 6) rfl h.1 rfl q1400 q1401 q1402 q114 q1403 1 (by decide +kernel) rfl (Nat.le_refl _) (by decide) (Nat.le_of_ble_eq_true rfl) (Cx.mono h.2 (kA.to (fun r25 σ24 h => ?_)) (xo rfl))
      refine sd_callF (k := k) (n := n) (As := [.int x1, .ref r25]) (st := []) (pc := 104) dX2_find_104 (ci := 11) rfl h.1 (x := ⟨"java/util/List", "set", "(ILjava/lang/Object;)Ljava/lang/Object;"⟩) q1110 q1113 q1115 q84 q1117 q1112 q1111 q1116 q1114 q329 2 (by decide +kernel) rfl 2 (by decide +kernel) rfl (Nat.le_refl _) (by decide) (Nat.le_of_ble_eq_true rfl) (Cx.mono h.2 (kA.to (fun r27 σ26 h => ?_)) (xo rfl))
      refine sd_castE (r := (RX7, TX7, 4)) (pc := 109) dX2_find_109 q1358 (ci := 6) rfl h.1 ?_
      have h := h.2
      refine sd_astore (pc := 112) dX2_find_112 (by decide) (ls' := [(4, .ref r27), (3, .int r16), (2, .ref r3), (0, .ref x0), (1, .int x1)]) rfl ?_
      refine sd_iload_n (pc := 114) dX2_find_114 rfl 1 rfl ?_
      exact sd_ireturn (pc := 115) dX2_find_115 (ty0 := .int) rfl rfl h
    have e30 := sd_iteI h29
    refine sd_ifle (pc := 42) dX2_find_42 (tgt := 49) (by decide) ⟨fun c11 => ?_, fun c11 => ?_⟩
    · refine sd_iconst (pc := 49) dX2_find_49 (v := 0) (by decide) ?_
      exact (e30.1 c11)
    · refine sd_iconst (pc := 45) dX2_find_45 (v := 1) (by decide) ?_
      refine sd_goto (pc := 46) dX2_find_46 (tgt := 50) (by decide) ?_
      exact (e30.2 c11)
  have e31 := sd_iteI h28
  refine sd_ifle (pc := 21) dX2_find_21 (tgt := 28) (by decide) ⟨fun c7 => ?_, fun c7 => ?_⟩
  · refine sd_iconst (pc := 28) dX2_find_28 (v := 0) (by decide) ?_
    exact (e31.1 c7)
  · refine sd_iconst (pc := 24) dX2_find_24 (v := 1) (by decide) ?_
    refine sd_goto (pc := 25) dX2_find_25 (tgt := 29) (by decide) ?_
    exact (e31.2 c7)
theorem cx_X2_find {en : yEn} {d : Nat} {x0 : Nat} {x1 : Int32} {σ : yH} {k n : Nat} {K : Option Value → yH → Prop} {X : String → Addr → yH → Prop} (h : wp_X2_find en d  x0 x1 σ k n K X) : Cx en (d + 1) (k + 4) (n + 26) mX2_find [.ref x0, .int x1] σ K X := Cx.body (by decide +kernel) rfl (Nat.le_of_ble_eq_true rfl) (ok_X2_find h)
/-! PeacockLawns$Garden.sell(I)I -/
def wp_X2_sell (en : yEn) (d : Nat) (x0 : Nat) (x1 : Int32) (σ : yH) (k n : Nat) (K : Option Value → yH → Prop) (X : String → Addr → yH → Prop) : Prop :=
  Cx en d 0 0 mX1_inRange [.int x1, .int (1 : Int32), .int (20 : Int32)] σ (kI (fun r2 σ1 => Cx en d 1 6 mX1_require [.int r2] σ1 (kV (fun σ3 => getI σ3 x0 1 9 (fun v4 => getI σ3 x0 1 9 (fun v6 => Cx en d 1 8 mX1_allow [.int (if (v4 < ((10 : Int32) * x1)) then (0 : Int32) else (1 : Int32)), .int (8 : Int32), .int (((10 : Int32) * x1) - v6)] σ3 (kV (fun σ7 => getI σ7 x0 1 9 (fun v8 => (putV σ7 x0 1 9 (.int (v8 - ((10 : Int32) * x1))) (fun σ9 => getI σ9 x0 1 11 (fun v10 => (putV σ9 x0 1 11 (.int (v10 + ((10 : Int32) * x1))) (fun σ11 => getI σ11 x0 1 7 (fun v12 => (putV σ11 x0 1 7 (.int (v12 + ((4 : Int32) * x1))) (fun σ13 => getI σ13 x0 1 7 (fun v14 => K (some (.int v14)) σ13)))))))))))) X)))) X)) X
set_option maxHeartbeats 4000000 in
theorem ok_X2_sell {en : yEn} {d : Nat} {x0 : Nat} {x1 : Int32} {σ : yH} {k n : Nat} {K : Option Value → yH → Prop} {X : String → Addr → yH → Prop} (h : wp_X2_sell en d  x0 x1 σ k n K X) : Wx en (d + 1) mX2_sell 0 [(0, .ref x0), (1, .int x1)] [] σ (k + 2) (n + 14) K X := by
  unfold wp_X2_sell at h
  refine sd_iload_n (pc := 0) dX2_sell_0 rfl 1 rfl ?_
  refine sd_iconst (pc := 1) dX2_sell_1 (v := 1) (by decide) ?_
  refine sd_bipush (pc := 2) dX2_sell_2 (v := 20) (by decide) ?_
  refine sd_callSN (k := (k + 2)) (n := (n + 14)) (As := [.int x1, .int (1 : Int32), .int (20 : Int32)]) (st := []) (pc := 4) dX2_sell_4 q836 q837 q80 q838 3 (by decide +kernel) rfl (Nat.le_refl _) (by decide) (Nat.le_of_ble_eq_true rfl) (Cx.mono h (kI.to (fun r2 σ1 h => ?_)) (xo rfl))
  refine sd_callSN (k := (k + 1)) (n := (n + 8)) (As := [.int r2]) (st := []) (pc := 7) dX2_sell_7 q857 q858 q80 q859 1 (by decide +kernel) rfl (Nat.le_refl _) (by decide) (Nat.le_of_ble_eq_true rfl) (Cx.mono h (kV.to (fun σ3 h => ?_)) (xo rfl))
  refine sd_bipush (pc := 10) dX2_sell_10 (v := 10) (by decide) ?_
  refine sd_iload_n (pc := 12) dX2_sell_12 rfl 1 rfl ?_
  refine sd_imul (pc := 13) dX2_sell_13 ?_
  refine sd_istore_n (pc := 14) dX2_sell_14 rfl (by decide) (ls' := [(2, .int ((10 : Int32) * x1)), (0, .ref x0), (1, .int x1)]) rfl ?_
  refine sd_aload_n (pc := 15) dX2_sell_15 rfl 1 rfl ?_
  refine sd_getI (pc := 16) dX2_sell_16 (ci := 1) rfl in_X2 (kf := 9) (by decide) q184 (h.mono (fun v4 h => ?_))
  refine sd_iload_n (pc := 19) dX2_sell_19 rfl 0 rfl ?_
  have h15 : Wx en (d + 1) mX2_sell 28 [(2, .int ((10 : Int32) * x1)), (0, .ref x0), (1, .int x1)] (.int (if (v4 < ((10 : Int32) * x1)) then (0 : Int32) else (1 : Int32)) :: []) σ3 (k + 1) (n + 8) K X := by
    refine sd_bipush (pc := 28) dX2_sell_28 (v := 8) (by decide) ?_
    refine sd_iload_n (pc := 30) dX2_sell_30 rfl 0 rfl ?_
    refine sd_aload_n (pc := 31) dX2_sell_31 rfl 1 rfl ?_
    refine sd_getI (pc := 32) dX2_sell_32 (ci := 1) rfl in_X2 (kf := 9) (by decide) q184 (h.mono (fun v6 h => ?_))
    refine sd_isub (pc := 35) dX2_sell_35 ?_
    refine sd_callSN (k := k) (n := n) (As := [.int (if (v4 < ((10 : Int32) * x1)) then (0 : Int32) else (1 : Int32)), .int (8 : Int32), .int (((10 : Int32) * x1) - v6)]) (st := []) (pc := 36) dX2_sell_36 q909 q910 q80 q911 3 (by decide +kernel) rfl (Nat.le_refl _) (by decide) (Nat.le_of_ble_eq_true rfl) (Cx.mono h (kV.to (fun σ7 h => ?_)) (xo rfl))
    refine sd_aload_n (pc := 39) dX2_sell_39 rfl 1 rfl ?_
    refine sd_dup (pc := 40) dX2_sell_40 rfl ?_
    refine sd_getI (pc := 41) dX2_sell_41 (ci := 1) rfl in_X2 (kf := 9) (by decide) q184 (h.mono (fun v8 h => ?_))
    refine sd_iload_n (pc := 44) dX2_sell_44 rfl 0 rfl ?_
    refine sd_isub (pc := 45) dX2_sell_45 ?_
    refine sd_putf (pc := 46) dX2_sell_46 (ci := 1) rfl in_X2 tyX2 tyX2_ok nmX2 (kf := 9) (by decide) q184 rfl (ty := .int) rfl rfl rfl (putV.mono h (fun σ9 h => ?_))
    refine sd_aload_n (pc := 49) dX2_sell_49 rfl 1 rfl ?_
    refine sd_dup (pc := 50) dX2_sell_50 rfl ?_
    refine sd_getI (pc := 51) dX2_sell_51 (ci := 1) rfl in_X2 (kf := 11) (by decide) q188 (h.mono (fun v10 h => ?_))
    refine sd_iload_n (pc := 54) dX2_sell_54 rfl 0 rfl ?_
    refine sd_iadd (pc := 55) dX2_sell_55 ?_
    refine sd_putf (pc := 56) dX2_sell_56 (ci := 1) rfl in_X2 tyX2 tyX2_ok nmX2 (kf := 11) (by decide) q188 rfl (ty := .int) rfl rfl rfl (putV.mono h (fun σ11 h => ?_))
    refine sd_aload_n (pc := 59) dX2_sell_59 rfl 1 rfl ?_
    refine sd_dup (pc := 60) dX2_sell_60 rfl ?_
    refine sd_getI (pc := 61) dX2_sell_61 (ci := 1) rfl in_X2 (kf := 7) (by decide) q180 (h.mono (fun v12 h => ?_))
    refine sd_iconst (pc := 64) dX2_sell_64 (v := 4) (by decide) ?_
    refine sd_iload_n (pc := 65) dX2_sell_65 rfl 2 rfl ?_
    refine sd_imul (pc := 66) dX2_sell_66 ?_
    refine sd_iadd (pc := 67) dX2_sell_67 ?_
    refine sd_putf (pc := 68) dX2_sell_68 (ci := 1) rfl in_X2 tyX2 tyX2_ok nmX2 (kf := 7) (by decide) q180 rfl (ty := .int) rfl rfl rfl (putV.mono h (fun σ13 h => ?_))
    refine sd_aload_n (pc := 71) dX2_sell_71 rfl 1 rfl ?_
    refine sd_getI (pc := 72) dX2_sell_72 (ci := 1) rfl in_X2 (kf := 7) (by decide) q180 (h.mono (fun v14 h => ?_))
    exact sd_ireturn (pc := 75) dX2_sell_75 (ty0 := .int) rfl rfl h
  have e16 := sd_iteI h15
  refine sd_icmplt (pc := 20) dX2_sell_20 (tgt := 27) (by decide) ⟨fun c5 => ?_, fun c5 => ?_⟩
  · refine sd_iconst (pc := 27) dX2_sell_27 (v := 0) (by decide) ?_
    exact (e16.1 c5)
  · refine sd_iconst (pc := 23) dX2_sell_23 (v := 1) (by decide) ?_
    refine sd_goto (pc := 24) dX2_sell_24 (tgt := 28) (by decide) ?_
    exact (e16.2 c5)
theorem cx_X2_sell {en : yEn} {d : Nat} {x0 : Nat} {x1 : Int32} {σ : yH} {k n : Nat} {K : Option Value → yH → Prop} {X : String → Addr → yH → Prop} (h : wp_X2_sell en d  x0 x1 σ k n K X) : Cx en (d + 1) (k + 2) (n + 14) mX2_sell [.ref x0, .int x1] σ K X := Cx.body (by decide +kernel) rfl (Nat.le_of_ble_eq_true rfl) (ok_X2_sell h)
/-! PeacockLawns$Garden.seat(II)I -/
def wp_X2_seat (en : yEn) (d : Nat) (x0 : Nat) (x1 : Int32) (x2 : Int32) (σ : yH) (k n : Nat) (K : Option Value → yH → Prop) (X : String → Addr → yH → Prop) : Prop :=
  getR σ x0 1 2 (fun v1 => Cx en d 1 6 mX2_at [.ref v1, .int x1] σ (kA (fun r3 σ2 => (isC σ2 r3 7 ∧ Cx en d 0 0 mX1_inRange [.int x2, .int (1 : Int32), .int (6 : Int32)] σ2 (kI (fun r5 σ4 => Cx en d 1 6 mX1_require [.int r5] σ4 (kV (fun σ6 => getI σ6 r3 7 1 (fun v7 => getI σ6 r3 7 1 (fun v9 => Cx en d 1 8 mX1_allow [.int (if ((6 : Int32) < (v7 + x2)) then (0 : Int32) else (1 : Int32)), .int (9 : Int32), .int ((6 : Int32) - v9)] σ6 (kV (fun σ10 => getR σ10 x0 1 2 (fun v11 => (isC σ10 r3 7 ∧ Cx en d 1 3 mX8_seating [.ref r3, .int x2] σ10 (kA (fun r13 σ12 => (isC σ12 v11 11 ∧ Cx en d 0 0 mJ2_set [.ref v11, .int x1, .ref r13] σ12 (kA (fun r15 σ14 => (isC σ14 r15 7 ∧ getI σ14 x0 1 7 (fun v16 => (putV σ14 x0 1 7 (.int (v16 + ((2 : Int32) * x2))) (fun σ17 => getI σ17 r3 7 1 (fun v18 => K (some (.int (v18 + x2))) σ17))))))) X))) X)))) X)))) X)) X))) X)
set_option maxHeartbeats 4000000 in
theorem ok_X2_seat {en : yEn} {d : Nat} {x0 : Nat} {x1 : Int32} {x2 : Int32} {σ : yH} {k n : Nat} {K : Option Value → yH → Prop} {X : String → Addr → yH → Prop} (h : wp_X2_seat en d  x0 x1 x2 σ k n K X) : Wx en (d + 1) mX2_seat 0 [(0, .ref x0), (1, .int x1), (2, .int x2)] [] σ (k + 4) (n + 23) K X := by
  unfold wp_X2_seat at h
  refine sd_aload_n (pc := 0) dX2_seat_0 rfl 0 rfl ?_
  refine sd_getR (pc := 1) dX2_seat_1 (ci := 1) rfl in_X2 (kf := 2) (by decide) q170 (h.mono (fun v1 h => ?_))
  refine sd_iload_n (pc := 4) dX2_seat_4 rfl 1 rfl ?_
  refine sd_callS (k := (k + 3)) (n := (n + 17)) (As := [.ref v1, .int x1]) (st := []) (pc := 5) dX2_seat_5 q1078 q1079 q81 q1080 2 (by decide +kernel) rfl (Nat.le_refl _) (by decide) (Nat.le_of_ble_eq_true rfl) (Cx.mono h (kA.to (fun r3 σ2 h => ?_)) (xo rfl))
  refine sd_castE (r := (RX8, TX8, 3)) (pc := 8) dX2_seat_8 q1462 (ci := 7) rfl h.1 ?_
  have h := h.2
  refine sd_astore_n (pc := 11) dX2_seat_11 rfl (by decide) (ls' := [(3, .ref r3), (0, .ref x0), (1, .int x1), (2, .int x2)]) rfl ?_
  refine sd_iload_n (pc := 12) dX2_seat_12 rfl 3 rfl ?_
  refine sd_iconst (pc := 13) dX2_seat_13 (v := 1) (by decide) ?_
  refine sd_bipush (pc := 14) dX2_seat_14 (v := 6) (by decide) ?_
  refine sd_callSN (k := (k + 3)) (n := (n + 17)) (As := [.int x2, .int (1 : Int32), .int (6 : Int32)]) (st := []) (pc := 16) dX2_seat_16 q836 q837 q80 q838 3 (by decide +kernel) rfl (Nat.le_refl _) (by decide) (Nat.le_of_ble_eq_true rfl) (Cx.mono h (kI.to (fun r5 σ4 h => ?_)) (xo rfl))
  refine sd_callSN (k := (k + 2)) (n := (n + 11)) (As := [.int r5]) (st := []) (pc := 19) dX2_seat_19 q857 q858 q80 q859 1 (by decide +kernel) rfl (Nat.le_refl _) (by decide) (Nat.le_of_ble_eq_true rfl) (Cx.mono h (kV.to (fun σ6 h => ?_)) (xo rfl))
  refine sd_aload_n (pc := 22) dX2_seat_22 rfl 0 rfl ?_
  refine sd_getIN (pc := 23) dX2_seat_23 (ci := 7) rfl in_X8 (kf := 1) (by decide) q1438 (h.mono (fun v7 h => ?_))
  refine sd_iload_n (pc := 26) dX2_seat_26 rfl 3 rfl ?_
  refine sd_iadd (pc := 27) dX2_seat_27 ?_
  refine sd_bipush (pc := 28) dX2_seat_28 (v := 6) (by decide) ?_
  have h19 : Wx en (d + 1) mX2_seat 38 [(3, .ref r3), (0, .ref x0), (1, .int x1), (2, .int x2)] (.int (if ((6 : Int32) < (v7 + x2)) then (0 : Int32) else (1 : Int32)) :: []) σ6 (k + 2) (n + 11) K X := by
    refine sd_bipush (pc := 38) dX2_seat_38 (v := 9) (by decide) ?_
    refine sd_bipush (pc := 40) dX2_seat_40 (v := 6) (by decide) ?_
    refine sd_aload_n (pc := 42) dX2_seat_42 rfl 0 rfl ?_
    refine sd_getIN (pc := 43) dX2_seat_43 (ci := 7) rfl in_X8 (kf := 1) (by decide) q1438 (h.mono (fun v9 h => ?_))
    refine sd_isub (pc := 46) dX2_seat_46 ?_
    refine sd_callSN (k := (k + 1)) (n := (n + 3)) (As := [.int (if ((6 : Int32) < (v7 + x2)) then (0 : Int32) else (1 : Int32)), .int (9 : Int32), .int ((6 : Int32) - v9)]) (st := []) (pc := 47) dX2_seat_47 q909 q910 q80 q911 3 (by decide +kernel) rfl (Nat.le_refl _) (by decide) (Nat.le_of_ble_eq_true rfl) (Cx.mono h (kV.to (fun σ10 h => ?_)) (xo rfl))
    refine sd_aload_n (pc := 50) dX2_seat_50 rfl 1 rfl ?_
    refine sd_getR (pc := 51) dX2_seat_51 (ci := 1) rfl in_X2 (kf := 2) (by decide) q170 (h.mono (fun v11 h => ?_))
    refine sd_iload_n (pc := 54) dX2_seat_54 rfl 2 rfl ?_
    refine sd_aload_n (pc := 55) dX2_seat_55 rfl 0 rfl ?_
    refine sd_iload_n (pc := 56) dX2_seat_56 rfl 3 rfl ?_
    refine sd_callV (k := k) (n := n) (As := [.int x2]) (st := [.int x1, .ref v11]) (pc := 57) dX2_seat_57 (ci := 7) rfl h.1 rfl q1463 q1464 q1465 q115 q1466 1 (by decide +kernel) rfl (Nat.le_refl _) (by decide) (Nat.le_of_ble_eq_true rfl) (Cx.mono h.2 (kA.to (fun r13 σ12 h => ?_)) (xo rfl))
    refine sd_callF (k := k) (n := n) (As := [.int x1, .ref r13]) (st := []) (pc := 60) dX2_seat_60 (ci := 11) rfl h.1 (x := ⟨"java/util/List", "set", "(ILjava/lang/Object;)Ljava/lang/Object;"⟩) q1110 q1113 q1115 q84 q1117 q1112 q1111 q1116 q1114 q329 2 (by decide +kernel) rfl 2 (by decide +kernel) rfl (Nat.le_refl _) (by decide) (Nat.le_of_ble_eq_true rfl) (Cx.mono h.2 (kA.to (fun r15 σ14 h => ?_)) (xo rfl))
    refine sd_castE (r := (RX8, TX8, 3)) (pc := 65) dX2_seat_65 q1462 (ci := 7) rfl h.1 ?_
    have h := h.2
    refine sd_astore (pc := 68) dX2_seat_68 (by decide) (ls' := [(4, .ref r15), (3, .ref r3), (0, .ref x0), (1, .int x1), (2, .int x2)]) rfl ?_
    refine sd_aload_n (pc := 70) dX2_seat_70 rfl 2 rfl ?_
    refine sd_dup (pc := 71) dX2_seat_71 rfl ?_
    refine sd_getI (pc := 72) dX2_seat_72 (ci := 1) rfl in_X2 (kf := 7) (by decide) q180 (h.mono (fun v16 h => ?_))
    refine sd_iconst (pc := 75) dX2_seat_75 (v := 2) (by decide) ?_
    refine sd_iload_n (pc := 76) dX2_seat_76 rfl 4 rfl ?_
    refine sd_imul (pc := 77) dX2_seat_77 ?_
    refine sd_iadd (pc := 78) dX2_seat_78 ?_
    refine sd_putf (pc := 79) dX2_seat_79 (ci := 1) rfl in_X2 tyX2 tyX2_ok nmX2 (kf := 7) (by decide) q180 rfl (ty := .int) rfl rfl rfl (putV.mono h (fun σ17 h => ?_))
    refine sd_aload_n (pc := 82) dX2_seat_82 rfl 1 rfl ?_
    refine sd_getIN (pc := 83) dX2_seat_83 (ci := 7) rfl in_X8 (kf := 1) (by decide) q1438 (h.mono (fun v18 h => ?_))
    refine sd_iload_n (pc := 86) dX2_seat_86 rfl 4 rfl ?_
    refine sd_iadd (pc := 87) dX2_seat_87 ?_
    exact sd_ireturn (pc := 88) dX2_seat_88 (ty0 := .int) rfl rfl h
  have e20 := sd_iteI h19
  refine sd_icmpgt (pc := 30) dX2_seat_30 (tgt := 37) (by decide) ⟨fun c8 => ?_, fun c8 => ?_⟩
  · refine sd_iconst (pc := 37) dX2_seat_37 (v := 0) (by decide) ?_
    exact (e20.1 c8)
  · refine sd_iconst (pc := 33) dX2_seat_33 (v := 1) (by decide) ?_
    refine sd_goto (pc := 34) dX2_seat_34 (tgt := 38) (by decide) ?_
    exact (e20.2 c8)
theorem cx_X2_seat {en : yEn} {d : Nat} {x0 : Nat} {x1 : Int32} {x2 : Int32} {σ : yH} {k n : Nat} {K : Option Value → yH → Prop} {X : String → Addr → yH → Prop} (h : wp_X2_seat en d  x0 x1 x2 σ k n K X) : Cx en (d + 1) (k + 4) (n + 23) mX2_seat [.ref x0, .int x1, .int x2] σ K X := Cx.body (by decide +kernel) rfl (Nat.le_of_ble_eq_true rfl) (ok_X2_seat h)
/-! PeacockLawns$Garden.month()I -/
def wp_X2_month (en : yEn) (d : Nat) (x0 : Nat) (σ : yH) (k n : Nat) (K : Option Value → yH → Prop) (X : String → Addr → yH → Prop) : Prop :=
  getI σ x0 1 5 (fun v1 => K (some (.int ((v1 / (30 : Int32)) - (v1 / (30 : Int32)) / (12 : Int32) * (12 : Int32)))) σ)
set_option maxHeartbeats 4000000 in
theorem ok_X2_month {en : yEn} {d : Nat} {x0 : Nat} {σ : yH} {k n : Nat} {K : Option Value → yH → Prop} {X : String → Addr → yH → Prop} (h : wp_X2_month en d  x0 σ k n K X) : Wx en (d + 1) mX2_month 0 [(0, .ref x0)] [] σ k n K X := by
  unfold wp_X2_month at h
  refine sd_aload_n (pc := 0) dX2_month_0 rfl 0 rfl ?_
  refine sd_getI (pc := 1) dX2_month_1 (ci := 1) rfl in_X2 (kf := 5) (by decide) q176 (h.mono (fun v1 h => ?_))
  refine sd_bipush (pc := 4) dX2_month_4 (v := 30) (by decide) ?_
  refine sd_idiv (pc := 6) dX2_month_6 (by decide) ?_
  refine sd_bipush (pc := 7) dX2_month_7 (v := 12) (by decide) ?_
  refine sd_irem (pc := 9) dX2_month_9 (by decide) ?_
  exact sd_ireturn (pc := 10) dX2_month_10 (ty0 := .int) rfl rfl h
theorem cx_X2_month {en : yEn} {d : Nat} {x0 : Nat} {σ : yH} {k n : Nat} {K : Option Value → yH → Prop} {X : String → Addr → yH → Prop} (h : wp_X2_month en d  x0 σ k n K X) : Cx en (d + 1) k n mX2_month [.ref x0] σ K X := Cx.body (by decide +kernel) rfl (Nat.le_of_ble_eq_true rfl) (ok_X2_month h)
/-! PeacockLawns$Garden.grow()V -/
def wp_X2_grow_24 (en : yEn) (d : Nat) (l0 : Nat) (l1 : Int32) (σ : yH) (k n : Nat) (K : Option Value → yH → Prop) (X : String → Addr → yH → Prop) : Prop :=
  ((((12 : Int32) ≤ l1) → K none σ) ∧ (¬ ((12 : Int32) ≤ l1) → getR σ l0 1 3 (fun v8 => getR σ l0 1 3 (fun v9 => aldI σ (en.2.2.2 0) v9 l1 (fun v10 => yLet (if (v10 + (1 : Int32)) < (20 : Int32) then (v10 + (1 : Int32)) else (20 : Int32)) (fun r11 => astI σ (en.2.2.2 0) v8 l1 r11 (fun σ12 => Wx en (d + 1) mX2_grow 24 [(0, .ref l0), (1, .int (l1 + (1 : Int32)))] [] σ12 k n K X)))))))
set_option maxHeartbeats 4000000 in
theorem ok_X2_grow_24 {en : yEn} {d : Nat} {l0 : Nat} {l1 : Int32} {σ : yH} {k n : Nat} {K : Option Value → yH → Prop} {X : String → Addr → yH → Prop} (h : wp_X2_grow_24 en d  l0 l1 σ k n K X) : Wx en (d + 1) mX2_grow 24 [(0, .ref l0), (1, .int l1)] [] σ k n K X := by
  unfold wp_X2_grow_24 at h
  refine sd_iload_n (pc := 24) dX2_grow_24 rfl 1 rfl ?_
  refine sd_bipush (pc := 25) dX2_grow_25 (v := 12) (by decide) ?_
  refine sd_icmpge (pc := 27) dX2_grow_27 (tgt := 55) (by decide) ⟨fun c13 => ?_, fun c13 => ?_⟩
  · have h := h.1 c13
    exact sd_return (pc := 55) dX2_grow_55 rfl h
  · have h := h.2 c13
    refine sd_aload_n (pc := 30) dX2_grow_30 rfl 0 rfl ?_
    refine sd_getR (pc := 31) dX2_grow_31 (ci := 1) rfl in_X2 (kf := 3) (by decide) q172 (h.mono (fun v8 h => ?_))
    refine sd_iload_n (pc := 34) dX2_grow_34 rfl 1 rfl ?_
    refine sd_bipush (pc := 35) dX2_grow_35 (v := 20) (by decide) ?_
    refine sd_aload_n (pc := 37) dX2_grow_37 rfl 0 rfl ?_
    refine sd_getR (pc := 38) dX2_grow_38 (ci := 1) rfl in_X2 (kf := 3) (by decide) q172 (h.mono (fun v9 h => ?_))
    refine sd_iload_n (pc := 41) dX2_grow_41 rfl 1 rfl ?_
    refine sd_iaload (pc := 42) dX2_grow_42 (h.mono (fun v10 h => ?_))
    refine sd_iconst (pc := 43) dX2_grow_43 (v := 1) (by decide) ?_
    refine sd_iadd (pc := 44) dX2_grow_44 ?_
    refine sd_mminL (pc := 45) dX2_grow_45 q1186 q555 q101 q556 (by omega) (Nat.le_of_ble_eq_true rfl) (h.mono (fun r11 h => ?_))
    refine sd_iastore (pc := 48) dX2_grow_48 (h.mono (fun σ12 h => ?_))
    refine sd_iinc (pc := 49) dX2_grow_49 1 rfl (v := (l1 + (1 : Int32))) rfl (by decide) (ls' := [(1, .int (l1 + (1 : Int32))), (0, .ref l0)]) rfl ?_
    refine sd_goto (pc := 52) dX2_grow_52 (tgt := 24) (by decide) ?_
    exact sd_loc [1, 0] rfl h
def wp_X2_grow (en : yEn) (d : Nat) (x0 : Nat) (σ : yH) (k n : Nat) (K : Option Value → yH → Prop) (X : String → Addr → yH → Prop) : Prop :=
  (isC σ x0 1 ∧ Cx en d 0 0 mX2_month [.ref x0] σ (kI (fun r2 σ1 => Cx en d 0 0 mX1_inRange [.int r2, .int (2 : Int32), .int (8 : Int32)] σ1 (kI (fun r4 σ3 => (((r4 = 0) → K none σ3) ∧ (¬ (r4 = 0) → getI σ3 x0 1 5 (fun v5 => ((¬ ((v5 - v5 / (3 : Int32) * (3 : Int32)) = 0) → K none σ3) ∧ (((v5 - v5 / (3 : Int32) * (3 : Int32)) = 0) → Wx en (d + 1) mX2_grow 24 [(0, .ref x0), (1, .int (0 : Int32))] [] σ3 k n K X))))))) X)) X)
set_option maxHeartbeats 4000000 in
theorem ok_X2_grow {en : yEn} {d : Nat} {x0 : Nat} {σ : yH} {k n : Nat} {K : Option Value → yH → Prop} {X : String → Addr → yH → Prop} (h : wp_X2_grow en d  x0 σ k n K X) : Wx en (d + 1) mX2_grow 0 [(0, .ref x0)] [] σ k n K X := by
  unfold wp_X2_grow at h
  refine sd_aload_n (pc := 0) dX2_grow_0 rfl 0 rfl ?_
  refine sd_callV (k := k) (n := n) (As := []) (st := []) (pc := 1) dX2_grow_1 (ci := 1) rfl h.1 rfl q1496 q1497 q1498 q81 q1499 0 (by decide +kernel) rfl (Nat.le_refl _) (by decide) (Nat.le_of_ble_eq_true rfl) (Cx.mono h.2 (kI.to (fun r2 σ1 h => ?_)) (xo rfl))
  refine sd_iconst (pc := 4) dX2_grow_4 (v := 2) (by decide) ?_
  refine sd_bipush (pc := 5) dX2_grow_5 (v := 8) (by decide) ?_
  refine sd_callSN (k := k) (n := n) (As := [.int r2, .int (2 : Int32), .int (8 : Int32)]) (st := []) (pc := 7) dX2_grow_7 q836 q837 q80 q838 3 (by decide +kernel) rfl (Nat.le_refl _) (by decide) (Nat.le_of_ble_eq_true rfl) (Cx.mono h (kI.to (fun r4 σ3 h => ?_)) (xo rfl))
  refine sd_ifeq (pc := 10) dX2_grow_10 (tgt := 55) (by decide) ⟨fun c7 => ?_, fun c7 => ?_⟩
  · have h := h.1 c7
    exact sd_return (pc := 55) dX2_grow_55 rfl h
  · have h := h.2 c7
    refine sd_aload_n (pc := 13) dX2_grow_13 rfl 0 rfl ?_
    refine sd_getI (pc := 14) dX2_grow_14 (ci := 1) rfl in_X2 (kf := 5) (by decide) q176 (h.mono (fun v5 h => ?_))
    refine sd_iconst (pc := 17) dX2_grow_17 (v := 3) (by decide) ?_
    refine sd_irem (pc := 18) dX2_grow_18 (by decide) ?_
    refine sd_ifne (pc := 19) dX2_grow_19 (tgt := 55) (by decide) ⟨fun c6 => ?_, fun c6 => ?_⟩
    · have h := h.1 c6
      exact sd_return (pc := 55) dX2_grow_55 rfl h
    · have h := h.2 c6
      refine sd_iconst (pc := 22) dX2_grow_22 (v := 0) (by decide) ?_
      refine sd_istore_n (pc := 23) dX2_grow_23 rfl (by decide) (ls' := [(1, .int (0 : Int32)), (0, .ref x0)]) rfl ?_
      exact sd_loc [1, 0] rfl h
theorem cx_X2_grow {en : yEn} {d : Nat} {x0 : Nat} {σ : yH} {k n : Nat} {K : Option Value → yH → Prop} {X : String → Addr → yH → Prop} (h : wp_X2_grow en d  x0 σ k n K X) : Cx en (d + 1) k n mX2_grow [.ref x0] σ K X := Cx.body (by decide +kernel) rfl (Nat.le_of_ble_eq_true rfl) (ok_X2_grow h)
/-! PeacockLawns$Garden.hunt()V -/
def wp_X2_hunt_4 (en : yEn) (d : Nat) (l0 : Nat) (l1 : Int32) (l2 : Int32) (σ : yH) (k n : Nat) (K : Option Value → yH → Prop) (X : String → Addr → yH → Prop) : Prop :=
  getR σ l0 1 0 (fun v1 => (isC σ v1 11 ∧ Cx en d 0 0 mJ2_size [.ref v1] σ (kI (fun r3 σ2 => (((r3 ≤ l2) → getI σ2 l0 1 6 (fun v4 => (isC σ2 l0 1 ∧ Cx en d 0 0 mX2_way [.ref l0, .int v4, .int (9 : Int32)] σ2 (kI (fun r6 σ5 => (putV σ5 l0 1 6 (.int r6) (fun σ7 => K none σ7)))) X))) ∧ (¬ (r3 ≤ l2) → ((¬ (l1 = 0) → getI σ2 l0 1 6 (fun v8 => (isC σ2 l0 1 ∧ Cx en d 0 0 mX2_way [.ref l0, .int v8, .int (9 : Int32)] σ2 (kI (fun r10 σ9 => (putV σ9 l0 1 6 (.int r10) (fun σ11 => K none σ11)))) X))) ∧ ((l1 = 0) → getR σ2 l0 1 0 (fun v12 => (isC σ2 v12 11 ∧ Cx en d 0 0 mJ2_get [.ref v12, .int l2] σ2 (kA (fun r14 σ13 => (isC σ13 r14 3 ∧ (isC σ13 r14 3 ∧ Cx en d 0 0 mX4_isSitting [.ref r14] σ13 (kI (fun r16 σ15 => (((r16 = 0) → Wx en (d + 1) mX2_hunt 4 [(0, .ref l0), (1, .int l1), (2, .int (l2 + (1 : Int32)))] [] σ15 k n K X) ∧ (¬ (r16 = 0) → getI σ15 r14 3 1 (fun v17 => getI σ15 l0 1 6 (fun v18 => ((¬ (v17 = v18) → Wx en (d + 1) mX2_hunt 4 [(0, .ref l0), (1, .int l1), (2, .int (l2 + (1 : Int32)))] [] σ15 k n K X) ∧ ((v17 = v18) → getI σ15 r14 3 2 (fun v19 => getI σ15 r14 3 3 (fun v20 => (isC σ15 r14 3 ∧ Cx en d 1 6 mX4_with [.ref r14, .int (v19 - (1 : Int32)), .int v20] σ15 (kA (fun r22 σ21 => (isC σ21 l0 1 ∧ Cx en d 0 0 mX2_put [.ref l0, .int l2, .ref r22] σ21 (kV (fun σ23 => getI σ23 l0 1 13 (fun v24 => (putV σ23 l0 1 13 (.int (v24 + (1 : Int32))) (fun σ25 => Wx en (d + 1) mX2_hunt 4 [(0, .ref l0), (1, .int (1 : Int32)), (2, .int (l2 + (1 : Int32)))] [] σ25 k n K X))))) X))) X))))))))))) X)))) X)))))))) X))
set_option maxHeartbeats 4000000 in
theorem ok_X2_hunt_4 {en : yEn} {d : Nat} {l0 : Nat} {l1 : Int32} {l2 : Int32} {σ : yH} {k n : Nat} {K : Option Value → yH → Prop} {X : String → Addr → yH → Prop} (h : wp_X2_hunt_4 en d  l0 l1 l2 σ k n K X) : Wx en (d + 1) mX2_hunt 4 [(0, .ref l0), (1, .int l1), (2, .int l2)] [] σ (k + 1) (n + 6) K X := by
  unfold wp_X2_hunt_4 at h
  refine sd_iload_n (pc := 4) dX2_hunt_4 rfl 2 rfl ?_
  refine sd_aload_n (pc := 5) dX2_hunt_5 rfl 0 rfl ?_
  refine sd_getR (pc := 6) dX2_hunt_6 (ci := 1) rfl in_X2 (kf := 0) (by decide) q166 (h.mono (fun v1 h => ?_))
  refine sd_callF (k := (k + 1)) (n := (n + 6)) (As := []) (st := [.int l2]) (pc := 9) dX2_hunt_9 (ci := 11) rfl h.1 (x := ⟨"java/util/List", "size", "()I"⟩) q908 q794 q796 q84 q798 q793 q792 q797 q795 q329 0 (by decide +kernel) rfl 0 (by decide +kernel) rfl (Nat.le_refl _) (by decide) (Nat.le_of_ble_eq_true rfl) (Cx.mono h.2 (kI.to (fun r3 σ2 h => ?_)) (xo rfl))
  refine sd_icmpge (pc := 14) dX2_hunt_14 (tgt := 90) (by decide) ⟨fun c29 => ?_, fun c29 => ?_⟩
  · have h := h.1 c29
    refine Wx.more (k' := k) (n' := n) ?_ (by omega) (by omega)
    refine sd_aload_n (pc := 90) dX2_hunt_90 rfl 0 rfl ?_
    refine sd_aload_n (pc := 91) dX2_hunt_91 rfl 0 rfl ?_
    refine sd_aload_n (pc := 92) dX2_hunt_92 rfl 0 rfl ?_
    refine sd_getI (pc := 93) dX2_hunt_93 (ci := 1) rfl in_X2 (kf := 6) (by decide) q178 (h.mono (fun v4 h => ?_))
    refine sd_bipush (pc := 96) dX2_hunt_96 (v := 9) (by decide) ?_
    refine sd_callV (k := k) (n := n) (As := [.int v4, .int (9 : Int32)]) (st := [.ref l0]) (pc := 98) dX2_hunt_98 (ci := 1) rfl h.1 rfl q1179 q1180 q1181 q81 q1182 2 (by decide +kernel) rfl (Nat.le_refl _) (by decide) (Nat.le_of_ble_eq_true rfl) (Cx.mono h.2 (kI.to (fun r6 σ5 h => ?_)) (xo rfl))
    refine sd_putf (pc := 101) dX2_hunt_101 (ci := 1) rfl in_X2 tyX2 tyX2_ok nmX2 (kf := 6) (by decide) q178 rfl (ty := .int) rfl rfl rfl (putV.mono h (fun σ7 h => ?_))
    exact sd_return (pc := 104) dX2_hunt_104 rfl h
  · have h := h.2 c29
    refine sd_iload_n (pc := 17) dX2_hunt_17 rfl 1 rfl ?_
    refine sd_ifne (pc := 18) dX2_hunt_18 (tgt := 90) (by decide) ⟨fun c28 => ?_, fun c28 => ?_⟩
    · have h := h.1 c28
      refine Wx.more (k' := k) (n' := n) ?_ (by omega) (by omega)
      refine sd_aload_n (pc := 90) dX2_hunt_90 rfl 0 rfl ?_
      refine sd_aload_n (pc := 91) dX2_hunt_91 rfl 0 rfl ?_
      refine sd_aload_n (pc := 92) dX2_hunt_92 rfl 0 rfl ?_
      refine sd_getI (pc := 93) dX2_hunt_93 (ci := 1) rfl in_X2 (kf := 6) (by decide) q178 (h.mono (fun v8 h => ?_))
      refine sd_bipush (pc := 96) dX2_hunt_96 (v := 9) (by decide) ?_
      refine sd_callV (k := k) (n := n) (As := [.int v8, .int (9 : Int32)]) (st := [.ref l0]) (pc := 98) dX2_hunt_98 (ci := 1) rfl h.1 rfl q1179 q1180 q1181 q81 q1182 2 (by decide +kernel) rfl (Nat.le_refl _) (by decide) (Nat.le_of_ble_eq_true rfl) (Cx.mono h.2 (kI.to (fun r10 σ9 h => ?_)) (xo rfl))
      refine sd_putf (pc := 101) dX2_hunt_101 (ci := 1) rfl in_X2 tyX2 tyX2_ok nmX2 (kf := 6) (by decide) q178 rfl (ty := .int) rfl rfl rfl (putV.mono h (fun σ11 h => ?_))
      exact sd_return (pc := 104) dX2_hunt_104 rfl h
    · have h := h.2 c28
      refine sd_aload_n (pc := 21) dX2_hunt_21 rfl 0 rfl ?_
      refine sd_getR (pc := 22) dX2_hunt_22 (ci := 1) rfl in_X2 (kf := 0) (by decide) q166 (h.mono (fun v12 h => ?_))
      refine sd_iload_n (pc := 25) dX2_hunt_25 rfl 2 rfl ?_
      refine sd_callF (k := (k + 1)) (n := (n + 6)) (As := [.int l2]) (st := []) (pc := 26) dX2_hunt_26 (ci := 11) rfl h.1 (x := ⟨"java/util/List", "get", "(I)Ljava/lang/Object;"⟩) q1082 q1085 q1087 q84 q1089 q1084 q1083 q1088 q1086 q329 1 (by decide +kernel) rfl 1 (by decide +kernel) rfl (Nat.le_refl _) (by decide) (Nat.le_of_ble_eq_true rfl) (Cx.mono h.2 (kA.to (fun r14 σ13 h => ?_)) (xo rfl))
      refine sd_castE (r := (RX4, TX4, 6)) (pc := 31) dX2_hunt_31 q448 (ci := 3) rfl h.1 ?_
      have h := h.2
      refine sd_astore_n (pc := 34) dX2_hunt_34 rfl (by decide) (ls' := [(3, .ref r14), (0, .ref l0), (1, .int l1), (2, .int l2)]) rfl ?_
      refine sd_aload_n (pc := 35) dX2_hunt_35 rfl 0 rfl ?_
      refine sd_callV (k := (k + 1)) (n := (n + 6)) (As := []) (st := []) (pc := 36) dX2_hunt_36 (ci := 3) rfl h.1 rfl q1175 q1176 q1177 q98 q1178 0 (by decide +kernel) rfl (Nat.le_refl _) (by decide) (Nat.le_of_ble_eq_true rfl) (Cx.mono h.2 (kI.to (fun r16 σ15 h => ?_)) (xo rfl))
      refine sd_ifeq (pc := 39) dX2_hunt_39 (tgt := 84) (by decide) ⟨fun c27 => ?_, fun c27 => ?_⟩
      · have h := h.1 c27
        refine Wx.more (k' := k) (n' := n) ?_ (by omega) (by omega)
        refine sd_iinc (pc := 84) dX2_hunt_84 3 rfl (v := (l2 + (1 : Int32))) rfl (by decide) (ls' := [(2, .int (l2 + (1 : Int32))), (3, .ref r14), (0, .ref l0), (1, .int l1)]) rfl ?_
        refine sd_goto (pc := 87) dX2_hunt_87 (tgt := 4) (by decide) ?_
        exact sd_loc [2, 3, 0] rfl h
      · have h := h.2 c27
        refine sd_aload_n (pc := 42) dX2_hunt_42 rfl 0 rfl ?_
        refine sd_getIN (pc := 43) dX2_hunt_43 (ci := 3) rfl in_X4 (kf := 1) (by decide) q878 (h.mono (fun v17 h => ?_))
        refine sd_aload_n (pc := 46) dX2_hunt_46 rfl 1 rfl ?_
        refine sd_getI (pc := 47) dX2_hunt_47 (ci := 1) rfl in_X2 (kf := 6) (by decide) q178 (h.mono (fun v18 h => ?_))
        refine sd_icmpne (pc := 50) dX2_hunt_50 (tgt := 84) (by decide) ⟨fun c26 => ?_, fun c26 => ?_⟩
        · have h := h.1 c26
          refine Wx.more (k' := k) (n' := n) ?_ (by omega) (by omega)
          refine sd_iinc (pc := 84) dX2_hunt_84 3 rfl (v := (l2 + (1 : Int32))) rfl (by decide) (ls' := [(2, .int (l2 + (1 : Int32))), (3, .ref r14), (0, .ref l0), (1, .int l1)]) rfl ?_
          refine sd_goto (pc := 87) dX2_hunt_87 (tgt := 4) (by decide) ?_
          exact sd_loc [2, 3, 0] rfl h
        · have h := h.2 c26
          refine sd_aload_n (pc := 53) dX2_hunt_53 rfl 1 rfl ?_
          refine sd_iload_n (pc := 54) dX2_hunt_54 rfl 3 rfl ?_
          refine sd_aload_n (pc := 55) dX2_hunt_55 rfl 0 rfl ?_
          refine sd_aload_n (pc := 56) dX2_hunt_56 rfl 0 rfl ?_
          refine sd_getIN (pc := 57) dX2_hunt_57 (ci := 3) rfl in_X4 (kf := 2) (by decide) q881 (h.mono (fun v19 h => ?_))
          refine sd_iconst (pc := 60) dX2_hunt_60 (v := 1) (by decide) ?_
          refine sd_isub (pc := 61) dX2_hunt_61 ?_
          refine sd_aload_n (pc := 62) dX2_hunt_62 rfl 0 rfl ?_
          refine sd_getIN (pc := 63) dX2_hunt_63 (ci := 3) rfl in_X4 (kf := 3) (by decide) q884 (h.mono (fun v20 h => ?_))
          refine sd_callV (k := k) (n := n) (As := [.int (v19 - (1 : Int32)), .int v20]) (st := [.int l2, .ref l0]) (pc := 66) dX2_hunt_66 (ci := 3) rfl h.1 rfl q1100 q1101 q1102 q98 q1103 2 (by decide +kernel) rfl (Nat.le_refl _) (by decide) (Nat.le_of_ble_eq_true rfl) (Cx.mono h.2 (kA.to (fun r22 σ21 h => ?_)) (xo rfl))
          refine sd_callV (k := k) (n := n) (As := [.int l2, .ref r22]) (st := []) (pc := 69) dX2_hunt_69 (ci := 1) rfl h.1 rfl q1105 q1107 qs12 q81 q1108 2 (by decide +kernel) rfl (Nat.le_refl _) (by decide) (Nat.le_of_ble_eq_true rfl) (Cx.mono h.2 (kV.to (fun σ23 h => ?_)) (xo rfl))
          refine sd_aload_n (pc := 72) dX2_hunt_72 rfl 1 rfl ?_
          refine sd_dup (pc := 73) dX2_hunt_73 rfl ?_
          refine sd_getI (pc := 74) dX2_hunt_74 (ci := 1) rfl in_X2 (kf := 13) (by decide) q192 (h.mono (fun v24 h => ?_))
          refine sd_iconst (pc := 77) dX2_hunt_77 (v := 1) (by decide) ?_
          refine sd_iadd (pc := 78) dX2_hunt_78 ?_
          refine sd_putf (pc := 79) dX2_hunt_79 (ci := 1) rfl in_X2 tyX2 tyX2_ok nmX2 (kf := 13) (by decide) q192 rfl (ty := .int) rfl rfl rfl (putV.mono h (fun σ25 h => ?_))
          refine sd_iconst (pc := 82) dX2_hunt_82 (v := 1) (by decide) ?_
          refine sd_istore_n (pc := 83) dX2_hunt_83 rfl (by decide) (ls' := [(1, .int (1 : Int32)), (3, .ref r14), (0, .ref l0), (2, .int l2)]) rfl ?_
          refine sd_iinc (pc := 84) dX2_hunt_84 3 rfl (v := (l2 + (1 : Int32))) rfl (by decide) (ls' := [(2, .int (l2 + (1 : Int32))), (1, .int (1 : Int32)), (3, .ref r14), (0, .ref l0)]) rfl ?_
          refine sd_goto (pc := 87) dX2_hunt_87 (tgt := 4) (by decide) ?_
          exact sd_loc [3, 1, 0] rfl h
def wp_X2_hunt (en : yEn) (d : Nat) (x0 : Nat) (σ : yH) (k n : Nat) (K : Option Value → yH → Prop) (X : String → Addr → yH → Prop) : Prop :=
  Wx en (d + 1) mX2_hunt 4 [(0, .ref x0), (1, .int (0 : Int32)), (2, .int (0 : Int32))] [] σ k n K X
set_option maxHeartbeats 4000000 in
theorem ok_X2_hunt {en : yEn} {d : Nat} {x0 : Nat} {σ : yH} {k n : Nat} {K : Option Value → yH → Prop} {X : String → Addr → yH → Prop} (h : wp_X2_hunt en d  x0 σ k n K X) : Wx en (d + 1) mX2_hunt 0 [(0, .ref x0)] [] σ k n K X := by
  unfold wp_X2_hunt at h
  refine sd_iconst (pc := 0) dX2_hunt_0 (v := 0) (by decide) ?_
  refine sd_istore_n (pc := 1) dX2_hunt_1 rfl (by decide) (ls' := [(1, .int (0 : Int32)), (0, .ref x0)]) rfl ?_
  refine sd_iconst (pc := 2) dX2_hunt_2 (v := 0) (by decide) ?_
  refine sd_istore_n (pc := 3) dX2_hunt_3 rfl (by decide) (ls' := [(2, .int (0 : Int32)), (1, .int (0 : Int32)), (0, .ref x0)]) rfl ?_
  exact sd_loc [2, 1, 0] rfl h
theorem cx_X2_hunt {en : yEn} {d : Nat} {x0 : Nat} {σ : yH} {k n : Nat} {K : Option Value → yH → Prop} {X : String → Addr → yH → Prop} (h : wp_X2_hunt en d  x0 σ k n K X) : Cx en (d + 1) k n mX2_hunt [.ref x0] σ K X := Cx.body (by decide +kernel) rfl (Nat.le_of_ble_eq_true rfl) (ok_X2_hunt h)
/-! PeacockLawns$Garden.moult()V -/
def wp_X2_moult_37 (en : yEn) (d : Nat) (l0 : Nat) (l1 : Int32) (l2 : Int32) (l3 : Int32) (σ : yH) (k n : Nat) (K : Option Value → yH → Prop) (X : String → Addr → yH → Prop) : Prop :=
  getR σ l0 1 0 (fun v13 => (isC σ v13 11 ∧ Cx en d 0 0 mJ2_size [.ref v13] σ (kI (fun r15 σ14 => (((r15 ≤ l3) → K none σ14) ∧ (¬ (r15 ≤ l3) → getR σ14 l0 1 0 (fun v16 => (isC σ14 v16 11 ∧ Cx en d 0 0 mJ2_get [.ref v16, .int l3] σ14 (kA (fun r18 σ17 => (isC σ17 r18 3 ∧ (isC σ17 r18 3 ∧ Cx en d 0 0 mX4_isCock [.ref r18] σ17 (kI (fun r20 σ19 => (((r20 = 0) → Wx en (d + 1) mX2_moult 37 [(0, .ref l0), (1, .int l1), (2, .int l2), (3, .int (l3 + (1 : Int32)))] [] σ19 k n K X) ∧ (¬ (r20 = 0) → (((l1 = 0) → Wx en (d + 1) mX2_moult 90 [(0, .ref l0), (1, .int l1), (2, .int l2), (3, .int l3), (4, .ref r18)] [.int (0 : Int32)] σ19 k n K X) ∧ (¬ (l1 = 0) → getI σ19 r18 3 2 (fun v21 => yLet (if v21 < (5 : Int32) then v21 else (5 : Int32)) (fun r22 => Wx en (d + 1) mX2_moult 90 [(0, .ref l0), (1, .int l1), (2, .int l2), (3, .int l3), (4, .ref r18)] [.int r22] σ19 k n K X)))))))) X)))) X)))))) X))
set_option maxHeartbeats 4000000 in
theorem ok_X2_moult_37 {en : yEn} {d : Nat} {l0 : Nat} {l1 : Int32} {l2 : Int32} {l3 : Int32} {σ : yH} {k n : Nat} {K : Option Value → yH → Prop} {X : String → Addr → yH → Prop} (h : wp_X2_moult_37 en d  l0 l1 l2 l3 σ k n K X) : Wx en (d + 1) mX2_moult 37 [(0, .ref l0), (1, .int l1), (2, .int l2), (3, .int l3)] [] σ k n K X := by
  unfold wp_X2_moult_37 at h
  refine sd_iload_n (pc := 37) dX2_moult_37 rfl 3 rfl ?_
  refine sd_aload_n (pc := 38) dX2_moult_38 rfl 0 rfl ?_
  refine sd_getR (pc := 39) dX2_moult_39 (ci := 1) rfl in_X2 (kf := 0) (by decide) q166 (h.mono (fun v13 h => ?_))
  refine sd_callF (k := k) (n := n) (As := []) (st := [.int l3]) (pc := 42) dX2_moult_42 (ci := 11) rfl h.1 (x := ⟨"java/util/List", "size", "()I"⟩) q908 q794 q796 q84 q798 q793 q792 q797 q795 q329 0 (by decide +kernel) rfl 0 (by decide +kernel) rfl (Nat.le_refl _) (by decide) (Nat.le_of_ble_eq_true rfl) (Cx.mono h.2 (kI.to (fun r15 σ14 h => ?_)) (xo rfl))
  refine sd_icmpge (pc := 47) dX2_moult_47 (tgt := 148) (by decide) ⟨fun c25 => ?_, fun c25 => ?_⟩
  · have h := h.1 c25
    exact sd_return (pc := 148) dX2_moult_148 rfl h
  · have h := h.2 c25
    refine sd_aload_n (pc := 50) dX2_moult_50 rfl 0 rfl ?_
    refine sd_getR (pc := 51) dX2_moult_51 (ci := 1) rfl in_X2 (kf := 0) (by decide) q166 (h.mono (fun v16 h => ?_))
    refine sd_iload_n (pc := 54) dX2_moult_54 rfl 3 rfl ?_
    refine sd_callF (k := k) (n := n) (As := [.int l3]) (st := []) (pc := 55) dX2_moult_55 (ci := 11) rfl h.1 (x := ⟨"java/util/List", "get", "(I)Ljava/lang/Object;"⟩) q1082 q1085 q1087 q84 q1089 q1084 q1083 q1088 q1086 q329 1 (by decide +kernel) rfl 1 (by decide +kernel) rfl (Nat.le_refl _) (by decide) (Nat.le_of_ble_eq_true rfl) (Cx.mono h.2 (kA.to (fun r18 σ17 h => ?_)) (xo rfl))
    refine sd_castE (r := (RX4, TX4, 6)) (pc := 60) dX2_moult_60 q448 (ci := 3) rfl h.1 ?_
    have h := h.2
    refine sd_astore (pc := 63) dX2_moult_63 (by decide) (ls' := [(4, .ref r18), (0, .ref l0), (1, .int l1), (2, .int l2), (3, .int l3)]) rfl ?_
    refine sd_aload (pc := 65) dX2_moult_65 0 rfl ?_
    refine sd_callV (k := k) (n := n) (As := []) (st := []) (pc := 67) dX2_moult_67 (ci := 3) rfl h.1 rfl q317 q318 q319 q98 q320 0 (by decide +kernel) rfl (Nat.le_refl _) (by decide) (Nat.le_of_ble_eq_true rfl) (Cx.mono h.2 (kI.to (fun r20 σ19 h => ?_)) (xo rfl))
    refine sd_ifeq (pc := 70) dX2_moult_70 (tgt := 142) (by decide) ⟨fun c24 => ?_, fun c24 => ?_⟩
    · have h := h.1 c24
      refine sd_iinc (pc := 142) dX2_moult_142 4 rfl (v := (l3 + (1 : Int32))) rfl (by decide) (ls' := [(3, .int (l3 + (1 : Int32))), (4, .ref r18), (0, .ref l0), (1, .int l1), (2, .int l2)]) rfl ?_
      refine sd_goto (pc := 145) dX2_moult_145 (tgt := 37) (by decide) ?_
      exact sd_loc [2, 3, 4, 0] rfl h
    · have h := h.2 c24
      refine sd_iload_n (pc := 73) dX2_moult_73 rfl 2 rfl ?_
      refine sd_ifeq (pc := 74) dX2_moult_74 (tgt := 89) (by decide) ⟨fun c23 => ?_, fun c23 => ?_⟩
      · have h := h.1 c23
        refine sd_iconst (pc := 89) dX2_moult_89 (v := 0) (by decide) ?_
        exact sd_loc [1, 2, 3, 4, 0] rfl h
      · have h := h.2 c23
        refine sd_iconst (pc := 77) dX2_moult_77 (v := 5) (by decide) ?_
        refine sd_aload (pc := 78) dX2_moult_78 0 rfl ?_
        refine sd_getIN (pc := 80) dX2_moult_80 (ci := 3) rfl in_X4 (kf := 2) (by decide) q881 (h.mono (fun v21 h => ?_))
        refine sd_mminL (pc := 83) dX2_moult_83 q1186 q555 q101 q556 (by omega) (Nat.le_of_ble_eq_true rfl) (h.mono (fun r22 h => ?_))
        refine sd_goto (pc := 86) dX2_moult_86 (tgt := 90) (by decide) ?_
        exact sd_loc [1, 2, 3, 4, 0] rfl h
def wp_X2_moult_90 (en : yEn) (d : Nat) (l0 : Nat) (l1 : Int32) (l2 : Int32) (l3 : Int32) (l4 : Nat) (t0 : Int32) (σ : yH) (k n : Nat) (K : Option Value → yH → Prop) (X : String → Addr → yH → Prop) : Prop :=
  getR σ l0 1 4 (fun v26 => getI σ l4 3 1 (fun v27 => aldI σ (en.2.2.2 0) v26 v27 (fun v28 => astI σ (en.2.2.2 0) v26 v27 (v28 + t0) (fun σ29 => getI σ29 l0 1 8 (fun v30 => (putV σ29 l0 1 8 (.int (v30 + t0)) (fun σ31 => (((l2 = 0) → (isC σ31 l4 3 ∧ Cx en d 1 6 mX4_shedding [.ref l4, .int t0] σ31 (kA (fun r33 σ32 => (isC σ32 l0 1 ∧ Cx en d 0 0 mX2_put [.ref l0, .int l3, .ref r33] σ32 (kV (fun σ34 => Wx en (d + 1) mX2_moult 37 [(0, .ref l0), (1, .int l1), (2, .int l2), (3, .int (l3 + (1 : Int32)))] [] σ34 k n K X)) X))) X)) ∧ (¬ (l2 = 0) → (isC σ31 l4 3 ∧ Cx en d 1 6 mX4_growing [.ref l4] σ31 (kA (fun r36 σ35 => (isC σ35 l0 1 ∧ Cx en d 0 0 mX2_put [.ref l0, .int l3, .ref r36] σ35 (kV (fun σ37 => Wx en (d + 1) mX2_moult 37 [(0, .ref l0), (1, .int l1), (2, .int l2), (3, .int (l3 + (1 : Int32)))] [] σ37 k n K X)) X))) X))))))))))
set_option maxHeartbeats 4000000 in
theorem ok_X2_moult_90 {en : yEn} {d : Nat} {l0 : Nat} {l1 : Int32} {l2 : Int32} {l3 : Int32} {l4 : Nat} {t0 : Int32} {σ : yH} {k n : Nat} {K : Option Value → yH → Prop} {X : String → Addr → yH → Prop} (h : wp_X2_moult_90 en d  l0 l1 l2 l3 l4 t0 σ k n K X) : Wx en (d + 1) mX2_moult 90 [(0, .ref l0), (1, .int l1), (2, .int l2), (3, .int l3), (4, .ref l4)] [.int t0] σ (k + 1) (n + 6) K X := by
  unfold wp_X2_moult_90 at h
  refine sd_istore (pc := 90) dX2_moult_90 (by decide) (ls' := [(5, .int t0), (0, .ref l0), (1, .int l1), (2, .int l2), (3, .int l3), (4, .ref l4)]) rfl ?_
  refine sd_aload_n (pc := 92) dX2_moult_92 rfl 1 rfl ?_
  refine sd_getR (pc := 93) dX2_moult_93 (ci := 1) rfl in_X2 (kf := 4) (by decide) q174 (h.mono (fun v26 h => ?_))
  refine sd_aload (pc := 96) dX2_moult_96 5 rfl ?_
  refine sd_getIN (pc := 98) dX2_moult_98 (ci := 3) rfl in_X4 (kf := 1) (by decide) q878 (h.mono (fun v27 h => ?_))
  refine sd_dup2 (pc := 101) dX2_moult_101 rfl rfl ?_
  refine sd_iaload (pc := 102) dX2_moult_102 (h.mono (fun v28 h => ?_))
  refine sd_iload (pc := 103) dX2_moult_103 0 rfl ?_
  refine sd_iadd (pc := 105) dX2_moult_105 ?_
  refine sd_iastore (pc := 106) dX2_moult_106 (h.mono (fun σ29 h => ?_))
  refine sd_aload_n (pc := 107) dX2_moult_107 rfl 1 rfl ?_
  refine sd_dup (pc := 108) dX2_moult_108 rfl ?_
  refine sd_getI (pc := 109) dX2_moult_109 (ci := 1) rfl in_X2 (kf := 8) (by decide) q182 (h.mono (fun v30 h => ?_))
  refine sd_iload (pc := 112) dX2_moult_112 0 rfl ?_
  refine sd_iadd (pc := 114) dX2_moult_114 ?_
  refine sd_putf (pc := 115) dX2_moult_115 (ci := 1) rfl in_X2 tyX2 tyX2_ok nmX2 (kf := 8) (by decide) q182 rfl (ty := .int) rfl rfl rfl (putV.mono h (fun σ31 h => ?_))
  refine sd_aload_n (pc := 118) dX2_moult_118 rfl 1 rfl ?_
  refine sd_iload_n (pc := 119) dX2_moult_119 rfl 4 rfl ?_
  refine sd_iload_n (pc := 120) dX2_moult_120 rfl 3 rfl ?_
  refine sd_ifeq (pc := 121) dX2_moult_121 (tgt := 132) (by decide) ⟨fun c38 => ?_, fun c38 => ?_⟩
  · have h := h.1 c38
    refine sd_aload (pc := 132) dX2_moult_132 5 rfl ?_
    refine sd_iload (pc := 134) dX2_moult_134 0 rfl ?_
    refine sd_callV (k := k) (n := n) (As := [.int t0]) (st := [.int l3, .ref l0]) (pc := 136) dX2_moult_136 (ci := 3) rfl h.1 rfl q1509 q1510 q1511 q98 q1512 1 (by decide +kernel) rfl (Nat.le_refl _) (by decide) (Nat.le_of_ble_eq_true rfl) (Cx.mono h.2 (kA.to (fun r33 σ32 h => ?_)) (xo rfl))
    refine sd_callV (k := k) (n := n) (As := [.int l3, .ref r33]) (st := []) (pc := 139) dX2_moult_139 (ci := 1) rfl h.1 rfl q1105 q1107 qs12 q81 q1108 2 (by decide +kernel) rfl (Nat.le_refl _) (by decide) (Nat.le_of_ble_eq_true rfl) (Cx.mono h.2 (kV.to (fun σ34 h => ?_)) (xo rfl))
    refine sd_iinc (pc := 142) dX2_moult_142 4 rfl (v := (l3 + (1 : Int32))) rfl (by decide) (ls' := [(3, .int (l3 + (1 : Int32))), (5, .int t0), (0, .ref l0), (1, .int l1), (2, .int l2), (4, .ref l4)]) rfl ?_
    refine sd_goto (pc := 145) dX2_moult_145 (tgt := 37) (by decide) ?_
    exact sd_loc [2, 3, 4, 0] rfl h
  · have h := h.2 c38
    refine sd_aload (pc := 124) dX2_moult_124 5 rfl ?_
    refine sd_callV (k := k) (n := n) (As := []) (st := [.int l3, .ref l0]) (pc := 126) dX2_moult_126 (ci := 3) rfl h.1 rfl q1504 q1505 q1506 q98 q1507 0 (by decide +kernel) rfl (Nat.le_refl _) (by decide) (Nat.le_of_ble_eq_true rfl) (Cx.mono h.2 (kA.to (fun r36 σ35 h => ?_)) (xo rfl))
    refine sd_goto (pc := 129) dX2_moult_129 (tgt := 139) (by decide) ?_
    refine sd_callV (k := k) (n := n) (As := [.int l3, .ref r36]) (st := []) (pc := 139) dX2_moult_139 (ci := 1) rfl h.1 rfl q1105 q1107 qs12 q81 q1108 2 (by decide +kernel) rfl (Nat.le_refl _) (by decide) (Nat.le_of_ble_eq_true rfl) (Cx.mono h.2 (kV.to (fun σ37 h => ?_)) (xo rfl))
    refine sd_iinc (pc := 142) dX2_moult_142 4 rfl (v := (l3 + (1 : Int32))) rfl (by decide) (ls' := [(3, .int (l3 + (1 : Int32))), (5, .int t0), (0, .ref l0), (1, .int l1), (2, .int l2), (4, .ref l4)]) rfl ?_
    refine sd_goto (pc := 145) dX2_moult_145 (tgt := 37) (by decide) ?_
    exact sd_loc [2, 3, 4, 0] rfl h
def wp_X2_moult (en : yEn) (d : Nat) (x0 : Nat) (σ : yH) (k n : Nat) (K : Option Value → yH → Prop) (X : String → Addr → yH → Prop) : Prop :=
  (isC σ x0 1 ∧ Cx en d 0 0 mX2_month [.ref x0] σ (kI (fun r2 σ1 => Cx en d 0 0 mX1_inRange [.int r2, .int (6 : Int32), .int (8 : Int32)] σ1 (kI (fun r4 σ3 => (isC σ3 x0 1 ∧ Cx en d 0 0 mX2_month [.ref x0] σ3 (kI (fun r6 σ5 => ((((10 : Int32) ≤ r6) → Wx en (d + 1) mX2_moult 37 [(0, .ref x0), (1, .int r4), (2, .int (1 : Int32)), (3, .int (0 : Int32))] [] σ5 k n K X) ∧ (¬ ((10 : Int32) ≤ r6) → (isC σ5 x0 1 ∧ Cx en d 0 0 mX2_month [.ref x0] σ5 (kI (fun r8 σ7 => Wx en (d + 1) mX2_moult 37 [(0, .ref x0), (1, .int r4), (2, .int (if ((1 : Int32) < r8) then (0 : Int32) else (1 : Int32))), (3, .int (0 : Int32))] [] σ7 k n K X)) X))))) X))) X)) X)
set_option maxHeartbeats 4000000 in
theorem ok_X2_moult {en : yEn} {d : Nat} {x0 : Nat} {σ : yH} {k n : Nat} {K : Option Value → yH → Prop} {X : String → Addr → yH → Prop} (h : wp_X2_moult en d  x0 σ k n K X) : Wx en (d + 1) mX2_moult 0 [(0, .ref x0)] [] σ k n K X := by
  unfold wp_X2_moult at h
  refine sd_aload_n (pc := 0) dX2_moult_0 rfl 0 rfl ?_
  refine sd_callV (k := k) (n := n) (As := []) (st := []) (pc := 1) dX2_moult_1 (ci := 1) rfl h.1 rfl q1496 q1497 q1498 q81 q1499 0 (by decide +kernel) rfl (Nat.le_refl _) (by decide) (Nat.le_of_ble_eq_true rfl) (Cx.mono h.2 (kI.to (fun r2 σ1 h => ?_)) (xo rfl))
  refine sd_bipush (pc := 4) dX2_moult_4 (v := 6) (by decide) ?_
  refine sd_bipush (pc := 6) dX2_moult_6 (v := 8) (by decide) ?_
  refine sd_callSN (k := k) (n := n) (As := [.int r2, .int (6 : Int32), .int (8 : Int32)]) (st := []) (pc := 8) dX2_moult_8 q836 q837 q80 q838 3 (by decide +kernel) rfl (Nat.le_refl _) (by decide) (Nat.le_of_ble_eq_true rfl) (Cx.mono h (kI.to (fun r4 σ3 h => ?_)) (xo rfl))
  refine sd_istore_n (pc := 11) dX2_moult_11 rfl (by decide) (ls' := [(1, .int r4), (0, .ref x0)]) rfl ?_
  refine sd_aload_n (pc := 12) dX2_moult_12 rfl 1 rfl ?_
  refine sd_callV (k := k) (n := n) (As := []) (st := []) (pc := 13) dX2_moult_13 (ci := 1) rfl h.1 rfl q1496 q1497 q1498 q81 q1499 0 (by decide +kernel) rfl (Nat.le_refl _) (by decide) (Nat.le_of_ble_eq_true rfl) (Cx.mono h.2 (kI.to (fun r6 σ5 h => ?_)) (xo rfl))
  refine sd_bipush (pc := 16) dX2_moult_16 (v := 10) (by decide) ?_
  refine sd_icmpge (pc := 18) dX2_moult_18 (tgt := 29) (by decide) ⟨fun c10 => ?_, fun c10 => ?_⟩
  · have h := h.1 c10
    refine sd_iconst (pc := 29) dX2_moult_29 (v := 1) (by decide) ?_
    refine sd_goto (pc := 30) dX2_moult_30 (tgt := 34) (by decide) ?_
    refine sd_istore_n (pc := 34) dX2_moult_34 rfl (by decide) (ls' := [(2, .int (1 : Int32)), (1, .int r4), (0, .ref x0)]) rfl ?_
    refine sd_iconst (pc := 35) dX2_moult_35 (v := 0) (by decide) ?_
    refine sd_istore_n (pc := 36) dX2_moult_36 rfl (by decide) (ls' := [(3, .int (0 : Int32)), (2, .int (1 : Int32)), (1, .int r4), (0, .ref x0)]) rfl ?_
    exact sd_loc [3, 2, 1, 0] rfl h
  · have h := h.2 c10
    refine sd_aload_n (pc := 21) dX2_moult_21 rfl 1 rfl ?_
    refine sd_callV (k := k) (n := n) (As := []) (st := []) (pc := 22) dX2_moult_22 (ci := 1) rfl h.1 rfl q1496 q1497 q1498 q81 q1499 0 (by decide +kernel) rfl (Nat.le_refl _) (by decide) (Nat.le_of_ble_eq_true rfl) (Cx.mono h.2 (kI.to (fun r8 σ7 h => ?_)) (xo rfl))
    refine sd_iconst (pc := 25) dX2_moult_25 (v := 1) (by decide) ?_
    have h11 : Wx en (d + 1) mX2_moult 34 [(1, .int r4), (0, .ref x0)] (.int (if ((1 : Int32) < r8) then (0 : Int32) else (1 : Int32)) :: []) σ7 k n K X := by
      refine sd_istore_n (pc := 34) dX2_moult_34 rfl (by decide) (ls' := [(2, .int (if ((1 : Int32) < r8) then (0 : Int32) else (1 : Int32))), (1, .int r4), (0, .ref x0)]) rfl ?_
      refine sd_iconst (pc := 35) dX2_moult_35 (v := 0) (by decide) ?_
      refine sd_istore_n (pc := 36) dX2_moult_36 rfl (by decide) (ls' := [(3, .int (0 : Int32)), (2, .int (if ((1 : Int32) < r8) then (0 : Int32) else (1 : Int32))), (1, .int r4), (0, .ref x0)]) rfl ?_
      exact sd_loc [3, 2, 1, 0] rfl h
    have e12 := sd_iteI h11
    refine sd_icmpgt (pc := 26) dX2_moult_26 (tgt := 33) (by decide) ⟨fun c9 => ?_, fun c9 => ?_⟩
    · refine sd_iconst (pc := 33) dX2_moult_33 (v := 0) (by decide) ?_
      exact (e12.1 c9)
    · refine sd_iconst (pc := 29) dX2_moult_29 (v := 1) (by decide) ?_
      refine sd_goto (pc := 30) dX2_moult_30 (tgt := 34) (by decide) ?_
      exact (e12.2 c9)
theorem cx_X2_moult {en : yEn} {d : Nat} {x0 : Nat} {σ : yH} {k n : Nat} {K : Option Value → yH → Prop} {X : String → Addr → yH → Prop} (h : wp_X2_moult en d  x0 σ k n K X) : Cx en (d + 1) k n mX2_moult [.ref x0] σ K X := Cx.body (by decide +kernel) rfl (Nat.le_of_ble_eq_true rfl) (ok_X2_moult h)
/-! PeacockLawns$Garden.hatch(I)V -/
def wp_X2_hatch_16 (en : yEn) (d : Nat) (p59 : Nat × Nat) (l0 : Nat) (l1 : Int32) (l2 : Nat) (l3 : Int32) (σ : yH) (k n : Nat) (K : Option Value → yH → Prop) (X : String → Addr → yH → Prop) : Prop :=
  getI σ l2 3 2 (fun v4 => (((v4 ≤ l3) → (isC σ l2 3 ∧ Cx en d 1 6 mX4_with [.ref l2, .int (0 : Int32), .int (0 : Int32)] σ (kA (fun r6 σ5 => (isC σ5 l0 1 ∧ Cx en d 0 0 mX2_put [.ref l0, .int l1, .ref r6] σ5 (kV (fun σ7 => K none σ7)) X))) X)) ∧ (¬ (v4 ≤ l3) → getR σ l0 1 0 (fun v8 => (isC σ v8 11 ∧ Cx en d 0 0 mJ2_size [.ref v8] σ (kI (fun r10 σ9 => ((((12 : Int32) ≤ r10) → (isC σ9 l2 3 ∧ Cx en d 1 6 mX4_with [.ref l2, .int (0 : Int32), .int (0 : Int32)] σ9 (kA (fun r12 σ11 => (isC σ11 l0 1 ∧ Cx en d 0 0 mX2_put [.ref l0, .int l1, .ref r12] σ11 (kV (fun σ13 => K none σ13)) X))) X)) ∧ (¬ ((12 : Int32) ≤ r10) → getR σ9 l0 1 0 (fun v14 => getR σ9 l0 1 0 (fun v15 => (isC σ9 v15 11 ∧ Cx en d 0 0 mJ2_size [.ref v15] σ9 (kI (fun r17 σ16 => getI σ16 l2 3 1 (fun v18 => Cx en d 1 6 mX4_chick [.int r17, .int v18, .int l1] σ16 (kA (fun r20 σ19 => (isC σ19 v14 11 ∧ Cx en d p59.1 p59.2 mJ2_add [.ref v14, .ref r20] σ19 (kI (fun r22 σ21 => getI σ21 l0 1 12 (fun v23 => (putV σ21 l0 1 12 (.int (v23 + (1 : Int32))) (fun σ24 => Wx en (d + 1) mX2_hatch 16 [(0, .ref l0), (1, .int l1), (2, .ref l2), (3, .int (l3 + (1 : Int32)))] [] σ24 k n K X))))) X))) X))) X))))))) X)))))
set_option maxHeartbeats 4000000 in
theorem ok_X2_hatch_16 {en : yEn} {d : Nat} {p59 : Nat × Nat} {l0 : Nat} {l1 : Int32} {l2 : Nat} {l3 : Int32} {σ : yH} {k n : Nat} {K : Option Value → yH → Prop} {X : String → Addr → yH → Prop} (h : wp_X2_hatch_16 en d p59 l0 l1 l2 l3 σ k n K X) : Wx en (d + 1) mX2_hatch 16 [(0, .ref l0), (1, .int l1), (2, .ref l2), (3, .int l3)] [] σ (k + 1 + p59.1) (n + 6 + p59.2) K X := by
  unfold wp_X2_hatch_16 at h
  refine sd_iload_n (pc := 16) dX2_hatch_16 rfl 3 rfl ?_
  refine sd_aload_n (pc := 17) dX2_hatch_17 rfl 2 rfl ?_
  refine sd_getIN (pc := 18) dX2_hatch_18 (ci := 3) rfl in_X4 (kf := 2) (by decide) q881 (h.mono (fun v4 h => ?_))
  refine sd_icmpge (pc := 21) dX2_hatch_21 (tgt := 81) (by decide) ⟨fun c26 => ?_, fun c26 => ?_⟩
  · have h := h.1 c26
    refine Wx.more (k' := (k + 1)) (n' := (n + 6)) ?_ (by omega) (by omega)
    refine sd_aload_n (pc := 81) dX2_hatch_81 rfl 0 rfl ?_
    refine sd_iload_n (pc := 82) dX2_hatch_82 rfl 1 rfl ?_
    refine sd_aload_n (pc := 83) dX2_hatch_83 rfl 2 rfl ?_
    refine sd_iconst (pc := 84) dX2_hatch_84 (v := 0) (by decide) ?_
    refine sd_iconst (pc := 85) dX2_hatch_85 (v := 0) (by decide) ?_
    refine sd_callV (k := k) (n := n) (As := [.int (0 : Int32), .int (0 : Int32)]) (st := [.int l1, .ref l0]) (pc := 86) dX2_hatch_86 (ci := 3) rfl h.1 rfl q1100 q1101 q1102 q98 q1103 2 (by decide +kernel) rfl (Nat.le_refl _) (by decide) (Nat.le_of_ble_eq_true rfl) (Cx.mono h.2 (kA.to (fun r6 σ5 h => ?_)) (xo rfl))
    refine sd_callV (k := k) (n := n) (As := [.int l1, .ref r6]) (st := []) (pc := 89) dX2_hatch_89 (ci := 1) rfl h.1 rfl q1105 q1107 qs12 q81 q1108 2 (by decide +kernel) rfl (Nat.le_refl _) (by decide) (Nat.le_of_ble_eq_true rfl) (Cx.mono h.2 (kV.to (fun σ7 h => ?_)) (xo rfl))
    exact sd_return (pc := 92) dX2_hatch_92 rfl h
  · have h := h.2 c26
    refine sd_aload_n (pc := 24) dX2_hatch_24 rfl 0 rfl ?_
    refine sd_getR (pc := 25) dX2_hatch_25 (ci := 1) rfl in_X2 (kf := 0) (by decide) q166 (h.mono (fun v8 h => ?_))
    refine sd_callF (k := (k + 1 + p59.1)) (n := (n + 6 + p59.2)) (As := []) (st := []) (pc := 28) dX2_hatch_28 (ci := 11) rfl h.1 (x := ⟨"java/util/List", "size", "()I"⟩) q908 q794 q796 q84 q798 q793 q792 q797 q795 q329 0 (by decide +kernel) rfl 0 (by decide +kernel) rfl (Nat.le_refl _) (by decide) (Nat.le_of_ble_eq_true rfl) (Cx.mono h.2 (kI.to (fun r10 σ9 h => ?_)) (xo rfl))
    refine sd_bipush (pc := 33) dX2_hatch_33 (v := 12) (by decide) ?_
    refine sd_icmpge (pc := 35) dX2_hatch_35 (tgt := 81) (by decide) ⟨fun c25 => ?_, fun c25 => ?_⟩
    · have h := h.1 c25
      refine Wx.more (k' := (k + 1)) (n' := (n + 6)) ?_ (by omega) (by omega)
      refine sd_aload_n (pc := 81) dX2_hatch_81 rfl 0 rfl ?_
      refine sd_iload_n (pc := 82) dX2_hatch_82 rfl 1 rfl ?_
      refine sd_aload_n (pc := 83) dX2_hatch_83 rfl 2 rfl ?_
      refine sd_iconst (pc := 84) dX2_hatch_84 (v := 0) (by decide) ?_
      refine sd_iconst (pc := 85) dX2_hatch_85 (v := 0) (by decide) ?_
      refine sd_callV (k := k) (n := n) (As := [.int (0 : Int32), .int (0 : Int32)]) (st := [.int l1, .ref l0]) (pc := 86) dX2_hatch_86 (ci := 3) rfl h.1 rfl q1100 q1101 q1102 q98 q1103 2 (by decide +kernel) rfl (Nat.le_refl _) (by decide) (Nat.le_of_ble_eq_true rfl) (Cx.mono h.2 (kA.to (fun r12 σ11 h => ?_)) (xo rfl))
      refine sd_callV (k := k) (n := n) (As := [.int l1, .ref r12]) (st := []) (pc := 89) dX2_hatch_89 (ci := 1) rfl h.1 rfl q1105 q1107 qs12 q81 q1108 2 (by decide +kernel) rfl (Nat.le_refl _) (by decide) (Nat.le_of_ble_eq_true rfl) (Cx.mono h.2 (kV.to (fun σ13 h => ?_)) (xo rfl))
      exact sd_return (pc := 92) dX2_hatch_92 rfl h
    · have h := h.2 c25
      refine sd_aload_n (pc := 38) dX2_hatch_38 rfl 0 rfl ?_
      refine sd_getR (pc := 39) dX2_hatch_39 (ci := 1) rfl in_X2 (kf := 0) (by decide) q166 (h.mono (fun v14 h => ?_))
      refine sd_aload_n (pc := 42) dX2_hatch_42 rfl 0 rfl ?_
      refine sd_getR (pc := 43) dX2_hatch_43 (ci := 1) rfl in_X2 (kf := 0) (by decide) q166 (h.mono (fun v15 h => ?_))
      refine sd_callF (k := (k + 1 + p59.1)) (n := (n + 6 + p59.2)) (As := []) (st := [.ref v14]) (pc := 46) dX2_hatch_46 (ci := 11) rfl h.1 (x := ⟨"java/util/List", "size", "()I"⟩) q908 q794 q796 q84 q798 q793 q792 q797 q795 q329 0 (by decide +kernel) rfl 0 (by decide +kernel) rfl (Nat.le_refl _) (by decide) (Nat.le_of_ble_eq_true rfl) (Cx.mono h.2 (kI.to (fun r17 σ16 h => ?_)) (xo rfl))
      refine sd_aload_n (pc := 51) dX2_hatch_51 rfl 2 rfl ?_
      refine sd_getIN (pc := 52) dX2_hatch_52 (ci := 3) rfl in_X4 (kf := 1) (by decide) q878 (h.mono (fun v18 h => ?_))
      refine sd_iload_n (pc := 55) dX2_hatch_55 rfl 1 rfl ?_
      refine Wx.more (k' := (k + p59.1) + 1) (n' := (n + p59.2) + 6) ?_ (by omega) (by omega)
      refine sd_callS (k := (k + p59.1)) (n := (n + p59.2)) (As := [.int r17, .int v18, .int l1]) (st := [.ref v14]) (pc := 56) dX2_hatch_56 q1534 q1535 q98 q1536 3 (by decide +kernel) rfl (Nat.le_refl _) (by decide) (Nat.le_of_ble_eq_true rfl) (Cx.mono h (kA.to (fun r20 σ19 h => ?_)) (xo rfl))
      refine sd_callF (k := k) (n := n) (As := [.ref r20]) (st := []) (pc := 59) dX2_hatch_59 (ci := 11) rfl h.1 (x := ⟨"java/util/List", "add", "(Ljava/lang/Object;)Z"⟩) q947 q950 q952 q84 q954 q949 q948 q953 q951 q329 1 (by decide +kernel) rfl 1 (by decide +kernel) rfl (Nat.le_refl _) (by decide) (Nat.le_of_ble_eq_true rfl) (Cx.mono h.2 (kI.to (fun r22 σ21 h => ?_)) (xo rfl))
      refine sd_pop (pc := 64) dX2_hatch_64 rfl ?_
      refine sd_aload_n (pc := 65) dX2_hatch_65 rfl 0 rfl ?_
      refine sd_dup (pc := 66) dX2_hatch_66 rfl ?_
      refine sd_getI (pc := 67) dX2_hatch_67 (ci := 1) rfl in_X2 (kf := 12) (by decide) q190 (h.mono (fun v23 h => ?_))
      refine sd_iconst (pc := 70) dX2_hatch_70 (v := 1) (by decide) ?_
      refine sd_iadd (pc := 71) dX2_hatch_71 ?_
      refine sd_putf (pc := 72) dX2_hatch_72 (ci := 1) rfl in_X2 tyX2 tyX2_ok nmX2 (kf := 12) (by decide) q190 rfl (ty := .int) rfl rfl rfl (putV.mono h (fun σ24 h => ?_))
      refine sd_iinc (pc := 75) dX2_hatch_75 3 rfl (v := (l3 + (1 : Int32))) rfl (by decide) (ls' := [(3, .int (l3 + (1 : Int32))), (0, .ref l0), (1, .int l1), (2, .ref l2)]) rfl ?_
      refine sd_goto (pc := 78) dX2_hatch_78 (tgt := 16) (by decide) ?_
      exact sd_loc [1, 2, 3, 0] rfl h
def wp_X2_hatch (en : yEn) (d : Nat) (x0 : Nat) (x1 : Int32) (σ : yH) (k n : Nat) (K : Option Value → yH → Prop) (X : String → Addr → yH → Prop) : Prop :=
  getR σ x0 1 0 (fun v1 => (isC σ v1 11 ∧ Cx en d 0 0 mJ2_get [.ref v1, .int x1] σ (kA (fun r3 σ2 => (isC σ2 r3 3 ∧ Wx en (d + 1) mX2_hatch 16 [(0, .ref x0), (1, .int x1), (2, .ref r3), (3, .int (0 : Int32))] [] σ2 k n K X))) X))
set_option maxHeartbeats 4000000 in
theorem ok_X2_hatch {en : yEn} {d : Nat} {x0 : Nat} {x1 : Int32} {σ : yH} {k n : Nat} {K : Option Value → yH → Prop} {X : String → Addr → yH → Prop} (h : wp_X2_hatch en d  x0 x1 σ k n K X) : Wx en (d + 1) mX2_hatch 0 [(0, .ref x0), (1, .int x1)] [] σ k n K X := by
  unfold wp_X2_hatch at h
  refine sd_aload_n (pc := 0) dX2_hatch_0 rfl 0 rfl ?_
  refine sd_getR (pc := 1) dX2_hatch_1 (ci := 1) rfl in_X2 (kf := 0) (by decide) q166 (h.mono (fun v1 h => ?_))
  refine sd_iload_n (pc := 4) dX2_hatch_4 rfl 1 rfl ?_
  refine sd_callF (k := k) (n := n) (As := [.int x1]) (st := []) (pc := 5) dX2_hatch_5 (ci := 11) rfl h.1 (x := ⟨"java/util/List", "get", "(I)Ljava/lang/Object;"⟩) q1082 q1085 q1087 q84 q1089 q1084 q1083 q1088 q1086 q329 1 (by decide +kernel) rfl 1 (by decide +kernel) rfl (Nat.le_refl _) (by decide) (Nat.le_of_ble_eq_true rfl) (Cx.mono h.2 (kA.to (fun r3 σ2 h => ?_)) (xo rfl))
  refine sd_castE (r := (RX4, TX4, 6)) (pc := 10) dX2_hatch_10 q448 (ci := 3) rfl h.1 ?_
  have h := h.2
  refine sd_astore_n (pc := 13) dX2_hatch_13 rfl (by decide) (ls' := [(2, .ref r3), (0, .ref x0), (1, .int x1)]) rfl ?_
  refine sd_iconst (pc := 14) dX2_hatch_14 (v := 0) (by decide) ?_
  refine sd_istore_n (pc := 15) dX2_hatch_15 rfl (by decide) (ls' := [(3, .int (0 : Int32)), (2, .ref r3), (0, .ref x0), (1, .int x1)]) rfl ?_
  exact sd_loc [2, 3, 1, 0] rfl h
theorem cx_X2_hatch {en : yEn} {d : Nat} {x0 : Nat} {x1 : Int32} {σ : yH} {k n : Nat} {K : Option Value → yH → Prop} {X : String → Addr → yH → Prop} (h : wp_X2_hatch en d  x0 x1 σ k n K X) : Cx en (d + 1) k n mX2_hatch [.ref x0, .int x1] σ K X := Cx.body (by decide +kernel) rfl (Nat.le_of_ble_eq_true rfl) (ok_X2_hatch h)
/-! PeacockLawns$Garden.sit()V -/
def wp_X2_sit_12 (en : yEn) (d : Nat) (p80 : Nat × Nat) (l0 : Nat) (l1 : Int32) (l2 : Int32) (σ : yH) (k n : Nat) (K : Option Value → yH → Prop) (X : String → Addr → yH → Prop) : Prop :=
  (((l1 ≤ l2) → K none σ) ∧ (¬ (l1 ≤ l2) → getR σ l0 1 0 (fun v4 => (isC σ v4 11 ∧ Cx en d 0 0 mJ2_get [.ref v4, .int l2] σ (kA (fun r6 σ5 => (isC σ5 r6 3 ∧ (isC σ5 r6 3 ∧ Cx en d 0 0 mX4_isSitting [.ref r6] σ5 (kI (fun r8 σ7 => (((r8 = 0) → Wx en (d + 1) mX2_sit 12 [(0, .ref l0), (1, .int l1), (2, .int (l2 + (1 : Int32)))] [] σ7 k n K X) ∧ (¬ (r8 = 0) → getI σ7 r6 3 2 (fun v9 => getI σ7 r6 3 3 (fun v10 => (isC σ7 r6 3 ∧ Cx en d 1 6 mX4_with [.ref r6, .int v9, .int (v10 + (1 : Int32))] σ7 (kA (fun r12 σ11 => (isC σ11 l0 1 ∧ Cx en d 0 0 mX2_put [.ref l0, .int l2, .ref r12] σ11 (kV (fun σ13 => getR σ13 l0 1 0 (fun v14 => (isC σ13 v14 11 ∧ Cx en d 0 0 mJ2_get [.ref v14, .int l2] σ13 (kA (fun r16 σ15 => (isC σ15 r16 3 ∧ getI σ15 r16 3 3 (fun v17 => ((¬ (v17 = (28 : Int32)) → Wx en (d + 1) mX2_sit 12 [(0, .ref l0), (1, .int l1), (2, .int (l2 + (1 : Int32)))] [] σ15 k n K X) ∧ ((v17 = (28 : Int32)) → (isC σ15 l0 1 ∧ Cx en d p80.1 p80.2 mX2_hatch [.ref l0, .int l2] σ15 (kV (fun σ18 => Wx en (d + 1) mX2_sit 12 [(0, .ref l0), (1, .int l1), (2, .int (l2 + (1 : Int32)))] [] σ18 k n K X)) X))))))) X)))) X))) X))))))) X)))) X))))
set_option maxHeartbeats 4000000 in
theorem ok_X2_sit_12 {en : yEn} {d : Nat} {p80 : Nat × Nat} {l0 : Nat} {l1 : Int32} {l2 : Int32} {σ : yH} {k n : Nat} {K : Option Value → yH → Prop} {X : String → Addr → yH → Prop} (h : wp_X2_sit_12 en d p80 l0 l1 l2 σ k n K X) : Wx en (d + 1) mX2_sit 12 [(0, .ref l0), (1, .int l1), (2, .int l2)] [] σ (k + 1 + p80.1) (n + 6 + p80.2) K X := by
  unfold wp_X2_sit_12 at h
  refine sd_iload_n (pc := 12) dX2_sit_12 rfl 2 rfl ?_
  refine sd_iload_n (pc := 13) dX2_sit_13 rfl 1 rfl ?_
  refine sd_icmpge (pc := 14) dX2_sit_14 (tgt := 89) (by decide) ⟨fun c21 => ?_, fun c21 => ?_⟩
  · have h := h.1 c21
    refine Wx.more (k' := k) (n' := n) ?_ (by omega) (by omega)
    exact sd_return (pc := 89) dX2_sit_89 rfl h
  · have h := h.2 c21
    refine sd_aload_n (pc := 17) dX2_sit_17 rfl 0 rfl ?_
    refine sd_getR (pc := 18) dX2_sit_18 (ci := 1) rfl in_X2 (kf := 0) (by decide) q166 (h.mono (fun v4 h => ?_))
    refine sd_iload_n (pc := 21) dX2_sit_21 rfl 2 rfl ?_
    refine sd_callF (k := (k + 1 + p80.1)) (n := (n + 6 + p80.2)) (As := [.int l2]) (st := []) (pc := 22) dX2_sit_22 (ci := 11) rfl h.1 (x := ⟨"java/util/List", "get", "(I)Ljava/lang/Object;"⟩) q1082 q1085 q1087 q84 q1089 q1084 q1083 q1088 q1086 q329 1 (by decide +kernel) rfl 1 (by decide +kernel) rfl (Nat.le_refl _) (by decide) (Nat.le_of_ble_eq_true rfl) (Cx.mono h.2 (kA.to (fun r6 σ5 h => ?_)) (xo rfl))
    refine sd_castE (r := (RX4, TX4, 6)) (pc := 27) dX2_sit_27 q448 (ci := 3) rfl h.1 ?_
    have h := h.2
    refine sd_astore_n (pc := 30) dX2_sit_30 rfl (by decide) (ls' := [(3, .ref r6), (0, .ref l0), (1, .int l1), (2, .int l2)]) rfl ?_
    refine sd_aload_n (pc := 31) dX2_sit_31 rfl 0 rfl ?_
    refine sd_callV (k := (k + 1 + p80.1)) (n := (n + 6 + p80.2)) (As := []) (st := []) (pc := 32) dX2_sit_32 (ci := 3) rfl h.1 rfl q1175 q1176 q1177 q98 q1178 0 (by decide +kernel) rfl (Nat.le_refl _) (by decide) (Nat.le_of_ble_eq_true rfl) (Cx.mono h.2 (kI.to (fun r8 σ7 h => ?_)) (xo rfl))
    refine sd_ifeq (pc := 35) dX2_sit_35 (tgt := 83) (by decide) ⟨fun c20 => ?_, fun c20 => ?_⟩
    · have h := h.1 c20
      refine Wx.more (k' := k) (n' := n) ?_ (by omega) (by omega)
      refine sd_iinc (pc := 83) dX2_sit_83 3 rfl (v := (l2 + (1 : Int32))) rfl (by decide) (ls' := [(2, .int (l2 + (1 : Int32))), (3, .ref r6), (0, .ref l0), (1, .int l1)]) rfl ?_
      refine sd_goto (pc := 86) dX2_sit_86 (tgt := 12) (by decide) ?_
      exact sd_loc [2, 3, 0] rfl h
    · have h := h.2 c20
      refine sd_aload_n (pc := 38) dX2_sit_38 rfl 1 rfl ?_
      refine sd_iload_n (pc := 39) dX2_sit_39 rfl 3 rfl ?_
      refine sd_aload_n (pc := 40) dX2_sit_40 rfl 0 rfl ?_
      refine sd_aload_n (pc := 41) dX2_sit_41 rfl 0 rfl ?_
      refine sd_getIN (pc := 42) dX2_sit_42 (ci := 3) rfl in_X4 (kf := 2) (by decide) q881 (h.mono (fun v9 h => ?_))
      refine sd_aload_n (pc := 45) dX2_sit_45 rfl 0 rfl ?_
      refine sd_getIN (pc := 46) dX2_sit_46 (ci := 3) rfl in_X4 (kf := 3) (by decide) q884 (h.mono (fun v10 h => ?_))
      refine sd_iconst (pc := 49) dX2_sit_49 (v := 1) (by decide) ?_
      refine sd_iadd (pc := 50) dX2_sit_50 ?_
      refine Wx.more (k' := (k + p80.1) + 1) (n' := (n + p80.2) + 6) ?_ (by omega) (by omega)
      refine sd_callV (k := (k + p80.1)) (n := (n + p80.2)) (As := [.int v9, .int (v10 + (1 : Int32))]) (st := [.int l2, .ref l0]) (pc := 51) dX2_sit_51 (ci := 3) rfl h.1 rfl q1100 q1101 q1102 q98 q1103 2 (by decide +kernel) rfl (Nat.le_refl _) (by decide) (Nat.le_of_ble_eq_true rfl) (Cx.mono h.2 (kA.to (fun r12 σ11 h => ?_)) (xo rfl))
      refine sd_callV (k := (k + p80.1)) (n := (n + p80.2)) (As := [.int l2, .ref r12]) (st := []) (pc := 54) dX2_sit_54 (ci := 1) rfl h.1 rfl q1105 q1107 qs12 q81 q1108 2 (by decide +kernel) rfl (Nat.le_refl _) (by decide) (Nat.le_of_ble_eq_true rfl) (Cx.mono h.2 (kV.to (fun σ13 h => ?_)) (xo rfl))
      refine sd_aload_n (pc := 57) dX2_sit_57 rfl 1 rfl ?_
      refine sd_getR (pc := 58) dX2_sit_58 (ci := 1) rfl in_X2 (kf := 0) (by decide) q166 (h.mono (fun v14 h => ?_))
      refine sd_iload_n (pc := 61) dX2_sit_61 rfl 3 rfl ?_
      refine sd_callF (k := (k + p80.1)) (n := (n + p80.2)) (As := [.int l2]) (st := []) (pc := 62) dX2_sit_62 (ci := 11) rfl h.1 (x := ⟨"java/util/List", "get", "(I)Ljava/lang/Object;"⟩) q1082 q1085 q1087 q84 q1089 q1084 q1083 q1088 q1086 q329 1 (by decide +kernel) rfl 1 (by decide +kernel) rfl (Nat.le_refl _) (by decide) (Nat.le_of_ble_eq_true rfl) (Cx.mono h.2 (kA.to (fun r16 σ15 h => ?_)) (xo rfl))
      refine sd_castE (r := (RX4, TX4, 6)) (pc := 67) dX2_sit_67 q448 (ci := 3) rfl h.1 ?_
      have h := h.2
      refine sd_getIN (pc := 70) dX2_sit_70 (ci := 3) rfl in_X4 (kf := 3) (by decide) q884 (h.mono (fun v17 h => ?_))
      refine sd_bipush (pc := 73) dX2_sit_73 (v := 28) (by decide) ?_
      refine sd_icmpne (pc := 75) dX2_sit_75 (tgt := 83) (by decide) ⟨fun c19 => ?_, fun c19 => ?_⟩
      · have h := h.1 c19
        refine Wx.more (k' := k) (n' := n) ?_ (by omega) (by omega)
        refine sd_iinc (pc := 83) dX2_sit_83 3 rfl (v := (l2 + (1 : Int32))) rfl (by decide) (ls' := [(2, .int (l2 + (1 : Int32))), (3, .ref r6), (0, .ref l0), (1, .int l1)]) rfl ?_
        refine sd_goto (pc := 86) dX2_sit_86 (tgt := 12) (by decide) ?_
        exact sd_loc [2, 3, 0] rfl h
      · have h := h.2 c19
        refine sd_aload_n (pc := 78) dX2_sit_78 rfl 1 rfl ?_
        refine sd_iload_n (pc := 79) dX2_sit_79 rfl 3 rfl ?_
        refine sd_callV (k := k) (n := n) (As := [.int l2]) (st := []) (pc := 80) dX2_sit_80 (ci := 1) rfl h.1 rfl q1530 q1532 qs17 q81 q1533 1 (by decide +kernel) rfl (Nat.le_refl _) (by decide) (Nat.le_of_ble_eq_true rfl) (Cx.mono h.2 (kV.to (fun σ18 h => ?_)) (xo rfl))
        refine sd_iinc (pc := 83) dX2_sit_83 3 rfl (v := (l2 + (1 : Int32))) rfl (by decide) (ls' := [(2, .int (l2 + (1 : Int32))), (3, .ref r6), (0, .ref l0), (1, .int l1)]) rfl ?_
        refine sd_goto (pc := 86) dX2_sit_86 (tgt := 12) (by decide) ?_
        exact sd_loc [2, 3, 0] rfl h
def wp_X2_sit (en : yEn) (d : Nat) (x0 : Nat) (σ : yH) (k n : Nat) (K : Option Value → yH → Prop) (X : String → Addr → yH → Prop) : Prop :=
  getR σ x0 1 0 (fun v1 => (isC σ v1 11 ∧ Cx en d 0 0 mJ2_size [.ref v1] σ (kI (fun r3 σ2 => Wx en (d + 1) mX2_sit 12 [(0, .ref x0), (1, .int r3), (2, .int (0 : Int32))] [] σ2 k n K X)) X))
set_option maxHeartbeats 4000000 in
theorem ok_X2_sit {en : yEn} {d : Nat} {x0 : Nat} {σ : yH} {k n : Nat} {K : Option Value → yH → Prop} {X : String → Addr → yH → Prop} (h : wp_X2_sit en d  x0 σ k n K X) : Wx en (d + 1) mX2_sit 0 [(0, .ref x0)] [] σ k n K X := by
  unfold wp_X2_sit at h
  refine sd_aload_n (pc := 0) dX2_sit_0 rfl 0 rfl ?_
  refine sd_getR (pc := 1) dX2_sit_1 (ci := 1) rfl in_X2 (kf := 0) (by decide) q166 (h.mono (fun v1 h => ?_))
  refine sd_callF (k := k) (n := n) (As := []) (st := []) (pc := 4) dX2_sit_4 (ci := 11) rfl h.1 (x := ⟨"java/util/List", "size", "()I"⟩) q908 q794 q796 q84 q798 q793 q792 q797 q795 q329 0 (by decide +kernel) rfl 0 (by decide +kernel) rfl (Nat.le_refl _) (by decide) (Nat.le_of_ble_eq_true rfl) (Cx.mono h.2 (kI.to (fun r3 σ2 h => ?_)) (xo rfl))
  refine sd_istore_n (pc := 9) dX2_sit_9 rfl (by decide) (ls' := [(1, .int r3), (0, .ref x0)]) rfl ?_
  refine sd_iconst (pc := 10) dX2_sit_10 (v := 0) (by decide) ?_
  refine sd_istore_n (pc := 11) dX2_sit_11 rfl (by decide) (ls' := [(2, .int (0 : Int32)), (1, .int r3), (0, .ref x0)]) rfl ?_
  exact sd_loc [2, 1, 0] rfl h
theorem cx_X2_sit {en : yEn} {d : Nat} {x0 : Nat} {σ : yH} {k n : Nat} {K : Option Value → yH → Prop} {X : String → Addr → yH → Prop} (h : wp_X2_sit en d  x0 σ k n K X) : Cx en (d + 1) k n mX2_sit [.ref x0] σ K X := Cx.body (by decide +kernel) rfl (Nat.le_of_ble_eq_true rfl) (ok_X2_sit h)
/-! PeacockLawns$Garden.visit()V -/
def wp_X2_visit_2 (en : yEn) (d : Nat) (l0 : Nat) (l1 : Int32) (σ : yH) (k n : Nat) (K : Option Value → yH → Prop) (X : String → Addr → yH → Prop) : Prop :=
  getR σ l0 1 2 (fun v1 => (isC σ v1 11 ∧ Cx en d 0 0 mJ2_size [.ref v1] σ (kI (fun r3 σ2 => (((r3 ≤ l1) → K none σ2) ∧ (¬ (r3 ≤ l1) → getR σ2 l0 1 2 (fun v4 => (isC σ2 v4 11 ∧ Cx en d 0 0 mJ2_get [.ref v4, .int l1] σ2 (kA (fun r6 σ5 => (isC σ5 r6 7 ∧ getI σ5 r6 7 1 (fun v7 => getR σ5 l0 1 4 (fun v8 => getI σ5 r6 7 0 (fun v9 => aldI σ5 (en.2.2.2 0) v8 v9 (fun v10 => yLet (if v10 < v7 then v10 else v7) (fun r11 => getR σ5 l0 1 4 (fun v12 => getI σ5 r6 7 0 (fun v13 => aldI σ5 (en.2.2.2 0) v12 v13 (fun v14 => astI σ5 (en.2.2.2 0) v12 v13 (v14 - r11) (fun σ15 => getI σ15 l0 1 10 (fun v16 => (putV σ15 l0 1 10 (.int (v16 + r11)) (fun σ17 => getR σ17 l0 1 2 (fun v18 => (isC σ17 r6 7 ∧ Cx en d 1 3 mX8_emptied [.ref r6] σ17 (kA (fun r20 σ19 => (isC σ19 v18 11 ∧ Cx en d 0 0 mJ2_set [.ref v18, .int l1, .ref r20] σ19 (kA (fun r22 σ21 => (isC σ21 r22 7 ∧ Wx en (d + 1) mX2_visit 2 [(0, .ref l0), (1, .int (l1 + (1 : Int32)))] [] σ21 k n K X))) X))) X))))))))))))))))) X)))))) X))
set_option maxHeartbeats 4000000 in
theorem ok_X2_visit_2 {en : yEn} {d : Nat} {l0 : Nat} {l1 : Int32} {σ : yH} {k n : Nat} {K : Option Value → yH → Prop} {X : String → Addr → yH → Prop} (h : wp_X2_visit_2 en d  l0 l1 σ k n K X) : Wx en (d + 1) mX2_visit 2 [(0, .ref l0), (1, .int l1)] [] σ (k + 1) (n + 3) K X := by
  unfold wp_X2_visit_2 at h
  refine sd_iload_n (pc := 2) dX2_visit_2 rfl 1 rfl ?_
  refine sd_aload_n (pc := 3) dX2_visit_3 rfl 0 rfl ?_
  refine sd_getR (pc := 4) dX2_visit_4 (ci := 1) rfl in_X2 (kf := 2) (by decide) q170 (h.mono (fun v1 h => ?_))
  refine sd_callF (k := (k + 1)) (n := (n + 3)) (As := []) (st := [.int l1]) (pc := 7) dX2_visit_7 (ci := 11) rfl h.1 (x := ⟨"java/util/List", "size", "()I"⟩) q908 q794 q796 q84 q798 q793 q792 q797 q795 q329 0 (by decide +kernel) rfl 0 (by decide +kernel) rfl (Nat.le_refl _) (by decide) (Nat.le_of_ble_eq_true rfl) (Cx.mono h.2 (kI.to (fun r3 σ2 h => ?_)) (xo rfl))
  refine sd_icmpge (pc := 12) dX2_visit_12 (tgt := 94) (by decide) ⟨fun c23 => ?_, fun c23 => ?_⟩
  · have h := h.1 c23
    refine Wx.more (k' := k) (n' := n) ?_ (by omega) (by omega)
    exact sd_return (pc := 94) dX2_visit_94 rfl h
  · have h := h.2 c23
    refine sd_aload_n (pc := 15) dX2_visit_15 rfl 0 rfl ?_
    refine sd_getR (pc := 16) dX2_visit_16 (ci := 1) rfl in_X2 (kf := 2) (by decide) q170 (h.mono (fun v4 h => ?_))
    refine sd_iload_n (pc := 19) dX2_visit_19 rfl 1 rfl ?_
    refine sd_callF (k := (k + 1)) (n := (n + 3)) (As := [.int l1]) (st := []) (pc := 20) dX2_visit_20 (ci := 11) rfl h.1 (x := ⟨"java/util/List", "get", "(I)Ljava/lang/Object;"⟩) q1082 q1085 q1087 q84 q1089 q1084 q1083 q1088 q1086 q329 1 (by decide +kernel) rfl 1 (by decide +kernel) rfl (Nat.le_refl _) (by decide) (Nat.le_of_ble_eq_true rfl) (Cx.mono h.2 (kA.to (fun r6 σ5 h => ?_)) (xo rfl))
    refine sd_castE (r := (RX8, TX8, 3)) (pc := 25) dX2_visit_25 q1462 (ci := 7) rfl h.1 ?_
    have h := h.2
    refine sd_astore_n (pc := 28) dX2_visit_28 rfl (by decide) (ls' := [(2, .ref r6), (0, .ref l0), (1, .int l1)]) rfl ?_
    refine sd_aload_n (pc := 29) dX2_visit_29 rfl 0 rfl ?_
    refine sd_getIN (pc := 30) dX2_visit_30 (ci := 7) rfl in_X8 (kf := 1) (by decide) q1438 (h.mono (fun v7 h => ?_))
    refine sd_aload_n (pc := 33) dX2_visit_33 rfl 1 rfl ?_
    refine sd_getR (pc := 34) dX2_visit_34 (ci := 1) rfl in_X2 (kf := 4) (by decide) q174 (h.mono (fun v8 h => ?_))
    refine sd_aload_n (pc := 37) dX2_visit_37 rfl 0 rfl ?_
    refine sd_getIN (pc := 38) dX2_visit_38 (ci := 7) rfl in_X8 (kf := 0) (by decide) q1436 (h.mono (fun v9 h => ?_))
    refine sd_iaload (pc := 41) dX2_visit_41 (h.mono (fun v10 h => ?_))
    refine sd_mminL (pc := 42) dX2_visit_42 q1186 q555 q101 q556 (by omega) (Nat.le_of_ble_eq_true rfl) (h.mono (fun r11 h => ?_))
    refine sd_istore_n (pc := 45) dX2_visit_45 rfl (by decide) (ls' := [(3, .int r11), (2, .ref r6), (0, .ref l0), (1, .int l1)]) rfl ?_
    refine sd_aload_n (pc := 46) dX2_visit_46 rfl 2 rfl ?_
    refine sd_getR (pc := 47) dX2_visit_47 (ci := 1) rfl in_X2 (kf := 4) (by decide) q174 (h.mono (fun v12 h => ?_))
    refine sd_aload_n (pc := 50) dX2_visit_50 rfl 1 rfl ?_
    refine sd_getIN (pc := 51) dX2_visit_51 (ci := 7) rfl in_X8 (kf := 0) (by decide) q1436 (h.mono (fun v13 h => ?_))
    refine sd_dup2 (pc := 54) dX2_visit_54 rfl rfl ?_
    refine sd_iaload (pc := 55) dX2_visit_55 (h.mono (fun v14 h => ?_))
    refine sd_iload_n (pc := 56) dX2_visit_56 rfl 0 rfl ?_
    refine sd_isub (pc := 57) dX2_visit_57 ?_
    refine sd_iastore (pc := 58) dX2_visit_58 (h.mono (fun σ15 h => ?_))
    refine sd_aload_n (pc := 59) dX2_visit_59 rfl 2 rfl ?_
    refine sd_dup (pc := 60) dX2_visit_60 rfl ?_
    refine sd_getI (pc := 61) dX2_visit_61 (ci := 1) rfl in_X2 (kf := 10) (by decide) q186 (h.mono (fun v16 h => ?_))
    refine sd_iload_n (pc := 64) dX2_visit_64 rfl 0 rfl ?_
    refine sd_iadd (pc := 65) dX2_visit_65 ?_
    refine sd_putf (pc := 66) dX2_visit_66 (ci := 1) rfl in_X2 tyX2 tyX2_ok nmX2 (kf := 10) (by decide) q186 rfl (ty := .int) rfl rfl rfl (putV.mono h (fun σ17 h => ?_))
    refine sd_aload_n (pc := 69) dX2_visit_69 rfl 2 rfl ?_
    refine sd_getR (pc := 70) dX2_visit_70 (ci := 1) rfl in_X2 (kf := 2) (by decide) q170 (h.mono (fun v18 h => ?_))
    refine sd_iload_n (pc := 73) dX2_visit_73 rfl 3 rfl ?_
    refine sd_aload_n (pc := 74) dX2_visit_74 rfl 1 rfl ?_
    refine sd_callV (k := k) (n := n) (As := []) (st := [.int l1, .ref v18]) (pc := 75) dX2_visit_75 (ci := 7) rfl h.1 rfl q1522 q1523 q1524 q115 q1525 0 (by decide +kernel) rfl (Nat.le_refl _) (by decide) (Nat.le_of_ble_eq_true rfl) (Cx.mono h.2 (kA.to (fun r20 σ19 h => ?_)) (xo rfl))
    refine sd_callF (k := k) (n := n) (As := [.int l1, .ref r20]) (st := []) (pc := 78) dX2_visit_78 (ci := 11) rfl h.1 (x := ⟨"java/util/List", "set", "(ILjava/lang/Object;)Ljava/lang/Object;"⟩) q1110 q1113 q1115 q84 q1117 q1112 q1111 q1116 q1114 q329 2 (by decide +kernel) rfl 2 (by decide +kernel) rfl (Nat.le_refl _) (by decide) (Nat.le_of_ble_eq_true rfl) (Cx.mono h.2 (kA.to (fun r22 σ21 h => ?_)) (xo rfl))
    refine sd_castE (r := (RX8, TX8, 3)) (pc := 83) dX2_visit_83 q1462 (ci := 7) rfl h.1 ?_
    have h := h.2
    refine sd_astore (pc := 86) dX2_visit_86 (by decide) (ls' := [(4, .ref r22), (3, .int r11), (2, .ref r6), (0, .ref l0), (1, .int l1)]) rfl ?_
    refine sd_iinc (pc := 88) dX2_visit_88 4 rfl (v := (l1 + (1 : Int32))) rfl (by decide) (ls' := [(1, .int (l1 + (1 : Int32))), (4, .ref r22), (3, .int r11), (2, .ref r6), (0, .ref l0)]) rfl ?_
    refine sd_goto (pc := 91) dX2_visit_91 (tgt := 2) (by decide) ?_
    exact sd_loc [4, 0] rfl h
def wp_X2_visit (en : yEn) (d : Nat) (x0 : Nat) (σ : yH) (k n : Nat) (K : Option Value → yH → Prop) (X : String → Addr → yH → Prop) : Prop :=
  Wx en (d + 1) mX2_visit 2 [(0, .ref x0), (1, .int (0 : Int32))] [] σ k n K X
set_option maxHeartbeats 4000000 in
theorem ok_X2_visit {en : yEn} {d : Nat} {x0 : Nat} {σ : yH} {k n : Nat} {K : Option Value → yH → Prop} {X : String → Addr → yH → Prop} (h : wp_X2_visit en d  x0 σ k n K X) : Wx en (d + 1) mX2_visit 0 [(0, .ref x0)] [] σ k n K X := by
  unfold wp_X2_visit at h
  refine sd_iconst (pc := 0) dX2_visit_0 (v := 0) (by decide) ?_
  refine sd_istore_n (pc := 1) dX2_visit_1 rfl (by decide) (ls' := [(1, .int (0 : Int32)), (0, .ref x0)]) rfl ?_
  exact sd_loc [1, 0] rfl h
theorem cx_X2_visit {en : yEn} {d : Nat} {x0 : Nat} {σ : yH} {k n : Nat} {K : Option Value → yH → Prop} {X : String → Addr → yH → Prop} (h : wp_X2_visit en d  x0 σ k n K X) : Cx en (d + 1) k n mX2_visit [.ref x0] σ K X := Cx.body (by decide +kernel) rfl (Nat.le_of_ble_eq_true rfl) (ok_X2_visit h)
/-! PeacockLawns$Garden.live()I -/
def wp_X2_live_25 (en : yEn) (d : Nat) (p83 : Nat × Nat) (p87 : Nat × Nat) (p91 : Nat × Nat) (l0 : Nat) (l1 : Int32) (l2 : Int32) (σ : yH) (k n : Nat) (K : Option Value → yH → Prop) (X : String → Addr → yH → Prop) : Prop :=
  getR σ l0 1 0 (fun v6 => (isC σ v6 11 ∧ Cx en d 0 0 mJ2_size [.ref v6] σ (kI (fun r8 σ7 => (((r8 ≤ l2) → (isC σ7 l0 1 ∧ Cx en d p83.1 p83.2 mX2_visit [.ref l0] σ7 (kV (fun σ9 => (isC σ9 l0 1 ∧ Cx en d p87.1 p87.2 mX2_sit [.ref l0] σ9 (kV (fun σ10 => (isC σ10 l0 1 ∧ Cx en d p91.1 p91.2 mX2_hunt [.ref l0] σ10 (kV (fun σ11 => (isC σ11 l0 1 ∧ Cx en d 0 0 mX2_noise [.ref l0] σ11 (kI (fun r13 σ12 => (((r13 ≤ (12 : Int32)) → Wx en (d + 1) mX2_live 115 [(0, .ref l0), (1, .int l1)] [.int (0 : Int32)] σ12 k n K X) ∧ (¬ (r13 ≤ (12 : Int32)) → getI σ12 l0 1 7 (fun v14 => yLet (if v14 < (3 : Int32) then v14 else (3 : Int32)) (fun r15 => Wx en (d + 1) mX2_live 115 [(0, .ref l0), (1, .int l1)] [.int r15] σ12 k n K X)))))) X))) X))) X))) X)) ∧ (¬ (r8 ≤ l2) → getR σ7 l0 1 0 (fun v17 => (isC σ7 v17 11 ∧ Cx en d 0 0 mJ2_get [.ref v17, .int l2] σ7 (kA (fun r19 σ18 => (isC σ18 r19 3 ∧ getR σ18 l0 1 0 (fun v20 => (isC σ18 v20 11 ∧ Cx en d 0 0 mJ2_get [.ref v20, .int l2] σ18 (kA (fun r22 σ21 => (isC σ21 r22 3 ∧ (isC σ21 l0 1 ∧ Cx en d 0 0 mX2_goesTo [.ref l0, .ref r22] σ21 (kI (fun r24 σ23 => (isC σ23 r19 3 ∧ Cx en d 1 6 mX4_at [.ref r19, .int r24] σ23 (kA (fun r26 σ25 => (isC σ25 l0 1 ∧ Cx en d 0 0 mX2_put [.ref l0, .int l2, .ref r26] σ25 (kV (fun σ27 => Wx en (d + 1) mX2_live 25 [(0, .ref l0), (1, .int l1), (2, .int (l2 + (1 : Int32)))] [] σ27 k n K X)) X))) X))) X)))) X))))) X)))))) X))
set_option maxHeartbeats 4000000 in
theorem ok_X2_live_25 {en : yEn} {d : Nat} {p83 : Nat × Nat} {p87 : Nat × Nat} {p91 : Nat × Nat} {l0 : Nat} {l1 : Int32} {l2 : Int32} {σ : yH} {k n : Nat} {K : Option Value → yH → Prop} {X : String → Addr → yH → Prop} (h : wp_X2_live_25 en d p83 p87 p91 l0 l1 l2 σ k n K X) : Wx en (d + 1) mX2_live 25 [(0, .ref l0), (1, .int l1), (2, .int l2)] [] σ (k + 1 + p91.1 + p87.1 + p83.1) (n + 6 + p91.2 + p87.2 + p83.2) K X := by
  unfold wp_X2_live_25 at h
  refine sd_iload_n (pc := 25) dX2_live_25 rfl 2 rfl ?_
  refine sd_aload_n (pc := 26) dX2_live_26 rfl 0 rfl ?_
  refine sd_getR (pc := 27) dX2_live_27 (ci := 1) rfl in_X2 (kf := 0) (by decide) q166 (h.mono (fun v6 h => ?_))
  refine sd_callF (k := (k + 1 + p91.1 + p87.1 + p83.1)) (n := (n + 6 + p91.2 + p87.2 + p83.2)) (As := []) (st := [.int l2]) (pc := 30) dX2_live_30 (ci := 11) rfl h.1 (x := ⟨"java/util/List", "size", "()I"⟩) q908 q794 q796 q84 q798 q793 q792 q797 q795 q329 0 (by decide +kernel) rfl 0 (by decide +kernel) rfl (Nat.le_refl _) (by decide) (Nat.le_of_ble_eq_true rfl) (Cx.mono h.2 (kI.to (fun r8 σ7 h => ?_)) (xo rfl))
  refine sd_icmpge (pc := 35) dX2_live_35 (tgt := 82) (by decide) ⟨fun c28 => ?_, fun c28 => ?_⟩
  · have h := h.1 c28
    refine Wx.more (k' := (k + p91.1 + p87.1 + p83.1)) (n' := (n + p91.2 + p87.2 + p83.2)) ?_ (by omega) (by omega)
    refine sd_aload_n (pc := 82) dX2_live_82 rfl 0 rfl ?_
    refine sd_callV (k := (k + p91.1 + p87.1)) (n := (n + p91.2 + p87.2)) (As := []) (st := []) (pc := 83) dX2_live_83 (ci := 1) rfl h.1 rfl q1518 q1520 qs15 q81 q1521 0 (by decide +kernel) rfl (Nat.le_refl _) (by decide) (Nat.le_of_ble_eq_true rfl) (Cx.mono h.2 (kV.to (fun σ9 h => ?_)) (xo rfl))
    refine sd_aload_n (pc := 86) dX2_live_86 rfl 0 rfl ?_
    refine sd_callV (k := (k + p91.1)) (n := (n + p91.2)) (As := []) (st := []) (pc := 87) dX2_live_87 (ci := 1) rfl h.1 rfl q1526 q1528 qs16 q81 q1529 0 (by decide +kernel) rfl (Nat.le_refl _) (by decide) (Nat.le_of_ble_eq_true rfl) (Cx.mono h.2 (kV.to (fun σ10 h => ?_)) (xo rfl))
    refine sd_aload_n (pc := 90) dX2_live_90 rfl 0 rfl ?_
    refine sd_callV (k := k) (n := n) (As := []) (st := []) (pc := 91) dX2_live_91 (ci := 1) rfl h.1 rfl q1537 q1539 qs18 q81 q1540 0 (by decide +kernel) rfl (Nat.le_refl _) (by decide) (Nat.le_of_ble_eq_true rfl) (Cx.mono h.2 (kV.to (fun σ11 h => ?_)) (xo rfl))
    refine sd_aload_n (pc := 94) dX2_live_94 rfl 0 rfl ?_
    refine sd_callV (k := k) (n := n) (As := []) (st := []) (pc := 95) dX2_live_95 (ci := 1) rfl h.1 rfl q1541 q312 q313 q81 q314 0 (by decide +kernel) rfl (Nat.le_refl _) (by decide) (Nat.le_of_ble_eq_true rfl) (Cx.mono h.2 (kI.to (fun r13 σ12 h => ?_)) (xo rfl))
    refine sd_bipush (pc := 98) dX2_live_98 (v := 12) (by decide) ?_
    refine sd_icmple (pc := 100) dX2_live_100 (tgt := 114) (by decide) ⟨fun c16 => ?_, fun c16 => ?_⟩
    · have h := h.1 c16
      refine sd_iconst (pc := 114) dX2_live_114 (v := 0) (by decide) ?_
      exact sd_loc [0, 1] rfl h
    · have h := h.2 c16
      refine sd_iconst (pc := 103) dX2_live_103 (v := 3) (by decide) ?_
      refine sd_aload_n (pc := 104) dX2_live_104 rfl 0 rfl ?_
      refine sd_getI (pc := 105) dX2_live_105 (ci := 1) rfl in_X2 (kf := 7) (by decide) q180 (h.mono (fun v14 h => ?_))
      refine sd_mminL (pc := 108) dX2_live_108 q1186 q555 q101 q556 (by omega) (Nat.le_of_ble_eq_true rfl) (h.mono (fun r15 h => ?_))
      refine sd_goto (pc := 111) dX2_live_111 (tgt := 115) (by decide) ?_
      exact sd_loc [0, 1] rfl h
  · have h := h.2 c28
    refine Wx.more (k' := (k + 1)) (n' := (n + 6)) ?_ (by omega) (by omega)
    refine sd_aload_n (pc := 38) dX2_live_38 rfl 0 rfl ?_
    refine sd_iload_n (pc := 39) dX2_live_39 rfl 2 rfl ?_
    refine sd_aload_n (pc := 40) dX2_live_40 rfl 0 rfl ?_
    refine sd_getR (pc := 41) dX2_live_41 (ci := 1) rfl in_X2 (kf := 0) (by decide) q166 (h.mono (fun v17 h => ?_))
    refine sd_iload_n (pc := 44) dX2_live_44 rfl 2 rfl ?_
    refine sd_callF (k := (k + 1)) (n := (n + 6)) (As := [.int l2]) (st := [.int l2, .ref l0]) (pc := 45) dX2_live_45 (ci := 11) rfl h.1 (x := ⟨"java/util/List", "get", "(I)Ljava/lang/Object;"⟩) q1082 q1085 q1087 q84 q1089 q1084 q1083 q1088 q1086 q329 1 (by decide +kernel) rfl 1 (by decide +kernel) rfl (Nat.le_refl _) (by decide) (Nat.le_of_ble_eq_true rfl) (Cx.mono h.2 (kA.to (fun r19 σ18 h => ?_)) (xo rfl))
    refine sd_castE (r := (RX4, TX4, 6)) (pc := 50) dX2_live_50 q448 (ci := 3) rfl h.1 ?_
    have h := h.2
    refine sd_aload_n (pc := 53) dX2_live_53 rfl 0 rfl ?_
    refine sd_aload_n (pc := 54) dX2_live_54 rfl 0 rfl ?_
    refine sd_getR (pc := 55) dX2_live_55 (ci := 1) rfl in_X2 (kf := 0) (by decide) q166 (h.mono (fun v20 h => ?_))
    refine sd_iload_n (pc := 58) dX2_live_58 rfl 2 rfl ?_
    refine sd_callF (k := (k + 1)) (n := (n + 6)) (As := [.int l2]) (st := [.ref l0, .ref r19, .int l2, .ref l0]) (pc := 59) dX2_live_59 (ci := 11) rfl h.1 (x := ⟨"java/util/List", "get", "(I)Ljava/lang/Object;"⟩) q1082 q1085 q1087 q84 q1089 q1084 q1083 q1088 q1086 q329 1 (by decide +kernel) rfl 1 (by decide +kernel) rfl (Nat.le_refl _) (by decide) (Nat.le_of_ble_eq_true rfl) (Cx.mono h.2 (kA.to (fun r22 σ21 h => ?_)) (xo rfl))
    refine sd_castE (r := (RX4, TX4, 6)) (pc := 64) dX2_live_64 q448 (ci := 3) rfl h.1 ?_
    have h := h.2
    refine sd_callV (k := (k + 1)) (n := (n + 6)) (As := [.ref r22]) (st := [.ref r19, .int l2, .ref l0]) (pc := 67) dX2_live_67 (ci := 1) rfl h.1 rfl q1513 q1172 q1173 q81 q1174 1 (by decide +kernel) rfl (Nat.le_refl _) (by decide) (Nat.le_of_ble_eq_true rfl) (Cx.mono h.2 (kI.to (fun r24 σ23 h => ?_)) (xo rfl))
    refine sd_callV (k := k) (n := n) (As := [.int r24]) (st := [.int l2, .ref l0]) (pc := 70) dX2_live_70 (ci := 3) rfl h.1 rfl q1514 q1515 q1516 q98 q1517 1 (by decide +kernel) rfl (Nat.le_refl _) (by decide) (Nat.le_of_ble_eq_true rfl) (Cx.mono h.2 (kA.to (fun r26 σ25 h => ?_)) (xo rfl))
    refine sd_callV (k := k) (n := n) (As := [.int l2, .ref r26]) (st := []) (pc := 73) dX2_live_73 (ci := 1) rfl h.1 rfl q1105 q1107 qs12 q81 q1108 2 (by decide +kernel) rfl (Nat.le_refl _) (by decide) (Nat.le_of_ble_eq_true rfl) (Cx.mono h.2 (kV.to (fun σ27 h => ?_)) (xo rfl))
    refine sd_iinc (pc := 76) dX2_live_76 2 rfl (v := (l2 + (1 : Int32))) rfl (by decide) (ls' := [(2, .int (l2 + (1 : Int32))), (0, .ref l0), (1, .int l1)]) rfl ?_
    refine sd_goto (pc := 79) dX2_live_79 (tgt := 25) (by decide) ?_
    exact sd_loc [1, 2, 0] rfl h
def wp_X2_live_115 (en : yEn) (d : Nat) (l0 : Nat) (l1 : Int32) (t0 : Int32) (σ : yH) (k n : Nat) (K : Option Value → yH → Prop) (X : String → Addr → yH → Prop) : Prop :=
  getI σ l0 1 7 (fun v29 => (putV σ l0 1 7 (.int (v29 - t0)) (fun σ30 => getI σ30 l0 1 14 (fun v31 => (putV σ30 l0 1 14 (.int (v31 + t0)) (fun σ32 => Wx en (d + 1) mX2_live 138 [(0, .ref l0), (1, .int l1), (3, .int (0 : Int32))] [] σ32 k n K X))))))
set_option maxHeartbeats 4000000 in
theorem ok_X2_live_115 {en : yEn} {d : Nat} {l0 : Nat} {l1 : Int32} {t0 : Int32} {σ : yH} {k n : Nat} {K : Option Value → yH → Prop} {X : String → Addr → yH → Prop} (h : wp_X2_live_115 en d  l0 l1 t0 σ k n K X) : Wx en (d + 1) mX2_live 115 [(0, .ref l0), (1, .int l1)] [.int t0] σ k n K X := by
  unfold wp_X2_live_115 at h
  refine sd_istore_n (pc := 115) dX2_live_115 rfl (by decide) (ls' := [(2, .int t0), (0, .ref l0), (1, .int l1)]) rfl ?_
  refine sd_aload_n (pc := 116) dX2_live_116 rfl 1 rfl ?_
  refine sd_dup (pc := 117) dX2_live_117 rfl ?_
  refine sd_getI (pc := 118) dX2_live_118 (ci := 1) rfl in_X2 (kf := 7) (by decide) q180 (h.mono (fun v29 h => ?_))
  refine sd_iload_n (pc := 121) dX2_live_121 rfl 0 rfl ?_
  refine sd_isub (pc := 122) dX2_live_122 ?_
  refine sd_putf (pc := 123) dX2_live_123 (ci := 1) rfl in_X2 tyX2 tyX2_ok nmX2 (kf := 7) (by decide) q180 rfl (ty := .int) rfl rfl rfl (putV.mono h (fun σ30 h => ?_))
  refine sd_aload_n (pc := 126) dX2_live_126 rfl 1 rfl ?_
  refine sd_dup (pc := 127) dX2_live_127 rfl ?_
  refine sd_getI (pc := 128) dX2_live_128 (ci := 1) rfl in_X2 (kf := 14) (by decide) q194 (h.mono (fun v31 h => ?_))
  refine sd_iload_n (pc := 131) dX2_live_131 rfl 0 rfl ?_
  refine sd_iadd (pc := 132) dX2_live_132 ?_
  refine sd_putf (pc := 133) dX2_live_133 (ci := 1) rfl in_X2 tyX2 tyX2_ok nmX2 (kf := 14) (by decide) q194 rfl (ty := .int) rfl rfl rfl (putV.mono h (fun σ32 h => ?_))
  refine sd_iconst (pc := 136) dX2_live_136 (v := 0) (by decide) ?_
  refine sd_istore_n (pc := 137) dX2_live_137 rfl (by decide) (ls' := [(3, .int (0 : Int32)), (2, .int t0), (0, .ref l0), (1, .int l1)]) rfl ?_
  exact sd_loc [2, 3, 0] rfl h
def wp_X2_live_138 (en : yEn) (d : Nat) (l0 : Nat) (l1 : Int32) (l3 : Int32) (σ : yH) (k n : Nat) (K : Option Value → yH → Prop) (X : String → Addr → yH → Prop) : Prop :=
  getR σ l0 1 1 (fun v33 => (isC σ v33 11 ∧ Cx en d 0 0 mJ2_size [.ref v33] σ (kI (fun r35 σ34 => (((r35 ≤ l3) → getI σ34 l0 1 8 (fun v36 => K (some (.int (v36 - l1))) σ34)) ∧ (¬ (r35 ≤ l3) → getR σ34 l0 1 1 (fun v37 => getR σ34 l0 1 1 (fun v38 => (isC σ34 v38 11 ∧ Cx en d 0 0 mJ2_get [.ref v38, .int l3] σ34 (kA (fun r40 σ39 => (isC σ39 r40 6 ∧ (isC σ39 r40 6 ∧ Cx en d 1 4 mX7_rested [.ref r40] σ39 (kA (fun r42 σ41 => (isC σ41 v37 11 ∧ Cx en d 0 0 mJ2_set [.ref v37, .int l3, .ref r42] σ41 (kA (fun r44 σ43 => (isC σ43 r44 6 ∧ Wx en (d + 1) mX2_live 138 [(0, .ref l0), (1, .int l1), (3, .int (l3 + (1 : Int32)))] [] σ43 k n K X))) X))) X)))) X))))))) X))
set_option maxHeartbeats 4000000 in
theorem ok_X2_live_138 {en : yEn} {d : Nat} {l0 : Nat} {l1 : Int32} {l3 : Int32} {σ : yH} {k n : Nat} {K : Option Value → yH → Prop} {X : String → Addr → yH → Prop} (h : wp_X2_live_138 en d  l0 l1 l3 σ k n K X) : Wx en (d + 1) mX2_live 138 [(0, .ref l0), (1, .int l1), (3, .int l3)] [] σ (k + 1) (n + 4) K X := by
  unfold wp_X2_live_138 at h
  refine sd_iload_n (pc := 138) dX2_live_138 rfl 2 rfl ?_
  refine sd_aload_n (pc := 139) dX2_live_139 rfl 0 rfl ?_
  refine sd_getR (pc := 140) dX2_live_140 (ci := 1) rfl in_X2 (kf := 1) (by decide) q168 (h.mono (fun v33 h => ?_))
  refine sd_callF (k := (k + 1)) (n := (n + 4)) (As := []) (st := [.int l3]) (pc := 143) dX2_live_143 (ci := 11) rfl h.1 (x := ⟨"java/util/List", "size", "()I"⟩) q908 q794 q796 q84 q798 q793 q792 q797 q795 q329 0 (by decide +kernel) rfl 0 (by decide +kernel) rfl (Nat.le_refl _) (by decide) (Nat.le_of_ble_eq_true rfl) (Cx.mono h.2 (kI.to (fun r35 σ34 h => ?_)) (xo rfl))
  refine sd_icmpge (pc := 148) dX2_live_148 (tgt := 188) (by decide) ⟨fun c45 => ?_, fun c45 => ?_⟩
  · have h := h.1 c45
    refine Wx.more (k' := k) (n' := n) ?_ (by omega) (by omega)
    refine sd_aload_n (pc := 188) dX2_live_188 rfl 0 rfl ?_
    refine sd_getI (pc := 189) dX2_live_189 (ci := 1) rfl in_X2 (kf := 8) (by decide) q182 (h.mono (fun v36 h => ?_))
    refine sd_iload_n (pc := 192) dX2_live_192 rfl 1 rfl ?_
    refine sd_isub (pc := 193) dX2_live_193 ?_
    exact sd_ireturn (pc := 194) dX2_live_194 (ty0 := .int) rfl rfl h
  · have h := h.2 c45
    refine sd_aload_n (pc := 151) dX2_live_151 rfl 0 rfl ?_
    refine sd_getR (pc := 152) dX2_live_152 (ci := 1) rfl in_X2 (kf := 1) (by decide) q168 (h.mono (fun v37 h => ?_))
    refine sd_iload_n (pc := 155) dX2_live_155 rfl 2 rfl ?_
    refine sd_aload_n (pc := 156) dX2_live_156 rfl 0 rfl ?_
    refine sd_getR (pc := 157) dX2_live_157 (ci := 1) rfl in_X2 (kf := 1) (by decide) q168 (h.mono (fun v38 h => ?_))
    refine sd_iload_n (pc := 160) dX2_live_160 rfl 2 rfl ?_
    refine sd_callF (k := (k + 1)) (n := (n + 4)) (As := [.int l3]) (st := [.int l3, .ref v37]) (pc := 161) dX2_live_161 (ci := 11) rfl h.1 (x := ⟨"java/util/List", "get", "(I)Ljava/lang/Object;"⟩) q1082 q1085 q1087 q84 q1089 q1084 q1083 q1088 q1086 q329 1 (by decide +kernel) rfl 1 (by decide +kernel) rfl (Nat.le_refl _) (by decide) (Nat.le_of_ble_eq_true rfl) (Cx.mono h.2 (kA.to (fun r40 σ39 h => ?_)) (xo rfl))
    refine sd_castE (r := (RX7, TX7, 4)) (pc := 166) dX2_live_166 q1358 (ci := 6) rfl h.1 ?_
    have h := h.2
    refine sd_callV (k := k) (n := n) (As := []) (st := [.int l3, .ref v37]) (pc := 169) dX2_live_169 (ci := 6) rfl h.1 rfl q1542 q1543 q1544 q114 q1545 0 (by decide +kernel) rfl (Nat.le_refl _) (by decide) (Nat.le_of_ble_eq_true rfl) (Cx.mono h.2 (kA.to (fun r42 σ41 h => ?_)) (xo rfl))
    refine sd_callF (k := k) (n := n) (As := [.int l3, .ref r42]) (st := []) (pc := 172) dX2_live_172 (ci := 11) rfl h.1 (x := ⟨"java/util/List", "set", "(ILjava/lang/Object;)Ljava/lang/Object;"⟩) q1110 q1113 q1115 q84 q1117 q1112 q1111 q1116 q1114 q329 2 (by decide +kernel) rfl 2 (by decide +kernel) rfl (Nat.le_refl _) (by decide) (Nat.le_of_ble_eq_true rfl) (Cx.mono h.2 (kA.to (fun r44 σ43 h => ?_)) (xo rfl))
    refine sd_castE (r := (RX7, TX7, 4)) (pc := 177) dX2_live_177 q1358 (ci := 6) rfl h.1 ?_
    have h := h.2
    refine sd_astore (pc := 180) dX2_live_180 (by decide) (ls' := [(4, .ref r44), (0, .ref l0), (1, .int l1), (3, .int l3)]) rfl ?_
    refine sd_iinc (pc := 182) dX2_live_182 3 rfl (v := (l3 + (1 : Int32))) rfl (by decide) (ls' := [(3, .int (l3 + (1 : Int32))), (4, .ref r44), (0, .ref l0), (1, .int l1)]) rfl ?_
    refine sd_goto (pc := 185) dX2_live_185 (tgt := 138) (by decide) ?_
    exact sd_loc [2, 3, 0] rfl h
def wp_X2_live (en : yEn) (d : Nat) (p20 : Nat × Nat) (x0 : Nat) (σ : yH) (k n : Nat) (K : Option Value → yH → Prop) (X : String → Addr → yH → Prop) : Prop :=
  getI σ x0 1 8 (fun v1 => getI σ x0 1 5 (fun v2 => (putV σ x0 1 5 (.int (v2 + (1 : Int32))) (fun σ3 => (isC σ3 x0 1 ∧ Cx en d 0 0 mX2_grow [.ref x0] σ3 (kV (fun σ4 => (isC σ4 x0 1 ∧ Cx en d p20.1 p20.2 mX2_moult [.ref x0] σ4 (kV (fun σ5 => Wx en (d + 1) mX2_live 25 [(0, .ref x0), (1, .int v1), (2, .int (0 : Int32))] [] σ5 k n K X)) X))) X)))))
set_option maxHeartbeats 4000000 in
theorem ok_X2_live {en : yEn} {d : Nat} {p20 : Nat × Nat} {x0 : Nat} {σ : yH} {k n : Nat} {K : Option Value → yH → Prop} {X : String → Addr → yH → Prop} (h : wp_X2_live en d p20 x0 σ k n K X) : Wx en (d + 1) mX2_live 0 [(0, .ref x0)] [] σ (k + p20.1) (n + p20.2) K X := by
  unfold wp_X2_live at h
  refine sd_aload_n (pc := 0) dX2_live_0 rfl 0 rfl ?_
  refine sd_getI (pc := 1) dX2_live_1 (ci := 1) rfl in_X2 (kf := 8) (by decide) q182 (h.mono (fun v1 h => ?_))
  refine sd_istore_n (pc := 4) dX2_live_4 rfl (by decide) (ls' := [(1, .int v1), (0, .ref x0)]) rfl ?_
  refine sd_aload_n (pc := 5) dX2_live_5 rfl 1 rfl ?_
  refine sd_dup (pc := 6) dX2_live_6 rfl ?_
  refine sd_getI (pc := 7) dX2_live_7 (ci := 1) rfl in_X2 (kf := 5) (by decide) q176 (h.mono (fun v2 h => ?_))
  refine sd_iconst (pc := 10) dX2_live_10 (v := 1) (by decide) ?_
  refine sd_iadd (pc := 11) dX2_live_11 ?_
  refine sd_putf (pc := 12) dX2_live_12 (ci := 1) rfl in_X2 tyX2 tyX2_ok nmX2 (kf := 5) (by decide) q176 rfl (ty := .int) rfl rfl rfl (putV.mono h (fun σ3 h => ?_))
  refine sd_aload_n (pc := 15) dX2_live_15 rfl 1 rfl ?_
  refine sd_callV (k := (k + p20.1)) (n := (n + p20.2)) (As := []) (st := []) (pc := 16) dX2_live_16 (ci := 1) rfl h.1 rfl q1492 q1494 qs13 q81 q1495 0 (by decide +kernel) rfl (Nat.le_refl _) (by decide) (Nat.le_of_ble_eq_true rfl) (Cx.mono h.2 (kV.to (fun σ4 h => ?_)) (xo rfl))
  refine sd_aload_n (pc := 19) dX2_live_19 rfl 1 rfl ?_
  refine sd_callV (k := k) (n := n) (As := []) (st := []) (pc := 20) dX2_live_20 (ci := 1) rfl h.1 rfl q1500 q1502 qs14 q81 q1503 0 (by decide +kernel) rfl (Nat.le_refl _) (by decide) (Nat.le_of_ble_eq_true rfl) (Cx.mono h.2 (kV.to (fun σ5 h => ?_)) (xo rfl))
  refine sd_iconst (pc := 23) dX2_live_23 (v := 0) (by decide) ?_
  refine sd_istore_n (pc := 24) dX2_live_24 rfl (by decide) (ls' := [(2, .int (0 : Int32)), (1, .int v1), (0, .ref x0)]) rfl ?_
  exact sd_loc [2, 1, 0] rfl h
theorem cx_X2_live {en : yEn} {d : Nat} {p20 : Nat × Nat} {x0 : Nat} {σ : yH} {k n : Nat} {K : Option Value → yH → Prop} {X : String → Addr → yH → Prop} (h : wp_X2_live en d p20 x0 σ k n K X) : Cx en (d + 1) (k + p20.1) (n + p20.2) mX2_live [.ref x0] σ K X := Cx.body (by decide +kernel) rfl (Nat.le_of_ble_eq_true rfl) (ok_X2_live h)
/-! PeacockLawns$Garden.pass(I)I -/
def wp_X2_pass_14 (en : yEn) (d : Nat) (p21 : Nat × Nat) (l0 : Nat) (l1 : Int32) (l2 : Int32) (l3 : Int32) (σ : yH) (k n : Nat) (K : Option Value → yH → Prop) (X : String → Addr → yH → Prop) : Prop :=
  (((l1 ≤ l3) → K (some (.int l2)) σ) ∧ (¬ (l1 ≤ l3) → (isC σ l0 1 ∧ Cx en d p21.1 p21.2 mX2_live [.ref l0] σ (kI (fun r5 σ4 => Wx en (d + 1) mX2_pass 14 [(0, .ref l0), (1, .int l1), (2, .int (l2 + r5)), (3, .int (l3 + (1 : Int32)))] [] σ4 k n K X)) X)))
set_option maxHeartbeats 4000000 in
theorem ok_X2_pass_14 {en : yEn} {d : Nat} {p21 : Nat × Nat} {l0 : Nat} {l1 : Int32} {l2 : Int32} {l3 : Int32} {σ : yH} {k n : Nat} {K : Option Value → yH → Prop} {X : String → Addr → yH → Prop} (h : wp_X2_pass_14 en d p21 l0 l1 l2 l3 σ k n K X) : Wx en (d + 1) mX2_pass 14 [(0, .ref l0), (1, .int l1), (2, .int l2), (3, .int l3)] [] σ (k + p21.1) (n + p21.2) K X := by
  unfold wp_X2_pass_14 at h
  refine sd_iload_n (pc := 14) dX2_pass_14 rfl 3 rfl ?_
  refine sd_iload_n (pc := 15) dX2_pass_15 rfl 1 rfl ?_
  refine sd_icmpge (pc := 16) dX2_pass_16 (tgt := 32) (by decide) ⟨fun c6 => ?_, fun c6 => ?_⟩
  · have h := h.1 c6
    refine Wx.more (k' := k) (n' := n) ?_ (by omega) (by omega)
    refine sd_iload_n (pc := 32) dX2_pass_32 rfl 2 rfl ?_
    exact sd_ireturn (pc := 33) dX2_pass_33 (ty0 := .int) rfl rfl h
  · have h := h.2 c6
    refine sd_iload_n (pc := 19) dX2_pass_19 rfl 2 rfl ?_
    refine sd_aload_n (pc := 20) dX2_pass_20 rfl 0 rfl ?_
    refine sd_callV (k := k) (n := n) (As := []) (st := [.int l2]) (pc := 21) dX2_pass_21 (ci := 1) rfl h.1 rfl q1488 q1489 q1490 q81 q1491 0 (by decide +kernel) rfl (Nat.le_refl _) (by decide) (Nat.le_of_ble_eq_true rfl) (Cx.mono h.2 (kI.to (fun r5 σ4 h => ?_)) (xo rfl))
    refine sd_iadd (pc := 24) dX2_pass_24 ?_
    refine sd_istore_n (pc := 25) dX2_pass_25 rfl (by decide) (ls' := [(2, .int (l2 + r5)), (0, .ref l0), (1, .int l1), (3, .int l3)]) rfl ?_
    refine sd_iinc (pc := 26) dX2_pass_26 3 rfl (v := (l3 + (1 : Int32))) rfl (by decide) (ls' := [(3, .int (l3 + (1 : Int32))), (2, .int (l2 + r5)), (0, .ref l0), (1, .int l1)]) rfl ?_
    refine sd_goto (pc := 29) dX2_pass_29 (tgt := 14) (by decide) ?_
    exact sd_loc [2, 3, 1, 0] rfl h
def wp_X2_pass (en : yEn) (d : Nat) (x0 : Nat) (x1 : Int32) (σ : yH) (k n : Nat) (K : Option Value → yH → Prop) (X : String → Addr → yH → Prop) : Prop :=
  Cx en d 0 0 mX1_inRange [.int x1, .int (1 : Int32), .int (60 : Int32)] σ (kI (fun r2 σ1 => Cx en d 1 6 mX1_require [.int r2] σ1 (kV (fun σ3 => Wx en (d + 1) mX2_pass 14 [(0, .ref x0), (1, .int x1), (2, .int (0 : Int32)), (3, .int (0 : Int32))] [] σ3 k n K X)) X)) X
set_option maxHeartbeats 4000000 in
theorem ok_X2_pass {en : yEn} {d : Nat} {x0 : Nat} {x1 : Int32} {σ : yH} {k n : Nat} {K : Option Value → yH → Prop} {X : String → Addr → yH → Prop} (h : wp_X2_pass en d  x0 x1 σ k n K X) : Wx en (d + 1) mX2_pass 0 [(0, .ref x0), (1, .int x1)] [] σ (k + 1) (n + 6) K X := by
  unfold wp_X2_pass at h
  refine sd_iload_n (pc := 0) dX2_pass_0 rfl 1 rfl ?_
  refine sd_iconst (pc := 1) dX2_pass_1 (v := 1) (by decide) ?_
  refine sd_bipush (pc := 2) dX2_pass_2 (v := 60) (by decide) ?_
  refine sd_callSN (k := (k + 1)) (n := (n + 6)) (As := [.int x1, .int (1 : Int32), .int (60 : Int32)]) (st := []) (pc := 4) dX2_pass_4 q836 q837 q80 q838 3 (by decide +kernel) rfl (Nat.le_refl _) (by decide) (Nat.le_of_ble_eq_true rfl) (Cx.mono h (kI.to (fun r2 σ1 h => ?_)) (xo rfl))
  refine sd_callSN (k := k) (n := n) (As := [.int r2]) (st := []) (pc := 7) dX2_pass_7 q857 q858 q80 q859 1 (by decide +kernel) rfl (Nat.le_refl _) (by decide) (Nat.le_of_ble_eq_true rfl) (Cx.mono h (kV.to (fun σ3 h => ?_)) (xo rfl))
  refine sd_iconst (pc := 10) dX2_pass_10 (v := 0) (by decide) ?_
  refine sd_istore_n (pc := 11) dX2_pass_11 rfl (by decide) (ls' := [(2, .int (0 : Int32)), (0, .ref x0), (1, .int x1)]) rfl ?_
  refine sd_iconst (pc := 12) dX2_pass_12 (v := 0) (by decide) ?_
  refine sd_istore_n (pc := 13) dX2_pass_13 rfl (by decide) (ls' := [(3, .int (0 : Int32)), (2, .int (0 : Int32)), (0, .ref x0), (1, .int x1)]) rfl ?_
  exact sd_loc [2, 3, 1, 0] rfl h
theorem cx_X2_pass {en : yEn} {d : Nat} {x0 : Nat} {x1 : Int32} {σ : yH} {k n : Nat} {K : Option Value → yH → Prop} {X : String → Addr → yH → Prop} (h : wp_X2_pass en d  x0 x1 σ k n K X) : Cx en (d + 1) (k + 1) (n + 6) mX2_pass [.ref x0, .int x1] σ K X := Cx.body (by decide +kernel) rfl (Nat.le_of_ble_eq_true rfl) (ok_X2_pass h)
/-! PeacockLawns$Garden.lambda$noise$0(LPeacockLawns$Bird;)I -/
def wp_X2_lambda_noise_0 (en : yEn) (d : Nat) (x0 : Nat) (σ : yH) (k n : Nat) (K : Option Value → yH → Prop) (X : String → Addr → yH → Prop) : Prop :=
  (isC σ x0 3 ∧ Cx en d 0 0 mX4_isCock [.ref x0] σ (kI (fun r2 σ1 => (((r2 = 0) → K (some (.int (0 : Int32))) σ1) ∧ (¬ (r2 = 0) → getI σ1 x0 3 1 (fun v3 => ((¬ ((v3 - v3 / (2 : Int32) * (2 : Int32)) = 0) → K (some (.int (0 : Int32))) σ1) ∧ (((v3 - v3 / (2 : Int32) * (2 : Int32)) = 0) → getI σ1 x0 3 1 (fun v4 => (((v4 = (4 : Int32)) → K (some (.int (0 : Int32))) σ1) ∧ (¬ (v4 = (4 : Int32)) → getI σ1 x0 3 3 (fun v5 => K (some (.int v5)) σ1))))))))))) X)
set_option maxHeartbeats 4000000 in
theorem ok_X2_lambda_noise_0 {en : yEn} {d : Nat} {x0 : Nat} {σ : yH} {k n : Nat} {K : Option Value → yH → Prop} {X : String → Addr → yH → Prop} (h : wp_X2_lambda_noise_0 en d  x0 σ k n K X) : Wx en (d + 1) mX2_lambda_noise_0 0 [(0, .ref x0)] [] σ k n K X := by
  unfold wp_X2_lambda_noise_0 at h
  refine sd_aload_n (pc := 0) dX2_lambda_noise_0_0 rfl 0 rfl ?_
  refine sd_callV (k := k) (n := n) (As := []) (st := []) (pc := 1) dX2_lambda_noise_0_1 (ci := 3) rfl h.1 rfl q317 q318 q319 q98 q320 0 (by decide +kernel) rfl (Nat.le_refl _) (by decide) (Nat.le_of_ble_eq_true rfl) (Cx.mono h.2 (kI.to (fun r2 σ1 h => ?_)) (xo rfl))
  refine sd_ifeq (pc := 4) dX2_lambda_noise_0_4 (tgt := 31) (by decide) ⟨fun c8 => ?_, fun c8 => ?_⟩
  · have h := h.1 c8
    refine sd_iconst (pc := 31) dX2_lambda_noise_0_31 (v := 0) (by decide) ?_
    exact sd_ireturn (pc := 32) dX2_lambda_noise_0_32 (ty0 := .int) rfl rfl h
  · have h := h.2 c8
    refine sd_aload_n (pc := 7) dX2_lambda_noise_0_7 rfl 0 rfl ?_
    refine sd_getIN (pc := 8) dX2_lambda_noise_0_8 (ci := 3) rfl in_X4 (kf := 1) (by decide) q878 (h.mono (fun v3 h => ?_))
    refine sd_iconst (pc := 11) dX2_lambda_noise_0_11 (v := 2) (by decide) ?_
    refine sd_irem (pc := 12) dX2_lambda_noise_0_12 (by decide) ?_
    refine sd_ifne (pc := 13) dX2_lambda_noise_0_13 (tgt := 31) (by decide) ⟨fun c7 => ?_, fun c7 => ?_⟩
    · have h := h.1 c7
      refine sd_iconst (pc := 31) dX2_lambda_noise_0_31 (v := 0) (by decide) ?_
      exact sd_ireturn (pc := 32) dX2_lambda_noise_0_32 (ty0 := .int) rfl rfl h
    · have h := h.2 c7
      refine sd_aload_n (pc := 16) dX2_lambda_noise_0_16 rfl 0 rfl ?_
      refine sd_getIN (pc := 17) dX2_lambda_noise_0_17 (ci := 3) rfl in_X4 (kf := 1) (by decide) q878 (h.mono (fun v4 h => ?_))
      refine sd_iconst (pc := 20) dX2_lambda_noise_0_20 (v := 4) (by decide) ?_
      refine sd_icmpeq (pc := 21) dX2_lambda_noise_0_21 (tgt := 31) (by decide) ⟨fun c6 => ?_, fun c6 => ?_⟩
      · have h := h.1 c6
        refine sd_iconst (pc := 31) dX2_lambda_noise_0_31 (v := 0) (by decide) ?_
        exact sd_ireturn (pc := 32) dX2_lambda_noise_0_32 (ty0 := .int) rfl rfl h
      · have h := h.2 c6
        refine sd_aload_n (pc := 24) dX2_lambda_noise_0_24 rfl 0 rfl ?_
        refine sd_getIN (pc := 25) dX2_lambda_noise_0_25 (ci := 3) rfl in_X4 (kf := 3) (by decide) q884 (h.mono (fun v5 h => ?_))
        refine sd_goto (pc := 28) dX2_lambda_noise_0_28 (tgt := 32) (by decide) ?_
        exact sd_ireturn (pc := 32) dX2_lambda_noise_0_32 (ty0 := .int) rfl rfl h
theorem cx_X2_lambda_noise_0 {en : yEn} {d : Nat} {x0 : Nat} {σ : yH} {k n : Nat} {K : Option Value → yH → Prop} {X : String → Addr → yH → Prop} (h : wp_X2_lambda_noise_0 en d  x0 σ k n K X) : Cx en (d + 1) k n mX2_lambda_noise_0 [.ref x0] σ K X := Cx.body (by decide +kernel) rfl (Nat.le_of_ble_eq_true rfl) (ok_X2_lambda_noise_0 h)
