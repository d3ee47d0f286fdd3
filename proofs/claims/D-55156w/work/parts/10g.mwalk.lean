/-! THE MODEL: walks of its methods as predicate transformers -/
set_option maxRecDepth 100000
/-! readCommand()V -/
def stM_X3_readCommand_18 (K : yMS → Prop) (rec : List Int32 → Int32 → yMS → Prop) (l1 : List Int32) (l2 : Int32) (ρ : yMS) : Prop :=
  mLet (nI l1.length) (fun r8 => (((r8 ≤ l2) → ((((ρ.1 23) = (101 : Int32)) → wpM_X3_readNumber ρ (if ((1 : Int32) = 0) then (1 : Int32) else (2 : Int32)) (fun r11 ρ10 => (mPut ρ10 24 r11 (fun ρ12 => ((¬ ((ρ12.1 23) = (104 : Int32)) → ((((ρ12.1 23) = (119 : Int32)) → wpM_X3_readNumber ρ12 (1 : Int32) (fun r14 ρ13 => (mPut ρ13 25 r14 (fun ρ15 => K ρ15)))) ∧ (¬ ((ρ12.1 23) = (119 : Int32)) → ((¬ ((ρ12.1 23) = (97 : Int32)) → K ρ12) ∧ (((ρ12.1 23) = (97 : Int32)) → wpM_X3_readNumber ρ12 (1 : Int32) (fun r17 ρ16 => (mPut ρ16 25 r17 (fun ρ18 => K ρ18)))))))) ∧ (((ρ12.1 23) = (104 : Int32)) → wpM_X3_readNumber ρ12 (2 : Int32) (fun r22 ρ21 => (mPut ρ21 25 r22 (fun ρ23 => wpM_X3_readNumber ρ23 (2 : Int32) (fun r25 ρ24 => (mPut ρ24 26 r25 (fun ρ26 => K ρ26)))))))))))) ∧ (¬ ((ρ.1 23) = (101 : Int32)) → ((((ρ.1 23) = (108 : Int32)) → wpM_X3_readNumber ρ (if ((1 : Int32) = 0) then (1 : Int32) else (2 : Int32)) (fun r30 ρ29 => (mPut ρ29 24 r30 (fun ρ31 => ((¬ ((ρ31.1 23) = (104 : Int32)) → ((((ρ31.1 23) = (119 : Int32)) → wpM_X3_readNumber ρ31 (1 : Int32) (fun r33 ρ32 => (mPut ρ32 25 r33 (fun ρ34 => K ρ34)))) ∧ (¬ ((ρ31.1 23) = (119 : Int32)) → ((¬ ((ρ31.1 23) = (97 : Int32)) → K ρ31) ∧ (((ρ31.1 23) = (97 : Int32)) → wpM_X3_readNumber ρ31 (1 : Int32) (fun r36 ρ35 => (mPut ρ35 25 r36 (fun ρ37 => K ρ37)))))))) ∧ (((ρ31.1 23) = (104 : Int32)) → wpM_X3_readNumber ρ31 (2 : Int32) (fun r41 ρ40 => (mPut ρ40 25 r41 (fun ρ42 => wpM_X3_readNumber ρ42 (2 : Int32) (fun r44 ρ43 => (mPut ρ43 26 r44 (fun ρ45 => K ρ45)))))))))))) ∧ (¬ ((ρ.1 23) = (108 : Int32)) → wpM_X3_readNumber ρ (if ((if ((ρ.1 23) = (100 : Int32)) then (1 : Int32) else (0 : Int32)) = 0) then (1 : Int32) else (2 : Int32)) (fun r50 ρ49 => (mPut ρ49 24 r50 (fun ρ51 => ((¬ ((ρ51.1 23) = (104 : Int32)) → ((((ρ51.1 23) = (119 : Int32)) → wpM_X3_readNumber ρ51 (1 : Int32) (fun r53 ρ52 => (mPut ρ52 25 r53 (fun ρ54 => K ρ54)))) ∧ (¬ ((ρ51.1 23) = (119 : Int32)) → ((¬ ((ρ51.1 23) = (97 : Int32)) → K ρ51) ∧ (((ρ51.1 23) = (97 : Int32)) → wpM_X3_readNumber ρ51 (1 : Int32) (fun r56 ρ55 => (mPut ρ55 25 r56 (fun ρ57 => K ρ57)))))))) ∧ (((ρ51.1 23) = (104 : Int32)) → wpM_X3_readNumber ρ51 (2 : Int32) (fun r61 ρ60 => (mPut ρ60 25 r61 (fun ρ62 => wpM_X3_readNumber ρ62 (2 : Int32) (fun r64 ρ63 => (mPut ρ63 26 r64 (fun ρ65 => K ρ65)))))))))))))))) ∧ (¬ (r8 ≤ l2) → (vp_in l2 l1.length ∧ mLet (l1.getD l2.toNatClampNeg 0) (fun r69 => wpM_X3_must ρ r69 (fun ρ70 => rec l1 (l2 + (1 : Int32)) ρ70))))))
def lpM_X3_readCommand_18 (K : yMS → Prop) : Nat → List Int32 × Int32 × yMS → Prop := lpN (fun r s => stM_X3_readCommand_18  K (fun l1 l2 ρ => r (l1, l2, ρ)) s.1 s.2.1 s.2.2)
def wpM_X3_readCommand_18 (l1 : List Int32) (l2 : Int32) (ρ : yMS) (K : yMS → Prop) : Prop := ∃ nn, lpM_X3_readCommand_18  K nn (l1, l2, ρ)
theorem olM_X3_readCommand_18 {en : yEn} {mb : Nat → Nat} {σ : yH} (hM : mOK en mb σ) {d : Nat} (hd : 13 ≤ d + 1) {K : yMS → Prop} {X : String → Addr → yH → Prop} {k n : Nat} : ∀ (nn : Nat) (ql1 : Nat) (l1 : List Int32) (hl1 : strAt en σ ql1 l1) (l2 : Int32) (ρ : yMS), lpM_X3_readCommand_18  K nn (l1, l2, ρ) → Wx en (d + 1) mX3_readCommand 18 [(0, .ref (mb 0)), (1, .ref ql1), (2, .int l2)] [] (mH en mb ρ σ) k n (mQ en mb σ (mV K)) X := by
  intro nn
  induction nn with
  | zero => intros; rename_i h; exact h.elim
  | succ nn ih =>
    intro ql1 l1 hl1 l2 ρ h
    replace h : stM_X3_readCommand_18  K (fun l1 l2 ρ => lpM_X3_readCommand_18  K nn (l1, l2, ρ)) l1 l2 ρ := h
    unfold stM_X3_readCommand_18 at h
    refine sd_iload_n (pc := 18) dX3_readCommand_18 rfl 2 rfl ?_
    refine sd_aload_n (pc := 19) dX3_readCommand_19 rfl 1 rfl ?_
    refine sd_callV (k := k) (n := n) (d0 := d) (k0 := 0) (n0 := 0) (As := []) (st := [.int l2]) (pc := 20) dX3_readCommand_20 (ci := 15) rfl (str_isC (strAt.mH hM hl1)) rfl q2448 q619 q620 q89 q621 0 (by decide +kernel) rfl (Nat.le_refl _) (by decide) (Nat.le_of_ble_eq_true rfl) (Cx.mono (cs_lengthM hM (by omega) hl1 h) (kI.to (fun r8 σ9 h => ?_)) (xo rfl))
    obtain ⟨rfl, h⟩ := h
    refine sd_icmpge (pc := 23) dX3_readCommand_23 (tgt := 41) (by decide) ⟨fun c71 => ?_, fun c71 => ?_⟩
    · have h := h.1 c71
      refine sd_aload_n (pc := 41) dX3_readCommand_41 rfl 0 rfl ?_
      refine sd_getI (pc := 42) dX3_readCommand_42 (ci := 2) rfl in_X3 (kf := 23) (by decide) q2096 (mo_gI hM rfl ?_)
      refine sd_bipush (pc := 45) dX3_readCommand_45 (v := 101) (by decide) ?_
      refine sd_icmpeq (pc := 47) dX3_readCommand_47 (tgt := 68) (by decide) ⟨fun c68 => ?_, fun c68 => ?_⟩
      · have h := h.1 c68
        refine sd_iconst (pc := 68) dX3_readCommand_68 (v := 1) (by decide) ?_
        refine sd_goto (pc := 69) dX3_readCommand_69 (tgt := 73) (by decide) ?_
        refine sd_istore_n (pc := 73) dX3_readCommand_73 rfl (by decide) (ls' := [(2, .int (1 : Int32)), (0, .ref (mb 0)), (1, .ref ql1)]) rfl ?_
        refine sd_aload_n (pc := 74) dX3_readCommand_74 rfl 1 rfl ?_
        refine sd_aload_n (pc := 75) dX3_readCommand_75 rfl 1 rfl ?_
        refine sd_iload_n (pc := 76) dX3_readCommand_76 rfl 0 rfl ?_
        have h72 : Wx en (d + 1) mX3_readCommand 85 [(2, .int (1 : Int32)), (0, .ref (mb 0)), (1, .ref ql1)] (.int (if ((1 : Int32) = 0) then (1 : Int32) else (2 : Int32)) :: .ref (mb 0) :: .ref (mb 0) :: []) (mH en mb ρ σ) k n (mQ en mb σ (mV K)) X := by
          refine sd_callV (k := k) (n := n) (d0 := d) (k0 := 0) (n0 := 0) (As := [.int (if ((1 : Int32) = 0) then (1 : Int32) else (2 : Int32))]) (st := [.ref (mb 0)]) (pc := 85) dX3_readCommand_85 (ci := 2) rfl (mo_isC hM) rfl q2539 q2541 qs76 q91 q2542 1 (by decide +kernel) rfl (Nat.le_refl _) (by decide) (Nat.le_of_ble_eq_true rfl) (Cx.mono (cm_X3_readNumber hM (by omega)  h) (mI.to (fun r11 ρ10 h => ?_)) (xo rfl))
          refine sd_putf (pc := 88) dX3_readCommand_88 (ci := 2) rfl in_X3 tyX3 tyX3_ok nmX3 (kf := 24) (by decide) q2097 rfl (ty := .int) rfl rfl rfl (mPut.to hM (by decide) rfl h (fun ρ12 h => ?_))
          refine sd_aload_n (pc := 91) dX3_readCommand_91 rfl 1 rfl ?_
          refine sd_getI (pc := 92) dX3_readCommand_92 (ci := 2) rfl in_X3 (kf := 23) (by decide) q2096 (mo_gI hM rfl ?_)
          refine sd_bipush (pc := 95) dX3_readCommand_95 (v := 104) (by decide) ?_
          refine sd_icmpne (pc := 97) dX3_readCommand_97 (tgt := 121) (by decide) ⟨fun c27 => ?_, fun c27 => ?_⟩
          · have h := h.1 c27
            refine sd_aload_n (pc := 121) dX3_readCommand_121 rfl 1 rfl ?_
            refine sd_getI (pc := 122) dX3_readCommand_122 (ci := 2) rfl in_X3 (kf := 23) (by decide) q2096 (mo_gI hM rfl ?_)
            refine sd_bipush (pc := 125) dX3_readCommand_125 (v := 119) (by decide) ?_
            refine sd_icmpeq (pc := 127) dX3_readCommand_127 (tgt := 139) (by decide) ⟨fun c20 => ?_, fun c20 => ?_⟩
            · have h := h.1 c20
              refine sd_aload_n (pc := 139) dX3_readCommand_139 rfl 1 rfl ?_
              refine sd_aload_n (pc := 140) dX3_readCommand_140 rfl 1 rfl ?_
              refine sd_iconst (pc := 141) dX3_readCommand_141 (v := 1) (by decide) ?_
              refine sd_callV (k := k) (n := n) (d0 := d) (k0 := 0) (n0 := 0) (As := [.int (1 : Int32)]) (st := [.ref (mb 0)]) (pc := 142) dX3_readCommand_142 (ci := 2) rfl (mo_isC hM) rfl q2539 q2541 qs76 q91 q2542 1 (by decide +kernel) rfl (Nat.le_refl _) (by decide) (Nat.le_of_ble_eq_true rfl) (Cx.mono (cm_X3_readNumber hM (by omega)  h) (mI.to (fun r14 ρ13 h => ?_)) (xo rfl))
              refine sd_putf (pc := 145) dX3_readCommand_145 (ci := 2) rfl in_X3 tyX3 tyX3_ok nmX3 (kf := 25) (by decide) q2098 rfl (ty := .int) rfl rfl rfl (mPut.to hM (by decide) rfl h (fun ρ15 h => ?_))
              exact sd_return (pc := 148) dX3_readCommand_148 rfl (mV.ok h)
            · have h := h.2 c20
              refine sd_aload_n (pc := 130) dX3_readCommand_130 rfl 1 rfl ?_
              refine sd_getI (pc := 131) dX3_readCommand_131 (ci := 2) rfl in_X3 (kf := 23) (by decide) q2096 (mo_gI hM rfl ?_)
              refine sd_bipush (pc := 134) dX3_readCommand_134 (v := 97) (by decide) ?_
              refine sd_icmpne (pc := 136) dX3_readCommand_136 (tgt := 148) (by decide) ⟨fun c19 => ?_, fun c19 => ?_⟩
              · have h := h.1 c19
                exact sd_return (pc := 148) dX3_readCommand_148 rfl (mV.ok h)
              · have h := h.2 c19
                refine sd_aload_n (pc := 139) dX3_readCommand_139 rfl 1 rfl ?_
                refine sd_aload_n (pc := 140) dX3_readCommand_140 rfl 1 rfl ?_
                refine sd_iconst (pc := 141) dX3_readCommand_141 (v := 1) (by decide) ?_
                refine sd_callV (k := k) (n := n) (d0 := d) (k0 := 0) (n0 := 0) (As := [.int (1 : Int32)]) (st := [.ref (mb 0)]) (pc := 142) dX3_readCommand_142 (ci := 2) rfl (mo_isC hM) rfl q2539 q2541 qs76 q91 q2542 1 (by decide +kernel) rfl (Nat.le_refl _) (by decide) (Nat.le_of_ble_eq_true rfl) (Cx.mono (cm_X3_readNumber hM (by omega)  h) (mI.to (fun r17 ρ16 h => ?_)) (xo rfl))
                refine sd_putf (pc := 145) dX3_readCommand_145 (ci := 2) rfl in_X3 tyX3 tyX3_ok nmX3 (kf := 25) (by decide) q2098 rfl (ty := .int) rfl rfl rfl (mPut.to hM (by decide) rfl h (fun ρ18 h => ?_))
                exact sd_return (pc := 148) dX3_readCommand_148 rfl (mV.ok h)
          · have h := h.2 c27
            refine sd_aload_n (pc := 100) dX3_readCommand_100 rfl 1 rfl ?_
            refine sd_aload_n (pc := 101) dX3_readCommand_101 rfl 1 rfl ?_
            refine sd_iconst (pc := 102) dX3_readCommand_102 (v := 2) (by decide) ?_
            refine sd_callV (k := k) (n := n) (d0 := d) (k0 := 0) (n0 := 0) (As := [.int (2 : Int32)]) (st := [.ref (mb 0)]) (pc := 103) dX3_readCommand_103 (ci := 2) rfl (mo_isC hM) rfl q2539 q2541 qs76 q91 q2542 1 (by decide +kernel) rfl (Nat.le_refl _) (by decide) (Nat.le_of_ble_eq_true rfl) (Cx.mono (cm_X3_readNumber hM (by omega)  h) (mI.to (fun r22 ρ21 h => ?_)) (xo rfl))
            refine sd_putf (pc := 106) dX3_readCommand_106 (ci := 2) rfl in_X3 tyX3 tyX3_ok nmX3 (kf := 25) (by decide) q2098 rfl (ty := .int) rfl rfl rfl (mPut.to hM (by decide) rfl h (fun ρ23 h => ?_))
            refine sd_aload_n (pc := 109) dX3_readCommand_109 rfl 1 rfl ?_
            refine sd_aload_n (pc := 110) dX3_readCommand_110 rfl 1 rfl ?_
            refine sd_iconst (pc := 111) dX3_readCommand_111 (v := 2) (by decide) ?_
            refine sd_callV (k := k) (n := n) (d0 := d) (k0 := 0) (n0 := 0) (As := [.int (2 : Int32)]) (st := [.ref (mb 0)]) (pc := 112) dX3_readCommand_112 (ci := 2) rfl (mo_isC hM) rfl q2539 q2541 qs76 q91 q2542 1 (by decide +kernel) rfl (Nat.le_refl _) (by decide) (Nat.le_of_ble_eq_true rfl) (Cx.mono (cm_X3_readNumber hM (by omega)  h) (mI.to (fun r25 ρ24 h => ?_)) (xo rfl))
            refine sd_putf (pc := 115) dX3_readCommand_115 (ci := 2) rfl in_X3 tyX3 tyX3_ok nmX3 (kf := 26) (by decide) q2099 rfl (ty := .int) rfl rfl rfl (mPut.to hM (by decide) rfl h (fun ρ26 h => ?_))
            refine sd_goto (pc := 118) dX3_readCommand_118 (tgt := 148) (by decide) ?_
            exact sd_return (pc := 148) dX3_readCommand_148 rfl (mV.ok h)
        have e73 := sd_iteI h72
        refine sd_ifeq (pc := 77) dX3_readCommand_77 (tgt := 84) (by decide) ⟨fun c9 => ?_, fun c9 => ?_⟩
        · refine sd_iconst (pc := 84) dX3_readCommand_84 (v := 1) (by decide) ?_
          exact (e73.1 c9)
        · refine sd_iconst (pc := 80) dX3_readCommand_80 (v := 2) (by decide) ?_
          refine sd_goto (pc := 81) dX3_readCommand_81 (tgt := 85) (by decide) ?_
          exact (e73.2 c9)
      · have h := h.2 c68
        refine sd_aload_n (pc := 50) dX3_readCommand_50 rfl 0 rfl ?_
        refine sd_getI (pc := 51) dX3_readCommand_51 (ci := 2) rfl in_X3 (kf := 23) (by decide) q2096 (mo_gI hM rfl ?_)
        refine sd_bipush (pc := 54) dX3_readCommand_54 (v := 108) (by decide) ?_
        refine sd_icmpeq (pc := 56) dX3_readCommand_56 (tgt := 68) (by decide) ⟨fun c67 => ?_, fun c67 => ?_⟩
        · have h := h.1 c67
          refine sd_iconst (pc := 68) dX3_readCommand_68 (v := 1) (by decide) ?_
          refine sd_goto (pc := 69) dX3_readCommand_69 (tgt := 73) (by decide) ?_
          refine sd_istore_n (pc := 73) dX3_readCommand_73 rfl (by decide) (ls' := [(2, .int (1 : Int32)), (0, .ref (mb 0)), (1, .ref ql1)]) rfl ?_
          refine sd_aload_n (pc := 74) dX3_readCommand_74 rfl 1 rfl ?_
          refine sd_aload_n (pc := 75) dX3_readCommand_75 rfl 1 rfl ?_
          refine sd_iload_n (pc := 76) dX3_readCommand_76 rfl 0 rfl ?_
          have h74 : Wx en (d + 1) mX3_readCommand 85 [(2, .int (1 : Int32)), (0, .ref (mb 0)), (1, .ref ql1)] (.int (if ((1 : Int32) = 0) then (1 : Int32) else (2 : Int32)) :: .ref (mb 0) :: .ref (mb 0) :: []) (mH en mb ρ σ) k n (mQ en mb σ (mV K)) X := by
            refine sd_callV (k := k) (n := n) (d0 := d) (k0 := 0) (n0 := 0) (As := [.int (if ((1 : Int32) = 0) then (1 : Int32) else (2 : Int32))]) (st := [.ref (mb 0)]) (pc := 85) dX3_readCommand_85 (ci := 2) rfl (mo_isC hM) rfl q2539 q2541 qs76 q91 q2542 1 (by decide +kernel) rfl (Nat.le_refl _) (by decide) (Nat.le_of_ble_eq_true rfl) (Cx.mono (cm_X3_readNumber hM (by omega)  h) (mI.to (fun r30 ρ29 h => ?_)) (xo rfl))
            refine sd_putf (pc := 88) dX3_readCommand_88 (ci := 2) rfl in_X3 tyX3 tyX3_ok nmX3 (kf := 24) (by decide) q2097 rfl (ty := .int) rfl rfl rfl (mPut.to hM (by decide) rfl h (fun ρ31 h => ?_))
            refine sd_aload_n (pc := 91) dX3_readCommand_91 rfl 1 rfl ?_
            refine sd_getI (pc := 92) dX3_readCommand_92 (ci := 2) rfl in_X3 (kf := 23) (by decide) q2096 (mo_gI hM rfl ?_)
            refine sd_bipush (pc := 95) dX3_readCommand_95 (v := 104) (by decide) ?_
            refine sd_icmpne (pc := 97) dX3_readCommand_97 (tgt := 121) (by decide) ⟨fun c46 => ?_, fun c46 => ?_⟩
            · have h := h.1 c46
              refine sd_aload_n (pc := 121) dX3_readCommand_121 rfl 1 rfl ?_
              refine sd_getI (pc := 122) dX3_readCommand_122 (ci := 2) rfl in_X3 (kf := 23) (by decide) q2096 (mo_gI hM rfl ?_)
              refine sd_bipush (pc := 125) dX3_readCommand_125 (v := 119) (by decide) ?_
              refine sd_icmpeq (pc := 127) dX3_readCommand_127 (tgt := 139) (by decide) ⟨fun c39 => ?_, fun c39 => ?_⟩
              · have h := h.1 c39
                refine sd_aload_n (pc := 139) dX3_readCommand_139 rfl 1 rfl ?_
                refine sd_aload_n (pc := 140) dX3_readCommand_140 rfl 1 rfl ?_
                refine sd_iconst (pc := 141) dX3_readCommand_141 (v := 1) (by decide) ?_
                refine sd_callV (k := k) (n := n) (d0 := d) (k0 := 0) (n0 := 0) (As := [.int (1 : Int32)]) (st := [.ref (mb 0)]) (pc := 142) dX3_readCommand_142 (ci := 2) rfl (mo_isC hM) rfl q2539 q2541 qs76 q91 q2542 1 (by decide +kernel) rfl (Nat.le_refl _) (by decide) (Nat.le_of_ble_eq_true rfl) (Cx.mono (cm_X3_readNumber hM (by omega)  h) (mI.to (fun r33 ρ32 h => ?_)) (xo rfl))
                refine sd_putf (pc := 145) dX3_readCommand_145 (ci := 2) rfl in_X3 tyX3 tyX3_ok nmX3 (kf := 25) (by decide) q2098 rfl (ty := .int) rfl rfl rfl (mPut.to hM (by decide) rfl h (fun ρ34 h => ?_))
                exact sd_return (pc := 148) dX3_readCommand_148 rfl (mV.ok h)
              · have h := h.2 c39
                refine sd_aload_n (pc := 130) dX3_readCommand_130 rfl 1 rfl ?_
                refine sd_getI (pc := 131) dX3_readCommand_131 (ci := 2) rfl in_X3 (kf := 23) (by decide) q2096 (mo_gI hM rfl ?_)
                refine sd_bipush (pc := 134) dX3_readCommand_134 (v := 97) (by decide) ?_
                refine sd_icmpne (pc := 136) dX3_readCommand_136 (tgt := 148) (by decide) ⟨fun c38 => ?_, fun c38 => ?_⟩
                · have h := h.1 c38
                  exact sd_return (pc := 148) dX3_readCommand_148 rfl (mV.ok h)
                · have h := h.2 c38
                  refine sd_aload_n (pc := 139) dX3_readCommand_139 rfl 1 rfl ?_
                  refine sd_aload_n (pc := 140) dX3_readCommand_140 rfl 1 rfl ?_
                  refine sd_iconst (pc := 141) dX3_readCommand_141 (v := 1) (by decide) ?_
                  refine sd_callV (k := k) (n := n) (d0 := d) (k0 := 0) (n0 := 0) (As := [.int (1 : Int32)]) (st := [.ref (mb 0)]) (pc := 142) dX3_readCommand_142 (ci := 2) rfl (mo_isC hM) rfl q2539 q2541 qs76 q91 q2542 1 (by decide +kernel) rfl (Nat.le_refl _) (by decide) (Nat.le_of_ble_eq_true rfl) (Cx.mono (cm_X3_readNumber hM (by omega)  h) (mI.to (fun r36 ρ35 h => ?_)) (xo rfl))
                  refine sd_putf (pc := 145) dX3_readCommand_145 (ci := 2) rfl in_X3 tyX3 tyX3_ok nmX3 (kf := 25) (by decide) q2098 rfl (ty := .int) rfl rfl rfl (mPut.to hM (by decide) rfl h (fun ρ37 h => ?_))
                  exact sd_return (pc := 148) dX3_readCommand_148 rfl (mV.ok h)
            · have h := h.2 c46
              refine sd_aload_n (pc := 100) dX3_readCommand_100 rfl 1 rfl ?_
              refine sd_aload_n (pc := 101) dX3_readCommand_101 rfl 1 rfl ?_
              refine sd_iconst (pc := 102) dX3_readCommand_102 (v := 2) (by decide) ?_
              refine sd_callV (k := k) (n := n) (d0 := d) (k0 := 0) (n0 := 0) (As := [.int (2 : Int32)]) (st := [.ref (mb 0)]) (pc := 103) dX3_readCommand_103 (ci := 2) rfl (mo_isC hM) rfl q2539 q2541 qs76 q91 q2542 1 (by decide +kernel) rfl (Nat.le_refl _) (by decide) (Nat.le_of_ble_eq_true rfl) (Cx.mono (cm_X3_readNumber hM (by omega)  h) (mI.to (fun r41 ρ40 h => ?_)) (xo rfl))
              refine sd_putf (pc := 106) dX3_readCommand_106 (ci := 2) rfl in_X3 tyX3 tyX3_ok nmX3 (kf := 25) (by decide) q2098 rfl (ty := .int) rfl rfl rfl (mPut.to hM (by decide) rfl h (fun ρ42 h => ?_))
              refine sd_aload_n (pc := 109) dX3_readCommand_109 rfl 1 rfl ?_
              refine sd_aload_n (pc := 110) dX3_readCommand_110 rfl 1 rfl ?_
              refine sd_iconst (pc := 111) dX3_readCommand_111 (v := 2) (by decide) ?_
              refine sd_callV (k := k) (n := n) (d0 := d) (k0 := 0) (n0 := 0) (As := [.int (2 : Int32)]) (st := [.ref (mb 0)]) (pc := 112) dX3_readCommand_112 (ci := 2) rfl (mo_isC hM) rfl q2539 q2541 qs76 q91 q2542 1 (by decide +kernel) rfl (Nat.le_refl _) (by decide) (Nat.le_of_ble_eq_true rfl) (Cx.mono (cm_X3_readNumber hM (by omega)  h) (mI.to (fun r44 ρ43 h => ?_)) (xo rfl))
              refine sd_putf (pc := 115) dX3_readCommand_115 (ci := 2) rfl in_X3 tyX3 tyX3_ok nmX3 (kf := 26) (by decide) q2099 rfl (ty := .int) rfl rfl rfl (mPut.to hM (by decide) rfl h (fun ρ45 h => ?_))
              refine sd_goto (pc := 118) dX3_readCommand_118 (tgt := 148) (by decide) ?_
              exact sd_return (pc := 148) dX3_readCommand_148 rfl (mV.ok h)
          have e75 := sd_iteI h74
          refine sd_ifeq (pc := 77) dX3_readCommand_77 (tgt := 84) (by decide) ⟨fun c28 => ?_, fun c28 => ?_⟩
          · refine sd_iconst (pc := 84) dX3_readCommand_84 (v := 1) (by decide) ?_
            exact (e75.1 c28)
          · refine sd_iconst (pc := 80) dX3_readCommand_80 (v := 2) (by decide) ?_
            refine sd_goto (pc := 81) dX3_readCommand_81 (tgt := 85) (by decide) ?_
            exact (e75.2 c28)
        · have h := h.2 c67
          refine sd_aload_n (pc := 59) dX3_readCommand_59 rfl 0 rfl ?_
          refine sd_getI (pc := 60) dX3_readCommand_60 (ci := 2) rfl in_X3 (kf := 23) (by decide) q2096 (mo_gI hM rfl ?_)
          refine sd_bipush (pc := 63) dX3_readCommand_63 (v := 100) (by decide) ?_
          have h76 : Wx en (d + 1) mX3_readCommand 73 [(0, .ref (mb 0)), (1, .ref ql1), (2, .int l2)] (.int (if ((ρ.1 23) = (100 : Int32)) then (1 : Int32) else (0 : Int32)) :: []) (mH en mb ρ σ) k n (mQ en mb σ (mV K)) X := by
            refine sd_istore_n (pc := 73) dX3_readCommand_73 rfl (by decide) (ls' := [(2, .int (if ((ρ.1 23) = (100 : Int32)) then (1 : Int32) else (0 : Int32))), (0, .ref (mb 0)), (1, .ref ql1)]) rfl ?_
            refine sd_aload_n (pc := 74) dX3_readCommand_74 rfl 1 rfl ?_
            refine sd_aload_n (pc := 75) dX3_readCommand_75 rfl 1 rfl ?_
            refine sd_iload_n (pc := 76) dX3_readCommand_76 rfl 0 rfl ?_
            have h77 : Wx en (d + 1) mX3_readCommand 85 [(2, .int (if ((ρ.1 23) = (100 : Int32)) then (1 : Int32) else (0 : Int32))), (0, .ref (mb 0)), (1, .ref ql1)] (.int (if ((if ((ρ.1 23) = (100 : Int32)) then (1 : Int32) else (0 : Int32)) = 0) then (1 : Int32) else (2 : Int32)) :: .ref (mb 0) :: .ref (mb 0) :: []) (mH en mb ρ σ) k n (mQ en mb σ (mV K)) X := by
              refine sd_callV (k := k) (n := n) (d0 := d) (k0 := 0) (n0 := 0) (As := [.int (if ((if ((ρ.1 23) = (100 : Int32)) then (1 : Int32) else (0 : Int32)) = 0) then (1 : Int32) else (2 : Int32))]) (st := [.ref (mb 0)]) (pc := 85) dX3_readCommand_85 (ci := 2) rfl (mo_isC hM) rfl q2539 q2541 qs76 q91 q2542 1 (by decide +kernel) rfl (Nat.le_refl _) (by decide) (Nat.le_of_ble_eq_true rfl) (Cx.mono (cm_X3_readNumber hM (by omega)  h) (mI.to (fun r50 ρ49 h => ?_)) (xo rfl))
              refine sd_putf (pc := 88) dX3_readCommand_88 (ci := 2) rfl in_X3 tyX3 tyX3_ok nmX3 (kf := 24) (by decide) q2097 rfl (ty := .int) rfl rfl rfl (mPut.to hM (by decide) rfl h (fun ρ51 h => ?_))
              refine sd_aload_n (pc := 91) dX3_readCommand_91 rfl 1 rfl ?_
              refine sd_getI (pc := 92) dX3_readCommand_92 (ci := 2) rfl in_X3 (kf := 23) (by decide) q2096 (mo_gI hM rfl ?_)
              refine sd_bipush (pc := 95) dX3_readCommand_95 (v := 104) (by decide) ?_
              refine sd_icmpne (pc := 97) dX3_readCommand_97 (tgt := 121) (by decide) ⟨fun c66 => ?_, fun c66 => ?_⟩
              · have h := h.1 c66
                refine sd_aload_n (pc := 121) dX3_readCommand_121 rfl 1 rfl ?_
                refine sd_getI (pc := 122) dX3_readCommand_122 (ci := 2) rfl in_X3 (kf := 23) (by decide) q2096 (mo_gI hM rfl ?_)
                refine sd_bipush (pc := 125) dX3_readCommand_125 (v := 119) (by decide) ?_
                refine sd_icmpeq (pc := 127) dX3_readCommand_127 (tgt := 139) (by decide) ⟨fun c59 => ?_, fun c59 => ?_⟩
                · have h := h.1 c59
                  refine sd_aload_n (pc := 139) dX3_readCommand_139 rfl 1 rfl ?_
                  refine sd_aload_n (pc := 140) dX3_readCommand_140 rfl 1 rfl ?_
                  refine sd_iconst (pc := 141) dX3_readCommand_141 (v := 1) (by decide) ?_
                  refine sd_callV (k := k) (n := n) (d0 := d) (k0 := 0) (n0 := 0) (As := [.int (1 : Int32)]) (st := [.ref (mb 0)]) (pc := 142) dX3_readCommand_142 (ci := 2) rfl (mo_isC hM) rfl q2539 q2541 qs76 q91 q2542 1 (by decide +kernel) rfl (Nat.le_refl _) (by decide) (Nat.le_of_ble_eq_true rfl) (Cx.mono (cm_X3_readNumber hM (by omega)  h) (mI.to (fun r53 ρ52 h => ?_)) (xo rfl))
                  refine sd_putf (pc := 145) dX3_readCommand_145 (ci := 2) rfl in_X3 tyX3 tyX3_ok nmX3 (kf := 25) (by decide) q2098 rfl (ty := .int) rfl rfl rfl (mPut.to hM (by decide) rfl h (fun ρ54 h => ?_))
                  exact sd_return (pc := 148) dX3_readCommand_148 rfl (mV.ok h)
                · have h := h.2 c59
                  refine sd_aload_n (pc := 130) dX3_readCommand_130 rfl 1 rfl ?_
                  refine sd_getI (pc := 131) dX3_readCommand_131 (ci := 2) rfl in_X3 (kf := 23) (by decide) q2096 (mo_gI hM rfl ?_)
                  refine sd_bipush (pc := 134) dX3_readCommand_134 (v := 97) (by decide) ?_
                  refine sd_icmpne (pc := 136) dX3_readCommand_136 (tgt := 148) (by decide) ⟨fun c58 => ?_, fun c58 => ?_⟩
                  · have h := h.1 c58
                    exact sd_return (pc := 148) dX3_readCommand_148 rfl (mV.ok h)
                  · have h := h.2 c58
                    refine sd_aload_n (pc := 139) dX3_readCommand_139 rfl 1 rfl ?_
                    refine sd_aload_n (pc := 140) dX3_readCommand_140 rfl 1 rfl ?_
                    refine sd_iconst (pc := 141) dX3_readCommand_141 (v := 1) (by decide) ?_
                    refine sd_callV (k := k) (n := n) (d0 := d) (k0 := 0) (n0 := 0) (As := [.int (1 : Int32)]) (st := [.ref (mb 0)]) (pc := 142) dX3_readCommand_142 (ci := 2) rfl (mo_isC hM) rfl q2539 q2541 qs76 q91 q2542 1 (by decide +kernel) rfl (Nat.le_refl _) (by decide) (Nat.le_of_ble_eq_true rfl) (Cx.mono (cm_X3_readNumber hM (by omega)  h) (mI.to (fun r56 ρ55 h => ?_)) (xo rfl))
                    refine sd_putf (pc := 145) dX3_readCommand_145 (ci := 2) rfl in_X3 tyX3 tyX3_ok nmX3 (kf := 25) (by decide) q2098 rfl (ty := .int) rfl rfl rfl (mPut.to hM (by decide) rfl h (fun ρ57 h => ?_))
                    exact sd_return (pc := 148) dX3_readCommand_148 rfl (mV.ok h)
              · have h := h.2 c66
                refine sd_aload_n (pc := 100) dX3_readCommand_100 rfl 1 rfl ?_
                refine sd_aload_n (pc := 101) dX3_readCommand_101 rfl 1 rfl ?_
                refine sd_iconst (pc := 102) dX3_readCommand_102 (v := 2) (by decide) ?_
                refine sd_callV (k := k) (n := n) (d0 := d) (k0 := 0) (n0 := 0) (As := [.int (2 : Int32)]) (st := [.ref (mb 0)]) (pc := 103) dX3_readCommand_103 (ci := 2) rfl (mo_isC hM) rfl q2539 q2541 qs76 q91 q2542 1 (by decide +kernel) rfl (Nat.le_refl _) (by decide) (Nat.le_of_ble_eq_true rfl) (Cx.mono (cm_X3_readNumber hM (by omega)  h) (mI.to (fun r61 ρ60 h => ?_)) (xo rfl))
                refine sd_putf (pc := 106) dX3_readCommand_106 (ci := 2) rfl in_X3 tyX3 tyX3_ok nmX3 (kf := 25) (by decide) q2098 rfl (ty := .int) rfl rfl rfl (mPut.to hM (by decide) rfl h (fun ρ62 h => ?_))
                refine sd_aload_n (pc := 109) dX3_readCommand_109 rfl 1 rfl ?_
                refine sd_aload_n (pc := 110) dX3_readCommand_110 rfl 1 rfl ?_
                refine sd_iconst (pc := 111) dX3_readCommand_111 (v := 2) (by decide) ?_
                refine sd_callV (k := k) (n := n) (d0 := d) (k0 := 0) (n0 := 0) (As := [.int (2 : Int32)]) (st := [.ref (mb 0)]) (pc := 112) dX3_readCommand_112 (ci := 2) rfl (mo_isC hM) rfl q2539 q2541 qs76 q91 q2542 1 (by decide +kernel) rfl (Nat.le_refl _) (by decide) (Nat.le_of_ble_eq_true rfl) (Cx.mono (cm_X3_readNumber hM (by omega)  h) (mI.to (fun r64 ρ63 h => ?_)) (xo rfl))
                refine sd_putf (pc := 115) dX3_readCommand_115 (ci := 2) rfl in_X3 tyX3 tyX3_ok nmX3 (kf := 26) (by decide) q2099 rfl (ty := .int) rfl rfl rfl (mPut.to hM (by decide) rfl h (fun ρ65 h => ?_))
                refine sd_goto (pc := 118) dX3_readCommand_118 (tgt := 148) (by decide) ?_
                exact sd_return (pc := 148) dX3_readCommand_148 rfl (mV.ok h)
            have e78 := sd_iteI h77
            refine sd_ifeq (pc := 77) dX3_readCommand_77 (tgt := 84) (by decide) ⟨fun c48 => ?_, fun c48 => ?_⟩
            · refine sd_iconst (pc := 84) dX3_readCommand_84 (v := 1) (by decide) ?_
              exact (e78.1 c48)
            · refine sd_iconst (pc := 80) dX3_readCommand_80 (v := 2) (by decide) ?_
              refine sd_goto (pc := 81) dX3_readCommand_81 (tgt := 85) (by decide) ?_
              exact (e78.2 c48)
          have e79 := sd_iteIN h76
          refine sd_icmpne (pc := 65) dX3_readCommand_65 (tgt := 72) (by decide) ⟨fun c47 => ?_, fun c47 => ?_⟩
          · refine sd_iconst (pc := 72) dX3_readCommand_72 (v := 0) (by decide) ?_
            exact (e79.1 c47)
          · refine sd_iconst (pc := 68) dX3_readCommand_68 (v := 1) (by decide) ?_
            refine sd_goto (pc := 69) dX3_readCommand_69 (tgt := 73) (by decide) ?_
            exact (e79.2 c47)
    · have h := h.2 c71
      refine sd_aload_n (pc := 26) dX3_readCommand_26 rfl 0 rfl ?_
      refine sd_aload_n (pc := 27) dX3_readCommand_27 rfl 1 rfl ?_
      refine sd_iload_n (pc := 28) dX3_readCommand_28 rfl 2 rfl ?_
      refine sd_callV (k := k) (n := n) (d0 := d) (k0 := 0) (n0 := 0) (As := [.int l2]) (st := [.ref (mb 0)]) (pc := 29) dX3_readCommand_29 (ci := 15) rfl (str_isC (strAt.mH hM hl1)) rfl q2449 q1622 q2594 q89 q1624 1 (by decide +kernel) rfl (Nat.le_refl _) (by decide) (Nat.le_of_ble_eq_true rfl) (Cx.mono (cs_charAtM hM (by omega) hl1 h) (kI.to (fun r69 σ9 h => ?_)) (xo rfl))
      obtain ⟨rfl, h⟩ := h
      refine sd_callV (k := k) (n := n) (d0 := d) (k0 := 0) (n0 := 0) (As := [.int r69]) (st := []) (pc := 32) dX3_readCommand_32 (ci := 2) rfl (mo_isC hM) rfl q2531 q2533 qs74 q91 q2534 1 (by decide +kernel) rfl (Nat.le_refl _) (by decide) (Nat.le_of_ble_eq_true rfl) (Cx.mono (cm_X3_must hM (by omega)  h) (mV.to (fun ρ70 h => ?_)) (xo rfl))
      refine sd_iinc (pc := 35) dX3_readCommand_35 2 rfl (v := (l2 + (1 : Int32))) rfl (by decide) (ls' := [(2, .int (l2 + (1 : Int32))), (0, .ref (mb 0)), (1, .ref ql1)]) rfl ?_
      refine sd_goto (pc := 38) dX3_readCommand_38 (tgt := 18) (by decide) ?_
      exact sd_loc [1, 2, 0] rfl (ih _ _ hl1 _ _ h)
theorem okM_X3_readCommand_18 {en : yEn} {mb : Nat → Nat} {σ : yH} (hM : mOK en mb σ) {d : Nat} (hd : 13 ≤ d + 1) {K : yMS → Prop} {X : String → Addr → yH → Prop} {k n : Nat} (ql1 : Nat) (l1 : List Int32) (hl1 : strAt en σ ql1 l1) (l2 : Int32) (ρ : yMS) (h : wpM_X3_readCommand_18  l1 l2 ρ K) : Wx en (d + 1) mX3_readCommand 18 [(0, .ref (mb 0)), (1, .ref ql1), (2, .int l2)] [] (mH en mb ρ σ) k n (mQ en mb σ (mV K)) X := by
  obtain ⟨nn, h⟩ := h
  exact olM_X3_readCommand_18 hM hd  nn _ _ hl1 _ _ h
def wpM_X3_readCommand (ρ : yMS)  (K : yMS → Prop) : Prop :=
  wpM_X3_kindHere ρ  (fun r2 ρ1 => (nfit .char r2 ∧ mPut ρ1 23 r2 (fun ρ3 => wpM_X3_wordOf ρ3 (ρ3.1 23) (fun t5 ρ4 => wpM_X3_readCommand_18  t5 (0 : Int32) ρ4 K))))
theorem okM_X3_readCommand {en : yEn} {mb : Nat → Nat} {σ : yH} (hM : mOK en mb σ) {d : Nat} (hd : 13 ≤ d + 1) {ρ : yMS}  {K : yMS → Prop} {X : String → Addr → yH → Prop} {k n : Nat}  (h : wpM_X3_readCommand ρ  K) : Wx en (d + 1) mX3_readCommand 0 [(0, .ref (mb 0))] [] (mH en mb ρ σ) k n (mQ en mb σ (mV K)) X := by
  unfold wpM_X3_readCommand at h
  refine sd_aload_n (pc := 0) dX3_readCommand_0 rfl 0 rfl ?_
  refine sd_aload_n (pc := 1) dX3_readCommand_1 rfl 0 rfl ?_
  refine sd_callV (k := k) (n := n) (d0 := d) (k0 := 0) (n0 := 0) (As := []) (st := [.ref (mb 0)]) (pc := 2) dX3_readCommand_2 (ci := 2) rfl (mo_isC hM) rfl q2513 q2515 qs72 q91 q2516 0 (by decide +kernel) rfl (Nat.le_refl _) (by decide) (Nat.le_of_ble_eq_true rfl) (Cx.mono (cm_X3_kindHere hM (by omega)  h) (mI.to (fun r2 ρ1 h => ?_)) (xo rfl))
  refine sd_putf (pc := 5) dX3_readCommand_5 (ci := 2) rfl in_X3 tyX3 tyX3_ok nmX3 (kf := 23) (by decide) q2096 rfl (ty := .char) rfl h.1.1 h.1.2 (mPut.to hM (by decide) rfl h.2 (fun ρ3 h => ?_))
  refine sd_aload_n (pc := 8) dX3_readCommand_8 rfl 0 rfl ?_
  refine sd_getI (pc := 9) dX3_readCommand_9 (ci := 2) rfl in_X3 (kf := 23) (by decide) q2096 (mo_gI hM rfl ?_)
  refine sd_callS (k := k) (n := n) (d0 := d) (k0 := 0) (n0 := 0) (As := [.int (ρ3.1 23)]) (st := []) (pc := 12) dX3_readCommand_12 q2521 q2522 q91 q2523 1 (by decide +kernel) rfl (Nat.le_refl _) (by decide) (Nat.le_of_ble_eq_true rfl) (Cx.mono (cm_X3_wordOf hM (by omega)  h) (mSt.to (fun q6 t5 hq7 ρ4 h => ?_)) (xo rfl))
  refine sd_astore_n (pc := 15) dX3_readCommand_15 rfl (by decide) (ls' := [(1, .ref q6), (0, .ref (mb 0))]) rfl ?_
  refine sd_iconst (pc := 16) dX3_readCommand_16 (v := 0) (by decide) ?_
  refine sd_istore_n (pc := 17) dX3_readCommand_17 rfl (by decide) (ls' := [(2, .int (0 : Int32)), (1, .ref q6), (0, .ref (mb 0))]) rfl ?_
  exact sd_loc [2, 1, 0] rfl (okM_X3_readCommand_18 hM (by omega)  _ _ hq7 _ _ h)
theorem cm_X3_readCommand {en : yEn} {mb : Nat → Nat} {σ : yH} (hM : mOK en mb σ) {d : Nat} (hd : 13 ≤ d) {ρ : yMS}  {K : yMS → Prop} {X : String → Addr → yH → Prop}  (h : wpM_X3_readCommand ρ  K) : Cx en d 0 0 mX3_readCommand [.ref (mb 0)] (mH en mb ρ σ) (mQ en mb σ (mV K)) X := by
  obtain ⟨d, rfl⟩ : ∃ e, d = e + 1 := ⟨d - 1, by omega⟩
  exact Cx.body (by decide +kernel) rfl (Nat.le_of_ble_eq_true rfl) (okM_X3_readCommand hM (by omega)  h)
/-! countCommands()I -/
def stM_X3_countCommands_16 (K : Int32 → yMS → Prop) (rec : Int32 → yMS → Prop) (l1 : Int32) (ρ : yMS) : Prop :=
  ((¬ ((ρ.1 22) = 0) → K l1 ρ) ∧ (((ρ.1 22) = 0) → ((((ρ.1 19) ≤ (ρ.1 20)) → K l1 ρ) ∧ (¬ ((ρ.1 19) ≤ (ρ.1 20)) → wpM_X3_must ρ (59 : Int32) (fun ρ4 => wpM_X3_readCommand ρ4  (fun ρ5 => rec (l1 + (1 : Int32)) ρ5))))))
def lpM_X3_countCommands_16 (K : Int32 → yMS → Prop) : Nat → Int32 × yMS → Prop := lpN (fun r s => stM_X3_countCommands_16  K (fun l1 ρ => r (l1, ρ)) s.1 s.2)
def wpM_X3_countCommands_16 (l1 : Int32) (ρ : yMS) (K : Int32 → yMS → Prop) : Prop := ∃ nn, lpM_X3_countCommands_16  K nn (l1, ρ)
theorem olM_X3_countCommands_16 {en : yEn} {mb : Nat → Nat} {σ : yH} (hM : mOK en mb σ) {d : Nat} (hd : 14 ≤ d + 1) {K : Int32 → yMS → Prop} {X : String → Addr → yH → Prop} {k n : Nat} : ∀ (nn : Nat) (l1 : Int32) (ρ : yMS), lpM_X3_countCommands_16  K nn (l1, ρ) → Wx en (d + 1) mX3_countCommands 16 [(0, .ref (mb 0)), (1, .int l1)] [] (mH en mb ρ σ) k n (mQ en mb σ (mI K)) X := by
  intro nn
  induction nn with
  | zero => intros; rename_i h; exact h.elim
  | succ nn ih =>
    intro l1 ρ h
    replace h : stM_X3_countCommands_16  K (fun l1 ρ => lpM_X3_countCommands_16  K nn (l1, ρ)) l1 ρ := h
    unfold stM_X3_countCommands_16 at h
    refine sd_aload_n (pc := 16) dX3_countCommands_16 rfl 0 rfl ?_
    refine sd_getI (pc := 17) dX3_countCommands_17 (ci := 2) rfl in_X3 (kf := 22) (by decide) q2095 (mo_gI hM rfl ?_)
    refine sd_ifne (pc := 20) dX3_countCommands_20 (tgt := 50) (by decide) ⟨fun c7 => ?_, fun c7 => ?_⟩
    · have h := h.1 c7
      refine sd_iload_n (pc := 50) dX3_countCommands_50 rfl 1 rfl ?_
      exact sd_ireturn (pc := 51) dX3_countCommands_51 (ty0 := .int) rfl rfl (mI.ok h)
    · have h := h.2 c7
      refine sd_aload_n (pc := 23) dX3_countCommands_23 rfl 0 rfl ?_
      refine sd_getI (pc := 24) dX3_countCommands_24 (ci := 2) rfl in_X3 (kf := 20) (by decide) q2093 (mo_gI hM rfl ?_)
      refine sd_aload_n (pc := 27) dX3_countCommands_27 rfl 0 rfl ?_
      refine sd_getI (pc := 28) dX3_countCommands_28 (ci := 2) rfl in_X3 (kf := 19) (by decide) q2092 (mo_gI hM rfl ?_)
      refine sd_icmpge (pc := 31) dX3_countCommands_31 (tgt := 50) (by decide) ⟨fun c6 => ?_, fun c6 => ?_⟩
      · have h := h.1 c6
        refine sd_iload_n (pc := 50) dX3_countCommands_50 rfl 1 rfl ?_
        exact sd_ireturn (pc := 51) dX3_countCommands_51 (ty0 := .int) rfl rfl (mI.ok h)
      · have h := h.2 c6
        refine sd_aload_n (pc := 34) dX3_countCommands_34 rfl 0 rfl ?_
        refine sd_bipush (pc := 35) dX3_countCommands_35 (v := 59) (by decide) ?_
        refine sd_callV (k := k) (n := n) (d0 := d) (k0 := 0) (n0 := 0) (As := [.int (59 : Int32)]) (st := []) (pc := 37) dX3_countCommands_37 (ci := 2) rfl (mo_isC hM) rfl q2531 q2533 qs74 q91 q2534 1 (by decide +kernel) rfl (Nat.le_refl _) (by decide) (Nat.le_of_ble_eq_true rfl) (Cx.mono (cm_X3_must hM (by omega)  h) (mV.to (fun ρ4 h => ?_)) (xo rfl))
        refine sd_aload_n (pc := 40) dX3_countCommands_40 rfl 0 rfl ?_
        refine sd_callV (k := k) (n := n) (d0 := d) (k0 := 0) (n0 := 0) (As := []) (st := []) (pc := 41) dX3_countCommands_41 (ci := 2) rfl (mo_isC hM) rfl q2509 q2511 qs71 q91 q2512 0 (by decide +kernel) rfl (Nat.le_refl _) (by decide) (Nat.le_of_ble_eq_true rfl) (Cx.mono (cm_X3_readCommand hM (by omega)  h) (mV.to (fun ρ5 h => ?_)) (xo rfl))
        refine sd_iinc (pc := 44) dX3_countCommands_44 1 rfl (v := (l1 + (1 : Int32))) rfl (by decide) (ls' := [(1, .int (l1 + (1 : Int32))), (0, .ref (mb 0))]) rfl ?_
        refine sd_goto (pc := 47) dX3_countCommands_47 (tgt := 16) (by decide) ?_
        exact sd_loc [1, 0] rfl (ih _ _ h)
theorem okM_X3_countCommands_16 {en : yEn} {mb : Nat → Nat} {σ : yH} (hM : mOK en mb σ) {d : Nat} (hd : 14 ≤ d + 1) {K : Int32 → yMS → Prop} {X : String → Addr → yH → Prop} {k n : Nat} (l1 : Int32) (ρ : yMS) (h : wpM_X3_countCommands_16  l1 ρ K) : Wx en (d + 1) mX3_countCommands 16 [(0, .ref (mb 0)), (1, .int l1)] [] (mH en mb ρ σ) k n (mQ en mb σ (mI K)) X := by
  obtain ⟨nn, h⟩ := h
  exact olM_X3_countCommands_16 hM hd  nn _ _ h
def wpM_X3_countCommands (ρ : yMS)  (K : Int32 → yMS → Prop) : Prop :=
  (mPut ρ 20 (0 : Int32) (fun ρ1 => (mPut ρ1 22 (0 : Int32) (fun ρ2 => wpM_X3_readCommand ρ2  (fun ρ3 => wpM_X3_countCommands_16  (1 : Int32) ρ3 K)))))
theorem okM_X3_countCommands {en : yEn} {mb : Nat → Nat} {σ : yH} (hM : mOK en mb σ) {d : Nat} (hd : 14 ≤ d + 1) {ρ : yMS}  {K : Int32 → yMS → Prop} {X : String → Addr → yH → Prop} {k n : Nat}  (h : wpM_X3_countCommands ρ  K) : Wx en (d + 1) mX3_countCommands 0 [(0, .ref (mb 0))] [] (mH en mb ρ σ) k n (mQ en mb σ (mI K)) X := by
  unfold wpM_X3_countCommands at h
  refine sd_aload_n (pc := 0) dX3_countCommands_0 rfl 0 rfl ?_
  refine sd_iconst (pc := 1) dX3_countCommands_1 (v := 0) (by decide) ?_
  refine sd_putf (pc := 2) dX3_countCommands_2 (ci := 2) rfl in_X3 tyX3 tyX3_ok nmX3 (kf := 20) (by decide) q2093 rfl (ty := .int) rfl rfl rfl (mPut.to hM (by decide) rfl h (fun ρ1 h => ?_))
  refine sd_aload_n (pc := 5) dX3_countCommands_5 rfl 0 rfl ?_
  refine sd_iconst (pc := 6) dX3_countCommands_6 (v := 0) (by decide) ?_
  refine sd_putf (pc := 7) dX3_countCommands_7 (ci := 2) rfl in_X3 tyX3 tyX3_ok nmX3 (kf := 22) (by decide) q2095 rfl (ty := .boolean) rfl rfl rfl (mPut.to hM (by decide) rfl h (fun ρ2 h => ?_))
  refine sd_iconst (pc := 10) dX3_countCommands_10 (v := 1) (by decide) ?_
  refine sd_istore_n (pc := 11) dX3_countCommands_11 rfl (by decide) (ls' := [(1, .int (1 : Int32)), (0, .ref (mb 0))]) rfl ?_
  refine sd_aload_n (pc := 12) dX3_countCommands_12 rfl 1 rfl ?_
  refine sd_callV (k := k) (n := n) (d0 := d) (k0 := 0) (n0 := 0) (As := []) (st := []) (pc := 13) dX3_countCommands_13 (ci := 2) rfl (mo_isC hM) rfl q2509 q2511 qs71 q91 q2512 0 (by decide +kernel) rfl (Nat.le_refl _) (by decide) (Nat.le_of_ble_eq_true rfl) (Cx.mono (cm_X3_readCommand hM (by omega)  h) (mV.to (fun ρ3 h => ?_)) (xo rfl))
  exact sd_loc [1, 0] rfl (okM_X3_countCommands_16 hM (by omega)  _ _ h)
theorem cm_X3_countCommands {en : yEn} {mb : Nat → Nat} {σ : yH} (hM : mOK en mb σ) {d : Nat} (hd : 14 ≤ d) {ρ : yMS}  {K : Int32 → yMS → Prop} {X : String → Addr → yH → Prop}  (h : wpM_X3_countCommands ρ  K) : Cx en d 0 0 mX3_countCommands [.ref (mb 0)] (mH en mb ρ σ) (mQ en mb σ (mI K)) X := by
  obtain ⟨d, rfl⟩ : ∃ e, d = e + 1 := ⟨d - 1, by omega⟩
  exact Cx.body (by decide +kernel) rfl (Nat.le_of_ble_eq_true rfl) (okM_X3_countCommands hM (by omega)  h)
/-! refuseText(IZ)V -/
def wpM_X3_refuseText (ρ : yMS) (x1 : Int32) (x2 : Int32) (K : yMS → Prop) : Prop :=
  (((x2 = 0) → wpM_X3_refuse ρ (1 : Int32) (20 : Int32) x1 (fun r2 ρ1 => (mPut ρ1 9 (0 : Int32) (fun ρ3 => (mPut ρ3 10 (ρ.1 8) (fun ρ4 => K ρ4)))))) ∧ (¬ (x2 = 0) → wpM_X3_refuse ρ (1 : Int32) (20 : Int32) x1 (fun r6 ρ5 => (mPut ρ5 9 (ρ.1 7) (fun ρ7 => (mPut ρ7 10 (ρ.1 8) (fun ρ8 => K ρ8)))))))
theorem okM_X3_refuseText {en : yEn} {mb : Nat → Nat} {σ : yH} (hM : mOK en mb σ) {d : Nat} (hd : 2 ≤ d + 1) {ρ : yMS} {x1 : Int32} {x2 : Int32} {K : yMS → Prop} {X : String → Addr → yH → Prop} {k n : Nat}  (h : wpM_X3_refuseText ρ x1 x2 K) : Wx en (d + 1) mX3_refuseText 0 [(0, .ref (mb 0)), (1, .int x1), (2, .int x2)] [] (mH en mb ρ σ) k n (mQ en mb σ (mV K)) X := by
  unfold wpM_X3_refuseText at h
  refine sd_iload_n (pc := 0) dX3_refuseText_0 rfl 2 rfl ?_
  refine sd_ifeq (pc := 1) dX3_refuseText_1 (tgt := 11) (by decide) ⟨fun c9 => ?_, fun c9 => ?_⟩
  · have h := h.1 c9
    refine sd_iconst (pc := 11) dX3_refuseText_11 (v := 0) (by decide) ?_
    refine sd_istore_n (pc := 12) dX3_refuseText_12 rfl (by decide) (ls' := [(3, .int (0 : Int32)), (0, .ref (mb 0)), (1, .int x1), (2, .int x2)]) rfl ?_
    refine sd_aload_n (pc := 13) dX3_refuseText_13 rfl 1 rfl ?_
    refine sd_getI (pc := 14) dX3_refuseText_14 (ci := 2) rfl in_X3 (kf := 8) (by decide) q2081 (mo_gI hM rfl ?_)
    refine sd_istore (pc := 17) dX3_refuseText_17 (by decide) (ls' := [(4, .int (ρ.1 8)), (3, .int (0 : Int32)), (0, .ref (mb 0)), (1, .int x1), (2, .int x2)]) rfl ?_
    refine sd_aload_n (pc := 19) dX3_refuseText_19 rfl 2 rfl ?_
    refine sd_iconst (pc := 20) dX3_refuseText_20 (v := 1) (by decide) ?_
    refine sd_bipush (pc := 21) dX3_refuseText_21 (v := 20) (by decide) ?_
    refine sd_iload_n (pc := 23) dX3_refuseText_23 rfl 3 rfl ?_
    refine sd_callV (k := k) (n := n) (d0 := d) (k0 := 0) (n0 := 0) (As := [.int (1 : Int32), .int (20 : Int32), .int x1]) (st := []) (pc := 24) dX3_refuseText_24 (ci := 2) rfl (mo_isC hM) rfl q2185 q2187 qs28 q91 q2188 3 (by decide +kernel) rfl (Nat.le_refl _) (by decide) (Nat.le_of_ble_eq_true rfl) (Cx.mono (cm_X3_refuse hM (by omega)  h) (mI.to (fun r2 ρ1 h => ?_)) (xo rfl))
    refine sd_pop (pc := 27) dX3_refuseText_27 rfl ?_
    refine sd_aload_n (pc := 28) dX3_refuseText_28 rfl 2 rfl ?_
    refine sd_iload_n (pc := 29) dX3_refuseText_29 rfl 1 rfl ?_
    refine sd_putf (pc := 30) dX3_refuseText_30 (ci := 2) rfl in_X3 tyX3 tyX3_ok nmX3 (kf := 9) (by decide) q2082 rfl (ty := .int) rfl rfl rfl (mPut.to hM (by decide) rfl h (fun ρ3 h => ?_))
    refine sd_aload_n (pc := 33) dX3_refuseText_33 rfl 2 rfl ?_
    refine sd_iload (pc := 34) dX3_refuseText_34 0 rfl ?_
    refine sd_putf (pc := 36) dX3_refuseText_36 (ci := 2) rfl in_X3 tyX3 tyX3_ok nmX3 (kf := 10) (by decide) q2083 rfl (ty := .int) rfl rfl rfl (mPut.to hM (by decide) rfl h (fun ρ4 h => ?_))
    exact sd_return (pc := 39) dX3_refuseText_39 rfl (mV.ok h)
  · have h := h.2 c9
    refine sd_aload_n (pc := 4) dX3_refuseText_4 rfl 0 rfl ?_
    refine sd_getI (pc := 5) dX3_refuseText_5 (ci := 2) rfl in_X3 (kf := 7) (by decide) q2080 (mo_gI hM rfl ?_)
    refine sd_goto (pc := 8) dX3_refuseText_8 (tgt := 12) (by decide) ?_
    refine sd_istore_n (pc := 12) dX3_refuseText_12 rfl (by decide) (ls' := [(3, .int (ρ.1 7)), (0, .ref (mb 0)), (1, .int x1), (2, .int x2)]) rfl ?_
    refine sd_aload_n (pc := 13) dX3_refuseText_13 rfl 1 rfl ?_
    refine sd_getI (pc := 14) dX3_refuseText_14 (ci := 2) rfl in_X3 (kf := 8) (by decide) q2081 (mo_gI hM rfl ?_)
    refine sd_istore (pc := 17) dX3_refuseText_17 (by decide) (ls' := [(4, .int (ρ.1 8)), (3, .int (ρ.1 7)), (0, .ref (mb 0)), (1, .int x1), (2, .int x2)]) rfl ?_
    refine sd_aload_n (pc := 19) dX3_refuseText_19 rfl 2 rfl ?_
    refine sd_iconst (pc := 20) dX3_refuseText_20 (v := 1) (by decide) ?_
    refine sd_bipush (pc := 21) dX3_refuseText_21 (v := 20) (by decide) ?_
    refine sd_iload_n (pc := 23) dX3_refuseText_23 rfl 3 rfl ?_
    refine sd_callV (k := k) (n := n) (d0 := d) (k0 := 0) (n0 := 0) (As := [.int (1 : Int32), .int (20 : Int32), .int x1]) (st := []) (pc := 24) dX3_refuseText_24 (ci := 2) rfl (mo_isC hM) rfl q2185 q2187 qs28 q91 q2188 3 (by decide +kernel) rfl (Nat.le_refl _) (by decide) (Nat.le_of_ble_eq_true rfl) (Cx.mono (cm_X3_refuse hM (by omega)  h) (mI.to (fun r6 ρ5 h => ?_)) (xo rfl))
    refine sd_pop (pc := 27) dX3_refuseText_27 rfl ?_
    refine sd_aload_n (pc := 28) dX3_refuseText_28 rfl 2 rfl ?_
    refine sd_iload_n (pc := 29) dX3_refuseText_29 rfl 1 rfl ?_
    refine sd_putf (pc := 30) dX3_refuseText_30 (ci := 2) rfl in_X3 tyX3 tyX3_ok nmX3 (kf := 9) (by decide) q2082 rfl (ty := .int) rfl rfl rfl (mPut.to hM (by decide) rfl h (fun ρ7 h => ?_))
    refine sd_aload_n (pc := 33) dX3_refuseText_33 rfl 2 rfl ?_
    refine sd_iload (pc := 34) dX3_refuseText_34 0 rfl ?_
    refine sd_putf (pc := 36) dX3_refuseText_36 (ci := 2) rfl in_X3 tyX3 tyX3_ok nmX3 (kf := 10) (by decide) q2083 rfl (ty := .int) rfl rfl rfl (mPut.to hM (by decide) rfl h (fun ρ8 h => ?_))
    exact sd_return (pc := 39) dX3_refuseText_39 rfl (mV.ok h)
theorem cm_X3_refuseText {en : yEn} {mb : Nat → Nat} {σ : yH} (hM : mOK en mb σ) {d : Nat} (hd : 2 ≤ d) {ρ : yMS} {x1 : Int32} {x2 : Int32} {K : yMS → Prop} {X : String → Addr → yH → Prop}  (h : wpM_X3_refuseText ρ x1 x2 K) : Cx en d 0 0 mX3_refuseText [.ref (mb 0), .int x1, .int x2] (mH en mb ρ σ) (mQ en mb σ (mV K)) X := by
  obtain ⟨d, rfl⟩ : ∃ e, d = e + 1 := ⟨d - 1, by omega⟩
  exact Cx.body (by decide +kernel) rfl (Nat.le_of_ble_eq_true rfl) (okM_X3_refuseText hM (by omega)  h)
/-! read()I -/
def stM_X3_read_57 (K : Int32 → yMS → Prop) (rec : Int32 → Int32 → Int32 → yMS → Prop) (l1 : Int32) (l2 : Int32) (l3 : Int32) (ρ : yMS) : Prop :=
  (((l1 ≤ l3) → (mPut ρ 12 (0 : Int32) (fun ρ10 => (mPut ρ10 19 (0 : Int32) (fun ρ11 => ((¬ (l2 = 0) → (mPut ρ11 0 (0 : Int32) (fun ρ12 => wpM_X3_remember ρ12 4 (fun ρ13 => K l1 ρ13)))) ∧ ((l2 = 0) → wpM_X3_copyRow ρ11 4 1 (fun ρ14 => (mPut ρ14 0 (2 : Int32) (fun ρ15 => K (0 : Int32) ρ15)))))))))) ∧ (¬ (l1 ≤ l3) → (((l2 = 0) → (mPut ρ 12 (0 : Int32) (fun ρ17 => (mPut ρ17 19 (0 : Int32) (fun ρ18 => ((¬ (l2 = 0) → (mPut ρ18 0 (0 : Int32) (fun ρ19 => wpM_X3_remember ρ19 4 (fun ρ20 => K l1 ρ20)))) ∧ ((l2 = 0) → wpM_X3_copyRow ρ18 4 1 (fun ρ21 => (mPut ρ21 0 (2 : Int32) (fun ρ22 => K (0 : Int32) ρ22)))))))))) ∧ (¬ (l2 = 0) → wpM_X3_readCommand ρ  (fun ρ24 => (mPut ρ24 20 ((ρ24.1 20) + (1 : Int32)) (fun ρ25 => wpM_X3_carryOut ρ25  (fun r27 ρ26 => ((¬ ((if ((ρ26.1 0) = 0) then (1 : Int32) else (0 : Int32)) = 0) → rec l1 (if ((ρ26.1 0) = 0) then (1 : Int32) else (0 : Int32)) (l3 + (1 : Int32)) ρ26) ∧ (((if ((ρ26.1 0) = 0) then (1 : Int32) else (0 : Int32)) = 0) → wpM_X3_refuseText ρ26 l3 (if ((ρ26.1 0) = r27) then (1 : Int32) else (0 : Int32)) (fun ρ30 => rec l1 (if ((ρ26.1 0) = 0) then (1 : Int32) else (0 : Int32)) (l3 + (1 : Int32)) ρ30)))))))))))
def lpM_X3_read_57 (K : Int32 → yMS → Prop) : Nat → Int32 × Int32 × Int32 × yMS → Prop := lpN (fun r s => stM_X3_read_57  K (fun l1 l2 l3 ρ => r (l1, l2, l3, ρ)) s.1 s.2.1 s.2.2.1 s.2.2.2)
def wpM_X3_read_57 (l1 : Int32) (l2 : Int32) (l3 : Int32) (ρ : yMS) (K : Int32 → yMS → Prop) : Prop := ∃ nn, lpM_X3_read_57  K nn (l1, l2, l3, ρ)
theorem olM_X3_read_57 {en : yEn} {mb : Nat → Nat} {σ : yH} (hM : mOK en mb σ) {d : Nat} (hd : 15 ≤ d + 1) {K : Int32 → yMS → Prop} {X : String → Addr → yH → Prop} {k n : Nat} : ∀ (nn : Nat) (l1 : Int32) (l2 : Int32) (l3 : Int32) (ρ : yMS), lpM_X3_read_57  K nn (l1, l2, l3, ρ) → Wx en (d + 1) mX3_read 57 [(0, .ref (mb 0)), (1, .int l1), (2, .int l2), (3, .int l3)] [] (mH en mb ρ σ) k n (mQ en mb σ (mI K)) X := by
  intro nn
  induction nn with
  | zero => intros; rename_i h; exact h.elim
  | succ nn ih =>
    intro l1 l2 l3 ρ h
    replace h : stM_X3_read_57  K (fun l1 l2 l3 ρ => lpM_X3_read_57  K nn (l1, l2, l3, ρ)) l1 l2 l3 ρ := h
    unfold stM_X3_read_57 at h
    refine sd_iload_n (pc := 57) dX3_read_57 rfl 3 rfl ?_
    refine sd_iload_n (pc := 58) dX3_read_58 rfl 1 rfl ?_
    refine sd_icmpge (pc := 59) dX3_read_59 (tgt := 128) (by decide) ⟨fun c33 => ?_, fun c33 => ?_⟩
    · have h := h.1 c33
      refine sd_aload_n (pc := 128) dX3_read_128 rfl 0 rfl ?_
      refine sd_iconst (pc := 129) dX3_read_129 (v := 0) (by decide) ?_
      refine sd_putf (pc := 130) dX3_read_130 (ci := 2) rfl in_X3 tyX3 tyX3_ok nmX3 (kf := 12) (by decide) q2085 rfl (ty := .boolean) rfl rfl rfl (mPut.to hM (by decide) rfl h (fun ρ10 h => ?_))
      refine sd_aload_n (pc := 133) dX3_read_133 rfl 0 rfl ?_
      refine sd_iconst (pc := 134) dX3_read_134 (v := 0) (by decide) ?_
      refine sd_putf (pc := 135) dX3_read_135 (ci := 2) rfl in_X3 tyX3 tyX3_ok nmX3 (kf := 19) (by decide) q2092 rfl (ty := .int) rfl rfl rfl (mPut.to hM (by decide) rfl h (fun ρ11 h => ?_))
      refine sd_iload_n (pc := 138) dX3_read_138 rfl 2 rfl ?_
      refine sd_ifne (pc := 139) dX3_read_139 (tgt := 160) (by decide) ⟨fun c16 => ?_, fun c16 => ?_⟩
      · have h := h.1 c16
        refine sd_aload_n (pc := 160) dX3_read_160 rfl 0 rfl ?_
        refine sd_iconst (pc := 161) dX3_read_161 (v := 0) (by decide) ?_
        refine sd_putf (pc := 162) dX3_read_162 (ci := 2) rfl in_X3 tyX3 tyX3_ok nmX3 (kf := 0) (by decide) q2073 rfl (ty := .int) rfl rfl rfl (mPut.to hM (by decide) rfl h (fun ρ12 h => ?_))
        refine sd_aload_n (pc := 165) dX3_read_165 rfl 0 rfl ?_
        refine sd_aload_n (pc := 166) dX3_read_166 rfl 0 rfl ?_
        refine sd_getR (pc := 167) dX3_read_167 (ci := 2) rfl in_X3 (kf := 4) (by decide) q2077 (mo_gR hM (j := 4) rfl ?_)
        refine sd_callV (k := k) (n := n) (d0 := d) (k0 := 0) (n0 := 0) (As := [.ref (mb 4)]) (st := []) (pc := 170) dX3_read_170 (ci := 2) rfl (mo_isC hM) rfl q2193 q2195 qs30 q91 q2196 1 (by decide +kernel) rfl (Nat.le_refl _) (by decide) (Nat.le_of_ble_eq_true rfl) (Cx.mono (cm_X3_remember hM (by omega)  h) (mV.to (fun ρ13 h => ?_)) (xo rfl))
        refine sd_iload_n (pc := 173) dX3_read_173 rfl 1 rfl ?_
        exact sd_ireturn (pc := 174) dX3_read_174 (ty0 := .int) rfl rfl (mI.ok h)
      · have h := h.2 c16
        refine sd_aload_n (pc := 142) dX3_read_142 rfl 0 rfl ?_
        refine sd_getR (pc := 143) dX3_read_143 (ci := 2) rfl in_X3 (kf := 4) (by decide) q2077 (mo_gR hM (j := 4) rfl ?_)
        refine sd_aload_n (pc := 146) dX3_read_146 rfl 0 rfl ?_
        refine sd_getR (pc := 147) dX3_read_147 (ci := 2) rfl in_X3 (kf := 1) (by decide) q2074 (mo_gR hM (j := 1) rfl ?_)
        refine sd_callS (k := k) (n := n) (d0 := d) (k0 := 0) (n0 := 0) (As := [.ref (mb 4), .ref (mb 1)]) (st := []) (pc := 150) dX3_read_150 q2197 q2198 q91 q2199 2 (by decide +kernel) rfl (Nat.le_refl _) (by decide) (Nat.le_of_ble_eq_true rfl) (Cx.mono (cm_X3_copyRow hM (by omega)  h) (mV.to (fun ρ14 h => ?_)) (xo rfl))
        refine sd_aload_n (pc := 153) dX3_read_153 rfl 0 rfl ?_
        refine sd_iconst (pc := 154) dX3_read_154 (v := 2) (by decide) ?_
        refine sd_putf (pc := 155) dX3_read_155 (ci := 2) rfl in_X3 tyX3 tyX3_ok nmX3 (kf := 0) (by decide) q2073 rfl (ty := .int) rfl rfl rfl (mPut.to hM (by decide) rfl h (fun ρ15 h => ?_))
        refine sd_iconst (pc := 158) dX3_read_158 (v := 0) (by decide) ?_
        exact sd_ireturn (pc := 159) dX3_read_159 (ty0 := .int) rfl rfl (mI.ok h)
    · have h := h.2 c33
      refine sd_iload_n (pc := 62) dX3_read_62 rfl 2 rfl ?_
      refine sd_ifeq (pc := 63) dX3_read_63 (tgt := 128) (by decide) ⟨fun c32 => ?_, fun c32 => ?_⟩
      · have h := h.1 c32
        refine sd_aload_n (pc := 128) dX3_read_128 rfl 0 rfl ?_
        refine sd_iconst (pc := 129) dX3_read_129 (v := 0) (by decide) ?_
        refine sd_putf (pc := 130) dX3_read_130 (ci := 2) rfl in_X3 tyX3 tyX3_ok nmX3 (kf := 12) (by decide) q2085 rfl (ty := .boolean) rfl rfl rfl (mPut.to hM (by decide) rfl h (fun ρ17 h => ?_))
        refine sd_aload_n (pc := 133) dX3_read_133 rfl 0 rfl ?_
        refine sd_iconst (pc := 134) dX3_read_134 (v := 0) (by decide) ?_
        refine sd_putf (pc := 135) dX3_read_135 (ci := 2) rfl in_X3 tyX3 tyX3_ok nmX3 (kf := 19) (by decide) q2092 rfl (ty := .int) rfl rfl rfl (mPut.to hM (by decide) rfl h (fun ρ18 h => ?_))
        refine sd_iload_n (pc := 138) dX3_read_138 rfl 2 rfl ?_
        refine sd_ifne (pc := 139) dX3_read_139 (tgt := 160) (by decide) ⟨fun c23 => ?_, fun c23 => ?_⟩
        · have h := h.1 c23
          refine sd_aload_n (pc := 160) dX3_read_160 rfl 0 rfl ?_
          refine sd_iconst (pc := 161) dX3_read_161 (v := 0) (by decide) ?_
          refine sd_putf (pc := 162) dX3_read_162 (ci := 2) rfl in_X3 tyX3 tyX3_ok nmX3 (kf := 0) (by decide) q2073 rfl (ty := .int) rfl rfl rfl (mPut.to hM (by decide) rfl h (fun ρ19 h => ?_))
          refine sd_aload_n (pc := 165) dX3_read_165 rfl 0 rfl ?_
          refine sd_aload_n (pc := 166) dX3_read_166 rfl 0 rfl ?_
          refine sd_getR (pc := 167) dX3_read_167 (ci := 2) rfl in_X3 (kf := 4) (by decide) q2077 (mo_gR hM (j := 4) rfl ?_)
          refine sd_callV (k := k) (n := n) (d0 := d) (k0 := 0) (n0 := 0) (As := [.ref (mb 4)]) (st := []) (pc := 170) dX3_read_170 (ci := 2) rfl (mo_isC hM) rfl q2193 q2195 qs30 q91 q2196 1 (by decide +kernel) rfl (Nat.le_refl _) (by decide) (Nat.le_of_ble_eq_true rfl) (Cx.mono (cm_X3_remember hM (by omega)  h) (mV.to (fun ρ20 h => ?_)) (xo rfl))
          refine sd_iload_n (pc := 173) dX3_read_173 rfl 1 rfl ?_
          exact sd_ireturn (pc := 174) dX3_read_174 (ty0 := .int) rfl rfl (mI.ok h)
        · have h := h.2 c23
          refine sd_aload_n (pc := 142) dX3_read_142 rfl 0 rfl ?_
          refine sd_getR (pc := 143) dX3_read_143 (ci := 2) rfl in_X3 (kf := 4) (by decide) q2077 (mo_gR hM (j := 4) rfl ?_)
          refine sd_aload_n (pc := 146) dX3_read_146 rfl 0 rfl ?_
          refine sd_getR (pc := 147) dX3_read_147 (ci := 2) rfl in_X3 (kf := 1) (by decide) q2074 (mo_gR hM (j := 1) rfl ?_)
          refine sd_callS (k := k) (n := n) (d0 := d) (k0 := 0) (n0 := 0) (As := [.ref (mb 4), .ref (mb 1)]) (st := []) (pc := 150) dX3_read_150 q2197 q2198 q91 q2199 2 (by decide +kernel) rfl (Nat.le_refl _) (by decide) (Nat.le_of_ble_eq_true rfl) (Cx.mono (cm_X3_copyRow hM (by omega)  h) (mV.to (fun ρ21 h => ?_)) (xo rfl))
          refine sd_aload_n (pc := 153) dX3_read_153 rfl 0 rfl ?_
          refine sd_iconst (pc := 154) dX3_read_154 (v := 2) (by decide) ?_
          refine sd_putf (pc := 155) dX3_read_155 (ci := 2) rfl in_X3 tyX3 tyX3_ok nmX3 (kf := 0) (by decide) q2073 rfl (ty := .int) rfl rfl rfl (mPut.to hM (by decide) rfl h (fun ρ22 h => ?_))
          refine sd_iconst (pc := 158) dX3_read_158 (v := 0) (by decide) ?_
          exact sd_ireturn (pc := 159) dX3_read_159 (ty0 := .int) rfl rfl (mI.ok h)
      · have h := h.2 c32
        refine sd_aload_n (pc := 66) dX3_read_66 rfl 0 rfl ?_
        refine sd_callV (k := k) (n := n) (d0 := d) (k0 := 0) (n0 := 0) (As := []) (st := []) (pc := 67) dX3_read_67 (ci := 2) rfl (mo_isC hM) rfl q2509 q2511 qs71 q91 q2512 0 (by decide +kernel) rfl (Nat.le_refl _) (by decide) (Nat.le_of_ble_eq_true rfl) (Cx.mono (cm_X3_readCommand hM (by omega)  h) (mV.to (fun ρ24 h => ?_)) (xo rfl))
        refine sd_aload_n (pc := 70) dX3_read_70 rfl 0 rfl ?_
        refine sd_dup (pc := 71) dX3_read_71 rfl ?_
        refine sd_getI (pc := 72) dX3_read_72 (ci := 2) rfl in_X3 (kf := 20) (by decide) q2093 (mo_gI hM rfl ?_)
        refine sd_iconst (pc := 75) dX3_read_75 (v := 1) (by decide) ?_
        refine sd_iadd (pc := 76) dX3_read_76 ?_
        refine sd_putf (pc := 77) dX3_read_77 (ci := 2) rfl in_X3 tyX3 tyX3_ok nmX3 (kf := 20) (by decide) q2093 rfl (ty := .int) rfl rfl rfl (mPut.to hM (by decide) rfl h (fun ρ25 h => ?_))
        refine sd_aload_n (pc := 80) dX3_read_80 rfl 0 rfl ?_
        refine sd_callV (k := k) (n := n) (d0 := d) (k0 := 0) (n0 := 0) (As := []) (st := []) (pc := 81) dX3_read_81 (ci := 2) rfl (mo_isC hM) rfl q2543 q2545 qs77 q91 q2546 0 (by decide +kernel) rfl (Nat.le_refl _) (by decide) (Nat.le_of_ble_eq_true rfl) (Cx.mono (cm_X3_carryOut hM (by omega)  h) (mI.to (fun r27 ρ26 h => ?_)) (xo rfl))
        refine sd_istore (pc := 84) dX3_read_84 (by decide) (ls' := [(4, .int r27), (0, .ref (mb 0)), (1, .int l1), (2, .int l2), (3, .int l3)]) rfl ?_
        refine sd_aload_n (pc := 86) dX3_read_86 rfl 1 rfl ?_
        refine sd_getI (pc := 87) dX3_read_87 (ci := 2) rfl in_X3 (kf := 0) (by decide) q2073 (mo_gI hM rfl ?_)
        have h34 : Wx en (d + 1) mX3_read 98 [(4, .int r27), (0, .ref (mb 0)), (1, .int l1), (2, .int l2), (3, .int l3)] (.int (if ((ρ26.1 0) = 0) then (1 : Int32) else (0 : Int32)) :: []) (mH en mb ρ26 σ) k n (mQ en mb σ (mI K)) X := by
          refine sd_istore_n (pc := 98) dX3_read_98 rfl (by decide) (ls' := [(2, .int (if ((ρ26.1 0) = 0) then (1 : Int32) else (0 : Int32))), (4, .int r27), (0, .ref (mb 0)), (1, .int l1), (3, .int l3)]) rfl ?_
          refine sd_iload_n (pc := 99) dX3_read_99 rfl 0 rfl ?_
          refine sd_ifne (pc := 100) dX3_read_100 (tgt := 122) (by decide) ⟨fun c31 => ?_, fun c31 => ?_⟩
          · have h := h.1 c31
            refine sd_iinc (pc := 122) dX3_read_122 4 rfl (v := (l3 + (1 : Int32))) rfl (by decide) (ls' := [(3, .int (l3 + (1 : Int32))), (2, .int (if ((ρ26.1 0) = 0) then (1 : Int32) else (0 : Int32))), (4, .int r27), (0, .ref (mb 0)), (1, .int l1)]) rfl ?_
            refine sd_goto (pc := 125) dX3_read_125 (tgt := 57) (by decide) ?_
            exact sd_loc [3, 4, 1, 0] rfl (ih _ _ _ _ h)
          · have h := h.2 c31
            refine sd_aload_n (pc := 103) dX3_read_103 rfl 2 rfl ?_
            refine sd_iload_n (pc := 104) dX3_read_104 rfl 4 rfl ?_
            refine sd_aload_n (pc := 105) dX3_read_105 rfl 2 rfl ?_
            refine sd_getI (pc := 106) dX3_read_106 (ci := 2) rfl in_X3 (kf := 0) (by decide) q2073 (mo_gI hM rfl ?_)
            refine sd_iload (pc := 109) dX3_read_109 1 rfl ?_
            have h35 : Wx en (d + 1) mX3_read 119 [(2, .int (if ((ρ26.1 0) = 0) then (1 : Int32) else (0 : Int32))), (4, .int r27), (0, .ref (mb 0)), (1, .int l1), (3, .int l3)] (.int (if ((ρ26.1 0) = r27) then (1 : Int32) else (0 : Int32)) :: .int l3 :: .ref (mb 0) :: []) (mH en mb ρ26 σ) k n (mQ en mb σ (mI K)) X := by
              refine sd_callV (k := k) (n := n) (d0 := d) (k0 := 0) (n0 := 0) (As := [.int l3, .int (if ((ρ26.1 0) = r27) then (1 : Int32) else (0 : Int32))]) (st := []) (pc := 119) dX3_read_119 (ci := 2) rfl (mo_isC hM) rfl q2554 q2556 qs78 q91 q2557 2 (by decide +kernel) rfl (Nat.le_refl _) (by decide) (Nat.le_of_ble_eq_true rfl) (Cx.mono (cm_X3_refuseText hM (by omega)  h) (mV.to (fun ρ30 h => ?_)) (xo rfl))
              refine sd_iinc (pc := 122) dX3_read_122 4 rfl (v := (l3 + (1 : Int32))) rfl (by decide) (ls' := [(3, .int (l3 + (1 : Int32))), (2, .int (if ((ρ26.1 0) = 0) then (1 : Int32) else (0 : Int32))), (4, .int r27), (0, .ref (mb 0)), (1, .int l1)]) rfl ?_
              refine sd_goto (pc := 125) dX3_read_125 (tgt := 57) (by decide) ?_
              exact sd_loc [3, 4, 1, 0] rfl (ih _ _ _ _ h)
            have e36 := sd_iteIN h35
            refine sd_icmpne (pc := 111) dX3_read_111 (tgt := 118) (by decide) ⟨fun c29 => ?_, fun c29 => ?_⟩
            · refine sd_iconst (pc := 118) dX3_read_118 (v := 0) (by decide) ?_
              exact (e36.1 c29)
            · refine sd_iconst (pc := 114) dX3_read_114 (v := 1) (by decide) ?_
              refine sd_goto (pc := 115) dX3_read_115 (tgt := 119) (by decide) ?_
              exact (e36.2 c29)
        have e37 := sd_iteIN h34
        refine sd_ifne (pc := 90) dX3_read_90 (tgt := 97) (by decide) ⟨fun c28 => ?_, fun c28 => ?_⟩
        · refine sd_iconst (pc := 97) dX3_read_97 (v := 0) (by decide) ?_
          exact (e37.1 c28)
        · refine sd_iconst (pc := 93) dX3_read_93 (v := 1) (by decide) ?_
          refine sd_goto (pc := 94) dX3_read_94 (tgt := 98) (by decide) ?_
          exact (e37.2 c28)
theorem okM_X3_read_57 {en : yEn} {mb : Nat → Nat} {σ : yH} (hM : mOK en mb σ) {d : Nat} (hd : 15 ≤ d + 1) {K : Int32 → yMS → Prop} {X : String → Addr → yH → Prop} {k n : Nat} (l1 : Int32) (l2 : Int32) (l3 : Int32) (ρ : yMS) (h : wpM_X3_read_57  l1 l2 l3 ρ K) : Wx en (d + 1) mX3_read 57 [(0, .ref (mb 0)), (1, .int l1), (2, .int l2), (3, .int l3)] [] (mH en mb ρ σ) k n (mQ en mb σ (mI K)) X := by
  obtain ⟨nn, h⟩ := h
  exact olM_X3_read_57 hM hd  nn _ _ _ _ h
def wpM_X3_read (ρ : yMS)  (K : Int32 → yMS → Prop) : Prop :=
  wpM_X3_countCommands ρ  (fun r2 ρ1 => ((((ρ1.1 22) = 0) → wpM_X3_copyRow ρ1 1 4 (fun ρ3 => (mPut ρ3 12 (1 : Int32) (fun ρ4 => (mPut ρ4 20 (0 : Int32) (fun ρ5 => wpM_X3_read_57  r2 (1 : Int32) (0 : Int32) ρ5 K)))))) ∧ (¬ ((ρ1.1 22) = 0) → (mPut ρ1 21 (ρ1.1 20) (fun ρ6 => (mPut ρ6 19 (0 : Int32) (fun ρ7 => (mPut ρ7 0 (1 : Int32) (fun ρ8 => K (0 : Int32) ρ8)))))))))
theorem okM_X3_read {en : yEn} {mb : Nat → Nat} {σ : yH} (hM : mOK en mb σ) {d : Nat} (hd : 15 ≤ d + 1) {ρ : yMS}  {K : Int32 → yMS → Prop} {X : String → Addr → yH → Prop} {k n : Nat}  (h : wpM_X3_read ρ  K) : Wx en (d + 1) mX3_read 0 [(0, .ref (mb 0))] [] (mH en mb ρ σ) k n (mQ en mb σ (mI K)) X := by
  unfold wpM_X3_read at h
  refine sd_aload_n (pc := 0) dX3_read_0 rfl 0 rfl ?_
  refine sd_callV (k := k) (n := n) (d0 := d) (k0 := 0) (n0 := 0) (As := []) (st := []) (pc := 1) dX3_read_1 (ci := 2) rfl (mo_isC hM) rfl q2505 q2507 qs70 q91 q2508 0 (by decide +kernel) rfl (Nat.le_refl _) (by decide) (Nat.le_of_ble_eq_true rfl) (Cx.mono (cm_X3_countCommands hM (by omega)  h) (mI.to (fun r2 ρ1 h => ?_)) (xo rfl))
  refine sd_istore_n (pc := 4) dX3_read_4 rfl (by decide) (ls' := [(1, .int r2), (0, .ref (mb 0))]) rfl ?_
  refine sd_aload_n (pc := 5) dX3_read_5 rfl 1 rfl ?_
  refine sd_getI (pc := 6) dX3_read_6 (ci := 2) rfl in_X3 (kf := 22) (by decide) q2095 (mo_gI hM rfl ?_)
  refine sd_ifeq (pc := 9) dX3_read_9 (tgt := 32) (by decide) ⟨fun c9 => ?_, fun c9 => ?_⟩
  · have h := h.1 c9
    refine sd_aload_n (pc := 32) dX3_read_32 rfl 1 rfl ?_
    refine sd_getR (pc := 33) dX3_read_33 (ci := 2) rfl in_X3 (kf := 1) (by decide) q2074 (mo_gR hM (j := 1) rfl ?_)
    refine sd_aload_n (pc := 36) dX3_read_36 rfl 1 rfl ?_
    refine sd_getR (pc := 37) dX3_read_37 (ci := 2) rfl in_X3 (kf := 4) (by decide) q2077 (mo_gR hM (j := 4) rfl ?_)
    refine sd_callS (k := k) (n := n) (d0 := d) (k0 := 0) (n0 := 0) (As := [.ref (mb 1), .ref (mb 4)]) (st := []) (pc := 40) dX3_read_40 q2197 q2198 q91 q2199 2 (by decide +kernel) rfl (Nat.le_refl _) (by decide) (Nat.le_of_ble_eq_true rfl) (Cx.mono (cm_X3_copyRow hM (by omega)  h) (mV.to (fun ρ3 h => ?_)) (xo rfl))
    refine sd_aload_n (pc := 43) dX3_read_43 rfl 1 rfl ?_
    refine sd_iconst (pc := 44) dX3_read_44 (v := 1) (by decide) ?_
    refine sd_putf (pc := 45) dX3_read_45 (ci := 2) rfl in_X3 tyX3 tyX3_ok nmX3 (kf := 12) (by decide) q2085 rfl (ty := .boolean) rfl rfl rfl (mPut.to hM (by decide) rfl h (fun ρ4 h => ?_))
    refine sd_iconst (pc := 48) dX3_read_48 (v := 1) (by decide) ?_
    refine sd_istore_n (pc := 49) dX3_read_49 rfl (by decide) (ls' := [(2, .int (1 : Int32)), (1, .int r2), (0, .ref (mb 0))]) rfl ?_
    refine sd_aload_n (pc := 50) dX3_read_50 rfl 2 rfl ?_
    refine sd_iconst (pc := 51) dX3_read_51 (v := 0) (by decide) ?_
    refine sd_putf (pc := 52) dX3_read_52 (ci := 2) rfl in_X3 tyX3 tyX3_ok nmX3 (kf := 20) (by decide) q2093 rfl (ty := .int) rfl rfl rfl (mPut.to hM (by decide) rfl h (fun ρ5 h => ?_))
    refine sd_iconst (pc := 55) dX3_read_55 (v := 0) (by decide) ?_
    refine sd_istore_n (pc := 56) dX3_read_56 rfl (by decide) (ls' := [(3, .int (0 : Int32)), (2, .int (1 : Int32)), (1, .int r2), (0, .ref (mb 0))]) rfl ?_
    exact sd_loc [3, 2, 1, 0] rfl (okM_X3_read_57 hM (by omega)  _ _ _ _ h)
  · have h := h.2 c9
    refine sd_aload_n (pc := 12) dX3_read_12 rfl 1 rfl ?_
    refine sd_aload_n (pc := 13) dX3_read_13 rfl 1 rfl ?_
    refine sd_getI (pc := 14) dX3_read_14 (ci := 2) rfl in_X3 (kf := 20) (by decide) q2093 (mo_gI hM rfl ?_)
    refine sd_putf (pc := 17) dX3_read_17 (ci := 2) rfl in_X3 tyX3 tyX3_ok nmX3 (kf := 21) (by decide) q2094 rfl (ty := .int) rfl rfl rfl (mPut.to hM (by decide) rfl h (fun ρ6 h => ?_))
    refine sd_aload_n (pc := 20) dX3_read_20 rfl 1 rfl ?_
    refine sd_iconst (pc := 21) dX3_read_21 (v := 0) (by decide) ?_
    refine sd_putf (pc := 22) dX3_read_22 (ci := 2) rfl in_X3 tyX3 tyX3_ok nmX3 (kf := 19) (by decide) q2092 rfl (ty := .int) rfl rfl rfl (mPut.to hM (by decide) rfl h (fun ρ7 h => ?_))
    refine sd_aload_n (pc := 25) dX3_read_25 rfl 1 rfl ?_
    refine sd_iconst (pc := 26) dX3_read_26 (v := 1) (by decide) ?_
    refine sd_putf (pc := 27) dX3_read_27 (ci := 2) rfl in_X3 tyX3 tyX3_ok nmX3 (kf := 0) (by decide) q2073 rfl (ty := .int) rfl rfl rfl (mPut.to hM (by decide) rfl h (fun ρ8 h => ?_))
    refine sd_iconst (pc := 30) dX3_read_30 (v := 0) (by decide) ?_
    exact sd_ireturn (pc := 31) dX3_read_31 (ty0 := .int) rfl rfl (mI.ok h)
theorem cm_X3_read {en : yEn} {mb : Nat → Nat} {σ : yH} (hM : mOK en mb σ) {d : Nat} (hd : 15 ≤ d) {ρ : yMS}  {K : Int32 → yMS → Prop} {X : String → Addr → yH → Prop}  (h : wpM_X3_read ρ  K) : Cx en d 0 0 mX3_read [.ref (mb 0)] (mH en mb ρ σ) (mQ en mb σ (mI K)) X := by
  obtain ⟨d, rfl⟩ : ∃ e, d = e + 1 := ⟨d - 1, by omega⟩
  exact Cx.body (by decide +kernel) rfl (Nat.le_of_ble_eq_true rfl) (okM_X3_read hM (by omega)  h)
/-! faultPosition()I -/
def wpM_X3_faultPosition (ρ : yMS)  (K : Int32 → yMS → Prop) : Prop :=
  wpM_X3_fails ρ (1 : Int32) (if (0 ≤ (ρ.1 21)) then (0 : Int32) else (1 : Int32)) (fun r3 ρ2 => (((r3 = 0) → K (ρ2.1 21) ρ2) ∧ (¬ (r3 = 0) → K (0 : Int32) ρ2)))
theorem okM_X3_faultPosition {en : yEn} {mb : Nat → Nat} {σ : yH} (hM : mOK en mb σ) {d : Nat} (hd : 2 ≤ d + 1) {ρ : yMS}  {K : Int32 → yMS → Prop} {X : String → Addr → yH → Prop} {k n : Nat}  (h : wpM_X3_faultPosition ρ  K) : Wx en (d + 1) mX3_faultPosition 0 [(0, .ref (mb 0))] [] (mH en mb ρ σ) k n (mQ en mb σ (mI K)) X := by
  unfold wpM_X3_faultPosition at h
  refine sd_aload_n (pc := 0) dX3_faultPosition_0 rfl 0 rfl ?_
  refine sd_iconst (pc := 1) dX3_faultPosition_1 (v := 1) (by decide) ?_
  refine sd_aload_n (pc := 2) dX3_faultPosition_2 rfl 0 rfl ?_
  refine sd_getI (pc := 3) dX3_faultPosition_3 (ci := 2) rfl in_X3 (kf := 21) (by decide) q2094 (mo_gI hM rfl ?_)
  have h5 : Wx en (d + 1) mX3_faultPosition 14 [(0, .ref (mb 0))] (.int (if (0 ≤ (ρ.1 21)) then (0 : Int32) else (1 : Int32)) :: .int (1 : Int32) :: .ref (mb 0) :: []) (mH en mb ρ σ) k n (mQ en mb σ (mI K)) X := by
    refine sd_callV (k := k) (n := n) (d0 := d) (k0 := 0) (n0 := 0) (As := [.int (1 : Int32), .int (if (0 ≤ (ρ.1 21)) then (0 : Int32) else (1 : Int32))]) (st := []) (pc := 14) dX3_faultPosition_14 (ci := 2) rfl (mo_isC hM) rfl q2170 q2172 qs26 q91 q2173 2 (by decide +kernel) rfl (Nat.le_refl _) (by decide) (Nat.le_of_ble_eq_true rfl) (Cx.mono (cm_X3_fails hM (by omega)  h) (mI.to (fun r3 ρ2 h => ?_)) (xo rfl))
    refine sd_ifeq (pc := 17) dX3_faultPosition_17 (tgt := 24) (by decide) ⟨fun c4 => ?_, fun c4 => ?_⟩
    · have h := h.1 c4
      refine sd_aload_n (pc := 24) dX3_faultPosition_24 rfl 0 rfl ?_
      refine sd_getI (pc := 25) dX3_faultPosition_25 (ci := 2) rfl in_X3 (kf := 21) (by decide) q2094 (mo_gI hM rfl ?_)
      exact sd_ireturn (pc := 28) dX3_faultPosition_28 (ty0 := .int) rfl rfl (mI.ok h)
    · have h := h.2 c4
      refine sd_iconst (pc := 20) dX3_faultPosition_20 (v := 0) (by decide) ?_
      refine sd_goto (pc := 21) dX3_faultPosition_21 (tgt := 28) (by decide) ?_
      exact sd_ireturn (pc := 28) dX3_faultPosition_28 (ty0 := .int) rfl rfl (mI.ok h)
  have e6 := sd_iteI h5
  refine sd_ifge (pc := 6) dX3_faultPosition_6 (tgt := 13) (by decide) ⟨fun c1 => ?_, fun c1 => ?_⟩
  · refine sd_iconst (pc := 13) dX3_faultPosition_13 (v := 0) (by decide) ?_
    exact (e6.1 c1)
  · refine sd_iconst (pc := 9) dX3_faultPosition_9 (v := 1) (by decide) ?_
    refine sd_goto (pc := 10) dX3_faultPosition_10 (tgt := 14) (by decide) ?_
    exact (e6.2 c1)
theorem cm_X3_faultPosition {en : yEn} {mb : Nat → Nat} {σ : yH} (hM : mOK en mb σ) {d : Nat} (hd : 2 ≤ d) {ρ : yMS}  {K : Int32 → yMS → Prop} {X : String → Addr → yH → Prop}  (h : wpM_X3_faultPosition ρ  K) : Cx en d 0 0 mX3_faultPosition [.ref (mb 0)] (mH en mb ρ σ) (mQ en mb σ (mI K)) X := by
  obtain ⟨d, rfl⟩ : ∃ e, d = e + 1 := ⟨d - 1, by omega⟩
  exact Cx.body (by decide +kernel) rfl (Nat.le_of_ble_eq_true rfl) (okM_X3_faultPosition hM (by omega)  h)
/-! refusal(IZ)I -/
def wpM_X3_refusal (ρ : yMS) (x1 : Int32) (x2 : Int32) (K : Int32 → yMS → Prop) : Prop :=
  wpM_X3_isBetween ρ x1 (0 : Int32) (1 : Int32) (fun r2 ρ1 => wpM_X3_fails ρ1 (1 : Int32) (if (r2 = 0) then (1 : Int32) else (0 : Int32)) (fun r5 ρ4 => ((¬ (r5 = 0) → K (0 : Int32) ρ4) ∧ ((r5 = 0) → ((¬ (x1 = 0) → ((((ρ4.1 7) = 0) → wpM_X3_fails ρ4 (2 : Int32) (1 : Int32) (fun r7 ρ6 => (((r7 = 0) → ((¬ (x1 = 0) → (((x2 = 0) → K (ρ6.1 10) ρ6) ∧ (¬ (x2 = 0) → K (ρ6.1 9) ρ6))) ∧ ((x1 = 0) → (((x2 = 0) → K (ρ6.1 8) ρ6) ∧ (¬ (x2 = 0) → K (ρ6.1 7) ρ6))))) ∧ (¬ (r7 = 0) → K (0 : Int32) ρ6)))) ∧ (¬ ((ρ4.1 7) = 0) → wpM_X3_fails ρ4 (2 : Int32) (if ((ρ4.1 9) = 0) then (1 : Int32) else (0 : Int32)) (fun r14 ρ13 => (((r14 = 0) → ((¬ (x1 = 0) → (((x2 = 0) → K (ρ13.1 10) ρ13) ∧ (¬ (x2 = 0) → K (ρ13.1 9) ρ13))) ∧ ((x1 = 0) → (((x2 = 0) → K (ρ13.1 8) ρ13) ∧ (¬ (x2 = 0) → K (ρ13.1 7) ρ13))))) ∧ (¬ (r14 = 0) → K (0 : Int32) ρ13)))))) ∧ ((x1 = 0) → wpM_X3_fails ρ4 (2 : Int32) (if ((ρ4.1 7) = 0) then (1 : Int32) else (0 : Int32)) (fun r22 ρ21 => (((r22 = 0) → ((¬ (x1 = 0) → (((x2 = 0) → K (ρ21.1 10) ρ21) ∧ (¬ (x2 = 0) → K (ρ21.1 9) ρ21))) ∧ ((x1 = 0) → (((x2 = 0) → K (ρ21.1 8) ρ21) ∧ (¬ (x2 = 0) → K (ρ21.1 7) ρ21))))) ∧ (¬ (r22 = 0) → K (0 : Int32) ρ21)))))))))
theorem okM_X3_refusal {en : yEn} {mb : Nat → Nat} {σ : yH} (hM : mOK en mb σ) {d : Nat} (hd : 2 ≤ d + 1) {ρ : yMS} {x1 : Int32} {x2 : Int32} {K : Int32 → yMS → Prop} {X : String → Addr → yH → Prop} {k n : Nat}  (h : wpM_X3_refusal ρ x1 x2 K) : Wx en (d + 1) mX3_refusal 0 [(0, .ref (mb 0)), (1, .int x1), (2, .int x2)] [] (mH en mb ρ σ) k n (mQ en mb σ (mI K)) X := by
  unfold wpM_X3_refusal at h
  refine sd_aload_n (pc := 0) dX3_refusal_0 rfl 0 rfl ?_
  refine sd_iconst (pc := 1) dX3_refusal_1 (v := 1) (by decide) ?_
  refine sd_iload_n (pc := 2) dX3_refusal_2 rfl 1 rfl ?_
  refine sd_iconst (pc := 3) dX3_refusal_3 (v := 0) (by decide) ?_
  refine sd_iconst (pc := 4) dX3_refusal_4 (v := 1) (by decide) ?_
  refine sd_callS (k := k) (n := n) (d0 := d) (k0 := 0) (n0 := 0) (As := [.int x1, .int (0 : Int32), .int (1 : Int32)]) (st := [.int (1 : Int32), .ref (mb 0)]) (pc := 5) dX3_refusal_5 q2167 q2168 q91 q2169 3 (by decide +kernel) rfl (Nat.le_refl _) (by decide) (Nat.le_of_ble_eq_true rfl) (Cx.mono (cm_X3_isBetween hM (by omega)  h) (mI.to (fun r2 ρ1 h => ?_)) (xo rfl))
  have h29 : Wx en (d + 1) mX3_refusal 16 [(0, .ref (mb 0)), (1, .int x1), (2, .int x2)] (.int (if (r2 = 0) then (1 : Int32) else (0 : Int32)) :: .int (1 : Int32) :: .ref (mb 0) :: []) (mH en mb ρ1 σ) k n (mQ en mb σ (mI K)) X := by
    refine sd_callV (k := k) (n := n) (d0 := d) (k0 := 0) (n0 := 0) (As := [.int (1 : Int32), .int (if (r2 = 0) then (1 : Int32) else (0 : Int32))]) (st := []) (pc := 16) dX3_refusal_16 (ci := 2) rfl (mo_isC hM) rfl q2170 q2172 qs26 q91 q2173 2 (by decide +kernel) rfl (Nat.le_refl _) (by decide) (Nat.le_of_ble_eq_true rfl) (Cx.mono (cm_X3_fails hM (by omega)  h) (mI.to (fun r5 ρ4 h => ?_)) (xo rfl))
    refine sd_ifne (pc := 19) dX3_refusal_19 (tgt := 68) (by decide) ⟨fun c28 => ?_, fun c28 => ?_⟩
    · have h := h.1 c28
      refine sd_iconst (pc := 68) dX3_refusal_68 (v := 0) (by decide) ?_
      exact sd_ireturn (pc := 69) dX3_refusal_69 (ty0 := .int) rfl rfl (mI.ok h)
    · have h := h.2 c28
      refine sd_aload_n (pc := 22) dX3_refusal_22 rfl 0 rfl ?_
      refine sd_iconst (pc := 23) dX3_refusal_23 (v := 2) (by decide) ?_
      refine sd_iload_n (pc := 24) dX3_refusal_24 rfl 1 rfl ?_
      refine sd_ifne (pc := 25) dX3_refusal_25 (tgt := 43) (by decide) ⟨fun c27 => ?_, fun c27 => ?_⟩
      · have h := h.1 c27
        refine sd_aload_n (pc := 43) dX3_refusal_43 rfl 0 rfl ?_
        refine sd_getI (pc := 44) dX3_refusal_44 (ci := 2) rfl in_X3 (kf := 7) (by decide) q2080 (mo_gI hM rfl ?_)
        refine sd_ifeq (pc := 47) dX3_refusal_47 (tgt := 57) (by decide) ⟨fun c19 => ?_, fun c19 => ?_⟩
        · have h := h.1 c19
          refine sd_iconst (pc := 57) dX3_refusal_57 (v := 1) (by decide) ?_
          refine sd_goto (pc := 58) dX3_refusal_58 (tgt := 62) (by decide) ?_
          refine sd_callV (k := k) (n := n) (d0 := d) (k0 := 0) (n0 := 0) (As := [.int (2 : Int32), .int (1 : Int32)]) (st := []) (pc := 62) dX3_refusal_62 (ci := 2) rfl (mo_isC hM) rfl q2170 q2172 qs26 q91 q2173 2 (by decide +kernel) rfl (Nat.le_refl _) (by decide) (Nat.le_of_ble_eq_true rfl) (Cx.mono (cm_X3_fails hM (by omega)  h) (mI.to (fun r7 ρ6 h => ?_)) (xo rfl))
          refine sd_ifeq (pc := 65) dX3_refusal_65 (tgt := 70) (by decide) ⟨fun c11 => ?_, fun c11 => ?_⟩
          · have h := h.1 c11
            refine sd_iload_n (pc := 70) dX3_refusal_70 rfl 1 rfl ?_
            refine sd_ifne (pc := 71) dX3_refusal_71 (tgt := 92) (by decide) ⟨fun c10 => ?_, fun c10 => ?_⟩
            · have h := h.1 c10
              refine sd_iload_n (pc := 92) dX3_refusal_92 rfl 2 rfl ?_
              refine sd_ifeq (pc := 93) dX3_refusal_93 (tgt := 103) (by decide) ⟨fun c8 => ?_, fun c8 => ?_⟩
              · have h := h.1 c8
                refine sd_aload_n (pc := 103) dX3_refusal_103 rfl 0 rfl ?_
                refine sd_getI (pc := 104) dX3_refusal_104 (ci := 2) rfl in_X3 (kf := 10) (by decide) q2083 (mo_gI hM rfl ?_)
                exact sd_ireturn (pc := 107) dX3_refusal_107 (ty0 := .int) rfl rfl (mI.ok h)
              · have h := h.2 c8
                refine sd_aload_n (pc := 96) dX3_refusal_96 rfl 0 rfl ?_
                refine sd_getI (pc := 97) dX3_refusal_97 (ci := 2) rfl in_X3 (kf := 9) (by decide) q2082 (mo_gI hM rfl ?_)
                refine sd_goto (pc := 100) dX3_refusal_100 (tgt := 107) (by decide) ?_
                exact sd_ireturn (pc := 107) dX3_refusal_107 (ty0 := .int) rfl rfl (mI.ok h)
            · have h := h.2 c10
              refine sd_iload_n (pc := 74) dX3_refusal_74 rfl 2 rfl ?_
              refine sd_ifeq (pc := 75) dX3_refusal_75 (tgt := 85) (by decide) ⟨fun c9 => ?_, fun c9 => ?_⟩
              · have h := h.1 c9
                refine sd_aload_n (pc := 85) dX3_refusal_85 rfl 0 rfl ?_
                refine sd_getI (pc := 86) dX3_refusal_86 (ci := 2) rfl in_X3 (kf := 8) (by decide) q2081 (mo_gI hM rfl ?_)
                refine sd_goto (pc := 89) dX3_refusal_89 (tgt := 107) (by decide) ?_
                exact sd_ireturn (pc := 107) dX3_refusal_107 (ty0 := .int) rfl rfl (mI.ok h)
              · have h := h.2 c9
                refine sd_aload_n (pc := 78) dX3_refusal_78 rfl 0 rfl ?_
                refine sd_getI (pc := 79) dX3_refusal_79 (ci := 2) rfl in_X3 (kf := 7) (by decide) q2080 (mo_gI hM rfl ?_)
                refine sd_goto (pc := 82) dX3_refusal_82 (tgt := 107) (by decide) ?_
                exact sd_ireturn (pc := 107) dX3_refusal_107 (ty0 := .int) rfl rfl (mI.ok h)
          · have h := h.2 c11
            refine sd_iconst (pc := 68) dX3_refusal_68 (v := 0) (by decide) ?_
            exact sd_ireturn (pc := 69) dX3_refusal_69 (ty0 := .int) rfl rfl (mI.ok h)
        · have h := h.2 c19
          refine sd_aload_n (pc := 50) dX3_refusal_50 rfl 0 rfl ?_
          refine sd_getI (pc := 51) dX3_refusal_51 (ci := 2) rfl in_X3 (kf := 9) (by decide) q2082 (mo_gI hM rfl ?_)
          have h30 : Wx en (d + 1) mX3_refusal 62 [(0, .ref (mb 0)), (1, .int x1), (2, .int x2)] (.int (if ((ρ4.1 9) = 0) then (1 : Int32) else (0 : Int32)) :: .int (2 : Int32) :: .ref (mb 0) :: []) (mH en mb ρ4 σ) k n (mQ en mb σ (mI K)) X := by
            refine sd_callV (k := k) (n := n) (d0 := d) (k0 := 0) (n0 := 0) (As := [.int (2 : Int32), .int (if ((ρ4.1 9) = 0) then (1 : Int32) else (0 : Int32))]) (st := []) (pc := 62) dX3_refusal_62 (ci := 2) rfl (mo_isC hM) rfl q2170 q2172 qs26 q91 q2173 2 (by decide +kernel) rfl (Nat.le_refl _) (by decide) (Nat.le_of_ble_eq_true rfl) (Cx.mono (cm_X3_fails hM (by omega)  h) (mI.to (fun r14 ρ13 h => ?_)) (xo rfl))
            refine sd_ifeq (pc := 65) dX3_refusal_65 (tgt := 70) (by decide) ⟨fun c18 => ?_, fun c18 => ?_⟩
            · have h := h.1 c18
              refine sd_iload_n (pc := 70) dX3_refusal_70 rfl 1 rfl ?_
              refine sd_ifne (pc := 71) dX3_refusal_71 (tgt := 92) (by decide) ⟨fun c17 => ?_, fun c17 => ?_⟩
              · have h := h.1 c17
                refine sd_iload_n (pc := 92) dX3_refusal_92 rfl 2 rfl ?_
                refine sd_ifeq (pc := 93) dX3_refusal_93 (tgt := 103) (by decide) ⟨fun c15 => ?_, fun c15 => ?_⟩
                · have h := h.1 c15
                  refine sd_aload_n (pc := 103) dX3_refusal_103 rfl 0 rfl ?_
                  refine sd_getI (pc := 104) dX3_refusal_104 (ci := 2) rfl in_X3 (kf := 10) (by decide) q2083 (mo_gI hM rfl ?_)
                  exact sd_ireturn (pc := 107) dX3_refusal_107 (ty0 := .int) rfl rfl (mI.ok h)
                · have h := h.2 c15
                  refine sd_aload_n (pc := 96) dX3_refusal_96 rfl 0 rfl ?_
                  refine sd_getI (pc := 97) dX3_refusal_97 (ci := 2) rfl in_X3 (kf := 9) (by decide) q2082 (mo_gI hM rfl ?_)
                  refine sd_goto (pc := 100) dX3_refusal_100 (tgt := 107) (by decide) ?_
                  exact sd_ireturn (pc := 107) dX3_refusal_107 (ty0 := .int) rfl rfl (mI.ok h)
              · have h := h.2 c17
                refine sd_iload_n (pc := 74) dX3_refusal_74 rfl 2 rfl ?_
                refine sd_ifeq (pc := 75) dX3_refusal_75 (tgt := 85) (by decide) ⟨fun c16 => ?_, fun c16 => ?_⟩
                · have h := h.1 c16
                  refine sd_aload_n (pc := 85) dX3_refusal_85 rfl 0 rfl ?_
                  refine sd_getI (pc := 86) dX3_refusal_86 (ci := 2) rfl in_X3 (kf := 8) (by decide) q2081 (mo_gI hM rfl ?_)
                  refine sd_goto (pc := 89) dX3_refusal_89 (tgt := 107) (by decide) ?_
                  exact sd_ireturn (pc := 107) dX3_refusal_107 (ty0 := .int) rfl rfl (mI.ok h)
                · have h := h.2 c16
                  refine sd_aload_n (pc := 78) dX3_refusal_78 rfl 0 rfl ?_
                  refine sd_getI (pc := 79) dX3_refusal_79 (ci := 2) rfl in_X3 (kf := 7) (by decide) q2080 (mo_gI hM rfl ?_)
                  refine sd_goto (pc := 82) dX3_refusal_82 (tgt := 107) (by decide) ?_
                  exact sd_ireturn (pc := 107) dX3_refusal_107 (ty0 := .int) rfl rfl (mI.ok h)
            · have h := h.2 c18
              refine sd_iconst (pc := 68) dX3_refusal_68 (v := 0) (by decide) ?_
              exact sd_ireturn (pc := 69) dX3_refusal_69 (ty0 := .int) rfl rfl (mI.ok h)
          have e31 := sd_iteIN h30
          refine sd_ifne (pc := 54) dX3_refusal_54 (tgt := 61) (by decide) ⟨fun c12 => ?_, fun c12 => ?_⟩
          · refine sd_iconst (pc := 61) dX3_refusal_61 (v := 0) (by decide) ?_
            exact (e31.1 c12)
          · refine sd_iconst (pc := 57) dX3_refusal_57 (v := 1) (by decide) ?_
            refine sd_goto (pc := 58) dX3_refusal_58 (tgt := 62) (by decide) ?_
            exact (e31.2 c12)
      · have h := h.2 c27
        refine sd_aload_n (pc := 28) dX3_refusal_28 rfl 0 rfl ?_
        refine sd_getI (pc := 29) dX3_refusal_29 (ci := 2) rfl in_X3 (kf := 7) (by decide) q2080 (mo_gI hM rfl ?_)
        have h32 : Wx en (d + 1) mX3_refusal 62 [(0, .ref (mb 0)), (1, .int x1), (2, .int x2)] (.int (if ((ρ4.1 7) = 0) then (1 : Int32) else (0 : Int32)) :: .int (2 : Int32) :: .ref (mb 0) :: []) (mH en mb ρ4 σ) k n (mQ en mb σ (mI K)) X := by
          refine sd_callV (k := k) (n := n) (d0 := d) (k0 := 0) (n0 := 0) (As := [.int (2 : Int32), .int (if ((ρ4.1 7) = 0) then (1 : Int32) else (0 : Int32))]) (st := []) (pc := 62) dX3_refusal_62 (ci := 2) rfl (mo_isC hM) rfl q2170 q2172 qs26 q91 q2173 2 (by decide +kernel) rfl (Nat.le_refl _) (by decide) (Nat.le_of_ble_eq_true rfl) (Cx.mono (cm_X3_fails hM (by omega)  h) (mI.to (fun r22 ρ21 h => ?_)) (xo rfl))
          refine sd_ifeq (pc := 65) dX3_refusal_65 (tgt := 70) (by decide) ⟨fun c26 => ?_, fun c26 => ?_⟩
          · have h := h.1 c26
            refine sd_iload_n (pc := 70) dX3_refusal_70 rfl 1 rfl ?_
            refine sd_ifne (pc := 71) dX3_refusal_71 (tgt := 92) (by decide) ⟨fun c25 => ?_, fun c25 => ?_⟩
            · have h := h.1 c25
              refine sd_iload_n (pc := 92) dX3_refusal_92 rfl 2 rfl ?_
              refine sd_ifeq (pc := 93) dX3_refusal_93 (tgt := 103) (by decide) ⟨fun c23 => ?_, fun c23 => ?_⟩
              · have h := h.1 c23
                refine sd_aload_n (pc := 103) dX3_refusal_103 rfl 0 rfl ?_
                refine sd_getI (pc := 104) dX3_refusal_104 (ci := 2) rfl in_X3 (kf := 10) (by decide) q2083 (mo_gI hM rfl ?_)
                exact sd_ireturn (pc := 107) dX3_refusal_107 (ty0 := .int) rfl rfl (mI.ok h)
              · have h := h.2 c23
                refine sd_aload_n (pc := 96) dX3_refusal_96 rfl 0 rfl ?_
                refine sd_getI (pc := 97) dX3_refusal_97 (ci := 2) rfl in_X3 (kf := 9) (by decide) q2082 (mo_gI hM rfl ?_)
                refine sd_goto (pc := 100) dX3_refusal_100 (tgt := 107) (by decide) ?_
                exact sd_ireturn (pc := 107) dX3_refusal_107 (ty0 := .int) rfl rfl (mI.ok h)
            · have h := h.2 c25
              refine sd_iload_n (pc := 74) dX3_refusal_74 rfl 2 rfl ?_
              refine sd_ifeq (pc := 75) dX3_refusal_75 (tgt := 85) (by decide) ⟨fun c24 => ?_, fun c24 => ?_⟩
              · have h := h.1 c24
                refine sd_aload_n (pc := 85) dX3_refusal_85 rfl 0 rfl ?_
                refine sd_getI (pc := 86) dX3_refusal_86 (ci := 2) rfl in_X3 (kf := 8) (by decide) q2081 (mo_gI hM rfl ?_)
                refine sd_goto (pc := 89) dX3_refusal_89 (tgt := 107) (by decide) ?_
                exact sd_ireturn (pc := 107) dX3_refusal_107 (ty0 := .int) rfl rfl (mI.ok h)
              · have h := h.2 c24
                refine sd_aload_n (pc := 78) dX3_refusal_78 rfl 0 rfl ?_
                refine sd_getI (pc := 79) dX3_refusal_79 (ci := 2) rfl in_X3 (kf := 7) (by decide) q2080 (mo_gI hM rfl ?_)
                refine sd_goto (pc := 82) dX3_refusal_82 (tgt := 107) (by decide) ?_
                exact sd_ireturn (pc := 107) dX3_refusal_107 (ty0 := .int) rfl rfl (mI.ok h)
          · have h := h.2 c26
            refine sd_iconst (pc := 68) dX3_refusal_68 (v := 0) (by decide) ?_
            exact sd_ireturn (pc := 69) dX3_refusal_69 (ty0 := .int) rfl rfl (mI.ok h)
        have e33 := sd_iteIN h32
        refine sd_ifne (pc := 32) dX3_refusal_32 (tgt := 39) (by decide) ⟨fun c20 => ?_, fun c20 => ?_⟩
        · refine sd_iconst (pc := 39) dX3_refusal_39 (v := 0) (by decide) ?_
          refine sd_goto (pc := 40) dX3_refusal_40 (tgt := 62) (by decide) ?_
          exact (e33.1 c20)
        · refine sd_iconst (pc := 35) dX3_refusal_35 (v := 1) (by decide) ?_
          refine sd_goto (pc := 36) dX3_refusal_36 (tgt := 62) (by decide) ?_
          exact (e33.2 c20)
  have e34 := sd_iteIN h29
  refine sd_ifne (pc := 8) dX3_refusal_8 (tgt := 15) (by decide) ⟨fun c3 => ?_, fun c3 => ?_⟩
  · refine sd_iconst (pc := 15) dX3_refusal_15 (v := 0) (by decide) ?_
    exact (e34.1 c3)
  · refine sd_iconst (pc := 11) dX3_refusal_11 (v := 1) (by decide) ?_
    refine sd_goto (pc := 12) dX3_refusal_12 (tgt := 16) (by decide) ?_
    exact (e34.2 c3)
theorem cm_X3_refusal {en : yEn} {mb : Nat → Nat} {σ : yH} (hM : mOK en mb σ) {d : Nat} (hd : 2 ≤ d) {ρ : yMS} {x1 : Int32} {x2 : Int32} {K : Int32 → yMS → Prop} {X : String → Addr → yH → Prop}  (h : wpM_X3_refusal ρ x1 x2 K) : Cx en d 0 0 mX3_refusal [.ref (mb 0), .int x1, .int x2] (mH en mb ρ σ) (mQ en mb σ (mI K)) X := by
  obtain ⟨d, rfl⟩ : ∃ e, d = e + 1 := ⟨d - 1, by omega⟩
  exact Cx.body (by decide +kernel) rfl (Nat.le_of_ble_eq_true rfl) (okM_X3_refusal hM (by omega)  h)
/-! undo()I -/
def wpM_X3_undo (ρ : yMS)  (K : Int32 → yMS → Prop) : Prop :=
  wpM_X3_fails ρ (1 : Int32) (if ((ρ.1 6) = 0) then (1 : Int32) else (0 : Int32)) (fun r3 ρ2 => (((r3 = 0) → (mPut ρ2 6 ((ρ2.1 6) - (1 : Int32)) (fun ρ4 => (vp_in (ρ4.1 6) 8 ∧ wpM_X3_copyRow ρ4 (5 + (ρ4.1 6).toNatClampNeg) 1 (fun ρ5 => K (ρ5.1 6) ρ5))))) ∧ (¬ (r3 = 0) → K (0 : Int32) ρ2)))
theorem okM_X3_undo {en : yEn} {mb : Nat → Nat} {σ : yH} (hM : mOK en mb σ) {d : Nat} (hd : 2 ≤ d + 1) {ρ : yMS}  {K : Int32 → yMS → Prop} {X : String → Addr → yH → Prop} {k n : Nat}  (h : wpM_X3_undo ρ  K) : Wx en (d + 1) mX3_undo 0 [(0, .ref (mb 0))] [] (mH en mb ρ σ) k n (mQ en mb σ (mI K)) X := by
  unfold wpM_X3_undo at h
  refine sd_aload_n (pc := 0) dX3_undo_0 rfl 0 rfl ?_
  refine sd_iconst (pc := 1) dX3_undo_1 (v := 1) (by decide) ?_
  refine sd_aload_n (pc := 2) dX3_undo_2 rfl 0 rfl ?_
  refine sd_getI (pc := 3) dX3_undo_3 (ci := 2) rfl in_X3 (kf := 6) (by decide) q2079 (mo_gI hM rfl ?_)
  have h7 : Wx en (d + 1) mX3_undo 14 [(0, .ref (mb 0))] (.int (if ((ρ.1 6) = 0) then (1 : Int32) else (0 : Int32)) :: .int (1 : Int32) :: .ref (mb 0) :: []) (mH en mb ρ σ) k n (mQ en mb σ (mI K)) X := by
    refine sd_callV (k := k) (n := n) (d0 := d) (k0 := 0) (n0 := 0) (As := [.int (1 : Int32), .int (if ((ρ.1 6) = 0) then (1 : Int32) else (0 : Int32))]) (st := []) (pc := 14) dX3_undo_14 (ci := 2) rfl (mo_isC hM) rfl q2170 q2172 qs26 q91 q2173 2 (by decide +kernel) rfl (Nat.le_refl _) (by decide) (Nat.le_of_ble_eq_true rfl) (Cx.mono (cm_X3_fails hM (by omega)  h) (mI.to (fun r3 ρ2 h => ?_)) (xo rfl))
    refine sd_ifeq (pc := 17) dX3_undo_17 (tgt := 22) (by decide) ⟨fun c6 => ?_, fun c6 => ?_⟩
    · have h := h.1 c6
      refine sd_aload_n (pc := 22) dX3_undo_22 rfl 0 rfl ?_
      refine sd_dup (pc := 23) dX3_undo_23 rfl ?_
      refine sd_getI (pc := 24) dX3_undo_24 (ci := 2) rfl in_X3 (kf := 6) (by decide) q2079 (mo_gI hM rfl ?_)
      refine sd_iconst (pc := 27) dX3_undo_27 (v := 1) (by decide) ?_
      refine sd_isub (pc := 28) dX3_undo_28 ?_
      refine sd_putf (pc := 29) dX3_undo_29 (ci := 2) rfl in_X3 tyX3 tyX3_ok nmX3 (kf := 6) (by decide) q2079 rfl (ty := .int) rfl rfl rfl (mPut.to hM (by decide) rfl h (fun ρ4 h => ?_))
      refine sd_aload_n (pc := 32) dX3_undo_32 rfl 0 rfl ?_
      refine sd_getR (pc := 33) dX3_undo_33 (ci := 2) rfl in_X3 (kf := 5) (by decide) q2078 (mo_gR hM (j := 16) rfl ?_)
      refine sd_aload_n (pc := 36) dX3_undo_36 rfl 0 rfl ?_
      refine sd_getI (pc := 37) dX3_undo_37 (ci := 2) rfl in_X3 (kf := 6) (by decide) q2079 (mo_gI hM rfl ?_)
      refine sd_hist (pc := 40) hM dX3_undo_40 h.1 ?_
      have h := h.2
      refine sd_aload_n (pc := 41) dX3_undo_41 rfl 0 rfl ?_
      refine sd_getR (pc := 42) dX3_undo_42 (ci := 2) rfl in_X3 (kf := 1) (by decide) q2074 (mo_gR hM (j := 1) rfl ?_)
      refine sd_callS (k := k) (n := n) (d0 := d) (k0 := 0) (n0 := 0) (As := [.ref (mb (5 + (ρ4.1 6).toNatClampNeg)), .ref (mb 1)]) (st := []) (pc := 45) dX3_undo_45 q2197 q2198 q91 q2199 2 (by decide +kernel) rfl (Nat.le_refl _) (by decide) (Nat.le_of_ble_eq_true rfl) (Cx.mono (cm_X3_copyRow hM (by omega)  h) (mV.to (fun ρ5 h => ?_)) (xo rfl))
      refine sd_aload_n (pc := 48) dX3_undo_48 rfl 0 rfl ?_
      refine sd_getI (pc := 49) dX3_undo_49 (ci := 2) rfl in_X3 (kf := 6) (by decide) q2079 (mo_gI hM rfl ?_)
      exact sd_ireturn (pc := 52) dX3_undo_52 (ty0 := .int) rfl rfl (mI.ok h)
    · have h := h.2 c6
      refine sd_iconst (pc := 20) dX3_undo_20 (v := 0) (by decide) ?_
      exact sd_ireturn (pc := 21) dX3_undo_21 (ty0 := .int) rfl rfl (mI.ok h)
  have e8 := sd_iteIN h7
  refine sd_ifne (pc := 6) dX3_undo_6 (tgt := 13) (by decide) ⟨fun c1 => ?_, fun c1 => ?_⟩
  · refine sd_iconst (pc := 13) dX3_undo_13 (v := 0) (by decide) ?_
    exact (e8.1 c1)
  · refine sd_iconst (pc := 9) dX3_undo_9 (v := 1) (by decide) ?_
    refine sd_goto (pc := 10) dX3_undo_10 (tgt := 14) (by decide) ?_
    exact (e8.2 c1)
theorem cm_X3_undo {en : yEn} {mb : Nat → Nat} {σ : yH} (hM : mOK en mb σ) {d : Nat} (hd : 2 ≤ d) {ρ : yMS}  {K : Int32 → yMS → Prop} {X : String → Addr → yH → Prop}  (h : wpM_X3_undo ρ  K) : Cx en d 0 0 mX3_undo [.ref (mb 0)] (mH en mb ρ σ) (mQ en mb σ (mI K)) X := by
  obtain ⟨d, rfl⟩ : ∃ e, d = e + 1 := ⟨d - 1, by omega⟩
  exact Cx.body (by decide +kernel) rfl (Nat.le_of_ble_eq_true rfl) (okM_X3_undo hM (by omega)  h)
/-! saveSnapshot()I -/
def wpM_X3_saveSnapshot (ρ : yMS)  (K : Int32 → yMS → Prop) : Prop :=
  (mPut ρ 0 (0 : Int32) (fun ρ1 => (mPut ρ1 11 (1 : Int32) (fun ρ2 => wpM_X3_copyRow ρ2 1 2 (fun ρ3 => mAld ρ3 1 (10 : Int32) (fun v4 => K v4 ρ3))))))
theorem okM_X3_saveSnapshot {en : yEn} {mb : Nat → Nat} {σ : yH} (hM : mOK en mb σ) {d : Nat} (hd : 2 ≤ d + 1) {ρ : yMS}  {K : Int32 → yMS → Prop} {X : String → Addr → yH → Prop} {k n : Nat}  (h : wpM_X3_saveSnapshot ρ  K) : Wx en (d + 1) mX3_saveSnapshot 0 [(0, .ref (mb 0))] [] (mH en mb ρ σ) k n (mQ en mb σ (mI K)) X := by
  unfold wpM_X3_saveSnapshot at h
  refine sd_aload_n (pc := 0) dX3_saveSnapshot_0 rfl 0 rfl ?_
  refine sd_iconst (pc := 1) dX3_saveSnapshot_1 (v := 0) (by decide) ?_
  refine sd_putf (pc := 2) dX3_saveSnapshot_2 (ci := 2) rfl in_X3 tyX3 tyX3_ok nmX3 (kf := 0) (by decide) q2073 rfl (ty := .int) rfl rfl rfl (mPut.to hM (by decide) rfl h (fun ρ1 h => ?_))
  refine sd_aload_n (pc := 5) dX3_saveSnapshot_5 rfl 0 rfl ?_
  refine sd_iconst (pc := 6) dX3_saveSnapshot_6 (v := 1) (by decide) ?_
  refine sd_putf (pc := 7) dX3_saveSnapshot_7 (ci := 2) rfl in_X3 tyX3 tyX3_ok nmX3 (kf := 11) (by decide) q2084 rfl (ty := .boolean) rfl rfl rfl (mPut.to hM (by decide) rfl h (fun ρ2 h => ?_))
  refine sd_aload_n (pc := 10) dX3_saveSnapshot_10 rfl 0 rfl ?_
  refine sd_getR (pc := 11) dX3_saveSnapshot_11 (ci := 2) rfl in_X3 (kf := 1) (by decide) q2074 (mo_gR hM (j := 1) rfl ?_)
  refine sd_aload_n (pc := 14) dX3_saveSnapshot_14 rfl 0 rfl ?_
  refine sd_getR (pc := 15) dX3_saveSnapshot_15 (ci := 2) rfl in_X3 (kf := 2) (by decide) q2075 (mo_gR hM (j := 2) rfl ?_)
  refine sd_callS (k := k) (n := n) (d0 := d) (k0 := 0) (n0 := 0) (As := [.ref (mb 1), .ref (mb 2)]) (st := []) (pc := 18) dX3_saveSnapshot_18 q2197 q2198 q91 q2199 2 (by decide +kernel) rfl (Nat.le_refl _) (by decide) (Nat.le_of_ble_eq_true rfl) (Cx.mono (cm_X3_copyRow hM (by omega)  h) (mV.to (fun ρ3 h => ?_)) (xo rfl))
  refine sd_aload_n (pc := 21) dX3_saveSnapshot_21 rfl 0 rfl ?_
  refine sd_getR (pc := 22) dX3_saveSnapshot_22 (ci := 2) rfl in_X3 (kf := 1) (by decide) q2074 (mo_gR hM (j := 1) rfl ?_)
  refine sd_bipush (pc := 25) dX3_saveSnapshot_25 (v := 10) (by decide) ?_
  refine sd_iaload (pc := 27) dX3_saveSnapshot_27 (mAld.to hM h (fun v4 h => ?_))
  exact sd_ireturn (pc := 28) dX3_saveSnapshot_28 (ty0 := .int) rfl rfl (mI.ok h)
theorem cm_X3_saveSnapshot {en : yEn} {mb : Nat → Nat} {σ : yH} (hM : mOK en mb σ) {d : Nat} (hd : 2 ≤ d) {ρ : yMS}  {K : Int32 → yMS → Prop} {X : String → Addr → yH → Prop}  (h : wpM_X3_saveSnapshot ρ  K) : Cx en d 0 0 mX3_saveSnapshot [.ref (mb 0)] (mH en mb ρ σ) (mQ en mb σ (mI K)) X := by
  obtain ⟨d, rfl⟩ : ∃ e, d = e + 1 := ⟨d - 1, by omega⟩
  exact Cx.body (by decide +kernel) rfl (Nat.le_of_ble_eq_true rfl) (okM_X3_saveSnapshot hM (by omega)  h)
/-! restoreSnapshot()I -/
def wpM_X3_restoreSnapshot (ρ : yMS)  (K : Int32 → yMS → Prop) : Prop :=
  wpM_X3_fails ρ (1 : Int32) (if ((ρ.1 11) = 0) then (1 : Int32) else (0 : Int32)) (fun r3 ρ2 => (((r3 = 0) → wpM_X3_copyRow ρ2 2 1 (fun ρ4 => (mPut ρ4 6 (0 : Int32) (fun ρ5 => mAld ρ5 1 (10 : Int32) (fun v6 => K v6 ρ5))))) ∧ (¬ (r3 = 0) → K (0 : Int32) ρ2)))
theorem okM_X3_restoreSnapshot {en : yEn} {mb : Nat → Nat} {σ : yH} (hM : mOK en mb σ) {d : Nat} (hd : 2 ≤ d + 1) {ρ : yMS}  {K : Int32 → yMS → Prop} {X : String → Addr → yH → Prop} {k n : Nat}  (h : wpM_X3_restoreSnapshot ρ  K) : Wx en (d + 1) mX3_restoreSnapshot 0 [(0, .ref (mb 0))] [] (mH en mb ρ σ) k n (mQ en mb σ (mI K)) X := by
  unfold wpM_X3_restoreSnapshot at h
  refine sd_aload_n (pc := 0) dX3_restoreSnapshot_0 rfl 0 rfl ?_
  refine sd_iconst (pc := 1) dX3_restoreSnapshot_1 (v := 1) (by decide) ?_
  refine sd_aload_n (pc := 2) dX3_restoreSnapshot_2 rfl 0 rfl ?_
  refine sd_getI (pc := 3) dX3_restoreSnapshot_3 (ci := 2) rfl in_X3 (kf := 11) (by decide) q2084 (mo_gI hM rfl ?_)
  have h8 : Wx en (d + 1) mX3_restoreSnapshot 14 [(0, .ref (mb 0))] (.int (if ((ρ.1 11) = 0) then (1 : Int32) else (0 : Int32)) :: .int (1 : Int32) :: .ref (mb 0) :: []) (mH en mb ρ σ) k n (mQ en mb σ (mI K)) X := by
    refine sd_callV (k := k) (n := n) (d0 := d) (k0 := 0) (n0 := 0) (As := [.int (1 : Int32), .int (if ((ρ.1 11) = 0) then (1 : Int32) else (0 : Int32))]) (st := []) (pc := 14) dX3_restoreSnapshot_14 (ci := 2) rfl (mo_isC hM) rfl q2170 q2172 qs26 q91 q2173 2 (by decide +kernel) rfl (Nat.le_refl _) (by decide) (Nat.le_of_ble_eq_true rfl) (Cx.mono (cm_X3_fails hM (by omega)  h) (mI.to (fun r3 ρ2 h => ?_)) (xo rfl))
    refine sd_ifeq (pc := 17) dX3_restoreSnapshot_17 (tgt := 22) (by decide) ⟨fun c7 => ?_, fun c7 => ?_⟩
    · have h := h.1 c7
      refine sd_aload_n (pc := 22) dX3_restoreSnapshot_22 rfl 0 rfl ?_
      refine sd_getR (pc := 23) dX3_restoreSnapshot_23 (ci := 2) rfl in_X3 (kf := 2) (by decide) q2075 (mo_gR hM (j := 2) rfl ?_)
      refine sd_aload_n (pc := 26) dX3_restoreSnapshot_26 rfl 0 rfl ?_
      refine sd_getR (pc := 27) dX3_restoreSnapshot_27 (ci := 2) rfl in_X3 (kf := 1) (by decide) q2074 (mo_gR hM (j := 1) rfl ?_)
      refine sd_callS (k := k) (n := n) (d0 := d) (k0 := 0) (n0 := 0) (As := [.ref (mb 2), .ref (mb 1)]) (st := []) (pc := 30) dX3_restoreSnapshot_30 q2197 q2198 q91 q2199 2 (by decide +kernel) rfl (Nat.le_refl _) (by decide) (Nat.le_of_ble_eq_true rfl) (Cx.mono (cm_X3_copyRow hM (by omega)  h) (mV.to (fun ρ4 h => ?_)) (xo rfl))
      refine sd_aload_n (pc := 33) dX3_restoreSnapshot_33 rfl 0 rfl ?_
      refine sd_iconst (pc := 34) dX3_restoreSnapshot_34 (v := 0) (by decide) ?_
      refine sd_putf (pc := 35) dX3_restoreSnapshot_35 (ci := 2) rfl in_X3 tyX3 tyX3_ok nmX3 (kf := 6) (by decide) q2079 rfl (ty := .int) rfl rfl rfl (mPut.to hM (by decide) rfl h (fun ρ5 h => ?_))
      refine sd_aload_n (pc := 38) dX3_restoreSnapshot_38 rfl 0 rfl ?_
      refine sd_getR (pc := 39) dX3_restoreSnapshot_39 (ci := 2) rfl in_X3 (kf := 1) (by decide) q2074 (mo_gR hM (j := 1) rfl ?_)
      refine sd_bipush (pc := 42) dX3_restoreSnapshot_42 (v := 10) (by decide) ?_
      refine sd_iaload (pc := 44) dX3_restoreSnapshot_44 (mAld.to hM h (fun v6 h => ?_))
      exact sd_ireturn (pc := 45) dX3_restoreSnapshot_45 (ty0 := .int) rfl rfl (mI.ok h)
    · have h := h.2 c7
      refine sd_iconst (pc := 20) dX3_restoreSnapshot_20 (v := 0) (by decide) ?_
      exact sd_ireturn (pc := 21) dX3_restoreSnapshot_21 (ty0 := .int) rfl rfl (mI.ok h)
  have e9 := sd_iteIN h8
  refine sd_ifne (pc := 6) dX3_restoreSnapshot_6 (tgt := 13) (by decide) ⟨fun c1 => ?_, fun c1 => ?_⟩
  · refine sd_iconst (pc := 13) dX3_restoreSnapshot_13 (v := 0) (by decide) ?_
    exact (e9.1 c1)
  · refine sd_iconst (pc := 9) dX3_restoreSnapshot_9 (v := 1) (by decide) ?_
    refine sd_goto (pc := 10) dX3_restoreSnapshot_10 (tgt := 14) (by decide) ?_
    exact (e9.2 c1)
theorem cm_X3_restoreSnapshot {en : yEn} {mb : Nat → Nat} {σ : yH} (hM : mOK en mb σ) {d : Nat} (hd : 2 ≤ d) {ρ : yMS}  {K : Int32 → yMS → Prop} {X : String → Addr → yH → Prop}  (h : wpM_X3_restoreSnapshot ρ  K) : Cx en d 0 0 mX3_restoreSnapshot [.ref (mb 0)] (mH en mb ρ σ) (mQ en mb σ (mI K)) X := by
  obtain ⟨d, rfl⟩ : ∃ e, d = e + 1 := ⟨d - 1, by omega⟩
  exact Cx.body (by decide +kernel) rfl (Nat.le_of_ble_eq_true rfl) (okM_X3_restoreSnapshot hM (by omega)  h)
