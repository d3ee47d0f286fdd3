/-! THE MODEL: walks of its methods as predicate transformers -/
set_option maxRecDepth 100000
/-! character(I)C -/
def wpM_X3_character (ρ : yMS) (x1 : Int32) (K : Int32 → yMS → Prop) : Prop :=
  wpM_X3_isBetween ρ x1 (0 : Int32) ((ρ.1 17) - (1 : Int32)) (fun r2 ρ1 => wpM_X3_fails ρ1 (1 : Int32) (if (r2 = 0) then (1 : Int32) else (0 : Int32)) (fun r5 ρ4 => (((r5 = 0) → mCld ρ4 14 x1 (fun v6 => (narrow .char (.int v6) = .int v6 ∧ K v6 ρ4))) ∧ (¬ (r5 = 0) → K (32 : Int32) ρ4))))
theorem okM_X3_character {en : yEn} {mb : Nat → Nat} {σ : yH} (hM : mOK en mb σ) {d : Nat} (hd : 2 ≤ d + 1) {ρ : yMS} {x1 : Int32} {K : Int32 → yMS → Prop} {X : String → Addr → yH → Prop} {k n : Nat}  (h : wpM_X3_character ρ x1 K) : Wx en (d + 1) mX3_character 0 [(0, .ref (mb 0)), (1, .int x1)] [] (mH en mb ρ σ) k n (mQ en mb σ (mI K)) X := by
  unfold wpM_X3_character at h
  refine sd_aload_n (pc := 0) dX3_character_0 rfl 0 rfl ?_
  refine sd_iconst (pc := 1) dX3_character_1 (v := 1) (by decide) ?_
  refine sd_iload_n (pc := 2) dX3_character_2 rfl 1 rfl ?_
  refine sd_iconst (pc := 3) dX3_character_3 (v := 0) (by decide) ?_
  refine sd_aload_n (pc := 4) dX3_character_4 rfl 0 rfl ?_
  refine sd_getI (pc := 5) dX3_character_5 (ci := 2) rfl in_X3 (kf := 17) (by decide) q2090 (mo_gI hM rfl ?_)
  refine sd_iconst (pc := 8) dX3_character_8 (v := 1) (by decide) ?_
  refine sd_isub (pc := 9) dX3_character_9 ?_
  refine sd_callS (k := k) (n := n) (d0 := d) (k0 := 0) (n0 := 0) (As := [.int x1, .int (0 : Int32), .int ((ρ.1 17) - (1 : Int32))]) (st := [.int (1 : Int32), .ref (mb 0)]) (pc := 10) dX3_character_10 q2167 q2168 q91 q2169 3 (by decide +kernel) rfl (Nat.le_refl _) (by decide) (Nat.le_of_ble_eq_true rfl) (Cx.mono (cm_X3_isBetween hM (by omega)  h) (mI.to (fun r2 ρ1 h => ?_)) (xo rfl))
  have h8 : Wx en (d + 1) mX3_character 21 [(0, .ref (mb 0)), (1, .int x1)] (.int (if (r2 = 0) then (1 : Int32) else (0 : Int32)) :: .int (1 : Int32) :: .ref (mb 0) :: []) (mH en mb ρ1 σ) k n (mQ en mb σ (mI K)) X := by
    refine sd_callV (k := k) (n := n) (d0 := d) (k0 := 0) (n0 := 0) (As := [.int (1 : Int32), .int (if (r2 = 0) then (1 : Int32) else (0 : Int32))]) (st := []) (pc := 21) dX3_character_21 (ci := 2) rfl (mo_isC hM) rfl q2170 q2172 qs26 q91 q2173 2 (by decide +kernel) rfl (Nat.le_refl _) (by decide) (Nat.le_of_ble_eq_true rfl) (Cx.mono (cm_X3_fails hM (by omega)  h) (mI.to (fun r5 ρ4 h => ?_)) (xo rfl))
    refine sd_ifeq (pc := 24) dX3_character_24 (tgt := 32) (by decide) ⟨fun c7 => ?_, fun c7 => ?_⟩
    · have h := h.1 c7
      refine sd_aload_n (pc := 32) dX3_character_32 rfl 0 rfl ?_
      refine sd_getR (pc := 33) dX3_character_33 (ci := 2) rfl in_X3 (kf := 16) (by decide) q2089 (mo_gR hM (j := 14) rfl ?_)
      refine sd_iload_n (pc := 36) dX3_character_36 rfl 1 rfl ?_
      refine sd_cldM (pc := 37) hM dX3_character_37 h (fun v6 h => ?_)
      exact sd_ireturn (pc := 38) dX3_character_38 (ty0 := .char) rfl h.1 (mI.ok h.2)
    · have h := h.2 c7
      refine sd_bipush (pc := 27) dX3_character_27 (v := 32) (by decide) ?_
      refine sd_goto (pc := 29) dX3_character_29 (tgt := 38) (by decide) ?_
      exact sd_ireturn (pc := 38) dX3_character_38 (ty0 := .char) rfl rfl (mI.ok h)
  have e9 := sd_iteIN h8
  refine sd_ifne (pc := 13) dX3_character_13 (tgt := 20) (by decide) ⟨fun c3 => ?_, fun c3 => ?_⟩
  · refine sd_iconst (pc := 20) dX3_character_20 (v := 0) (by decide) ?_
    exact (e9.1 c3)
  · refine sd_iconst (pc := 16) dX3_character_16 (v := 1) (by decide) ?_
    refine sd_goto (pc := 17) dX3_character_17 (tgt := 21) (by decide) ?_
    exact (e9.2 c3)
theorem cm_X3_character {en : yEn} {mb : Nat → Nat} {σ : yH} (hM : mOK en mb σ) {d : Nat} (hd : 2 ≤ d) {ρ : yMS} {x1 : Int32} {K : Int32 → yMS → Prop} {X : String → Addr → yH → Prop}  (h : wpM_X3_character ρ x1 K) : Cx en d 0 0 mX3_character [.ref (mb 0), .int x1] (mH en mb ρ σ) (mQ en mb σ (mI K)) X := by
  obtain ⟨d, rfl⟩ : ∃ e, d = e + 1 := ⟨d - 1, by omega⟩
  exact Cx.body (by decide +kernel) rfl (Nat.le_of_ble_eq_true rfl) (okM_X3_character hM (by omega)  h)
/-! eggs()I -/
def stM_X3_eggs_4 (K : Int32 → yMS → Prop) (rec : Int32 → Int32 → yMS → Prop) (l1 : Int32) (l2 : Int32) (ρ : yMS) : Prop :=
  mAld ρ 1 (10 : Int32) (fun v1 => (((v1 ≤ l2) → K l1 ρ) ∧ (¬ (v1 ≤ l2) → wpM_X3_isHen ρ l2 (fun r3 ρ2 => (((r3 = 0) → rec (l1 + (0 : Int32)) (l2 + (1 : Int32)) ρ2) ∧ (¬ (r3 = 0) → wpM_X3_of ρ2 l2 (2 : Int32) (fun r5 ρ4 => rec (l1 + r5) (l2 + (1 : Int32)) ρ4)))))))
def lpM_X3_eggs_4 (K : Int32 → yMS → Prop) : Nat → Int32 × Int32 × yMS → Prop := lpN (fun r s => stM_X3_eggs_4  K (fun l1 l2 ρ => r (l1, l2, ρ)) s.1 s.2.1 s.2.2)
def wpM_X3_eggs_4 (l1 : Int32) (l2 : Int32) (ρ : yMS) (K : Int32 → yMS → Prop) : Prop := ∃ nn, lpM_X3_eggs_4  K nn (l1, l2, ρ)
theorem olM_X3_eggs_4 {en : yEn} {mb : Nat → Nat} {σ : yH} (hM : mOK en mb σ) {d : Nat} (hd : 3 ≤ d + 1) {K : Int32 → yMS → Prop} {X : String → Addr → yH → Prop} {k n : Nat} : ∀ (nn : Nat) (l1 : Int32) (l2 : Int32) (ρ : yMS), lpM_X3_eggs_4  K nn (l1, l2, ρ) → Wx en (d + 1) mX3_eggs 4 [(0, .ref (mb 0)), (1, .int l1), (2, .int l2)] [] (mH en mb ρ σ) k n (mQ en mb σ (mI K)) X := by
  intro nn
  induction nn with
  | zero => intros; rename_i h; exact h.elim
  | succ nn ih =>
    intro l1 l2 ρ h
    replace h : stM_X3_eggs_4  K (fun l1 l2 ρ => lpM_X3_eggs_4  K nn (l1, l2, ρ)) l1 l2 ρ := h
    unfold stM_X3_eggs_4 at h
    refine sd_iload_n (pc := 4) dX3_eggs_4 rfl 2 rfl ?_
    refine sd_aload_n (pc := 5) dX3_eggs_5 rfl 0 rfl ?_
    refine sd_getR (pc := 6) dX3_eggs_6 (ci := 2) rfl in_X3 (kf := 1) (by decide) q2074 (mo_gR hM (j := 1) rfl ?_)
    refine sd_bipush (pc := 9) dX3_eggs_9 (v := 10) (by decide) ?_
    refine sd_iaload (pc := 11) dX3_eggs_11 (mAld.to hM h (fun v1 h => ?_))
    refine sd_icmpge (pc := 12) dX3_eggs_12 (tgt := 42) (by decide) ⟨fun c7 => ?_, fun c7 => ?_⟩
    · have h := h.1 c7
      refine sd_iload_n (pc := 42) dX3_eggs_42 rfl 1 rfl ?_
      exact sd_ireturn (pc := 43) dX3_eggs_43 (ty0 := .int) rfl rfl (mI.ok h)
    · have h := h.2 c7
      refine sd_iload_n (pc := 15) dX3_eggs_15 rfl 1 rfl ?_
      refine sd_aload_n (pc := 16) dX3_eggs_16 rfl 0 rfl ?_
      refine sd_iload_n (pc := 17) dX3_eggs_17 rfl 2 rfl ?_
      refine sd_callV (k := k) (n := n) (d0 := d) (k0 := 0) (n0 := 0) (As := [.int l2]) (st := [.int l1]) (pc := 18) dX3_eggs_18 (ci := 2) rfl (mo_isC hM) rfl q2224 q2226 qs35 q91 q2227 1 (by decide +kernel) rfl (Nat.le_refl _) (by decide) (Nat.le_of_ble_eq_true rfl) (Cx.mono (cm_X3_isHen hM (by omega)  h) (mI.to (fun r3 ρ2 h => ?_)) (xo rfl))
      refine sd_ifeq (pc := 21) dX3_eggs_21 (tgt := 33) (by decide) ⟨fun c6 => ?_, fun c6 => ?_⟩
      · have h := h.1 c6
        refine sd_iconst (pc := 33) dX3_eggs_33 (v := 0) (by decide) ?_
        refine sd_iadd (pc := 34) dX3_eggs_34 ?_
        refine sd_istore_n (pc := 35) dX3_eggs_35 rfl (by decide) (ls' := [(1, .int (l1 + (0 : Int32))), (0, .ref (mb 0)), (2, .int l2)]) rfl ?_
        refine sd_iinc (pc := 36) dX3_eggs_36 2 rfl (v := (l2 + (1 : Int32))) rfl (by decide) (ls' := [(2, .int (l2 + (1 : Int32))), (1, .int (l1 + (0 : Int32))), (0, .ref (mb 0))]) rfl ?_
        refine sd_goto (pc := 39) dX3_eggs_39 (tgt := 4) (by decide) ?_
        exact sd_loc [2, 1, 0] rfl (ih _ _ _ h)
      · have h := h.2 c6
        refine sd_aload_n (pc := 24) dX3_eggs_24 rfl 0 rfl ?_
        refine sd_iload_n (pc := 25) dX3_eggs_25 rfl 2 rfl ?_
        refine sd_iconst (pc := 26) dX3_eggs_26 (v := 2) (by decide) ?_
        refine sd_callV (k := k) (n := n) (d0 := d) (k0 := 0) (n0 := 0) (As := [.int l2, .int (2 : Int32)]) (st := [.int l1]) (pc := 27) dX3_eggs_27 (ci := 2) rfl (mo_isC hM) rfl q2228 q2230 qs36 q91 q2231 2 (by decide +kernel) rfl (Nat.le_refl _) (by decide) (Nat.le_of_ble_eq_true rfl) (Cx.mono (cm_X3_of hM (by omega)  h) (mI.to (fun r5 ρ4 h => ?_)) (xo rfl))
        refine sd_goto (pc := 30) dX3_eggs_30 (tgt := 34) (by decide) ?_
        refine sd_iadd (pc := 34) dX3_eggs_34 ?_
        refine sd_istore_n (pc := 35) dX3_eggs_35 rfl (by decide) (ls' := [(1, .int (l1 + r5)), (0, .ref (mb 0)), (2, .int l2)]) rfl ?_
        refine sd_iinc (pc := 36) dX3_eggs_36 2 rfl (v := (l2 + (1 : Int32))) rfl (by decide) (ls' := [(2, .int (l2 + (1 : Int32))), (1, .int (l1 + r5)), (0, .ref (mb 0))]) rfl ?_
        refine sd_goto (pc := 39) dX3_eggs_39 (tgt := 4) (by decide) ?_
        exact sd_loc [2, 1, 0] rfl (ih _ _ _ h)
theorem okM_X3_eggs_4 {en : yEn} {mb : Nat → Nat} {σ : yH} (hM : mOK en mb σ) {d : Nat} (hd : 3 ≤ d + 1) {K : Int32 → yMS → Prop} {X : String → Addr → yH → Prop} {k n : Nat} (l1 : Int32) (l2 : Int32) (ρ : yMS) (h : wpM_X3_eggs_4  l1 l2 ρ K) : Wx en (d + 1) mX3_eggs 4 [(0, .ref (mb 0)), (1, .int l1), (2, .int l2)] [] (mH en mb ρ σ) k n (mQ en mb σ (mI K)) X := by
  obtain ⟨nn, h⟩ := h
  exact olM_X3_eggs_4 hM hd  nn _ _ _ h
def wpM_X3_eggs (ρ : yMS)  (K : Int32 → yMS → Prop) : Prop :=
  wpM_X3_eggs_4  (0 : Int32) (0 : Int32) ρ K
theorem okM_X3_eggs {en : yEn} {mb : Nat → Nat} {σ : yH} (hM : mOK en mb σ) {d : Nat} (hd : 3 ≤ d + 1) {ρ : yMS}  {K : Int32 → yMS → Prop} {X : String → Addr → yH → Prop} {k n : Nat}  (h : wpM_X3_eggs ρ  K) : Wx en (d + 1) mX3_eggs 0 [(0, .ref (mb 0))] [] (mH en mb ρ σ) k n (mQ en mb σ (mI K)) X := by
  unfold wpM_X3_eggs at h
  refine sd_iconst (pc := 0) dX3_eggs_0 (v := 0) (by decide) ?_
  refine sd_istore_n (pc := 1) dX3_eggs_1 rfl (by decide) (ls' := [(1, .int (0 : Int32)), (0, .ref (mb 0))]) rfl ?_
  refine sd_iconst (pc := 2) dX3_eggs_2 (v := 0) (by decide) ?_
  refine sd_istore_n (pc := 3) dX3_eggs_3 rfl (by decide) (ls' := [(2, .int (0 : Int32)), (1, .int (0 : Int32)), (0, .ref (mb 0))]) rfl ?_
  exact sd_loc [2, 1, 0] rfl (okM_X3_eggs_4 hM (by omega)  _ _ _ h)
theorem cm_X3_eggs {en : yEn} {mb : Nat → Nat} {σ : yH} (hM : mOK en mb σ) {d : Nat} (hd : 3 ≤ d) {ρ : yMS}  {K : Int32 → yMS → Prop} {X : String → Addr → yH → Prop}  (h : wpM_X3_eggs ρ  K) : Cx en d 0 0 mX3_eggs [.ref (mb 0)] (mH en mb ρ σ) (mQ en mb σ (mI K)) X := by
  obtain ⟨d, rfl⟩ : ∃ e, d = e + 1 := ⟨d - 1, by omega⟩
  exact Cx.body (by decide +kernel) rfl (Nat.le_of_ble_eq_true rfl) (okM_X3_eggs hM (by omega)  h)
/-! sum(III)I -/
def stM_X3_sum_6 (K : Int32 → yMS → Prop) (rec : Int32 → Int32 → Int32 → Int32 → Int32 → yMS → Prop) (l1 : Int32) (l2 : Int32) (l3 : Int32) (l4 : Int32) (l5 : Int32) (ρ : yMS) : Prop :=
  (((l3 ≤ l5) → K l4 ρ) ∧ (¬ (l3 ≤ l5) → mAld ρ 1 (l1 + (l2 * l5)) (fun v1 => rec l1 l2 l3 (l4 + v1) (l5 + (1 : Int32)) ρ)))
def lpM_X3_sum_6 (K : Int32 → yMS → Prop) : Nat → Int32 × Int32 × Int32 × Int32 × Int32 × yMS → Prop := lpN (fun r s => stM_X3_sum_6  K (fun l1 l2 l3 l4 l5 ρ => r (l1, l2, l3, l4, l5, ρ)) s.1 s.2.1 s.2.2.1 s.2.2.2.1 s.2.2.2.2.1 s.2.2.2.2.2)
def wpM_X3_sum_6 (l1 : Int32) (l2 : Int32) (l3 : Int32) (l4 : Int32) (l5 : Int32) (ρ : yMS) (K : Int32 → yMS → Prop) : Prop := ∃ nn, lpM_X3_sum_6  K nn (l1, l2, l3, l4, l5, ρ)
theorem olM_X3_sum_6 {en : yEn} {mb : Nat → Nat} {σ : yH} (hM : mOK en mb σ) {d : Nat} (hd : 1 ≤ d + 1) {K : Int32 → yMS → Prop} {X : String → Addr → yH → Prop} {k n : Nat} : ∀ (nn : Nat) (l1 : Int32) (l2 : Int32) (l3 : Int32) (l4 : Int32) (l5 : Int32) (ρ : yMS), lpM_X3_sum_6  K nn (l1, l2, l3, l4, l5, ρ) → Wx en (d + 1) mX3_sum 6 [(0, .ref (mb 0)), (1, .int l1), (2, .int l2), (3, .int l3), (4, .int l4), (5, .int l5)] [] (mH en mb ρ σ) k n (mQ en mb σ (mI K)) X := by
  intro nn
  induction nn with
  | zero => intros; rename_i h; exact h.elim
  | succ nn ih =>
    intro l1 l2 l3 l4 l5 ρ h
    replace h : stM_X3_sum_6  K (fun l1 l2 l3 l4 l5 ρ => lpM_X3_sum_6  K nn (l1, l2, l3, l4, l5, ρ)) l1 l2 l3 l4 l5 ρ := h
    unfold stM_X3_sum_6 at h
    refine sd_iload (pc := 6) dX3_sum_6 5 rfl ?_
    refine sd_iload_n (pc := 8) dX3_sum_8 rfl 3 rfl ?_
    refine sd_icmpge (pc := 9) dX3_sum_9 (tgt := 34) (by decide) ⟨fun c2 => ?_, fun c2 => ?_⟩
    · have h := h.1 c2
      refine sd_iload (pc := 34) dX3_sum_34 4 rfl ?_
      exact sd_ireturn (pc := 36) dX3_sum_36 (ty0 := .int) rfl rfl (mI.ok h)
    · have h := h.2 c2
      refine sd_iload (pc := 12) dX3_sum_12 4 rfl ?_
      refine sd_aload_n (pc := 14) dX3_sum_14 rfl 0 rfl ?_
      refine sd_getR (pc := 15) dX3_sum_15 (ci := 2) rfl in_X3 (kf := 1) (by decide) q2074 (mo_gR hM (j := 1) rfl ?_)
      refine sd_iload_n (pc := 18) dX3_sum_18 rfl 1 rfl ?_
      refine sd_iload_n (pc := 19) dX3_sum_19 rfl 2 rfl ?_
      refine sd_iload (pc := 20) dX3_sum_20 5 rfl ?_
      refine sd_imul (pc := 22) dX3_sum_22 ?_
      refine sd_iadd (pc := 23) dX3_sum_23 ?_
      refine sd_iaload (pc := 24) dX3_sum_24 (mAld.to hM h (fun v1 h => ?_))
      refine sd_iadd (pc := 25) dX3_sum_25 ?_
      refine sd_istore (pc := 26) dX3_sum_26 (by decide) (ls' := [(4, .int (l4 + v1)), (0, .ref (mb 0)), (1, .int l1), (2, .int l2), (3, .int l3), (5, .int l5)]) rfl ?_
      refine sd_iinc (pc := 28) dX3_sum_28 5 rfl (v := (l5 + (1 : Int32))) rfl (by decide) (ls' := [(5, .int (l5 + (1 : Int32))), (4, .int (l4 + v1)), (0, .ref (mb 0)), (1, .int l1), (2, .int l2), (3, .int l3)]) rfl ?_
      refine sd_goto (pc := 31) dX3_sum_31 (tgt := 6) (by decide) ?_
      exact sd_loc [2, 3, 4, 5, 1, 0] rfl (ih _ _ _ _ _ _ h)
theorem okM_X3_sum_6 {en : yEn} {mb : Nat → Nat} {σ : yH} (hM : mOK en mb σ) {d : Nat} (hd : 1 ≤ d + 1) {K : Int32 → yMS → Prop} {X : String → Addr → yH → Prop} {k n : Nat} (l1 : Int32) (l2 : Int32) (l3 : Int32) (l4 : Int32) (l5 : Int32) (ρ : yMS) (h : wpM_X3_sum_6  l1 l2 l3 l4 l5 ρ K) : Wx en (d + 1) mX3_sum 6 [(0, .ref (mb 0)), (1, .int l1), (2, .int l2), (3, .int l3), (4, .int l4), (5, .int l5)] [] (mH en mb ρ σ) k n (mQ en mb σ (mI K)) X := by
  obtain ⟨nn, h⟩ := h
  exact olM_X3_sum_6 hM hd  nn _ _ _ _ _ _ h
def wpM_X3_sum (ρ : yMS) (x1 : Int32) (x2 : Int32) (x3 : Int32) (K : Int32 → yMS → Prop) : Prop :=
  wpM_X3_sum_6  x1 x2 x3 (0 : Int32) (0 : Int32) ρ K
theorem okM_X3_sum {en : yEn} {mb : Nat → Nat} {σ : yH} (hM : mOK en mb σ) {d : Nat} (hd : 1 ≤ d + 1) {ρ : yMS} {x1 : Int32} {x2 : Int32} {x3 : Int32} {K : Int32 → yMS → Prop} {X : String → Addr → yH → Prop} {k n : Nat}  (h : wpM_X3_sum ρ x1 x2 x3 K) : Wx en (d + 1) mX3_sum 0 [(0, .ref (mb 0)), (1, .int x1), (2, .int x2), (3, .int x3)] [] (mH en mb ρ σ) k n (mQ en mb σ (mI K)) X := by
  unfold wpM_X3_sum at h
  refine sd_iconst (pc := 0) dX3_sum_0 (v := 0) (by decide) ?_
  refine sd_istore (pc := 1) dX3_sum_1 (by decide) (ls' := [(4, .int (0 : Int32)), (0, .ref (mb 0)), (1, .int x1), (2, .int x2), (3, .int x3)]) rfl ?_
  refine sd_iconst (pc := 3) dX3_sum_3 (v := 0) (by decide) ?_
  refine sd_istore (pc := 4) dX3_sum_4 (by decide) (ls' := [(5, .int (0 : Int32)), (4, .int (0 : Int32)), (0, .ref (mb 0)), (1, .int x1), (2, .int x2), (3, .int x3)]) rfl ?_
  exact sd_loc [2, 3, 4, 5, 1, 0] rfl (okM_X3_sum_6 hM (by omega)  _ _ _ _ _ _ h)
theorem cm_X3_sum {en : yEn} {mb : Nat → Nat} {σ : yH} (hM : mOK en mb σ) {d : Nat} (hd : 1 ≤ d) {ρ : yMS} {x1 : Int32} {x2 : Int32} {x3 : Int32} {K : Int32 → yMS → Prop} {X : String → Addr → yH → Prop}  (h : wpM_X3_sum ρ x1 x2 x3 K) : Cx en d 0 0 mX3_sum [.ref (mb 0), .int x1, .int x2, .int x3] (mH en mb ρ σ) (mQ en mb σ (mI K)) X := by
  obtain ⟨d, rfl⟩ : ∃ e, d = e + 1 := ⟨d - 1, by omega⟩
  exact Cx.body (by decide +kernel) rfl (Nat.le_of_ble_eq_true rfl) (okM_X3_sum hM (by omega)  h)
/-! hens()I -/
def wpM_X3_hens (ρ : yMS)  (K : Int32 → yMS → Prop) : Prop :=
  mAld ρ 1 (10 : Int32) (fun v1 => wpM_X3_sum ρ (34 : Int32) (6 : Int32) v1 (fun r3 ρ2 => K r3 ρ2))
theorem okM_X3_hens {en : yEn} {mb : Nat → Nat} {σ : yH} (hM : mOK en mb σ) {d : Nat} (hd : 2 ≤ d + 1) {ρ : yMS}  {K : Int32 → yMS → Prop} {X : String → Addr → yH → Prop} {k n : Nat}  (h : wpM_X3_hens ρ  K) : Wx en (d + 1) mX3_hens 0 [(0, .ref (mb 0))] [] (mH en mb ρ σ) k n (mQ en mb σ (mI K)) X := by
  unfold wpM_X3_hens at h
  refine sd_aload_n (pc := 0) dX3_hens_0 rfl 0 rfl ?_
  refine sd_bipush (pc := 1) dX3_hens_1 (v := 34) (by decide) ?_
  refine sd_bipush (pc := 3) dX3_hens_3 (v := 6) (by decide) ?_
  refine sd_aload_n (pc := 5) dX3_hens_5 rfl 0 rfl ?_
  refine sd_getR (pc := 6) dX3_hens_6 (ci := 2) rfl in_X3 (kf := 1) (by decide) q2074 (mo_gR hM (j := 1) rfl ?_)
  refine sd_bipush (pc := 9) dX3_hens_9 (v := 10) (by decide) ?_
  refine sd_iaload (pc := 11) dX3_hens_11 (mAld.to hM h (fun v1 h => ?_))
  refine sd_callV (k := k) (n := n) (d0 := d) (k0 := 0) (n0 := 0) (As := [.int (34 : Int32), .int (6 : Int32), .int v1]) (st := []) (pc := 12) dX3_hens_12 (ci := 2) rfl (mo_isC hM) rfl q2468 q2470 qs66 q91 q2471 3 (by decide +kernel) rfl (Nat.le_refl _) (by decide) (Nat.le_of_ble_eq_true rfl) (Cx.mono (cm_X3_sum hM (by omega)  h) (mI.to (fun r3 ρ2 h => ?_)) (xo rfl))
  exact sd_ireturn (pc := 15) dX3_hens_15 (ty0 := .int) rfl rfl (mI.ok h)
theorem cm_X3_hens {en : yEn} {mb : Nat → Nat} {σ : yH} (hM : mOK en mb σ) {d : Nat} (hd : 2 ≤ d) {ρ : yMS}  {K : Int32 → yMS → Prop} {X : String → Addr → yH → Prop}  (h : wpM_X3_hens ρ  K) : Cx en d 0 0 mX3_hens [.ref (mb 0)] (mH en mb ρ σ) (mQ en mb σ (mI K)) X := by
  obtain ⟨d, rfl⟩ : ∃ e, d = e + 1 := ⟨d - 1, by omega⟩
  exact Cx.body (by decide +kernel) rfl (Nat.le_of_ble_eq_true rfl) (okM_X3_hens hM (by omega)  h)
/-! lying()I -/
def wpM_X3_lying (ρ : yMS)  (K : Int32 → yMS → Prop) : Prop :=
  wpM_X3_sum ρ (13 : Int32) (1 : Int32) (9 : Int32) (fun r2 ρ1 => K r2 ρ1)
theorem okM_X3_lying {en : yEn} {mb : Nat → Nat} {σ : yH} (hM : mOK en mb σ) {d : Nat} (hd : 2 ≤ d + 1) {ρ : yMS}  {K : Int32 → yMS → Prop} {X : String → Addr → yH → Prop} {k n : Nat}  (h : wpM_X3_lying ρ  K) : Wx en (d + 1) mX3_lying 0 [(0, .ref (mb 0))] [] (mH en mb ρ σ) k n (mQ en mb σ (mI K)) X := by
  unfold wpM_X3_lying at h
  refine sd_aload_n (pc := 0) dX3_lying_0 rfl 0 rfl ?_
  refine sd_bipush (pc := 1) dX3_lying_1 (v := 13) (by decide) ?_
  refine sd_iconst (pc := 3) dX3_lying_3 (v := 1) (by decide) ?_
  refine sd_bipush (pc := 4) dX3_lying_4 (v := 9) (by decide) ?_
  refine sd_callV (k := k) (n := n) (d0 := d) (k0 := 0) (n0 := 0) (As := [.int (13 : Int32), .int (1 : Int32), .int (9 : Int32)]) (st := []) (pc := 6) dX3_lying_6 (ci := 2) rfl (mo_isC hM) rfl q2468 q2470 qs66 q91 q2471 3 (by decide +kernel) rfl (Nat.le_refl _) (by decide) (Nat.le_of_ble_eq_true rfl) (Cx.mono (cm_X3_sum hM (by omega)  h) (mI.to (fun r2 ρ1 h => ?_)) (xo rfl))
  exact sd_ireturn (pc := 9) dX3_lying_9 (ty0 := .int) rfl rfl (mI.ok h)
theorem cm_X3_lying {en : yEn} {mb : Nat → Nat} {σ : yH} (hM : mOK en mb σ) {d : Nat} (hd : 2 ≤ d) {ρ : yMS}  {K : Int32 → yMS → Prop} {X : String → Addr → yH → Prop}  (h : wpM_X3_lying ρ  K) : Cx en d 0 0 mX3_lying [.ref (mb 0)] (mH en mb ρ σ) (mQ en mb σ (mI K)) X := by
  obtain ⟨d, rfl⟩ : ∃ e, d = e + 1 := ⟨d - 1, by omega⟩
  exact Cx.body (by decide +kernel) rfl (Nat.le_of_ble_eq_true rfl) (okM_X3_lying hM (by omega)  h)
/-! otherNumber(I)I -/
def wpM_X3_otherNumber (ρ : yMS) (x1 : Int32) (K : Int32 → yMS → Prop) : Prop :=
  ((x1 = (9 : Int32) → mAld ρ 1 (3 : Int32) (fun v1 => K v1 ρ)) ∧ (x1 = (10 : Int32) → mAld ρ 1 (4 : Int32) (fun v2 => K v2 ρ)) ∧ (x1 = (11 : Int32) → mAld ρ 1 (5 : Int32) (fun v3 => K v3 ρ)) ∧ (x1 = (12 : Int32) → mAld ρ 1 (11 : Int32) (fun v4 => K v4 ρ)) ∧ (x1 = (13 : Int32) → mAld ρ 1 (12 : Int32) (fun v5 => K v5 ρ)) ∧ (x1 = (14 : Int32) → mAld ρ 1 (12 : Int32) (fun v6 => wpM_X3_sum ρ (119 : Int32) (3 : Int32) v6 (fun r8 ρ7 => K r8 ρ7))) ∧ (x1 = (15 : Int32) → mAld ρ 1 (2 : Int32) (fun v9 => K v9 ρ)) ∧ (x1 = (16 : Int32) → mAld ρ 1 (6 : Int32) (fun v10 => K v10 ρ)) ∧ (x1 = (17 : Int32) → K (ρ.1 6) ρ) ∧ (x1.toInt < 9 ∨ 17 < x1.toInt → K (ρ.1 19) ρ))
theorem okM_X3_otherNumber {en : yEn} {mb : Nat → Nat} {σ : yH} (hM : mOK en mb σ) {d : Nat} (hd : 2 ≤ d + 1) {ρ : yMS} {x1 : Int32} {K : Int32 → yMS → Prop} {X : String → Addr → yH → Prop} {k n : Nat}  (h : wpM_X3_otherNumber ρ x1 K) : Wx en (d + 1) mX3_otherNumber 0 [(0, .ref (mb 0)), (1, .int x1)] [] (mH en mb ρ σ) k n (mQ en mb σ (mI K)) X := by
  unfold wpM_X3_otherNumber at h
  refine sd_iload_n (pc := 0) dX3_otherNumber_0 rfl 1 rfl ?_
  by_cases g0 : x1.toInt < 9 ∨ 17 < x1.toInt
  · have h := h.2.2.2.2.2.2.2.2.2 g0
    refine sd_tableOut (pc := 1) dX3_otherNumber_1 g0 (tgt := 124) (by decide) ?_
    refine sd_aload_n (pc := 124) dX3_otherNumber_124 rfl 0 rfl ?_
    refine sd_getI (pc := 125) dX3_otherNumber_125 (ci := 2) rfl in_X3 (kf := 19) (by decide) q2092 (mo_gI hM rfl ?_)
    exact sd_ireturn (pc := 128) dX3_otherNumber_128 (ty0 := .int) rfl rfl (mI.ok h)
  · have g1 : ∃ j : Nat, j < 9 ∧ x1 = Int32.ofInt (9 + j) := tsw 9 g0 (by omega)
    obtain ⟨j, gj, g2⟩ := g1
    rcases (show j = 0 ∨ j = 1 ∨ j = 2 ∨ j = 3 ∨ j = 4 ∨ j = 5 ∨ j = 6 ∨ j = 7 ∨ j = 8 by omega) with rfl | rfl | rfl | rfl | rfl | rfl | rfl | rfl | rfl
    · have h := h.1 g2
      refine sd_tableIn (pc := 1) dX3_otherNumber_1 (by rw [g2]; decide) (by rw [g2]; decide) (off := 51) (by rw [g2]; rfl) (tgt := 52) (by decide) ?_
      refine sd_aload_n (pc := 52) dX3_otherNumber_52 rfl 0 rfl ?_
      refine sd_getR (pc := 53) dX3_otherNumber_53 (ci := 2) rfl in_X3 (kf := 1) (by decide) q2074 (mo_gR hM (j := 1) rfl ?_)
      refine sd_iconst (pc := 56) dX3_otherNumber_56 (v := 3) (by decide) ?_
      refine sd_iaload (pc := 57) dX3_otherNumber_57 (mAld.to hM h (fun v1 h => ?_))
      exact sd_ireturn (pc := 58) dX3_otherNumber_58 (ty0 := .int) rfl rfl (mI.ok h)
    · have h := h.2.1 g2
      refine sd_tableIn (pc := 1) dX3_otherNumber_1 (by rw [g2]; decide) (by rw [g2]; decide) (off := 58) (by rw [g2]; rfl) (tgt := 59) (by decide) ?_
      refine sd_aload_n (pc := 59) dX3_otherNumber_59 rfl 0 rfl ?_
      refine sd_getR (pc := 60) dX3_otherNumber_60 (ci := 2) rfl in_X3 (kf := 1) (by decide) q2074 (mo_gR hM (j := 1) rfl ?_)
      refine sd_iconst (pc := 63) dX3_otherNumber_63 (v := 4) (by decide) ?_
      refine sd_iaload (pc := 64) dX3_otherNumber_64 (mAld.to hM h (fun v2 h => ?_))
      exact sd_ireturn (pc := 65) dX3_otherNumber_65 (ty0 := .int) rfl rfl (mI.ok h)
    · have h := h.2.2.1 g2
      refine sd_tableIn (pc := 1) dX3_otherNumber_1 (by rw [g2]; decide) (by rw [g2]; decide) (off := 65) (by rw [g2]; rfl) (tgt := 66) (by decide) ?_
      refine sd_aload_n (pc := 66) dX3_otherNumber_66 rfl 0 rfl ?_
      refine sd_getR (pc := 67) dX3_otherNumber_67 (ci := 2) rfl in_X3 (kf := 1) (by decide) q2074 (mo_gR hM (j := 1) rfl ?_)
      refine sd_iconst (pc := 70) dX3_otherNumber_70 (v := 5) (by decide) ?_
      refine sd_iaload (pc := 71) dX3_otherNumber_71 (mAld.to hM h (fun v3 h => ?_))
      exact sd_ireturn (pc := 72) dX3_otherNumber_72 (ty0 := .int) rfl rfl (mI.ok h)
    · have h := h.2.2.2.1 g2
      refine sd_tableIn (pc := 1) dX3_otherNumber_1 (by rw [g2]; decide) (by rw [g2]; decide) (off := 72) (by rw [g2]; rfl) (tgt := 73) (by decide) ?_
      refine sd_aload_n (pc := 73) dX3_otherNumber_73 rfl 0 rfl ?_
      refine sd_getR (pc := 74) dX3_otherNumber_74 (ci := 2) rfl in_X3 (kf := 1) (by decide) q2074 (mo_gR hM (j := 1) rfl ?_)
      refine sd_bipush (pc := 77) dX3_otherNumber_77 (v := 11) (by decide) ?_
      refine sd_iaload (pc := 79) dX3_otherNumber_79 (mAld.to hM h (fun v4 h => ?_))
      exact sd_ireturn (pc := 80) dX3_otherNumber_80 (ty0 := .int) rfl rfl (mI.ok h)
    · have h := h.2.2.2.2.1 g2
      refine sd_tableIn (pc := 1) dX3_otherNumber_1 (by rw [g2]; decide) (by rw [g2]; decide) (off := 80) (by rw [g2]; rfl) (tgt := 81) (by decide) ?_
      refine sd_aload_n (pc := 81) dX3_otherNumber_81 rfl 0 rfl ?_
      refine sd_getR (pc := 82) dX3_otherNumber_82 (ci := 2) rfl in_X3 (kf := 1) (by decide) q2074 (mo_gR hM (j := 1) rfl ?_)
      refine sd_bipush (pc := 85) dX3_otherNumber_85 (v := 12) (by decide) ?_
      refine sd_iaload (pc := 87) dX3_otherNumber_87 (mAld.to hM h (fun v5 h => ?_))
      exact sd_ireturn (pc := 88) dX3_otherNumber_88 (ty0 := .int) rfl rfl (mI.ok h)
    · have h := h.2.2.2.2.2.1 g2
      refine sd_tableIn (pc := 1) dX3_otherNumber_1 (by rw [g2]; decide) (by rw [g2]; decide) (off := 88) (by rw [g2]; rfl) (tgt := 89) (by decide) ?_
      refine sd_aload_n (pc := 89) dX3_otherNumber_89 rfl 0 rfl ?_
      refine sd_bipush (pc := 90) dX3_otherNumber_90 (v := 119) (by decide) ?_
      refine sd_iconst (pc := 92) dX3_otherNumber_92 (v := 3) (by decide) ?_
      refine sd_aload_n (pc := 93) dX3_otherNumber_93 rfl 0 rfl ?_
      refine sd_getR (pc := 94) dX3_otherNumber_94 (ci := 2) rfl in_X3 (kf := 1) (by decide) q2074 (mo_gR hM (j := 1) rfl ?_)
      refine sd_bipush (pc := 97) dX3_otherNumber_97 (v := 12) (by decide) ?_
      refine sd_iaload (pc := 99) dX3_otherNumber_99 (mAld.to hM h (fun v6 h => ?_))
      refine sd_callV (k := k) (n := n) (d0 := d) (k0 := 0) (n0 := 0) (As := [.int (119 : Int32), .int (3 : Int32), .int v6]) (st := []) (pc := 100) dX3_otherNumber_100 (ci := 2) rfl (mo_isC hM) rfl q2468 q2470 qs66 q91 q2471 3 (by decide +kernel) rfl (Nat.le_refl _) (by decide) (Nat.le_of_ble_eq_true rfl) (Cx.mono (cm_X3_sum hM (by omega)  h) (mI.to (fun r8 ρ7 h => ?_)) (xo rfl))
      exact sd_ireturn (pc := 103) dX3_otherNumber_103 (ty0 := .int) rfl rfl (mI.ok h)
    · have h := h.2.2.2.2.2.2.1 g2
      refine sd_tableIn (pc := 1) dX3_otherNumber_1 (by rw [g2]; decide) (by rw [g2]; decide) (off := 103) (by rw [g2]; rfl) (tgt := 104) (by decide) ?_
      refine sd_aload_n (pc := 104) dX3_otherNumber_104 rfl 0 rfl ?_
      refine sd_getR (pc := 105) dX3_otherNumber_105 (ci := 2) rfl in_X3 (kf := 1) (by decide) q2074 (mo_gR hM (j := 1) rfl ?_)
      refine sd_iconst (pc := 108) dX3_otherNumber_108 (v := 2) (by decide) ?_
      refine sd_iaload (pc := 109) dX3_otherNumber_109 (mAld.to hM h (fun v9 h => ?_))
      exact sd_ireturn (pc := 110) dX3_otherNumber_110 (ty0 := .int) rfl rfl (mI.ok h)
    · have h := h.2.2.2.2.2.2.2.1 g2
      refine sd_tableIn (pc := 1) dX3_otherNumber_1 (by rw [g2]; decide) (by rw [g2]; decide) (off := 110) (by rw [g2]; rfl) (tgt := 111) (by decide) ?_
      refine sd_aload_n (pc := 111) dX3_otherNumber_111 rfl 0 rfl ?_
      refine sd_getR (pc := 112) dX3_otherNumber_112 (ci := 2) rfl in_X3 (kf := 1) (by decide) q2074 (mo_gR hM (j := 1) rfl ?_)
      refine sd_bipush (pc := 115) dX3_otherNumber_115 (v := 6) (by decide) ?_
      refine sd_iaload (pc := 117) dX3_otherNumber_117 (mAld.to hM h (fun v10 h => ?_))
      exact sd_ireturn (pc := 118) dX3_otherNumber_118 (ty0 := .int) rfl rfl (mI.ok h)
    · have h := h.2.2.2.2.2.2.2.2.1 g2
      refine sd_tableIn (pc := 1) dX3_otherNumber_1 (by rw [g2]; decide) (by rw [g2]; decide) (off := 118) (by rw [g2]; rfl) (tgt := 119) (by decide) ?_
      refine sd_aload_n (pc := 119) dX3_otherNumber_119 rfl 0 rfl ?_
      refine sd_getI (pc := 120) dX3_otherNumber_120 (ci := 2) rfl in_X3 (kf := 6) (by decide) q2079 (mo_gI hM rfl ?_)
      exact sd_ireturn (pc := 123) dX3_otherNumber_123 (ty0 := .int) rfl rfl (mI.ok h)
theorem cm_X3_otherNumber {en : yEn} {mb : Nat → Nat} {σ : yH} (hM : mOK en mb σ) {d : Nat} (hd : 2 ≤ d) {ρ : yMS} {x1 : Int32} {K : Int32 → yMS → Prop} {X : String → Addr → yH → Prop}  (h : wpM_X3_otherNumber ρ x1 K) : Cx en d 0 0 mX3_otherNumber [.ref (mb 0), .int x1] (mH en mb ρ σ) (mQ en mb σ (mI K)) X := by
  obtain ⟨d, rfl⟩ : ∃ e, d = e + 1 := ⟨d - 1, by omega⟩
  exact Cx.body (by decide +kernel) rfl (Nat.le_of_ble_eq_true rfl) (okM_X3_otherNumber hM (by omega)  h)
/-! number(I)I -/
def wpM_X3_number (ρ : yMS) (x1 : Int32) (K : Int32 → yMS → Prop) : Prop :=
  wpM_X3_isBetween ρ x1 (0 : Int32) (18 : Int32) (fun r2 ρ1 => wpM_X3_fails ρ1 (1 : Int32) (if (r2 = 0) then (1 : Int32) else (0 : Int32)) (fun r5 ρ4 => (((r5 = 0) → ((x1 = (0 : Int32) → mAld ρ4 1 (0 : Int32) (fun v6 => K v6 ρ4)) ∧ (x1 = (1 : Int32) → wpM_X3_month ρ4  (fun r8 ρ7 => K r8 ρ7)) ∧ (x1 = (2 : Int32) → mAld ρ4 1 (10 : Int32) (fun v9 => K v9 ρ4)) ∧ (x1 = (3 : Int32) → mAld ρ4 1 (10 : Int32) (fun v10 => wpM_X3_hens ρ4  (fun r12 ρ11 => K (v10 - r12) ρ11))) ∧ (x1 = (4 : Int32) → wpM_X3_eggs ρ4  (fun r14 ρ13 => K r14 ρ13)) ∧ (x1 = (5 : Int32) → mAld ρ4 1 (7 : Int32) (fun v15 => K v15 ρ4)) ∧ (x1 = (6 : Int32) → mAld ρ4 1 (8 : Int32) (fun v16 => K v16 ρ4)) ∧ (x1 = (7 : Int32) → mAld ρ4 1 (9 : Int32) (fun v17 => K v17 ρ4)) ∧ (x1 = (8 : Int32) → wpM_X3_lying ρ4  (fun r19 ρ18 => K r19 ρ18)) ∧ (x1.toInt < 0 ∨ 8 < x1.toInt → wpM_X3_otherNumber ρ4 x1 (fun r21 ρ20 => K r21 ρ20)))) ∧ (¬ (r5 = 0) → K (0 : Int32) ρ4))))
theorem okM_X3_number {en : yEn} {mb : Nat → Nat} {σ : yH} (hM : mOK en mb σ) {d : Nat} (hd : 4 ≤ d + 1) {ρ : yMS} {x1 : Int32} {K : Int32 → yMS → Prop} {X : String → Addr → yH → Prop} {k n : Nat}  (h : wpM_X3_number ρ x1 K) : Wx en (d + 1) mX3_number 0 [(0, .ref (mb 0)), (1, .int x1)] [] (mH en mb ρ σ) k n (mQ en mb σ (mI K)) X := by
  unfold wpM_X3_number at h
  refine sd_aload_n (pc := 0) dX3_number_0 rfl 0 rfl ?_
  refine sd_iconst (pc := 1) dX3_number_1 (v := 1) (by decide) ?_
  refine sd_iload_n (pc := 2) dX3_number_2 rfl 1 rfl ?_
  refine sd_iconst (pc := 3) dX3_number_3 (v := 0) (by decide) ?_
  refine sd_bipush (pc := 4) dX3_number_4 (v := 18) (by decide) ?_
  refine sd_callS (k := k) (n := n) (d0 := d) (k0 := 0) (n0 := 0) (As := [.int x1, .int (0 : Int32), .int (18 : Int32)]) (st := [.int (1 : Int32), .ref (mb 0)]) (pc := 6) dX3_number_6 q2167 q2168 q91 q2169 3 (by decide +kernel) rfl (Nat.le_refl _) (by decide) (Nat.le_of_ble_eq_true rfl) (Cx.mono (cm_X3_isBetween hM (by omega)  h) (mI.to (fun r2 ρ1 h => ?_)) (xo rfl))
  have h23 : Wx en (d + 1) mX3_number 17 [(0, .ref (mb 0)), (1, .int x1)] (.int (if (r2 = 0) then (1 : Int32) else (0 : Int32)) :: .int (1 : Int32) :: .ref (mb 0) :: []) (mH en mb ρ1 σ) k n (mQ en mb σ (mI K)) X := by
    refine sd_callV (k := k) (n := n) (d0 := d) (k0 := 0) (n0 := 0) (As := [.int (1 : Int32), .int (if (r2 = 0) then (1 : Int32) else (0 : Int32))]) (st := []) (pc := 17) dX3_number_17 (ci := 2) rfl (mo_isC hM) rfl q2170 q2172 qs26 q91 q2173 2 (by decide +kernel) rfl (Nat.le_refl _) (by decide) (Nat.le_of_ble_eq_true rfl) (Cx.mono (cm_X3_fails hM (by omega)  h) (mI.to (fun r5 ρ4 h => ?_)) (xo rfl))
    refine sd_ifeq (pc := 20) dX3_number_20 (tgt := 25) (by decide) ⟨fun c22 => ?_, fun c22 => ?_⟩
    · have h := h.1 c22
      refine sd_iload_n (pc := 25) dX3_number_25 rfl 1 rfl ?_
      by_cases g0 : x1.toInt < 0 ∨ 8 < x1.toInt
      · have h := h.2.2.2.2.2.2.2.2.2 g0
        refine sd_tableOut (pc := 26) dX3_number_26 g0 (tgt := 143) (by decide) ?_
        refine sd_aload_n (pc := 143) dX3_number_143 rfl 0 rfl ?_
        refine sd_iload_n (pc := 144) dX3_number_144 rfl 1 rfl ?_
        refine sd_callV (k := k) (n := n) (d0 := d) (k0 := 0) (n0 := 0) (As := [.int x1]) (st := []) (pc := 145) dX3_number_145 (ci := 2) rfl (mo_isC hM) rfl q2480 q2482 qs69 q91 q2483 1 (by decide +kernel) rfl (Nat.le_refl _) (by decide) (Nat.le_of_ble_eq_true rfl) (Cx.mono (cm_X3_otherNumber hM (by omega)  h) (mI.to (fun r21 ρ20 h => ?_)) (xo rfl))
        exact sd_ireturn (pc := 148) dX3_number_148 (ty0 := .int) rfl rfl (mI.ok h)
      · have g1 : ∃ j : Nat, j < 9 ∧ x1 = Int32.ofInt (0 + j) := tsw 9 g0 (by omega)
        obtain ⟨j, gj, g2⟩ := g1
        rcases (show j = 0 ∨ j = 1 ∨ j = 2 ∨ j = 3 ∨ j = 4 ∨ j = 5 ∨ j = 6 ∨ j = 7 ∨ j = 8 by omega) with rfl | rfl | rfl | rfl | rfl | rfl | rfl | rfl | rfl
        · have h := h.1 g2
          refine sd_tableIn (pc := 26) dX3_number_26 (by rw [g2]; decide) (by rw [g2]; decide) (off := 50) (by rw [g2]; rfl) (tgt := 76) (by decide) ?_
          refine sd_aload_n (pc := 76) dX3_number_76 rfl 0 rfl ?_
          refine sd_getR (pc := 77) dX3_number_77 (ci := 2) rfl in_X3 (kf := 1) (by decide) q2074 (mo_gR hM (j := 1) rfl ?_)
          refine sd_iconst (pc := 80) dX3_number_80 (v := 0) (by decide) ?_
          refine sd_iaload (pc := 81) dX3_number_81 (mAld.to hM h (fun v6 h => ?_))
          exact sd_ireturn (pc := 82) dX3_number_82 (ty0 := .int) rfl rfl (mI.ok h)
        · have h := h.2.1 g2
          refine sd_tableIn (pc := 26) dX3_number_26 (by rw [g2]; decide) (by rw [g2]; decide) (off := 57) (by rw [g2]; rfl) (tgt := 83) (by decide) ?_
          refine sd_aload_n (pc := 83) dX3_number_83 rfl 0 rfl ?_
          refine sd_callV (k := k) (n := n) (d0 := d) (k0 := 0) (n0 := 0) (As := []) (st := []) (pc := 84) dX3_number_84 (ci := 2) rfl (mo_isC hM) rfl q2391 q2393 qs55 q91 q2394 0 (by decide +kernel) rfl (Nat.le_refl _) (by decide) (Nat.le_of_ble_eq_true rfl) (Cx.mono (cm_X3_month hM (by omega)  h) (mI.to (fun r8 ρ7 h => ?_)) (xo rfl))
          exact sd_ireturn (pc := 87) dX3_number_87 (ty0 := .int) rfl rfl (mI.ok h)
        · have h := h.2.2.1 g2
          refine sd_tableIn (pc := 26) dX3_number_26 (by rw [g2]; decide) (by rw [g2]; decide) (off := 62) (by rw [g2]; rfl) (tgt := 88) (by decide) ?_
          refine sd_aload_n (pc := 88) dX3_number_88 rfl 0 rfl ?_
          refine sd_getR (pc := 89) dX3_number_89 (ci := 2) rfl in_X3 (kf := 1) (by decide) q2074 (mo_gR hM (j := 1) rfl ?_)
          refine sd_bipush (pc := 92) dX3_number_92 (v := 10) (by decide) ?_
          refine sd_iaload (pc := 94) dX3_number_94 (mAld.to hM h (fun v9 h => ?_))
          exact sd_ireturn (pc := 95) dX3_number_95 (ty0 := .int) rfl rfl (mI.ok h)
        · have h := h.2.2.2.1 g2
          refine sd_tableIn (pc := 26) dX3_number_26 (by rw [g2]; decide) (by rw [g2]; decide) (off := 70) (by rw [g2]; rfl) (tgt := 96) (by decide) ?_
          refine sd_aload_n (pc := 96) dX3_number_96 rfl 0 rfl ?_
          refine sd_getR (pc := 97) dX3_number_97 (ci := 2) rfl in_X3 (kf := 1) (by decide) q2074 (mo_gR hM (j := 1) rfl ?_)
          refine sd_bipush (pc := 100) dX3_number_100 (v := 10) (by decide) ?_
          refine sd_iaload (pc := 102) dX3_number_102 (mAld.to hM h (fun v10 h => ?_))
          refine sd_aload_n (pc := 103) dX3_number_103 rfl 0 rfl ?_
          refine sd_callV (k := k) (n := n) (d0 := d) (k0 := 0) (n0 := 0) (As := []) (st := [.int v10]) (pc := 104) dX3_number_104 (ci := 2) rfl (mo_isC hM) rfl q2464 q2466 qs65 q91 q2467 0 (by decide +kernel) rfl (Nat.le_refl _) (by decide) (Nat.le_of_ble_eq_true rfl) (Cx.mono (cm_X3_hens hM (by omega)  h) (mI.to (fun r12 ρ11 h => ?_)) (xo rfl))
          refine sd_isub (pc := 107) dX3_number_107 ?_
          exact sd_ireturn (pc := 108) dX3_number_108 (ty0 := .int) rfl rfl (mI.ok h)
        · have h := h.2.2.2.2.1 g2
          refine sd_tableIn (pc := 26) dX3_number_26 (by rw [g2]; decide) (by rw [g2]; decide) (off := 83) (by rw [g2]; rfl) (tgt := 109) (by decide) ?_
          refine sd_aload_n (pc := 109) dX3_number_109 rfl 0 rfl ?_
          refine sd_callV (k := k) (n := n) (d0 := d) (k0 := 0) (n0 := 0) (As := []) (st := []) (pc := 110) dX3_number_110 (ci := 2) rfl (mo_isC hM) rfl q2472 q2474 qs67 q91 q2475 0 (by decide +kernel) rfl (Nat.le_refl _) (by decide) (Nat.le_of_ble_eq_true rfl) (Cx.mono (cm_X3_eggs hM (by omega)  h) (mI.to (fun r14 ρ13 h => ?_)) (xo rfl))
          exact sd_ireturn (pc := 113) dX3_number_113 (ty0 := .int) rfl rfl (mI.ok h)
        · have h := h.2.2.2.2.2.1 g2
          refine sd_tableIn (pc := 26) dX3_number_26 (by rw [g2]; decide) (by rw [g2]; decide) (off := 88) (by rw [g2]; rfl) (tgt := 114) (by decide) ?_
          refine sd_aload_n (pc := 114) dX3_number_114 rfl 0 rfl ?_
          refine sd_getR (pc := 115) dX3_number_115 (ci := 2) rfl in_X3 (kf := 1) (by decide) q2074 (mo_gR hM (j := 1) rfl ?_)
          refine sd_bipush (pc := 118) dX3_number_118 (v := 7) (by decide) ?_
          refine sd_iaload (pc := 120) dX3_number_120 (mAld.to hM h (fun v15 h => ?_))
          exact sd_ireturn (pc := 121) dX3_number_121 (ty0 := .int) rfl rfl (mI.ok h)
        · have h := h.2.2.2.2.2.2.1 g2
          refine sd_tableIn (pc := 26) dX3_number_26 (by rw [g2]; decide) (by rw [g2]; decide) (off := 96) (by rw [g2]; rfl) (tgt := 122) (by decide) ?_
          refine sd_aload_n (pc := 122) dX3_number_122 rfl 0 rfl ?_
          refine sd_getR (pc := 123) dX3_number_123 (ci := 2) rfl in_X3 (kf := 1) (by decide) q2074 (mo_gR hM (j := 1) rfl ?_)
          refine sd_bipush (pc := 126) dX3_number_126 (v := 8) (by decide) ?_
          refine sd_iaload (pc := 128) dX3_number_128 (mAld.to hM h (fun v16 h => ?_))
          exact sd_ireturn (pc := 129) dX3_number_129 (ty0 := .int) rfl rfl (mI.ok h)
        · have h := h.2.2.2.2.2.2.2.1 g2
          refine sd_tableIn (pc := 26) dX3_number_26 (by rw [g2]; decide) (by rw [g2]; decide) (off := 104) (by rw [g2]; rfl) (tgt := 130) (by decide) ?_
          refine sd_aload_n (pc := 130) dX3_number_130 rfl 0 rfl ?_
          refine sd_getR (pc := 131) dX3_number_131 (ci := 2) rfl in_X3 (kf := 1) (by decide) q2074 (mo_gR hM (j := 1) rfl ?_)
          refine sd_bipush (pc := 134) dX3_number_134 (v := 9) (by decide) ?_
          refine sd_iaload (pc := 136) dX3_number_136 (mAld.to hM h (fun v17 h => ?_))
          exact sd_ireturn (pc := 137) dX3_number_137 (ty0 := .int) rfl rfl (mI.ok h)
        · have h := h.2.2.2.2.2.2.2.2.1 g2
          refine sd_tableIn (pc := 26) dX3_number_26 (by rw [g2]; decide) (by rw [g2]; decide) (off := 112) (by rw [g2]; rfl) (tgt := 138) (by decide) ?_
          refine sd_aload_n (pc := 138) dX3_number_138 rfl 0 rfl ?_
          refine sd_callV (k := k) (n := n) (d0 := d) (k0 := 0) (n0 := 0) (As := []) (st := []) (pc := 139) dX3_number_139 (ci := 2) rfl (mo_isC hM) rfl q2476 q2478 qs68 q91 q2479 0 (by decide +kernel) rfl (Nat.le_refl _) (by decide) (Nat.le_of_ble_eq_true rfl) (Cx.mono (cm_X3_lying hM (by omega)  h) (mI.to (fun r19 ρ18 h => ?_)) (xo rfl))
          exact sd_ireturn (pc := 142) dX3_number_142 (ty0 := .int) rfl rfl (mI.ok h)
    · have h := h.2 c22
      refine sd_iconst (pc := 23) dX3_number_23 (v := 0) (by decide) ?_
      exact sd_ireturn (pc := 24) dX3_number_24 (ty0 := .int) rfl rfl (mI.ok h)
  have e24 := sd_iteIN h23
  refine sd_ifne (pc := 9) dX3_number_9 (tgt := 16) (by decide) ⟨fun c3 => ?_, fun c3 => ?_⟩
  · refine sd_iconst (pc := 16) dX3_number_16 (v := 0) (by decide) ?_
    exact (e24.1 c3)
  · refine sd_iconst (pc := 12) dX3_number_12 (v := 1) (by decide) ?_
    refine sd_goto (pc := 13) dX3_number_13 (tgt := 17) (by decide) ?_
    exact (e24.2 c3)
theorem cm_X3_number {en : yEn} {mb : Nat → Nat} {σ : yH} (hM : mOK en mb σ) {d : Nat} (hd : 4 ≤ d) {ρ : yMS} {x1 : Int32} {K : Int32 → yMS → Prop} {X : String → Addr → yH → Prop}  (h : wpM_X3_number ρ x1 K) : Cx en d 0 0 mX3_number [.ref (mb 0), .int x1] (mH en mb ρ σ) (mQ en mb σ (mI K)) X := by
  obtain ⟨d, rfl⟩ : ∃ e, d = e + 1 := ⟨d - 1, by omega⟩
  exact Cx.body (by decide +kernel) rfl (Nat.le_of_ble_eq_true rfl) (okM_X3_number hM (by omega)  h)
/-! shedAgain()I -/
def wpM_X3_shedAgain (ρ : yMS)  (K : Int32 → yMS → Prop) : Prop :=
  (mPut ρ 0 (0 : Int32) (fun ρ1 => wpM_X3_lying ρ1  (fun r3 ρ2 => mAld ρ2 1 (3 : Int32) (fun v4 => mAld ρ2 1 (4 : Int32) (fun v5 => mAld ρ2 1 (5 : Int32) (fun v6 => K (((r3 + v4) + v5) + v6) ρ2))))))
theorem okM_X3_shedAgain {en : yEn} {mb : Nat → Nat} {σ : yH} (hM : mOK en mb σ) {d : Nat} (hd : 3 ≤ d + 1) {ρ : yMS}  {K : Int32 → yMS → Prop} {X : String → Addr → yH → Prop} {k n : Nat}  (h : wpM_X3_shedAgain ρ  K) : Wx en (d + 1) mX3_shedAgain 0 [(0, .ref (mb 0))] [] (mH en mb ρ σ) k n (mQ en mb σ (mI K)) X := by
  unfold wpM_X3_shedAgain at h
  refine sd_aload_n (pc := 0) dX3_shedAgain_0 rfl 0 rfl ?_
  refine sd_iconst (pc := 1) dX3_shedAgain_1 (v := 0) (by decide) ?_
  refine sd_putf (pc := 2) dX3_shedAgain_2 (ci := 2) rfl in_X3 tyX3 tyX3_ok nmX3 (kf := 0) (by decide) q2073 rfl (ty := .int) rfl rfl rfl (mPut.to hM (by decide) rfl h (fun ρ1 h => ?_))
  refine sd_aload_n (pc := 5) dX3_shedAgain_5 rfl 0 rfl ?_
  refine sd_callV (k := k) (n := n) (d0 := d) (k0 := 0) (n0 := 0) (As := []) (st := []) (pc := 6) dX3_shedAgain_6 (ci := 2) rfl (mo_isC hM) rfl q2476 q2478 qs68 q91 q2479 0 (by decide +kernel) rfl (Nat.le_refl _) (by decide) (Nat.le_of_ble_eq_true rfl) (Cx.mono (cm_X3_lying hM (by omega)  h) (mI.to (fun r3 ρ2 h => ?_)) (xo rfl))
  refine sd_aload_n (pc := 9) dX3_shedAgain_9 rfl 0 rfl ?_
  refine sd_getR (pc := 10) dX3_shedAgain_10 (ci := 2) rfl in_X3 (kf := 1) (by decide) q2074 (mo_gR hM (j := 1) rfl ?_)
  refine sd_iconst (pc := 13) dX3_shedAgain_13 (v := 3) (by decide) ?_
  refine sd_iaload (pc := 14) dX3_shedAgain_14 (mAld.to hM h (fun v4 h => ?_))
  refine sd_iadd (pc := 15) dX3_shedAgain_15 ?_
  refine sd_aload_n (pc := 16) dX3_shedAgain_16 rfl 0 rfl ?_
  refine sd_getR (pc := 17) dX3_shedAgain_17 (ci := 2) rfl in_X3 (kf := 1) (by decide) q2074 (mo_gR hM (j := 1) rfl ?_)
  refine sd_iconst (pc := 20) dX3_shedAgain_20 (v := 4) (by decide) ?_
  refine sd_iaload (pc := 21) dX3_shedAgain_21 (mAld.to hM h (fun v5 h => ?_))
  refine sd_iadd (pc := 22) dX3_shedAgain_22 ?_
  refine sd_aload_n (pc := 23) dX3_shedAgain_23 rfl 0 rfl ?_
  refine sd_getR (pc := 24) dX3_shedAgain_24 (ci := 2) rfl in_X3 (kf := 1) (by decide) q2074 (mo_gR hM (j := 1) rfl ?_)
  refine sd_iconst (pc := 27) dX3_shedAgain_27 (v := 5) (by decide) ?_
  refine sd_iaload (pc := 28) dX3_shedAgain_28 (mAld.to hM h (fun v6 h => ?_))
  refine sd_iadd (pc := 29) dX3_shedAgain_29 ?_
  exact sd_ireturn (pc := 30) dX3_shedAgain_30 (ty0 := .int) rfl rfl (mI.ok h)
theorem cm_X3_shedAgain {en : yEn} {mb : Nat → Nat} {σ : yH} (hM : mOK en mb σ) {d : Nat} (hd : 3 ≤ d) {ρ : yMS}  {K : Int32 → yMS → Prop} {X : String → Addr → yH → Prop}  (h : wpM_X3_shedAgain ρ  K) : Cx en d 0 0 mX3_shedAgain [.ref (mb 0)] (mH en mb ρ σ) (mQ en mb σ (mI K)) X := by
  obtain ⟨d, rfl⟩ : ∃ e, d = e + 1 := ⟨d - 1, by omega⟩
  exact Cx.body (by decide +kernel) rfl (Nat.le_of_ble_eq_true rfl) (okM_X3_shedAgain hM (by omega)  h)
/-! meanHeight()D -/
def wpM_X3_meanHeight (ρ : yMS)  (K : UInt64 → yMS → Prop) : Prop :=
  (mPut ρ 0 (0 : Int32) (fun ρ1 => wpM_X3_sum ρ1 (22 : Int32) (1 : Int32) (12 : Int32) (fun r3 ρ2 => (vf_n64 (FP.ddiv (FP.i2d r3) (4622945017495814144 : UInt64)) ∧ K (FP.ddiv (FP.i2d r3) (4622945017495814144 : UInt64)) ρ2))))
theorem okM_X3_meanHeight {en : yEn} {mb : Nat → Nat} {σ : yH} (hM : mOK en mb σ) {d : Nat} (hd : 2 ≤ d + 1) {ρ : yMS}  {K : UInt64 → yMS → Prop} {X : String → Addr → yH → Prop} {k n : Nat}  (h : wpM_X3_meanHeight ρ  K) : Wx en (d + 1) mX3_meanHeight 0 [(0, .ref (mb 0))] [] (mH en mb ρ σ) k n (mQ en mb σ (mD K)) X := by
  unfold wpM_X3_meanHeight at h
  refine sd_aload_n (pc := 0) dX3_meanHeight_0 rfl 0 rfl ?_
  refine sd_iconst (pc := 1) dX3_meanHeight_1 (v := 0) (by decide) ?_
  refine sd_putf (pc := 2) dX3_meanHeight_2 (ci := 2) rfl in_X3 tyX3 tyX3_ok nmX3 (kf := 0) (by decide) q2073 rfl (ty := .int) rfl rfl rfl (mPut.to hM (by decide) rfl h (fun ρ1 h => ?_))
  refine sd_aload_n (pc := 5) dX3_meanHeight_5 rfl 0 rfl ?_
  refine sd_bipush (pc := 6) dX3_meanHeight_6 (v := 22) (by decide) ?_
  refine sd_iconst (pc := 8) dX3_meanHeight_8 (v := 1) (by decide) ?_
  refine sd_bipush (pc := 9) dX3_meanHeight_9 (v := 12) (by decide) ?_
  refine sd_callV (k := k) (n := n) (d0 := d) (k0 := 0) (n0 := 0) (As := [.int (22 : Int32), .int (1 : Int32), .int (12 : Int32)]) (st := []) (pc := 11) dX3_meanHeight_11 (ci := 2) rfl (mo_isC hM) rfl q2468 q2470 qs66 q91 q2471 3 (by decide +kernel) rfl (Nat.le_refl _) (by decide) (Nat.le_of_ble_eq_true rfl) (Cx.mono (cm_X3_sum hM (by omega)  h) (mI.to (fun r3 ρ2 h => ?_)) (xo rfl))
  refine sd_i2d (pc := 14) dX3_meanHeight_14 ?_
  refine sd_ldc2d (pc := 15) dX3_meanHeight_15 q2492 ?_
  refine sd_ddiv (pc := 18) dX3_meanHeight_18 h.1 ?_
  have h := h.2
  exact sd_dreturn (pc := 19) dX3_meanHeight_19 rfl (mD.ok h)
theorem cm_X3_meanHeight {en : yEn} {mb : Nat → Nat} {σ : yH} (hM : mOK en mb σ) {d : Nat} (hd : 2 ≤ d) {ρ : yMS}  {K : UInt64 → yMS → Prop} {X : String → Addr → yH → Prop}  (h : wpM_X3_meanHeight ρ  K) : Cx en d 0 0 mX3_meanHeight [.ref (mb 0)] (mH en mb ρ σ) (mQ en mb σ (mD K)) X := by
  obtain ⟨d, rfl⟩ : ∃ e, d = e + 1 := ⟨d - 1, by omega⟩
  exact Cx.body (by decide +kernel) rfl (Nat.le_of_ble_eq_true rfl) (okM_X3_meanHeight hM (by omega)  h)
/-! foundShare()F -/
def wpM_X3_foundShare (ρ : yMS)  (K : UInt32 → yMS → Prop) : Prop :=
  mAld ρ 1 (9 : Int32) (fun v1 => wpM_X3_fails ρ (1 : Int32) (if (v1 = 0) then (1 : Int32) else (0 : Int32)) (fun r4 ρ3 => (((r4 = 0) → mAld ρ3 1 (3 : Int32) (fun v5 => mAld ρ3 1 (5 : Int32) (fun v6 => mAld ρ3 1 (9 : Int32) (fun v7 => (vf_n32 (FP.fdiv (FP.i2f (v5 + v6)) (FP.i2f v7)) ∧ K (FP.fdiv (FP.i2f (v5 + v6)) (FP.i2f v7)) ρ3))))) ∧ (¬ (r4 = 0) → K FP.fconst0 ρ3))))
theorem okM_X3_foundShare {en : yEn} {mb : Nat → Nat} {σ : yH} (hM : mOK en mb σ) {d : Nat} (hd : 2 ≤ d + 1) {ρ : yMS}  {K : UInt32 → yMS → Prop} {X : String → Addr → yH → Prop} {k n : Nat}  (h : wpM_X3_foundShare ρ  K) : Wx en (d + 1) mX3_foundShare 0 [(0, .ref (mb 0))] [] (mH en mb ρ σ) k n (mQ en mb σ (mF K)) X := by
  unfold wpM_X3_foundShare at h
  refine sd_aload_n (pc := 0) dX3_foundShare_0 rfl 0 rfl ?_
  refine sd_iconst (pc := 1) dX3_foundShare_1 (v := 1) (by decide) ?_
  refine sd_aload_n (pc := 2) dX3_foundShare_2 rfl 0 rfl ?_
  refine sd_getR (pc := 3) dX3_foundShare_3 (ci := 2) rfl in_X3 (kf := 1) (by decide) q2074 (mo_gR hM (j := 1) rfl ?_)
  refine sd_bipush (pc := 6) dX3_foundShare_6 (v := 9) (by decide) ?_
  refine sd_iaload (pc := 8) dX3_foundShare_8 (mAld.to hM h (fun v1 h => ?_))
  have h9 : Wx en (d + 1) mX3_foundShare 17 [(0, .ref (mb 0))] (.int (if (v1 = 0) then (1 : Int32) else (0 : Int32)) :: .int (1 : Int32) :: .ref (mb 0) :: []) (mH en mb ρ σ) k n (mQ en mb σ (mF K)) X := by
    refine sd_callV (k := k) (n := n) (d0 := d) (k0 := 0) (n0 := 0) (As := [.int (1 : Int32), .int (if (v1 = 0) then (1 : Int32) else (0 : Int32))]) (st := []) (pc := 17) dX3_foundShare_17 (ci := 2) rfl (mo_isC hM) rfl q2170 q2172 qs26 q91 q2173 2 (by decide +kernel) rfl (Nat.le_refl _) (by decide) (Nat.le_of_ble_eq_true rfl) (Cx.mono (cm_X3_fails hM (by omega)  h) (mI.to (fun r4 ρ3 h => ?_)) (xo rfl))
    refine sd_ifeq (pc := 20) dX3_foundShare_20 (tgt := 27) (by decide) ⟨fun c8 => ?_, fun c8 => ?_⟩
    · have h := h.1 c8
      refine sd_aload_n (pc := 27) dX3_foundShare_27 rfl 0 rfl ?_
      refine sd_getR (pc := 28) dX3_foundShare_28 (ci := 2) rfl in_X3 (kf := 1) (by decide) q2074 (mo_gR hM (j := 1) rfl ?_)
      refine sd_iconst (pc := 31) dX3_foundShare_31 (v := 3) (by decide) ?_
      refine sd_iaload (pc := 32) dX3_foundShare_32 (mAld.to hM h (fun v5 h => ?_))
      refine sd_aload_n (pc := 33) dX3_foundShare_33 rfl 0 rfl ?_
      refine sd_getR (pc := 34) dX3_foundShare_34 (ci := 2) rfl in_X3 (kf := 1) (by decide) q2074 (mo_gR hM (j := 1) rfl ?_)
      refine sd_iconst (pc := 37) dX3_foundShare_37 (v := 5) (by decide) ?_
      refine sd_iaload (pc := 38) dX3_foundShare_38 (mAld.to hM h (fun v6 h => ?_))
      refine sd_iadd (pc := 39) dX3_foundShare_39 ?_
      refine sd_i2f (pc := 40) dX3_foundShare_40 ?_
      refine sd_aload_n (pc := 41) dX3_foundShare_41 rfl 0 rfl ?_
      refine sd_getR (pc := 42) dX3_foundShare_42 (ci := 2) rfl in_X3 (kf := 1) (by decide) q2074 (mo_gR hM (j := 1) rfl ?_)
      refine sd_bipush (pc := 45) dX3_foundShare_45 (v := 9) (by decide) ?_
      refine sd_iaload (pc := 47) dX3_foundShare_47 (mAld.to hM h (fun v7 h => ?_))
      refine sd_i2f (pc := 48) dX3_foundShare_48 ?_
      refine sd_fdiv (pc := 49) dX3_foundShare_49 h.1 ?_
      have h := h.2
      exact sd_freturn (pc := 50) dX3_foundShare_50 rfl (mF.ok h)
    · have h := h.2 c8
      refine sd_fconst0 (pc := 23) dX3_foundShare_23 ?_
      refine sd_goto (pc := 24) dX3_foundShare_24 (tgt := 50) (by decide) ?_
      exact sd_freturn (pc := 50) dX3_foundShare_50 rfl (mF.ok h)
  have e10 := sd_iteIN h9
  refine sd_ifne (pc := 9) dX3_foundShare_9 (tgt := 16) (by decide) ⟨fun c2 => ?_, fun c2 => ?_⟩
  · refine sd_iconst (pc := 16) dX3_foundShare_16 (v := 0) (by decide) ?_
    exact (e10.1 c2)
  · refine sd_iconst (pc := 12) dX3_foundShare_12 (v := 1) (by decide) ?_
    refine sd_goto (pc := 13) dX3_foundShare_13 (tgt := 17) (by decide) ?_
    exact (e10.2 c2)
theorem cm_X3_foundShare {en : yEn} {mb : Nat → Nat} {σ : yH} (hM : mOK en mb σ) {d : Nat} (hd : 2 ≤ d) {ρ : yMS}  {K : UInt32 → yMS → Prop} {X : String → Addr → yH → Prop}  (h : wpM_X3_foundShare ρ  K) : Cx en d 0 0 mX3_foundShare [.ref (mb 0)] (mH en mb ρ σ) (mQ en mb σ (mF K)) X := by
  obtain ⟨d, rfl⟩ : ∃ e, d = e + 1 := ⟨d - 1, by omega⟩
  exact Cx.body (by decide +kernel) rfl (Nat.le_of_ble_eq_true rfl) (okM_X3_foundShare hM (by omega)  h)
/-! feed(C)I -/
def wpM_X3_feed (ρ : yMS) (x1 : Int32) (K : Int32 → yMS → Prop) : Prop :=
  wpM_X3_fails ρ (1 : Int32) (if ((ρ.1 19) = (60 : Int32)) then (1 : Int32) else (0 : Int32)) (fun r3 ρ2 => (((r3 = 0) → mCst ρ2 15 (ρ2.1 19) (vp_nar .char x1) (fun ρ4 => (mPut ρ4 19 ((ρ4.1 19) + (1 : Int32)) (fun ρ5 => K (ρ5.1 19) ρ5)))) ∧ (¬ (r3 = 0) → K (0 : Int32) ρ2)))
theorem okM_X3_feed {en : yEn} {mb : Nat → Nat} {σ : yH} (hM : mOK en mb σ) {d : Nat} (hd : 2 ≤ d + 1) {ρ : yMS} {x1 : Int32} {K : Int32 → yMS → Prop} {X : String → Addr → yH → Prop} {k n : Nat}  (h : wpM_X3_feed ρ x1 K) : Wx en (d + 1) mX3_feed 0 [(0, .ref (mb 0)), (1, .int x1)] [] (mH en mb ρ σ) k n (mQ en mb σ (mI K)) X := by
  unfold wpM_X3_feed at h
  refine sd_aload_n (pc := 0) dX3_feed_0 rfl 0 rfl ?_
  refine sd_iconst (pc := 1) dX3_feed_1 (v := 1) (by decide) ?_
  refine sd_aload_n (pc := 2) dX3_feed_2 rfl 0 rfl ?_
  refine sd_getI (pc := 3) dX3_feed_3 (ci := 2) rfl in_X3 (kf := 19) (by decide) q2092 (mo_gI hM rfl ?_)
  refine sd_bipush (pc := 6) dX3_feed_6 (v := 60) (by decide) ?_
  have h7 : Wx en (d + 1) mX3_feed 16 [(0, .ref (mb 0)), (1, .int x1)] (.int (if ((ρ.1 19) = (60 : Int32)) then (1 : Int32) else (0 : Int32)) :: .int (1 : Int32) :: .ref (mb 0) :: []) (mH en mb ρ σ) k n (mQ en mb σ (mI K)) X := by
    refine sd_callV (k := k) (n := n) (d0 := d) (k0 := 0) (n0 := 0) (As := [.int (1 : Int32), .int (if ((ρ.1 19) = (60 : Int32)) then (1 : Int32) else (0 : Int32))]) (st := []) (pc := 16) dX3_feed_16 (ci := 2) rfl (mo_isC hM) rfl q2170 q2172 qs26 q91 q2173 2 (by decide +kernel) rfl (Nat.le_refl _) (by decide) (Nat.le_of_ble_eq_true rfl) (Cx.mono (cm_X3_fails hM (by omega)  h) (mI.to (fun r3 ρ2 h => ?_)) (xo rfl))
    refine sd_ifeq (pc := 19) dX3_feed_19 (tgt := 24) (by decide) ⟨fun c6 => ?_, fun c6 => ?_⟩
    · have h := h.1 c6
      refine sd_aload_n (pc := 24) dX3_feed_24 rfl 0 rfl ?_
      refine sd_getR (pc := 25) dX3_feed_25 (ci := 2) rfl in_X3 (kf := 18) (by decide) q2091 (mo_gR hM (j := 15) rfl ?_)
      refine sd_aload_n (pc := 28) dX3_feed_28 rfl 0 rfl ?_
      refine sd_getI (pc := 29) dX3_feed_29 (ci := 2) rfl in_X3 (kf := 19) (by decide) q2092 (mo_gI hM rfl ?_)
      refine sd_iload_n (pc := 32) dX3_feed_32 rfl 1 rfl ?_
      refine sd_castore (pc := 33) dX3_feed_33 (mCst.to hM h (fun ρ4 h => ?_))
      refine sd_aload_n (pc := 34) dX3_feed_34 rfl 0 rfl ?_
      refine sd_dup (pc := 35) dX3_feed_35 rfl ?_
      refine sd_getI (pc := 36) dX3_feed_36 (ci := 2) rfl in_X3 (kf := 19) (by decide) q2092 (mo_gI hM rfl ?_)
      refine sd_iconst (pc := 39) dX3_feed_39 (v := 1) (by decide) ?_
      refine sd_iadd (pc := 40) dX3_feed_40 ?_
      refine sd_putf (pc := 41) dX3_feed_41 (ci := 2) rfl in_X3 tyX3 tyX3_ok nmX3 (kf := 19) (by decide) q2092 rfl (ty := .int) rfl rfl rfl (mPut.to hM (by decide) rfl h (fun ρ5 h => ?_))
      refine sd_aload_n (pc := 44) dX3_feed_44 rfl 0 rfl ?_
      refine sd_getI (pc := 45) dX3_feed_45 (ci := 2) rfl in_X3 (kf := 19) (by decide) q2092 (mo_gI hM rfl ?_)
      exact sd_ireturn (pc := 48) dX3_feed_48 (ty0 := .int) rfl rfl (mI.ok h)
    · have h := h.2 c6
      refine sd_iconst (pc := 22) dX3_feed_22 (v := 0) (by decide) ?_
      exact sd_ireturn (pc := 23) dX3_feed_23 (ty0 := .int) rfl rfl (mI.ok h)
  have e8 := sd_iteIN h7
  refine sd_icmpne (pc := 8) dX3_feed_8 (tgt := 15) (by decide) ⟨fun c1 => ?_, fun c1 => ?_⟩
  · refine sd_iconst (pc := 15) dX3_feed_15 (v := 0) (by decide) ?_
    exact (e8.1 c1)
  · refine sd_iconst (pc := 11) dX3_feed_11 (v := 1) (by decide) ?_
    refine sd_goto (pc := 12) dX3_feed_12 (tgt := 16) (by decide) ?_
    exact (e8.2 c1)
theorem cm_X3_feed {en : yEn} {mb : Nat → Nat} {σ : yH} (hM : mOK en mb σ) {d : Nat} (hd : 2 ≤ d) {ρ : yMS} {x1 : Int32} {K : Int32 → yMS → Prop} {X : String → Addr → yH → Prop}  (h : wpM_X3_feed ρ x1 K) : Cx en d 0 0 mX3_feed [.ref (mb 0), .int x1] (mH en mb ρ σ) (mQ en mb σ (mI K)) X := by
  obtain ⟨d, rfl⟩ : ∃ e, d = e + 1 := ⟨d - 1, by omega⟩
  exact Cx.body (by decide +kernel) rfl (Nat.le_of_ble_eq_true rfl) (okM_X3_feed hM (by omega)  h)
/-! carryOut()I -/
def wpM_X3_carryOut (ρ : yMS)  (K : Int32 → yMS → Prop) : Prop :=
  (((ρ.1 23) = (97 : Int32) → wpM_X3_seat ρ (ρ.1 24) (ρ.1 25) (fun r2 ρ1 => K (3 : Int32) ρ1)) ∧ ((ρ.1 23) = (101 : Int32) → wpM_X3_sell ρ (ρ.1 24) (fun r4 ρ3 => K (2 : Int32) ρ3)) ∧ ((ρ.1 23) = (102 : Int32) → wpM_X3_find ρ (ρ.1 24) (fun r6 ρ5 => K (2 : Int32) ρ5)) ∧ ((ρ.1 23) = (104 : Int32) → wpM_X3_shear ρ (ρ.1 24) (ρ.1 25) (ρ.1 26) (fun r8 ρ7 => K (3 : Int32) ρ7)) ∧ ((ρ.1 23) = (108 : Int32) → wpM_X3_lay ρ (ρ.1 24) (fun r10 ρ9 => K (2 : Int32) ρ9)) ∧ ((ρ.1 23) = (119 : Int32) → wpM_X3_walk ρ (ρ.1 24) (ρ.1 25) (fun r12 ρ11 => K (2 : Int32) ρ11)) ∧ (¬ (ρ.1 23) = (97 : Int32) → ¬ (ρ.1 23) = (101 : Int32) → ¬ (ρ.1 23) = (102 : Int32) → ¬ (ρ.1 23) = (104 : Int32) → ¬ (ρ.1 23) = (108 : Int32) → ¬ (ρ.1 23) = (119 : Int32) → wpM_X3_pass ρ (ρ.1 24) (fun r14 ρ13 => K (-1 : Int32) ρ13)))
theorem okM_X3_carryOut {en : yEn} {mb : Nat → Nat} {σ : yH} (hM : mOK en mb σ) {d : Nat} (hd : 9 ≤ d + 1) {ρ : yMS}  {K : Int32 → yMS → Prop} {X : String → Addr → yH → Prop} {k n : Nat}  (h : wpM_X3_carryOut ρ  K) : Wx en (d + 1) mX3_carryOut 0 [(0, .ref (mb 0))] [] (mH en mb ρ σ) k n (mQ en mb σ (mI K)) X := by
  unfold wpM_X3_carryOut at h
  refine sd_aload_n (pc := 0) dX3_carryOut_0 rfl 0 rfl ?_
  refine sd_getI (pc := 1) dX3_carryOut_1 (ci := 2) rfl in_X3 (kf := 23) (by decide) q2096 (mo_gI hM rfl ?_)
  by_cases g0 : (ρ.1 23) = (97 : Int32)
  · have h := h.1 g0
    refine sd_lookup (pc := 4) dX3_carryOut_4 (by decide) (off := 127) (by rw [g0]; decide) (tgt := 131) (by decide) ?_
    refine sd_aload_n (pc := 131) dX3_carryOut_131 rfl 0 rfl ?_
    refine sd_aload_n (pc := 132) dX3_carryOut_132 rfl 0 rfl ?_
    refine sd_getI (pc := 133) dX3_carryOut_133 (ci := 2) rfl in_X3 (kf := 24) (by decide) q2097 (mo_gI hM rfl ?_)
    refine sd_aload_n (pc := 136) dX3_carryOut_136 rfl 0 rfl ?_
    refine sd_getI (pc := 137) dX3_carryOut_137 (ci := 2) rfl in_X3 (kf := 25) (by decide) q2098 (mo_gI hM rfl ?_)
    refine sd_callV (k := k) (n := n) (d0 := d) (k0 := 0) (n0 := 0) (As := [.int (ρ.1 24), .int (ρ.1 25)]) (st := []) (pc := 140) dX3_carryOut_140 (ci := 2) rfl (mo_isC hM) rfl q2552 q2364 q2365 q91 q2366 2 (by decide +kernel) rfl (Nat.le_refl _) (by decide) (Nat.le_of_ble_eq_true rfl) (Cx.mono (cm_X3_seat hM (by omega)  h) (mI.to (fun r2 ρ1 h => ?_)) (xo rfl))
    refine sd_pop (pc := 143) dX3_carryOut_143 rfl ?_
    refine sd_iconst (pc := 144) dX3_carryOut_144 (v := 3) (by decide) ?_
    exact sd_ireturn (pc := 145) dX3_carryOut_145 (ty0 := .int) rfl rfl (mI.ok h)
  · skip
    by_cases g1 : (ρ.1 23) = (101 : Int32)
    · have h := h.2.1 g1
      refine sd_lookup (pc := 4) dX3_carryOut_4 (by decide) (off := 105) (by rw [g1]; decide) (tgt := 109) (by decide) ?_
      refine sd_aload_n (pc := 109) dX3_carryOut_109 rfl 0 rfl ?_
      refine sd_aload_n (pc := 110) dX3_carryOut_110 rfl 0 rfl ?_
      refine sd_getI (pc := 111) dX3_carryOut_111 (ci := 2) rfl in_X3 (kf := 24) (by decide) q2097 (mo_gI hM rfl ?_)
      refine sd_callV (k := k) (n := n) (d0 := d) (k0 := 0) (n0 := 0) (As := [.int (ρ.1 24)]) (st := []) (pc := 114) dX3_carryOut_114 (ci := 2) rfl (mo_isC hM) rfl q2550 q2356 q2357 q91 q2358 1 (by decide +kernel) rfl (Nat.le_refl _) (by decide) (Nat.le_of_ble_eq_true rfl) (Cx.mono (cm_X3_sell hM (by omega)  h) (mI.to (fun r4 ρ3 h => ?_)) (xo rfl))
      refine sd_pop (pc := 117) dX3_carryOut_117 rfl ?_
      refine sd_iconst (pc := 118) dX3_carryOut_118 (v := 2) (by decide) ?_
      exact sd_ireturn (pc := 119) dX3_carryOut_119 (ty0 := .int) rfl rfl (mI.ok h)
    · skip
      by_cases g2 : (ρ.1 23) = (102 : Int32)
      · have h := h.2.2.1 g2
        refine sd_lookup (pc := 4) dX3_carryOut_4 (by decide) (off := 94) (by rw [g2]; decide) (tgt := 98) (by decide) ?_
        refine sd_aload_n (pc := 98) dX3_carryOut_98 rfl 0 rfl ?_
        refine sd_aload_n (pc := 99) dX3_carryOut_99 rfl 0 rfl ?_
        refine sd_getI (pc := 100) dX3_carryOut_100 (ci := 2) rfl in_X3 (kf := 24) (by decide) q2097 (mo_gI hM rfl ?_)
        refine sd_callV (k := k) (n := n) (d0 := d) (k0 := 0) (n0 := 0) (As := [.int (ρ.1 24)]) (st := []) (pc := 103) dX3_carryOut_103 (ci := 2) rfl (mo_isC hM) rfl q2549 q2348 q2349 q91 q2350 1 (by decide +kernel) rfl (Nat.le_refl _) (by decide) (Nat.le_of_ble_eq_true rfl) (Cx.mono (cm_X3_find hM (by omega)  h) (mI.to (fun r6 ρ5 h => ?_)) (xo rfl))
        refine sd_pop (pc := 106) dX3_carryOut_106 rfl ?_
        refine sd_iconst (pc := 107) dX3_carryOut_107 (v := 2) (by decide) ?_
        exact sd_ireturn (pc := 108) dX3_carryOut_108 (ty0 := .int) rfl rfl (mI.ok h)
      · skip
        by_cases g3 : (ρ.1 23) = (104 : Int32)
        · have h := h.2.2.2.1 g3
          refine sd_lookup (pc := 4) dX3_carryOut_4 (by decide) (off := 75) (by rw [g3]; decide) (tgt := 79) (by decide) ?_
          refine sd_aload_n (pc := 79) dX3_carryOut_79 rfl 0 rfl ?_
          refine sd_aload_n (pc := 80) dX3_carryOut_80 rfl 0 rfl ?_
          refine sd_getI (pc := 81) dX3_carryOut_81 (ci := 2) rfl in_X3 (kf := 24) (by decide) q2097 (mo_gI hM rfl ?_)
          refine sd_aload_n (pc := 84) dX3_carryOut_84 rfl 0 rfl ?_
          refine sd_getI (pc := 85) dX3_carryOut_85 (ci := 2) rfl in_X3 (kf := 25) (by decide) q2098 (mo_gI hM rfl ?_)
          refine sd_aload_n (pc := 88) dX3_carryOut_88 rfl 0 rfl ?_
          refine sd_getI (pc := 89) dX3_carryOut_89 (ci := 2) rfl in_X3 (kf := 26) (by decide) q2099 (mo_gI hM rfl ?_)
          refine sd_callV (k := k) (n := n) (d0 := d) (k0 := 0) (n0 := 0) (As := [.int (ρ.1 24), .int (ρ.1 25), .int (ρ.1 26)]) (st := []) (pc := 92) dX3_carryOut_92 (ci := 2) rfl (mo_isC hM) rfl q2548 q2340 q2341 q91 q2342 3 (by decide +kernel) rfl (Nat.le_refl _) (by decide) (Nat.le_of_ble_eq_true rfl) (Cx.mono (cm_X3_shear hM (by omega)  h) (mI.to (fun r8 ρ7 h => ?_)) (xo rfl))
          refine sd_pop (pc := 95) dX3_carryOut_95 rfl ?_
          refine sd_iconst (pc := 96) dX3_carryOut_96 (v := 3) (by decide) ?_
          exact sd_ireturn (pc := 97) dX3_carryOut_97 (ty0 := .int) rfl rfl (mI.ok h)
        · skip
          by_cases g4 : (ρ.1 23) = (108 : Int32)
          · have h := h.2.2.2.2.1 g4
            refine sd_lookup (pc := 4) dX3_carryOut_4 (by decide) (off := 116) (by rw [g4]; decide) (tgt := 120) (by decide) ?_
            refine sd_aload_n (pc := 120) dX3_carryOut_120 rfl 0 rfl ?_
            refine sd_aload_n (pc := 121) dX3_carryOut_121 rfl 0 rfl ?_
            refine sd_getI (pc := 122) dX3_carryOut_122 (ci := 2) rfl in_X3 (kf := 24) (by decide) q2097 (mo_gI hM rfl ?_)
            refine sd_callV (k := k) (n := n) (d0 := d) (k0 := 0) (n0 := 0) (As := [.int (ρ.1 24)]) (st := []) (pc := 125) dX3_carryOut_125 (ci := 2) rfl (mo_isC hM) rfl q2551 q2213 q2214 q91 q2215 1 (by decide +kernel) rfl (Nat.le_refl _) (by decide) (Nat.le_of_ble_eq_true rfl) (Cx.mono (cm_X3_lay hM (by omega)  h) (mI.to (fun r10 ρ9 h => ?_)) (xo rfl))
            refine sd_pop (pc := 128) dX3_carryOut_128 rfl ?_
            refine sd_iconst (pc := 129) dX3_carryOut_129 (v := 2) (by decide) ?_
            exact sd_ireturn (pc := 130) dX3_carryOut_130 (ty0 := .int) rfl rfl (mI.ok h)
          · skip
            by_cases g5 : (ρ.1 23) = (119 : Int32)
            · have h := h.2.2.2.2.2.1 g5
              refine sd_lookup (pc := 4) dX3_carryOut_4 (by decide) (off := 60) (by rw [g5]; decide) (tgt := 64) (by decide) ?_
              refine sd_aload_n (pc := 64) dX3_carryOut_64 rfl 0 rfl ?_
              refine sd_aload_n (pc := 65) dX3_carryOut_65 rfl 0 rfl ?_
              refine sd_getI (pc := 66) dX3_carryOut_66 (ci := 2) rfl in_X3 (kf := 24) (by decide) q2097 (mo_gI hM rfl ?_)
              refine sd_aload_n (pc := 69) dX3_carryOut_69 rfl 0 rfl ?_
              refine sd_getI (pc := 70) dX3_carryOut_70 (ci := 2) rfl in_X3 (kf := 25) (by decide) q2098 (mo_gI hM rfl ?_)
              refine sd_callV (k := k) (n := n) (d0 := d) (k0 := 0) (n0 := 0) (As := [.int (ρ.1 24), .int (ρ.1 25)]) (st := []) (pc := 73) dX3_carryOut_73 (ci := 2) rfl (mo_isC hM) rfl q2547 q2325 q2326 q91 q2327 2 (by decide +kernel) rfl (Nat.le_refl _) (by decide) (Nat.le_of_ble_eq_true rfl) (Cx.mono (cm_X3_walk hM (by omega)  h) (mI.to (fun r12 ρ11 h => ?_)) (xo rfl))
              refine sd_pop (pc := 76) dX3_carryOut_76 rfl ?_
              refine sd_iconst (pc := 77) dX3_carryOut_77 (v := 2) (by decide) ?_
              exact sd_ireturn (pc := 78) dX3_carryOut_78 (ty0 := .int) rfl rfl (mI.ok h)
            · skip
              have h := h.2.2.2.2.2.2 g0 g1 g2 g3 g4 g5
              refine sd_lookup (pc := 4) dX3_carryOut_4 (by decide) (off := 142) (by rw [lv_osw g0 (by decide)]; rw [lv_osw g1 (by decide)]; rw [lv_osw g2 (by decide)]; rw [lv_osw g3 (by decide)]; rw [lv_osw g4 (by decide)]; rw [lv_osw g5 (by decide)]; rfl) (tgt := 146) (by decide) ?_
              refine sd_aload_n (pc := 146) dX3_carryOut_146 rfl 0 rfl ?_
              refine sd_aload_n (pc := 147) dX3_carryOut_147 rfl 0 rfl ?_
              refine sd_getI (pc := 148) dX3_carryOut_148 (ci := 2) rfl in_X3 (kf := 24) (by decide) q2097 (mo_gI hM rfl ?_)
              refine sd_callV (k := k) (n := n) (d0 := d) (k0 := 0) (n0 := 0) (As := [.int (ρ.1 24)]) (st := []) (pc := 151) dX3_carryOut_151 (ci := 2) rfl (mo_isC hM) rfl q2553 q2380 q2381 q91 q2382 1 (by decide +kernel) rfl (Nat.le_refl _) (by decide) (Nat.le_of_ble_eq_true rfl) (Cx.mono (cm_X3_pass hM (by omega)  h) (mI.to (fun r14 ρ13 h => ?_)) (xo rfl))
              refine sd_pop (pc := 154) dX3_carryOut_154 rfl ?_
              refine sd_iconst (pc := 155) dX3_carryOut_155 (v := -1) (by decide) ?_
              exact sd_ireturn (pc := 156) dX3_carryOut_156 (ty0 := .int) rfl rfl (mI.ok h)
theorem cm_X3_carryOut {en : yEn} {mb : Nat → Nat} {σ : yH} (hM : mOK en mb σ) {d : Nat} (hd : 9 ≤ d) {ρ : yMS}  {K : Int32 → yMS → Prop} {X : String → Addr → yH → Prop}  (h : wpM_X3_carryOut ρ  K) : Cx en d 0 0 mX3_carryOut [.ref (mb 0)] (mH en mb ρ σ) (mQ en mb σ (mI K)) X := by
  obtain ⟨d, rfl⟩ : ∃ e, d = e + 1 := ⟨d - 1, by omega⟩
  exact Cx.body (by decide +kernel) rfl (Nat.le_of_ble_eq_true rfl) (okM_X3_carryOut hM (by omega)  h)
/-! sees(CC)Z -/
def wpM_X3_sees (ρ : yMS) (x1 : Int32) (x2 : Int32) (K : Int32 → yMS → Prop) : Prop :=
  ((¬ ((ρ.1 22) = 0) → K (0 : Int32) ρ) ∧ (((ρ.1 22) = 0) → ((((ρ.1 19) ≤ (ρ.1 20)) → K (0 : Int32) ρ) ∧ (¬ ((ρ.1 19) ≤ (ρ.1 20)) → mCld ρ 15 (ρ.1 20) (fun v1 => wpM_X3_isBetween ρ v1 x1 x2 (fun r3 ρ2 => K (if (r3 = 0) then (0 : Int32) else (1 : Int32)) ρ2))))))
theorem okM_X3_sees {en : yEn} {mb : Nat → Nat} {σ : yH} (hM : mOK en mb σ) {d : Nat} (hd : 2 ≤ d + 1) {ρ : yMS} {x1 : Int32} {x2 : Int32} {K : Int32 → yMS → Prop} {X : String → Addr → yH → Prop} {k n : Nat}  (h : wpM_X3_sees ρ x1 x2 K) : Wx en (d + 1) mX3_sees 0 [(0, .ref (mb 0)), (1, .int x1), (2, .int x2)] [] (mH en mb ρ σ) k n (mQ en mb σ (mI K)) X := by
  unfold wpM_X3_sees at h
  refine sd_aload_n (pc := 0) dX3_sees_0 rfl 0 rfl ?_
  refine sd_getI (pc := 1) dX3_sees_1 (ci := 2) rfl in_X3 (kf := 22) (by decide) q2095 (mo_gI hM rfl ?_)
  refine sd_ifne (pc := 4) dX3_sees_4 (tgt := 39) (by decide) ⟨fun c6 => ?_, fun c6 => ?_⟩
  · have h := h.1 c6
    refine sd_iconst (pc := 39) dX3_sees_39 (v := 0) (by decide) ?_
    exact sd_ireturn (pc := 40) dX3_sees_40 (ty0 := .boolean) rfl rfl (mI.ok h)
  · have h := h.2 c6
    refine sd_aload_n (pc := 7) dX3_sees_7 rfl 0 rfl ?_
    refine sd_getI (pc := 8) dX3_sees_8 (ci := 2) rfl in_X3 (kf := 20) (by decide) q2093 (mo_gI hM rfl ?_)
    refine sd_aload_n (pc := 11) dX3_sees_11 rfl 0 rfl ?_
    refine sd_getI (pc := 12) dX3_sees_12 (ci := 2) rfl in_X3 (kf := 19) (by decide) q2092 (mo_gI hM rfl ?_)
    refine sd_icmpge (pc := 15) dX3_sees_15 (tgt := 39) (by decide) ⟨fun c5 => ?_, fun c5 => ?_⟩
    · have h := h.1 c5
      refine sd_iconst (pc := 39) dX3_sees_39 (v := 0) (by decide) ?_
      exact sd_ireturn (pc := 40) dX3_sees_40 (ty0 := .boolean) rfl rfl (mI.ok h)
    · have h := h.2 c5
      refine sd_aload_n (pc := 18) dX3_sees_18 rfl 0 rfl ?_
      refine sd_getR (pc := 19) dX3_sees_19 (ci := 2) rfl in_X3 (kf := 18) (by decide) q2091 (mo_gR hM (j := 15) rfl ?_)
      refine sd_aload_n (pc := 22) dX3_sees_22 rfl 0 rfl ?_
      refine sd_getI (pc := 23) dX3_sees_23 (ci := 2) rfl in_X3 (kf := 20) (by decide) q2093 (mo_gI hM rfl ?_)
      refine sd_cldM (pc := 26) hM dX3_sees_26 h (fun v1 h => ?_)
      refine sd_iload_n (pc := 27) dX3_sees_27 rfl 1 rfl ?_
      refine sd_iload_n (pc := 28) dX3_sees_28 rfl 2 rfl ?_
      refine sd_callS (k := k) (n := n) (d0 := d) (k0 := 0) (n0 := 0) (As := [.int v1, .int x1, .int x2]) (st := []) (pc := 29) dX3_sees_29 q2167 q2168 q91 q2169 3 (by decide +kernel) rfl (Nat.le_refl _) (by decide) (Nat.le_of_ble_eq_true rfl) (Cx.mono (cm_X3_isBetween hM (by omega)  h) (mI.to (fun r3 ρ2 h => ?_)) (xo rfl))
      have h7 : Wx en (d + 1) mX3_sees 40 [(0, .ref (mb 0)), (1, .int x1), (2, .int x2)] (.int (if (r3 = 0) then (0 : Int32) else (1 : Int32)) :: []) (mH en mb ρ2 σ) k n (mQ en mb σ (mI K)) X := by
        exact sd_ireturn (pc := 40) dX3_sees_40 (ty0 := .boolean) rfl (nb_ite rfl rfl) (mI.ok h)
      have e8 := sd_iteI h7
      refine sd_ifeq (pc := 32) dX3_sees_32 (tgt := 39) (by decide) ⟨fun c4 => ?_, fun c4 => ?_⟩
      · refine sd_iconst (pc := 39) dX3_sees_39 (v := 0) (by decide) ?_
        exact (e8.1 c4)
      · refine sd_iconst (pc := 35) dX3_sees_35 (v := 1) (by decide) ?_
        refine sd_goto (pc := 36) dX3_sees_36 (tgt := 40) (by decide) ?_
        exact (e8.2 c4)
theorem cm_X3_sees {en : yEn} {mb : Nat → Nat} {σ : yH} (hM : mOK en mb σ) {d : Nat} (hd : 2 ≤ d) {ρ : yMS} {x1 : Int32} {x2 : Int32} {K : Int32 → yMS → Prop} {X : String → Addr → yH → Prop}  (h : wpM_X3_sees ρ x1 x2 K) : Cx en d 0 0 mX3_sees [.ref (mb 0), .int x1, .int x2] (mH en mb ρ σ) (mQ en mb σ (mI K)) X := by
  obtain ⟨d, rfl⟩ : ∃ e, d = e + 1 := ⟨d - 1, by omega⟩
  exact Cx.body (by decide +kernel) rfl (Nat.le_of_ble_eq_true rfl) (okM_X3_sees hM (by omega)  h)
/-! must(C)V -/
def wpM_X3_must (ρ : yMS) (x1 : Int32) (K : yMS → Prop) : Prop :=
  wpM_X3_sees ρ x1 x1 (fun r2 ρ1 => (nfit .boolean ((ρ.1 22) ||| (if (r2 = 0) then (1 : Int32) else (0 : Int32))) ∧ mPut ρ1 22 ((ρ.1 22) ||| (if (r2 = 0) then (1 : Int32) else (0 : Int32))) (fun ρ4 => (mPut ρ4 20 ((ρ4.1 20) + (if ((ρ4.1 22) = 0) then (1 : Int32) else (0 : Int32))) (fun ρ6 => K ρ6)))))
theorem okM_X3_must {en : yEn} {mb : Nat → Nat} {σ : yH} (hM : mOK en mb σ) {d : Nat} (hd : 3 ≤ d + 1) {ρ : yMS} {x1 : Int32} {K : yMS → Prop} {X : String → Addr → yH → Prop} {k n : Nat}  (h : wpM_X3_must ρ x1 K) : Wx en (d + 1) mX3_must 0 [(0, .ref (mb 0)), (1, .int x1)] [] (mH en mb ρ σ) k n (mQ en mb σ (mV K)) X := by
  unfold wpM_X3_must at h
  refine sd_aload_n (pc := 0) dX3_must_0 rfl 0 rfl ?_
  refine sd_dup (pc := 1) dX3_must_1 rfl ?_
  refine sd_getI (pc := 2) dX3_must_2 (ci := 2) rfl in_X3 (kf := 22) (by decide) q2095 (mo_gI hM rfl ?_)
  refine sd_aload_n (pc := 5) dX3_must_5 rfl 0 rfl ?_
  refine sd_iload_n (pc := 6) dX3_must_6 rfl 1 rfl ?_
  refine sd_iload_n (pc := 7) dX3_must_7 rfl 1 rfl ?_
  refine sd_callV (k := k) (n := n) (d0 := d) (k0 := 0) (n0 := 0) (As := [.int x1, .int x1]) (st := [.int (ρ.1 22), .ref (mb 0)]) (pc := 8) dX3_must_8 (ci := 2) rfl (mo_isC hM) rfl q2535 q2537 qs75 q91 q2538 2 (by decide +kernel) rfl (Nat.le_refl _) (by decide) (Nat.le_of_ble_eq_true rfl) (Cx.mono (cm_X3_sees hM (by omega)  h) (mI.to (fun r2 ρ1 h => ?_)) (xo rfl))
  have h7 : Wx en (d + 1) mX3_must 19 [(0, .ref (mb 0)), (1, .int x1)] (.int (if (r2 = 0) then (1 : Int32) else (0 : Int32)) :: .int (ρ.1 22) :: .ref (mb 0) :: []) (mH en mb ρ1 σ) k n (mQ en mb σ (mV K)) X := by
    refine sd_ior (pc := 19) dX3_must_19 ?_
    refine sd_putf (pc := 20) dX3_must_20 (ci := 2) rfl in_X3 tyX3 tyX3_ok nmX3 (kf := 22) (by decide) q2095 rfl (ty := .boolean) rfl h.1.1 h.1.2 (mPut.to hM (by decide) rfl h.2 (fun ρ4 h => ?_))
    refine sd_aload_n (pc := 23) dX3_must_23 rfl 0 rfl ?_
    refine sd_dup (pc := 24) dX3_must_24 rfl ?_
    refine sd_getI (pc := 25) dX3_must_25 (ci := 2) rfl in_X3 (kf := 20) (by decide) q2093 (mo_gI hM rfl ?_)
    refine sd_aload_n (pc := 28) dX3_must_28 rfl 0 rfl ?_
    refine sd_getI (pc := 29) dX3_must_29 (ci := 2) rfl in_X3 (kf := 22) (by decide) q2095 (mo_gI hM rfl ?_)
    have h8 : Wx en (d + 1) mX3_must 40 [(0, .ref (mb 0)), (1, .int x1)] (.int (if ((ρ4.1 22) = 0) then (1 : Int32) else (0 : Int32)) :: .int (ρ4.1 20) :: .ref (mb 0) :: []) (mH en mb ρ4 σ) k n (mQ en mb σ (mV K)) X := by
      refine sd_iadd (pc := 40) dX3_must_40 ?_
      refine sd_putf (pc := 41) dX3_must_41 (ci := 2) rfl in_X3 tyX3 tyX3_ok nmX3 (kf := 20) (by decide) q2093 rfl (ty := .int) rfl rfl rfl (mPut.to hM (by decide) rfl h (fun ρ6 h => ?_))
      exact sd_return (pc := 44) dX3_must_44 rfl (mV.ok h)
    have e9 := sd_iteI h8
    refine sd_ifeq (pc := 32) dX3_must_32 (tgt := 39) (by decide) ⟨fun c5 => ?_, fun c5 => ?_⟩
    · refine sd_iconst (pc := 39) dX3_must_39 (v := 1) (by decide) ?_
      exact (e9.1 c5)
    · refine sd_iconst (pc := 35) dX3_must_35 (v := 0) (by decide) ?_
      refine sd_goto (pc := 36) dX3_must_36 (tgt := 40) (by decide) ?_
      exact (e9.2 c5)
  have e10 := sd_iteIN h7
  refine sd_ifne (pc := 11) dX3_must_11 (tgt := 18) (by decide) ⟨fun c3 => ?_, fun c3 => ?_⟩
  · refine sd_iconst (pc := 18) dX3_must_18 (v := 0) (by decide) ?_
    exact (e10.1 c3)
  · refine sd_iconst (pc := 14) dX3_must_14 (v := 1) (by decide) ?_
    refine sd_goto (pc := 15) dX3_must_15 (tgt := 19) (by decide) ?_
    exact (e10.2 c3)
theorem cm_X3_must {en : yEn} {mb : Nat → Nat} {σ : yH} (hM : mOK en mb σ) {d : Nat} (hd : 3 ≤ d) {ρ : yMS} {x1 : Int32} {K : yMS → Prop} {X : String → Addr → yH → Prop}  (h : wpM_X3_must ρ x1 K) : Cx en d 0 0 mX3_must [.ref (mb 0), .int x1] (mH en mb ρ σ) (mQ en mb σ (mV K)) X := by
  obtain ⟨d, rfl⟩ : ∃ e, d = e + 1 := ⟨d - 1, by omega⟩
  exact Cx.body (by decide +kernel) rfl (Nat.le_of_ble_eq_true rfl) (okM_X3_must hM (by omega)  h)
/-! signAt(I)C -/
def wpM_X3_signAt (ρ : yMS) (x1 : Int32) (K : Int32 → yMS → Prop) : Prop :=
  ((((ρ.1 19) ≤ x1) → K (32 : Int32) ρ) ∧ (¬ ((ρ.1 19) ≤ x1) → mCld ρ 15 x1 (fun v1 => (narrow .char (.int v1) = .int v1 ∧ K v1 ρ))))
theorem okM_X3_signAt {en : yEn} {mb : Nat → Nat} {σ : yH} (hM : mOK en mb σ) {d : Nat} (hd : 1 ≤ d + 1) {ρ : yMS} {x1 : Int32} {K : Int32 → yMS → Prop} {X : String → Addr → yH → Prop} {k n : Nat}  (h : wpM_X3_signAt ρ x1 K) : Wx en (d + 1) mX3_signAt 0 [(0, .ref (mb 0)), (1, .int x1)] [] (mH en mb ρ σ) k n (mQ en mb σ (mI K)) X := by
  unfold wpM_X3_signAt at h
  refine sd_iload_n (pc := 0) dX3_signAt_0 rfl 1 rfl ?_
  refine sd_aload_n (pc := 1) dX3_signAt_1 rfl 0 rfl ?_
  refine sd_getI (pc := 2) dX3_signAt_2 (ci := 2) rfl in_X3 (kf := 19) (by decide) q2092 (mo_gI hM rfl ?_)
  refine sd_icmpge (pc := 5) dX3_signAt_5 (tgt := 17) (by decide) ⟨fun c2 => ?_, fun c2 => ?_⟩
  · have h := h.1 c2
    refine sd_bipush (pc := 17) dX3_signAt_17 (v := 32) (by decide) ?_
    exact sd_ireturn (pc := 19) dX3_signAt_19 (ty0 := .char) rfl rfl (mI.ok h)
  · have h := h.2 c2
    refine sd_aload_n (pc := 8) dX3_signAt_8 rfl 0 rfl ?_
    refine sd_getR (pc := 9) dX3_signAt_9 (ci := 2) rfl in_X3 (kf := 18) (by decide) q2091 (mo_gR hM (j := 15) rfl ?_)
    refine sd_iload_n (pc := 12) dX3_signAt_12 rfl 1 rfl ?_
    refine sd_cldM (pc := 13) hM dX3_signAt_13 h (fun v1 h => ?_)
    refine sd_goto (pc := 14) dX3_signAt_14 (tgt := 19) (by decide) ?_
    exact sd_ireturn (pc := 19) dX3_signAt_19 (ty0 := .char) rfl h.1 (mI.ok h.2)
theorem cm_X3_signAt {en : yEn} {mb : Nat → Nat} {σ : yH} (hM : mOK en mb σ) {d : Nat} (hd : 1 ≤ d) {ρ : yMS} {x1 : Int32} {K : Int32 → yMS → Prop} {X : String → Addr → yH → Prop}  (h : wpM_X3_signAt ρ x1 K) : Cx en d 0 0 mX3_signAt [.ref (mb 0), .int x1] (mH en mb ρ σ) (mQ en mb σ (mI K)) X := by
  obtain ⟨d, rfl⟩ : ∃ e, d = e + 1 := ⟨d - 1, by omega⟩
  exact Cx.body (by decide +kernel) rfl (Nat.le_of_ble_eq_true rfl) (okM_X3_signAt hM (by omega)  h)
/-! kindHere()C -/
def wpM_X3_kindHere_20 (t0 : Int32) (ρ : yMS) (K : Int32 → yMS → Prop) : Prop :=
  ((¬ (t0 = (115 : Int32)) → (narrow .char (.int (if (t0 = (119 : Int32)) then t0 else (if (t0 = (102 : Int32)) then t0 else (if (t0 = (108 : Int32)) then t0 else (100 : Int32))))) = .int (if (t0 = (119 : Int32)) then t0 else (if (t0 = (102 : Int32)) then t0 else (if (t0 = (108 : Int32)) then t0 else (100 : Int32)))) ∧ K (if (t0 = (119 : Int32)) then t0 else (if (t0 = (102 : Int32)) then t0 else (if (t0 = (108 : Int32)) then t0 else (100 : Int32)))) ρ)) ∧ ((t0 = (115 : Int32)) → wpM_X3_signAt ρ ((ρ.1 20) + (1 : Int32)) (fun r8 ρ7 => ((¬ (r8 = (104 : Int32)) → wpM_X3_signAt ρ7 ((ρ7.1 20) + (1 : Int32)) (fun r10 ρ9 => ((¬ (r10 = (101 : Int32)) → K (101 : Int32) ρ9) ∧ ((r10 = (101 : Int32)) → wpM_X3_signAt ρ9 ((ρ9.1 20) + (2 : Int32)) (fun r12 ρ11 => K (if (r12 = (97 : Int32)) then (97 : Int32) else (101 : Int32)) ρ11))))) ∧ ((r8 = (104 : Int32)) → K (104 : Int32) ρ7)))))
theorem okM_X3_kindHere_20 {en : yEn} {mb : Nat → Nat} {σ : yH} (hM : mOK en mb σ) {d : Nat} (hd : 2 ≤ d + 1) {K : Int32 → yMS → Prop} {X : String → Addr → yH → Prop} {k n : Nat} (t0 : Int32) (ρ : yMS) (h : wpM_X3_kindHere_20  t0 ρ K) : Wx en (d + 1) mX3_kindHere 20 [(0, .ref (mb 0))] [.int t0] (mH en mb ρ σ) k n (mQ en mb σ (mI K)) X := by
  unfold wpM_X3_kindHere_20 at h
  refine sd_istore_n (pc := 20) dX3_kindHere_20 rfl (by decide) (ls' := [(1, .int t0), (0, .ref (mb 0))]) rfl ?_
  refine sd_iload_n (pc := 21) dX3_kindHere_21 rfl 0 rfl ?_
  refine sd_bipush (pc := 22) dX3_kindHere_22 (v := 115) (by decide) ?_
  refine sd_icmpne (pc := 24) dX3_kindHere_24 (tgt := 85) (by decide) ⟨fun c16 => ?_, fun c16 => ?_⟩
  · have h := h.1 c16
    refine sd_iload_n (pc := 85) dX3_kindHere_85 rfl 0 rfl ?_
    refine sd_bipush (pc := 86) dX3_kindHere_86 (v := 119) (by decide) ?_
    have h17 : Wx en (d + 1) mX3_kindHere 109 [(1, .int t0), (0, .ref (mb 0))] (.int (if (t0 = (119 : Int32)) then t0 else (if (t0 = (102 : Int32)) then t0 else (if (t0 = (108 : Int32)) then t0 else (100 : Int32)))) :: []) (mH en mb ρ σ) k n (mQ en mb σ (mI K)) X := by
      exact sd_ireturn (pc := 109) dX3_kindHere_109 (ty0 := .char) rfl h.1 (mI.ok h.2)
    have e18 := sd_iteI h17
    refine sd_icmpeq (pc := 88) dX3_kindHere_88 (tgt := 103) (by decide) ⟨fun c6 => ?_, fun c6 => ?_⟩
    · refine sd_iload_n (pc := 103) dX3_kindHere_103 rfl 0 rfl ?_
      refine sd_goto (pc := 104) dX3_kindHere_104 (tgt := 109) (by decide) ?_
      exact (e18.1 c6)
    · refine sd_iload_n (pc := 91) dX3_kindHere_91 rfl 0 rfl ?_
      refine sd_bipush (pc := 92) dX3_kindHere_92 (v := 102) (by decide) ?_
      have e19 := sd_iteI (e18.2 c6)
      refine sd_icmpeq (pc := 94) dX3_kindHere_94 (tgt := 103) (by decide) ⟨fun c5 => ?_, fun c5 => ?_⟩
      · refine sd_iload_n (pc := 103) dX3_kindHere_103 rfl 0 rfl ?_
        refine sd_goto (pc := 104) dX3_kindHere_104 (tgt := 109) (by decide) ?_
        exact (e19.1 c5)
      · refine sd_iload_n (pc := 97) dX3_kindHere_97 rfl 0 rfl ?_
        refine sd_bipush (pc := 98) dX3_kindHere_98 (v := 108) (by decide) ?_
        have e20 := sd_iteIN (e19.2 c5)
        refine sd_icmpne (pc := 100) dX3_kindHere_100 (tgt := 107) (by decide) ⟨fun c4 => ?_, fun c4 => ?_⟩
        · refine sd_bipush (pc := 107) dX3_kindHere_107 (v := 100) (by decide) ?_
          exact (e20.1 c4)
        · refine sd_iload_n (pc := 103) dX3_kindHere_103 rfl 0 rfl ?_
          refine sd_goto (pc := 104) dX3_kindHere_104 (tgt := 109) (by decide) ?_
          exact (e20.2 c4)
  · have h := h.2 c16
    refine sd_aload_n (pc := 27) dX3_kindHere_27 rfl 1 rfl ?_
    refine sd_aload_n (pc := 28) dX3_kindHere_28 rfl 1 rfl ?_
    refine sd_getI (pc := 29) dX3_kindHere_29 (ci := 2) rfl in_X3 (kf := 20) (by decide) q2093 (mo_gI hM rfl ?_)
    refine sd_iconst (pc := 32) dX3_kindHere_32 (v := 1) (by decide) ?_
    refine sd_iadd (pc := 33) dX3_kindHere_33 ?_
    refine sd_callV (k := k) (n := n) (d0 := d) (k0 := 0) (n0 := 0) (As := [.int ((ρ.1 20) + (1 : Int32))]) (st := []) (pc := 34) dX3_kindHere_34 (ci := 2) rfl (mo_isC hM) rfl q2517 q2519 qs73 q91 q2520 1 (by decide +kernel) rfl (Nat.le_refl _) (by decide) (Nat.le_of_ble_eq_true rfl) (Cx.mono (cm_X3_signAt hM (by omega)  h) (mI.to (fun r8 ρ7 h => ?_)) (xo rfl))
    refine sd_bipush (pc := 37) dX3_kindHere_37 (v := 104) (by decide) ?_
    refine sd_icmpne (pc := 39) dX3_kindHere_39 (tgt := 47) (by decide) ⟨fun c15 => ?_, fun c15 => ?_⟩
    · have h := h.1 c15
      refine sd_aload_n (pc := 47) dX3_kindHere_47 rfl 1 rfl ?_
      refine sd_aload_n (pc := 48) dX3_kindHere_48 rfl 1 rfl ?_
      refine sd_getI (pc := 49) dX3_kindHere_49 (ci := 2) rfl in_X3 (kf := 20) (by decide) q2093 (mo_gI hM rfl ?_)
      refine sd_iconst (pc := 52) dX3_kindHere_52 (v := 1) (by decide) ?_
      refine sd_iadd (pc := 53) dX3_kindHere_53 ?_
      refine sd_callV (k := k) (n := n) (d0 := d) (k0 := 0) (n0 := 0) (As := [.int ((ρ7.1 20) + (1 : Int32))]) (st := []) (pc := 54) dX3_kindHere_54 (ci := 2) rfl (mo_isC hM) rfl q2517 q2519 qs73 q91 q2520 1 (by decide +kernel) rfl (Nat.le_refl _) (by decide) (Nat.le_of_ble_eq_true rfl) (Cx.mono (cm_X3_signAt hM (by omega)  h) (mI.to (fun r10 ρ9 h => ?_)) (xo rfl))
      refine sd_bipush (pc := 57) dX3_kindHere_57 (v := 101) (by decide) ?_
      refine sd_icmpne (pc := 59) dX3_kindHere_59 (tgt := 82) (by decide) ⟨fun c14 => ?_, fun c14 => ?_⟩
      · have h := h.1 c14
        refine sd_bipush (pc := 82) dX3_kindHere_82 (v := 101) (by decide) ?_
        exact sd_ireturn (pc := 84) dX3_kindHere_84 (ty0 := .char) rfl rfl (mI.ok h)
      · have h := h.2 c14
        refine sd_aload_n (pc := 62) dX3_kindHere_62 rfl 1 rfl ?_
        refine sd_aload_n (pc := 63) dX3_kindHere_63 rfl 1 rfl ?_
        refine sd_getI (pc := 64) dX3_kindHere_64 (ci := 2) rfl in_X3 (kf := 20) (by decide) q2093 (mo_gI hM rfl ?_)
        refine sd_iconst (pc := 67) dX3_kindHere_67 (v := 2) (by decide) ?_
        refine sd_iadd (pc := 68) dX3_kindHere_68 ?_
        refine sd_callV (k := k) (n := n) (d0 := d) (k0 := 0) (n0 := 0) (As := [.int ((ρ9.1 20) + (2 : Int32))]) (st := []) (pc := 69) dX3_kindHere_69 (ci := 2) rfl (mo_isC hM) rfl q2517 q2519 qs73 q91 q2520 1 (by decide +kernel) rfl (Nat.le_refl _) (by decide) (Nat.le_of_ble_eq_true rfl) (Cx.mono (cm_X3_signAt hM (by omega)  h) (mI.to (fun r12 ρ11 h => ?_)) (xo rfl))
        refine sd_bipush (pc := 72) dX3_kindHere_72 (v := 97) (by decide) ?_
        have h21 : Wx en (d + 1) mX3_kindHere 84 [(1, .int t0), (0, .ref (mb 0))] (.int (if (r12 = (97 : Int32)) then (97 : Int32) else (101 : Int32)) :: []) (mH en mb ρ11 σ) k n (mQ en mb σ (mI K)) X := by
          exact sd_ireturn (pc := 84) dX3_kindHere_84 (ty0 := .char) rfl (nb_ite rfl rfl) (mI.ok h)
        have e22 := sd_iteIN h21
        refine sd_icmpne (pc := 74) dX3_kindHere_74 (tgt := 82) (by decide) ⟨fun c13 => ?_, fun c13 => ?_⟩
        · refine sd_bipush (pc := 82) dX3_kindHere_82 (v := 101) (by decide) ?_
          exact (e22.1 c13)
        · refine sd_bipush (pc := 77) dX3_kindHere_77 (v := 97) (by decide) ?_
          refine sd_goto (pc := 79) dX3_kindHere_79 (tgt := 84) (by decide) ?_
          exact (e22.2 c13)
    · have h := h.2 c15
      refine sd_bipush (pc := 42) dX3_kindHere_42 (v := 104) (by decide) ?_
      refine sd_goto (pc := 44) dX3_kindHere_44 (tgt := 84) (by decide) ?_
      exact sd_ireturn (pc := 84) dX3_kindHere_84 (ty0 := .char) rfl rfl (mI.ok h)
def wpM_X3_kindHere (ρ : yMS)  (K : Int32 → yMS → Prop) : Prop :=
  ((((ρ.1 22) = 0) → wpM_X3_signAt ρ (ρ.1 20) (fun r2 ρ1 => wpM_X3_kindHere_20  r2 ρ1 K)) ∧ (¬ ((ρ.1 22) = 0) → wpM_X3_kindHere_20  (32 : Int32) ρ K))
theorem okM_X3_kindHere {en : yEn} {mb : Nat → Nat} {σ : yH} (hM : mOK en mb σ) {d : Nat} (hd : 2 ≤ d + 1) {ρ : yMS}  {K : Int32 → yMS → Prop} {X : String → Addr → yH → Prop} {k n : Nat}  (h : wpM_X3_kindHere ρ  K) : Wx en (d + 1) mX3_kindHere 0 [(0, .ref (mb 0))] [] (mH en mb ρ σ) k n (mQ en mb σ (mI K)) X := by
  unfold wpM_X3_kindHere at h
  refine sd_aload_n (pc := 0) dX3_kindHere_0 rfl 0 rfl ?_
  refine sd_getI (pc := 1) dX3_kindHere_1 (ci := 2) rfl in_X3 (kf := 22) (by decide) q2095 (mo_gI hM rfl ?_)
  refine sd_ifeq (pc := 4) dX3_kindHere_4 (tgt := 12) (by decide) ⟨fun c3 => ?_, fun c3 => ?_⟩
  · have h := h.1 c3
    refine sd_aload_n (pc := 12) dX3_kindHere_12 rfl 0 rfl ?_
    refine sd_aload_n (pc := 13) dX3_kindHere_13 rfl 0 rfl ?_
    refine sd_getI (pc := 14) dX3_kindHere_14 (ci := 2) rfl in_X3 (kf := 20) (by decide) q2093 (mo_gI hM rfl ?_)
    refine sd_callV (k := k) (n := n) (d0 := d) (k0 := 0) (n0 := 0) (As := [.int (ρ.1 20)]) (st := []) (pc := 17) dX3_kindHere_17 (ci := 2) rfl (mo_isC hM) rfl q2517 q2519 qs73 q91 q2520 1 (by decide +kernel) rfl (Nat.le_refl _) (by decide) (Nat.le_of_ble_eq_true rfl) (Cx.mono (cm_X3_signAt hM (by omega)  h) (mI.to (fun r2 ρ1 h => ?_)) (xo rfl))
    exact (okM_X3_kindHere_20 hM (by omega)  _ _ h)
  · have h := h.2 c3
    refine sd_bipush (pc := 7) dX3_kindHere_7 (v := 32) (by decide) ?_
    refine sd_goto (pc := 9) dX3_kindHere_9 (tgt := 20) (by decide) ?_
    exact (okM_X3_kindHere_20 hM (by omega)  _ _ h)
theorem cm_X3_kindHere {en : yEn} {mb : Nat → Nat} {σ : yH} (hM : mOK en mb σ) {d : Nat} (hd : 2 ≤ d) {ρ : yMS}  {K : Int32 → yMS → Prop} {X : String → Addr → yH → Prop}  (h : wpM_X3_kindHere ρ  K) : Cx en d 0 0 mX3_kindHere [.ref (mb 0)] (mH en mb ρ σ) (mQ en mb σ (mI K)) X := by
  obtain ⟨d, rfl⟩ : ∃ e, d = e + 1 := ⟨d - 1, by omega⟩
  exact Cx.body (by decide +kernel) rfl (Nat.le_of_ble_eq_true rfl) (okM_X3_kindHere hM (by omega)  h)
/-! readNumber(I)I -/
def stM_X3_readNumber_35 (K : Int32 → yMS → Prop) (rec : Int32 → Int32 → Int32 → yMS → Prop) (l1 : Int32) (l2 : Int32) (l3 : Int32) (ρ : yMS) : Prop :=
  (((l1 ≤ l3) → K l2 ρ) ∧ (¬ (l1 ≤ l3) → wpM_X3_sees ρ (48 : Int32) (57 : Int32) (fun r9 ρ8 => (((r9 = 0) → K l2 ρ8) ∧ (¬ (r9 = 0) → mCld ρ8 15 (ρ8.1 20) (fun v10 => (mPut ρ8 20 ((ρ8.1 20) + (1 : Int32)) (fun ρ11 => rec l1 ((((10 : Int32) * l2) + v10) - (48 : Int32)) (l3 + (1 : Int32)) ρ11))))))))
def lpM_X3_readNumber_35 (K : Int32 → yMS → Prop) : Nat → Int32 × Int32 × Int32 × yMS → Prop := lpN (fun r s => stM_X3_readNumber_35  K (fun l1 l2 l3 ρ => r (l1, l2, l3, ρ)) s.1 s.2.1 s.2.2.1 s.2.2.2)
def wpM_X3_readNumber_35 (l1 : Int32) (l2 : Int32) (l3 : Int32) (ρ : yMS) (K : Int32 → yMS → Prop) : Prop := ∃ nn, lpM_X3_readNumber_35  K nn (l1, l2, l3, ρ)
theorem olM_X3_readNumber_35 {en : yEn} {mb : Nat → Nat} {σ : yH} (hM : mOK en mb σ) {d : Nat} (hd : 4 ≤ d + 1) {K : Int32 → yMS → Prop} {X : String → Addr → yH → Prop} {k n : Nat} : ∀ (nn : Nat) (l1 : Int32) (l2 : Int32) (l3 : Int32) (ρ : yMS), lpM_X3_readNumber_35  K nn (l1, l2, l3, ρ) → Wx en (d + 1) mX3_readNumber 35 [(0, .ref (mb 0)), (1, .int l1), (2, .int l2), (3, .int l3)] [] (mH en mb ρ σ) k n (mQ en mb σ (mI K)) X := by
  intro nn
  induction nn with
  | zero => intros; rename_i h; exact h.elim
  | succ nn ih =>
    intro l1 l2 l3 ρ h
    replace h : stM_X3_readNumber_35  K (fun l1 l2 l3 ρ => lpM_X3_readNumber_35  K nn (l1, l2, l3, ρ)) l1 l2 l3 ρ := h
    unfold stM_X3_readNumber_35 at h
    refine sd_iload_n (pc := 35) dX3_readNumber_35 rfl 3 rfl ?_
    refine sd_iload_n (pc := 36) dX3_readNumber_36 rfl 1 rfl ?_
    refine sd_icmpge (pc := 37) dX3_readNumber_37 (tgt := 85) (by decide) ⟨fun c13 => ?_, fun c13 => ?_⟩
    · have h := h.1 c13
      refine sd_iload_n (pc := 85) dX3_readNumber_85 rfl 2 rfl ?_
      exact sd_ireturn (pc := 86) dX3_readNumber_86 (ty0 := .int) rfl rfl (mI.ok h)
    · have h := h.2 c13
      refine sd_aload_n (pc := 40) dX3_readNumber_40 rfl 0 rfl ?_
      refine sd_bipush (pc := 41) dX3_readNumber_41 (v := 48) (by decide) ?_
      refine sd_bipush (pc := 43) dX3_readNumber_43 (v := 57) (by decide) ?_
      refine sd_callV (k := k) (n := n) (d0 := d) (k0 := 0) (n0 := 0) (As := [.int (48 : Int32), .int (57 : Int32)]) (st := []) (pc := 45) dX3_readNumber_45 (ci := 2) rfl (mo_isC hM) rfl q2535 q2537 qs75 q91 q2538 2 (by decide +kernel) rfl (Nat.le_refl _) (by decide) (Nat.le_of_ble_eq_true rfl) (Cx.mono (cm_X3_sees hM (by omega)  h) (mI.to (fun r9 ρ8 h => ?_)) (xo rfl))
      refine sd_ifeq (pc := 48) dX3_readNumber_48 (tgt := 85) (by decide) ⟨fun c12 => ?_, fun c12 => ?_⟩
      · have h := h.1 c12
        refine sd_iload_n (pc := 85) dX3_readNumber_85 rfl 2 rfl ?_
        exact sd_ireturn (pc := 86) dX3_readNumber_86 (ty0 := .int) rfl rfl (mI.ok h)
      · have h := h.2 c12
        refine sd_bipush (pc := 51) dX3_readNumber_51 (v := 10) (by decide) ?_
        refine sd_iload_n (pc := 53) dX3_readNumber_53 rfl 2 rfl ?_
        refine sd_imul (pc := 54) dX3_readNumber_54 ?_
        refine sd_aload_n (pc := 55) dX3_readNumber_55 rfl 0 rfl ?_
        refine sd_getR (pc := 56) dX3_readNumber_56 (ci := 2) rfl in_X3 (kf := 18) (by decide) q2091 (mo_gR hM (j := 15) rfl ?_)
        refine sd_aload_n (pc := 59) dX3_readNumber_59 rfl 0 rfl ?_
        refine sd_getI (pc := 60) dX3_readNumber_60 (ci := 2) rfl in_X3 (kf := 20) (by decide) q2093 (mo_gI hM rfl ?_)
        refine sd_cldM (pc := 63) hM dX3_readNumber_63 h (fun v10 h => ?_)
        refine sd_iadd (pc := 64) dX3_readNumber_64 ?_
        refine sd_bipush (pc := 65) dX3_readNumber_65 (v := 48) (by decide) ?_
        refine sd_isub (pc := 67) dX3_readNumber_67 ?_
        refine sd_istore_n (pc := 68) dX3_readNumber_68 rfl (by decide) (ls' := [(2, .int ((((10 : Int32) * l2) + v10) - (48 : Int32))), (0, .ref (mb 0)), (1, .int l1), (3, .int l3)]) rfl ?_
        refine sd_aload_n (pc := 69) dX3_readNumber_69 rfl 1 rfl ?_
        refine sd_dup (pc := 70) dX3_readNumber_70 rfl ?_
        refine sd_getI (pc := 71) dX3_readNumber_71 (ci := 2) rfl in_X3 (kf := 20) (by decide) q2093 (mo_gI hM rfl ?_)
        refine sd_iconst (pc := 74) dX3_readNumber_74 (v := 1) (by decide) ?_
        refine sd_iadd (pc := 75) dX3_readNumber_75 ?_
        refine sd_putf (pc := 76) dX3_readNumber_76 (ci := 2) rfl in_X3 tyX3 tyX3_ok nmX3 (kf := 20) (by decide) q2093 rfl (ty := .int) rfl rfl rfl (mPut.to hM (by decide) rfl h (fun ρ11 h => ?_))
        refine sd_iinc (pc := 79) dX3_readNumber_79 3 rfl (v := (l3 + (1 : Int32))) rfl (by decide) (ls' := [(3, .int (l3 + (1 : Int32))), (2, .int ((((10 : Int32) * l2) + v10) - (48 : Int32))), (0, .ref (mb 0)), (1, .int l1)]) rfl ?_
        refine sd_goto (pc := 82) dX3_readNumber_82 (tgt := 35) (by decide) ?_
        exact sd_loc [2, 3, 1, 0] rfl (ih _ _ _ _ h)
theorem okM_X3_readNumber_35 {en : yEn} {mb : Nat → Nat} {σ : yH} (hM : mOK en mb σ) {d : Nat} (hd : 4 ≤ d + 1) {K : Int32 → yMS → Prop} {X : String → Addr → yH → Prop} {k n : Nat} (l1 : Int32) (l2 : Int32) (l3 : Int32) (ρ : yMS) (h : wpM_X3_readNumber_35  l1 l2 l3 ρ K) : Wx en (d + 1) mX3_readNumber 35 [(0, .ref (mb 0)), (1, .int l1), (2, .int l2), (3, .int l3)] [] (mH en mb ρ σ) k n (mQ en mb σ (mI K)) X := by
  obtain ⟨nn, h⟩ := h
  exact olM_X3_readNumber_35 hM hd  nn _ _ _ _ h
def wpM_X3_readNumber (ρ : yMS) (x1 : Int32) (K : Int32 → yMS → Prop) : Prop :=
  wpM_X3_must ρ (32 : Int32) (fun ρ1 => wpM_X3_sees ρ1 (48 : Int32) (57 : Int32) (fun r3 ρ2 => (nfit .boolean ((ρ1.1 22) ||| (if (r3 = 0) then (1 : Int32) else (0 : Int32))) ∧ mPut ρ2 22 ((ρ1.1 22) ||| (if (r3 = 0) then (1 : Int32) else (0 : Int32))) (fun ρ5 => wpM_X3_readNumber_35  x1 (0 : Int32) (0 : Int32) ρ5 K))))
theorem okM_X3_readNumber {en : yEn} {mb : Nat → Nat} {σ : yH} (hM : mOK en mb σ) {d : Nat} (hd : 4 ≤ d + 1) {ρ : yMS} {x1 : Int32} {K : Int32 → yMS → Prop} {X : String → Addr → yH → Prop} {k n : Nat}  (h : wpM_X3_readNumber ρ x1 K) : Wx en (d + 1) mX3_readNumber 0 [(0, .ref (mb 0)), (1, .int x1)] [] (mH en mb ρ σ) k n (mQ en mb σ (mI K)) X := by
  unfold wpM_X3_readNumber at h
  refine sd_aload_n (pc := 0) dX3_readNumber_0 rfl 0 rfl ?_
  refine sd_bipush (pc := 1) dX3_readNumber_1 (v := 32) (by decide) ?_
  refine sd_callV (k := k) (n := n) (d0 := d) (k0 := 0) (n0 := 0) (As := [.int (32 : Int32)]) (st := []) (pc := 3) dX3_readNumber_3 (ci := 2) rfl (mo_isC hM) rfl q2531 q2533 qs74 q91 q2534 1 (by decide +kernel) rfl (Nat.le_refl _) (by decide) (Nat.le_of_ble_eq_true rfl) (Cx.mono (cm_X3_must hM (by omega)  h) (mV.to (fun ρ1 h => ?_)) (xo rfl))
  refine sd_aload_n (pc := 6) dX3_readNumber_6 rfl 0 rfl ?_
  refine sd_dup (pc := 7) dX3_readNumber_7 rfl ?_
  refine sd_getI (pc := 8) dX3_readNumber_8 (ci := 2) rfl in_X3 (kf := 22) (by decide) q2095 (mo_gI hM rfl ?_)
  refine sd_aload_n (pc := 11) dX3_readNumber_11 rfl 0 rfl ?_
  refine sd_bipush (pc := 12) dX3_readNumber_12 (v := 48) (by decide) ?_
  refine sd_bipush (pc := 14) dX3_readNumber_14 (v := 57) (by decide) ?_
  refine sd_callV (k := k) (n := n) (d0 := d) (k0 := 0) (n0 := 0) (As := [.int (48 : Int32), .int (57 : Int32)]) (st := [.int (ρ1.1 22), .ref (mb 0)]) (pc := 16) dX3_readNumber_16 (ci := 2) rfl (mo_isC hM) rfl q2535 q2537 qs75 q91 q2538 2 (by decide +kernel) rfl (Nat.le_refl _) (by decide) (Nat.le_of_ble_eq_true rfl) (Cx.mono (cm_X3_sees hM (by omega)  h) (mI.to (fun r3 ρ2 h => ?_)) (xo rfl))
  have h6 : Wx en (d + 1) mX3_readNumber 27 [(0, .ref (mb 0)), (1, .int x1)] (.int (if (r3 = 0) then (1 : Int32) else (0 : Int32)) :: .int (ρ1.1 22) :: .ref (mb 0) :: []) (mH en mb ρ2 σ) k n (mQ en mb σ (mI K)) X := by
    refine sd_ior (pc := 27) dX3_readNumber_27 ?_
    refine sd_putf (pc := 28) dX3_readNumber_28 (ci := 2) rfl in_X3 tyX3 tyX3_ok nmX3 (kf := 22) (by decide) q2095 rfl (ty := .boolean) rfl h.1.1 h.1.2 (mPut.to hM (by decide) rfl h.2 (fun ρ5 h => ?_))
    refine sd_iconst (pc := 31) dX3_readNumber_31 (v := 0) (by decide) ?_
    refine sd_istore_n (pc := 32) dX3_readNumber_32 rfl (by decide) (ls' := [(2, .int (0 : Int32)), (0, .ref (mb 0)), (1, .int x1)]) rfl ?_
    refine sd_iconst (pc := 33) dX3_readNumber_33 (v := 0) (by decide) ?_
    refine sd_istore_n (pc := 34) dX3_readNumber_34 rfl (by decide) (ls' := [(3, .int (0 : Int32)), (2, .int (0 : Int32)), (0, .ref (mb 0)), (1, .int x1)]) rfl ?_
    exact sd_loc [2, 3, 1, 0] rfl (okM_X3_readNumber_35 hM (by omega)  _ _ _ _ h)
  have e7 := sd_iteIN h6
  refine sd_ifne (pc := 19) dX3_readNumber_19 (tgt := 26) (by decide) ⟨fun c4 => ?_, fun c4 => ?_⟩
  · refine sd_iconst (pc := 26) dX3_readNumber_26 (v := 0) (by decide) ?_
    exact (e7.1 c4)
  · refine sd_iconst (pc := 22) dX3_readNumber_22 (v := 1) (by decide) ?_
    refine sd_goto (pc := 23) dX3_readNumber_23 (tgt := 27) (by decide) ?_
    exact (e7.2 c4)
theorem cm_X3_readNumber {en : yEn} {mb : Nat → Nat} {σ : yH} (hM : mOK en mb σ) {d : Nat} (hd : 4 ≤ d) {ρ : yMS} {x1 : Int32} {K : Int32 → yMS → Prop} {X : String → Addr → yH → Prop}  (h : wpM_X3_readNumber ρ x1 K) : Cx en d 0 0 mX3_readNumber [.ref (mb 0), .int x1] (mH en mb ρ σ) (mQ en mb σ (mI K)) X := by
  obtain ⟨d, rfl⟩ : ∃ e, d = e + 1 := ⟨d - 1, by omega⟩
  exact Cx.body (by decide +kernel) rfl (Nat.le_of_ble_eq_true rfl) (okM_X3_readNumber hM (by omega)  h)
/-! wordOf(C)Ljava/lang/String; -/
def wpM_X3_wordOf (ρ : yMS) (x1 : Int32) (K : List Int32 → yMS → Prop) : Prop :=
  ((x1 = (97 : Int32) → K ([115, 101, 97, 116] : List Int32) ρ) ∧ (x1 = (101 : Int32) → K ([115, 101, 108, 108] : List Int32) ρ) ∧ (x1 = (102 : Int32) → K ([102, 105, 110, 100] : List Int32) ρ) ∧ (x1 = (104 : Int32) → K ([115, 104, 101, 97, 114] : List Int32) ρ) ∧ (x1 = (108 : Int32) → K ([108, 97, 121] : List Int32) ρ) ∧ (x1 = (119 : Int32) → K ([119, 97, 108, 107] : List Int32) ρ) ∧ (¬ x1 = (97 : Int32) → ¬ x1 = (101 : Int32) → ¬ x1 = (102 : Int32) → ¬ x1 = (104 : Int32) → ¬ x1 = (108 : Int32) → ¬ x1 = (119 : Int32) → K ([100, 97, 121, 115] : List Int32) ρ))
theorem okM_X3_wordOf {en : yEn} {mb : Nat → Nat} {σ : yH} (hM : mOK en mb σ) {d : Nat} (hd : 1 ≤ d + 1) {ρ : yMS} {x1 : Int32} {K : List Int32 → yMS → Prop} {X : String → Addr → yH → Prop} {k n : Nat}  (h : wpM_X3_wordOf ρ x1 K) : Wx en (d + 1) mX3_wordOf 0 [(0, .int x1)] [] (mH en mb ρ σ) k n (mQ en mb σ (mSt en σ K)) X := by
  unfold wpM_X3_wordOf at h
  refine sd_iload_n (pc := 0) dX3_wordOf_0 rfl 0 rfl ?_
  by_cases g0 : x1 = (97 : Int32)
  · have h := h.1 g0
    refine sd_lookup (pc := 1) dX3_wordOf_1 (by decide) (off := 79) (by rw [g0]; decide) (tgt := 80) (by decide) ?_
    refine sd_ldcSw (pc := 80) dX3_wordOf_80 q2529 yn953 ?_
    exact sd_areturn (r := (some (y_str en "PeacockLawnsModel" 298))) (pc := 83) dX3_wordOf_83 rfl (Or.inl ⟨_, rfl⟩) (mSt.ok (hM.2.2 18 _ rfl) h)
  · skip
    by_cases g1 : x1 = (101 : Int32)
    · have h := h.2.1 g1
      refine sd_lookup (pc := 1) dX3_wordOf_1 (by decide) (off := 71) (by rw [g1]; decide) (tgt := 72) (by decide) ?_
      refine sd_ldcSw (pc := 72) dX3_wordOf_72 q2527 yn932 ?_
      exact sd_areturn (r := (some (y_str en "PeacockLawnsModel" 294))) (pc := 75) dX3_wordOf_75 rfl (Or.inl ⟨_, rfl⟩) (mSt.ok (hM.2.2 16 _ rfl) h)
    · skip
      by_cases g2 : x1 = (102 : Int32)
      · have h := h.2.2.1 g2
        refine sd_lookup (pc := 1) dX3_wordOf_1 (by decide) (off := 67) (by rw [g2]; decide) (tgt := 68) (by decide) ?_
        refine sd_ldcSw (pc := 68) dX3_wordOf_68 q2526 yn921 ?_
        exact sd_areturn (r := (some (y_str en "PeacockLawnsModel" 292))) (pc := 71) dX3_wordOf_71 rfl (Or.inl ⟨_, rfl⟩) (mSt.ok (hM.2.2 15 _ rfl) h)
      · skip
        by_cases g3 : x1 = (104 : Int32)
        · have h := h.2.2.2.1 g3
          refine sd_lookup (pc := 1) dX3_wordOf_1 (by decide) (off := 63) (by rw [g3]; decide) (tgt := 64) (by decide) ?_
          refine sd_ldcSw (pc := 64) dX3_wordOf_64 q2525 yn909 ?_
          exact sd_areturn (r := (some (y_str en "PeacockLawnsModel" 290))) (pc := 67) dX3_wordOf_67 rfl (Or.inl ⟨_, rfl⟩) (mSt.ok (hM.2.2 14 _ rfl) h)
        · skip
          by_cases g4 : x1 = (108 : Int32)
          · have h := h.2.2.2.2.1 g4
            refine sd_lookup (pc := 1) dX3_wordOf_1 (by decide) (off := 75) (by rw [g4]; decide) (tgt := 76) (by decide) ?_
            refine sd_ldcSw (pc := 76) dX3_wordOf_76 q2528 yn943 ?_
            exact sd_areturn (r := (some (y_str en "PeacockLawnsModel" 296))) (pc := 79) dX3_wordOf_79 rfl (Or.inl ⟨_, rfl⟩) (mSt.ok (hM.2.2 17 _ rfl) h)
          · skip
            by_cases g5 : x1 = (119 : Int32)
            · have h := h.2.2.2.2.2.1 g5
              refine sd_lookup (pc := 1) dX3_wordOf_1 (by decide) (off := 59) (by rw [g5]; decide) (tgt := 60) (by decide) ?_
              refine sd_ldcSw (pc := 60) dX3_wordOf_60 q2524 yn898 ?_
              exact sd_areturn (r := (some (y_str en "PeacockLawnsModel" 288))) (pc := 63) dX3_wordOf_63 rfl (Or.inl ⟨_, rfl⟩) (mSt.ok (hM.2.2 13 _ rfl) h)
            · skip
              have h := h.2.2.2.2.2.2 g0 g1 g2 g3 g4 g5
              refine sd_lookup (pc := 1) dX3_wordOf_1 (by decide) (off := 83) (by rw [lv_osw g0 (by decide)]; rw [lv_osw g1 (by decide)]; rw [lv_osw g2 (by decide)]; rw [lv_osw g3 (by decide)]; rw [lv_osw g4 (by decide)]; rw [lv_osw g5 (by decide)]; rfl) (tgt := 84) (by decide) ?_
              refine sd_ldcSw (pc := 84) dX3_wordOf_84 q2530 yn963 ?_
              exact sd_areturn (r := (some (y_str en "PeacockLawnsModel" 300))) (pc := 87) dX3_wordOf_87 rfl (Or.inl ⟨_, rfl⟩) (mSt.ok (hM.2.2 19 _ rfl) h)
theorem cm_X3_wordOf {en : yEn} {mb : Nat → Nat} {σ : yH} (hM : mOK en mb σ) {d : Nat} (hd : 1 ≤ d) {ρ : yMS} {x1 : Int32} {K : List Int32 → yMS → Prop} {X : String → Addr → yH → Prop}  (h : wpM_X3_wordOf ρ x1 K) : Cx en d 0 0 mX3_wordOf [.int x1] (mH en mb ρ σ) (mQ en mb σ (mSt en σ K)) X := by
  obtain ⟨d, rfl⟩ : ∃ e, d = e + 1 := ⟨d - 1, by omega⟩
  exact Cx.body (by decide +kernel) rfl (Nat.le_of_ble_eq_true rfl) (okM_X3_wordOf hM (by omega)  h)
