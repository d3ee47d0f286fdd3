/-! HELP for the walks -/
set_option maxRecDepth 100000
def kI (F : Int32 → yH → Prop) : Option Value → yH → Prop := fun v σ => ∃ x, v = some (.int x) ∧ F x σ
def kJ (F : Int64 → yH → Prop) : Option Value → yH → Prop := fun v σ => ∃ x, v = some (.long x) ∧ F x σ
def kF (F : UInt32 → yH → Prop) : Option Value → yH → Prop := fun v σ => ∃ x, v = some (.float x) ∧ F x σ
def kD (F : UInt64 → yH → Prop) : Option Value → yH → Prop := fun v σ => ∃ x, v = some (.double x) ∧ F x σ
def kA (F : Nat → yH → Prop) : Option Value → yH → Prop := fun v σ => ∃ x, v = some (.ref x) ∧ F x σ
def kQ (F : Option Nat → yH → Prop) : Option Value → yH → Prop := fun v σ => ∃ x, v = some (va_rf x) ∧ F x σ
def kV (F : yH → Prop) : Option Value → yH → Prop := fun v σ => v = none ∧ F σ
theorem vcat_rf (r : Option Nat) : (va_rf r).category = 1 := by cases r <;> rfl
theorem nb_ite {c : Prop} [Decidable c] {a b : Int32} {ty : FieldType} (ha : narrow ty (.int a) = .int a) (hb : narrow ty (.int b) = .int b) : narrow ty (.int (if c then a else b)) = .int (if c then a else b) := by
  by_cases h : c
  · rw [if_pos h]; exact ha
  · rw [if_neg h]; exact hb
theorem fb_ite {c : Prop} [Decidable c] {a b : Int32} {ty : FieldType} (ha : fits ty (.int a) = true) (hb : fits ty (.int b) = true) : fits ty (.int (if c then a else b)) = true := by
  by_cases h : c
  · rw [if_pos h]; exact ha
  · rw [if_neg h]; exact hb
theorem nr_rf {ty : FieldType} (r : Option Nat) (h : refKind ty = true) : narrow ty (va_rf r) = va_rf r := by
  cases r <;> cases ty <;> first | rfl | exact absurd h (by decide)
theorem ft_rf {ty : FieldType} (r : Option Nat) (h : refKind ty = true) : fits ty (va_rf r) = true := by
  cases r <;> cases ty <;> first | rfl | exact absurd h (by decide)
def alenQ (en : yEn) (σ : yH) (a : Nat) (F : Int32 → Prop) : Prop := ∃ (w : Bool) (j : Nat) (x : vp_A), σ a = some (w, .inl (en.2.2.2 j, x)) ∧ j < 7 ∧ F (nI x.1)
theorem alenQ.mono {en : yEn} {σ : yH} {a : Nat} {F G : Int32 → Prop} (h : alenQ en σ a F) (g : ∀ v, F v → G v) : alenQ en σ a G := by
  obtain ⟨w, j, x, h1, h2, h3⟩ := h; exact ⟨w, j, x, h1, h2, g _ h3⟩
section YP
variable {en : yEn} {d : Nat} {mi : yM} {pc : Nat} {ls : List (Nat × Value)} {st : List Value} {σ : yH} {k n : Nat} {K : Option Value → yH → Prop} {X : String → Addr → yH → Prop}
theorem kI.to {F : Int32 → yH → Prop} (h : ∀ x σ', F x σ' → Wx en d mi pc ls (.int x :: st) σ' k n K X) : ∀ v σ', kI F v σ' → Wx en d mi pc ls (v.toList ++ st) σ' k n K X := by
  rintro v σ' ⟨x, rfl, hf⟩
  exact h x σ' hf
theorem sd_iteI {c : Prop} [Decidable c] {x y : Int32} (h : Wx en d mi pc ls (.int (if c then x else y) :: st) σ k n K X) : (c → Wx en d mi pc ls (.int x :: st) σ k n K X) ∧ (¬ c → Wx en d mi pc ls (.int y :: st) σ k n K X) :=
  ⟨fun hc => by rw [if_pos hc] at h; exact h, fun hc => by rw [if_neg hc] at h; exact h⟩
theorem sd_iteIN {c : Prop} [Decidable c] {x y : Int32} (h : Wx en d mi pc ls (.int (if c then x else y) :: st) σ k n K X) : (¬ c → Wx en d mi pc ls (.int y :: st) σ k n K X) ∧ (c → Wx en d mi pc ls (.int x :: st) σ k n K X) :=
  ⟨(sd_iteI h).2, (sd_iteI h).1⟩
theorem kJ.to {F : Int64 → yH → Prop} (h : ∀ x σ', F x σ' → Wx en d mi pc ls (.long x :: st) σ' k n K X) : ∀ v σ', kJ F v σ' → Wx en d mi pc ls (v.toList ++ st) σ' k n K X := by
  rintro v σ' ⟨x, rfl, hf⟩
  exact h x σ' hf
theorem sd_iteJ {c : Prop} [Decidable c] {x y : Int64} (h : Wx en d mi pc ls (.long (if c then x else y) :: st) σ k n K X) : (c → Wx en d mi pc ls (.long x :: st) σ k n K X) ∧ (¬ c → Wx en d mi pc ls (.long y :: st) σ k n K X) :=
  ⟨fun hc => by rw [if_pos hc] at h; exact h, fun hc => by rw [if_neg hc] at h; exact h⟩
theorem sd_iteJN {c : Prop} [Decidable c] {x y : Int64} (h : Wx en d mi pc ls (.long (if c then x else y) :: st) σ k n K X) : (¬ c → Wx en d mi pc ls (.long y :: st) σ k n K X) ∧ (c → Wx en d mi pc ls (.long x :: st) σ k n K X) :=
  ⟨(sd_iteJ h).2, (sd_iteJ h).1⟩
theorem kF.to {F : UInt32 → yH → Prop} (h : ∀ x σ', F x σ' → Wx en d mi pc ls (.float x :: st) σ' k n K X) : ∀ v σ', kF F v σ' → Wx en d mi pc ls (v.toList ++ st) σ' k n K X := by
  rintro v σ' ⟨x, rfl, hf⟩
  exact h x σ' hf
theorem sd_iteF {c : Prop} [Decidable c] {x y : UInt32} (h : Wx en d mi pc ls (.float (if c then x else y) :: st) σ k n K X) : (c → Wx en d mi pc ls (.float x :: st) σ k n K X) ∧ (¬ c → Wx en d mi pc ls (.float y :: st) σ k n K X) :=
  ⟨fun hc => by rw [if_pos hc] at h; exact h, fun hc => by rw [if_neg hc] at h; exact h⟩
theorem sd_iteFN {c : Prop} [Decidable c] {x y : UInt32} (h : Wx en d mi pc ls (.float (if c then x else y) :: st) σ k n K X) : (¬ c → Wx en d mi pc ls (.float y :: st) σ k n K X) ∧ (c → Wx en d mi pc ls (.float x :: st) σ k n K X) :=
  ⟨(sd_iteF h).2, (sd_iteF h).1⟩
theorem kD.to {F : UInt64 → yH → Prop} (h : ∀ x σ', F x σ' → Wx en d mi pc ls (.double x :: st) σ' k n K X) : ∀ v σ', kD F v σ' → Wx en d mi pc ls (v.toList ++ st) σ' k n K X := by
  rintro v σ' ⟨x, rfl, hf⟩
  exact h x σ' hf
theorem sd_iteD {c : Prop} [Decidable c] {x y : UInt64} (h : Wx en d mi pc ls (.double (if c then x else y) :: st) σ k n K X) : (c → Wx en d mi pc ls (.double x :: st) σ k n K X) ∧ (¬ c → Wx en d mi pc ls (.double y :: st) σ k n K X) :=
  ⟨fun hc => by rw [if_pos hc] at h; exact h, fun hc => by rw [if_neg hc] at h; exact h⟩
theorem sd_iteDN {c : Prop} [Decidable c] {x y : UInt64} (h : Wx en d mi pc ls (.double (if c then x else y) :: st) σ k n K X) : (¬ c → Wx en d mi pc ls (.double y :: st) σ k n K X) ∧ (c → Wx en d mi pc ls (.double x :: st) σ k n K X) :=
  ⟨(sd_iteD h).2, (sd_iteD h).1⟩
theorem kA.to {F : Nat → yH → Prop} (h : ∀ x σ', F x σ' → Wx en d mi pc ls (.ref x :: st) σ' k n K X) : ∀ v σ', kA F v σ' → Wx en d mi pc ls (v.toList ++ st) σ' k n K X := by
  rintro v σ' ⟨x, rfl, hf⟩
  exact h x σ' hf
theorem sd_iteA {c : Prop} [Decidable c] {x y : Nat} (h : Wx en d mi pc ls (.ref (if c then x else y) :: st) σ k n K X) : (c → Wx en d mi pc ls (.ref x :: st) σ k n K X) ∧ (¬ c → Wx en d mi pc ls (.ref y :: st) σ k n K X) :=
  ⟨fun hc => by rw [if_pos hc] at h; exact h, fun hc => by rw [if_neg hc] at h; exact h⟩
theorem sd_iteAN {c : Prop} [Decidable c] {x y : Nat} (h : Wx en d mi pc ls (.ref (if c then x else y) :: st) σ k n K X) : (¬ c → Wx en d mi pc ls (.ref y :: st) σ k n K X) ∧ (c → Wx en d mi pc ls (.ref x :: st) σ k n K X) :=
  ⟨(sd_iteA h).2, (sd_iteA h).1⟩
theorem kQ.to {F : Option Nat → yH → Prop} (h : ∀ x σ', F x σ' → Wx en d mi pc ls (va_rf x :: st) σ' k n K X) : ∀ v σ', kQ F v σ' → Wx en d mi pc ls (v.toList ++ st) σ' k n K X := by
  rintro v σ' ⟨x, rfl, hf⟩
  exact h x σ' hf
theorem sd_iteQ {c : Prop} [Decidable c] {x y : Option Nat} (h : Wx en d mi pc ls (va_rf (if c then x else y) :: st) σ k n K X) : (c → Wx en d mi pc ls (va_rf x :: st) σ k n K X) ∧ (¬ c → Wx en d mi pc ls (va_rf y :: st) σ k n K X) :=
  ⟨fun hc => by rw [if_pos hc] at h; exact h, fun hc => by rw [if_neg hc] at h; exact h⟩
theorem sd_iteQN {c : Prop} [Decidable c] {x y : Option Nat} (h : Wx en d mi pc ls (va_rf (if c then x else y) :: st) σ k n K X) : (¬ c → Wx en d mi pc ls (va_rf y :: st) σ k n K X) ∧ (c → Wx en d mi pc ls (va_rf x :: st) σ k n K X) :=
  ⟨(sd_iteQ h).2, (sd_iteQ h).1⟩
theorem kV.to {F : yH → Prop} (h : ∀ σ', F σ' → Wx en d mi pc ls st σ' k n K X) : ∀ v σ', kV F v σ' → Wx en d mi pc ls (v.toList ++ st) σ' k n K X := by
  rintro v σ' ⟨rfl, hf⟩
  exact h σ' hf
theorem WxT.more {E : String} {q : Addr} {k' n' : Nat} (h : WxT en d mi pc ls E q σ k' n' K X) (hk : k' ≤ k) (hn : n' ≤ n) : WxT en d mi pc ls E q σ k n K X := by
  intro R p e s m args below meth c H locs cells slots lsA st9 ce a1 a2 C9 a4 a5 a6 a7
  exact h R p e s m args below meth c H locs cells slots lsA st9 ce a1 a2 C9 a4 a5 (by omega) (by omega)
theorem tsw {x : Int32} {lo hi : Int} (N : Nat) (h : ¬ (x.toInt < lo ∨ hi < x.toInt)) (hN : hi + 1 - lo ≤ N) : ∃ j : Nat, j < N ∧ x = Int32.ofInt (lo + j) := by
  refine ⟨(x.toInt - lo).toNat, by omega, ?_⟩
  rw [show lo + ((x.toInt - lo).toNat : Int) = x.toInt by omega]
  exact (Int32.ofInt_toInt x).symm
theorem xo (ht : (tableOf mi.2.2.2.2).all (fun x => !covers x pc) = true) : ∀ E q σ', X E q σ' → WxT en d mi pc ls E q σ' k n K X := fun E q σ' h => st_out ht h
theorem sd_alenQ {a : Nat} (dd : decode mi.2.1 pc = .ok (.arraylength, 1)) (h : alenQ en σ a (fun x => Wx en d mi (pc + 1) ls (.int x :: st) σ k n K X)) : Wx en d mi pc ls (.ref a :: st) σ k n K X := sd_alen dd h
theorem sd_aastoreQ {a : Nat} {r : Option Nat} {i : Int32} (dd : decode mi.2.1 pc = .ok (.aastore, 1)) (hv : ∀ x, r = some x → y_any en σ x) (h : astQ σ (en.2.2.2 5) a i r (fun σ' => Wx en d mi (pc + 1) ls st σ' k n K X)) : Wx en d mi pc ls (va_rf r :: .int i :: .ref a :: st) σ k n K X := by
  cases r with
  | none => exact sd_aastoreN dd h
  | some v => exact sd_aastore dd (hv v rfl) h
end YP
set_option maxHeartbeats 1000000 in
theorem at0_J12 {own : String} {ic : Nat} (h : Cond.methodLink own ic ⟨"java/lang/IndexOutOfBoundsException", "<init>", "()V"⟩ ∈ lw_all) : ∀ w ∈ yx_at0 own ic "java/lang/IndexOutOfBoundsException" ["java/lang/RuntimeException", "java/lang/Exception"], y_okw w := by
  intro w hw
  obtain ⟨hw, hno⟩ := List.mem_filter.mp hw
  simp only [Bundle.ownAtoms0, Bundle.throwableAtoms, Bundle.chain0Atoms, Bundle.passAtoms, List.cons_append, List.nil_append, List.mem_cons, List.not_mem_nil, or_false] at hw
  rcases hw with rfl | rfl | rfl | rfl | rfl | rfl | rfl | rfl | rfl | rfl | rfl | rfl | rfl | rfl | rfl | rfl | rfl | rfl | rfl | rfl | rfl | rfl | rfl | rfl | rfl | rfl | rfl | rfl | rfl | rfl | rfl | rfl | rfl | rfl | rfl | rfl | rfl | rfl | rfl | rfl | rfl | rfl | rfl | rfl | rfl | rfl | rfl | rfl | rfl | rfl | rfl | rfl | rfl
  · exact Or.inl q92
  · exact Or.inl q399
  · exact Or.inl q408
  · exact Or.inl q419
  · exact Or.inl q422
  · exact Or.inl q424
  · exact Or.inl q400
  · exact Or.inl q401
  · exact Or.inl q126
  · exact Or.inl q127
  · exact Or.inl q402
  · exact Or.inl q407
  · exact Or.inl q420
  · exact Or.inl q437
  · exact Or.inl q389
  · exact Or.inl q438
  · exact Or.inl q391
  · exact Or.inl q439
  · exact Or.inl q393
  · exact Or.inl q403
  · exact absurd hno (by decide +kernel)
  · exact Or.inl q405
  · exact absurd hno (by decide +kernel)
  · exact Or.inl q395
  · exact Or.inl q852
  · exact Or.inl q853
  · exact Or.inl q854
  · exact Or.inl q429
  · exact Or.inr ⟨q380, Or.inr ⟨_, rfl⟩⟩
  · exact Or.inl q429
  · exact Or.inl q430
  · exact Or.inl q431
  · exact Or.inl q432
  · exact Or.inr ⟨q382, Or.inr ⟨_, rfl⟩⟩
  · exact Or.inl q432
  · exact Or.inl q433
  · exact Or.inl q434
  · exact Or.inl q400
  · exact Or.inr ⟨q384, Or.inr ⟨_, rfl⟩⟩
  · exact Or.inl h
  · exact Or.inl q843
  · exact Or.inr ⟨q844, Or.inl ⟨_, _, rfl⟩⟩
  · exact Or.inl q845
  · exact Or.inl q416
  · exact Or.inl q846
  · exact Or.inl q847
  · exact Or.inl q848
  · exact Or.inl q849
  · exact absurd hno (by decide +kernel)
  · exact absurd hno (by decide +kernel)
  · exact Or.inl q398
  · exact Or.inl q397
  · exact Or.inl q850
set_option maxHeartbeats 1000000 in
theorem at0_J14 {own : String} {ic : Nat} (h : Cond.methodLink own ic ⟨"java/lang/IllegalArgumentException", "<init>", "()V"⟩ ∈ lw_all) : ∀ w ∈ yx_at0 own ic "java/lang/IllegalArgumentException" ["java/lang/RuntimeException", "java/lang/Exception"], y_okw w := by
  intro w hw
  obtain ⟨hw, hno⟩ := List.mem_filter.mp hw
  simp only [Bundle.ownAtoms0, Bundle.throwableAtoms, Bundle.chain0Atoms, Bundle.passAtoms, List.cons_append, List.nil_append, List.mem_cons, List.not_mem_nil, or_false] at hw
  rcases hw with rfl | rfl | rfl | rfl | rfl | rfl | rfl | rfl | rfl | rfl | rfl | rfl | rfl | rfl | rfl | rfl | rfl | rfl | rfl | rfl | rfl | rfl | rfl | rfl | rfl | rfl | rfl | rfl | rfl | rfl | rfl | rfl | rfl | rfl | rfl | rfl | rfl | rfl | rfl | rfl | rfl | rfl | rfl | rfl | rfl | rfl | rfl | rfl | rfl | rfl | rfl | rfl | rfl
  · exact Or.inl q92
  · exact Or.inl q399
  · exact Or.inl q408
  · exact Or.inl q419
  · exact Or.inl q422
  · exact Or.inl q424
  · exact Or.inl q400
  · exact Or.inl q401
  · exact Or.inl q126
  · exact Or.inl q127
  · exact Or.inl q402
  · exact Or.inl q407
  · exact Or.inl q420
  · exact Or.inl q437
  · exact Or.inl q389
  · exact Or.inl q438
  · exact Or.inl q391
  · exact Or.inl q439
  · exact Or.inl q393
  · exact Or.inl q403
  · exact absurd hno (by decide +kernel)
  · exact Or.inl q405
  · exact absurd hno (by decide +kernel)
  · exact Or.inl q395
  · exact Or.inl q862
  · exact Or.inl q863
  · exact Or.inl q864
  · exact Or.inl q429
  · exact Or.inr ⟨q380, Or.inr ⟨_, rfl⟩⟩
  · exact Or.inl q429
  · exact Or.inl q430
  · exact Or.inl q431
  · exact Or.inl q432
  · exact Or.inr ⟨q382, Or.inr ⟨_, rfl⟩⟩
  · exact Or.inl q432
  · exact Or.inl q433
  · exact Or.inl q434
  · exact Or.inl q400
  · exact Or.inr ⟨q384, Or.inr ⟨_, rfl⟩⟩
  · exact Or.inl h
  · exact Or.inl q505
  · exact Or.inr ⟨q506, Or.inl ⟨_, _, rfl⟩⟩
  · exact Or.inl q507
  · exact Or.inl q414
  · exact Or.inl q508
  · exact Or.inl q509
  · exact Or.inl q510
  · exact Or.inl q511
  · exact absurd hno (by decide +kernel)
  · exact absurd hno (by decide +kernel)
  · exact Or.inl q398
  · exact Or.inl q397
  · exact Or.inl q512
set_option maxHeartbeats 1000000 in
theorem at0_J21 {own : String} {ic : Nat} (h : Cond.methodLink own ic ⟨"java/util/NoSuchElementException", "<init>", "()V"⟩ ∈ lw_all) : ∀ w ∈ yx_at0 own ic "java/util/NoSuchElementException" ["java/lang/RuntimeException", "java/lang/Exception"], y_okw w := by
  intro w hw
  obtain ⟨hw, hno⟩ := List.mem_filter.mp hw
  simp only [Bundle.ownAtoms0, Bundle.throwableAtoms, Bundle.chain0Atoms, Bundle.passAtoms, List.cons_append, List.nil_append, List.mem_cons, List.not_mem_nil, or_false] at hw
  rcases hw with rfl | rfl | rfl | rfl | rfl | rfl | rfl | rfl | rfl | rfl | rfl | rfl | rfl | rfl | rfl | rfl | rfl | rfl | rfl | rfl | rfl | rfl | rfl | rfl | rfl | rfl | rfl | rfl | rfl | rfl | rfl | rfl | rfl | rfl | rfl | rfl | rfl | rfl | rfl | rfl | rfl | rfl | rfl | rfl | rfl | rfl | rfl | rfl | rfl | rfl | rfl | rfl | rfl
  · exact Or.inl q92
  · exact Or.inl q399
  · exact Or.inl q408
  · exact Or.inl q419
  · exact Or.inl q422
  · exact Or.inl q424
  · exact Or.inl q400
  · exact Or.inl q401
  · exact Or.inl q126
  · exact Or.inl q127
  · exact Or.inl q402
  · exact Or.inl q407
  · exact Or.inl q420
  · exact Or.inl q437
  · exact Or.inl q389
  · exact Or.inl q438
  · exact Or.inl q391
  · exact Or.inl q439
  · exact Or.inl q393
  · exact Or.inl q403
  · exact absurd hno (by decide +kernel)
  · exact Or.inl q405
  · exact absurd hno (by decide +kernel)
  · exact Or.inl q395
  · exact Or.inl q426
  · exact Or.inl q427
  · exact Or.inl q428
  · exact Or.inl q429
  · exact Or.inr ⟨q380, Or.inr ⟨_, rfl⟩⟩
  · exact Or.inl q429
  · exact Or.inl q430
  · exact Or.inl q431
  · exact Or.inl q432
  · exact Or.inr ⟨q382, Or.inr ⟨_, rfl⟩⟩
  · exact Or.inl q432
  · exact Or.inl q433
  · exact Or.inl q434
  · exact Or.inl q400
  · exact Or.inr ⟨q384, Or.inr ⟨_, rfl⟩⟩
  · exact Or.inl h
  · exact Or.inl q378
  · exact Or.inr ⟨q379, Or.inl ⟨_, _, rfl⟩⟩
  · exact Or.inl q386
  · exact Or.inl q387
  · exact Or.inl q388
  · exact Or.inl q390
  · exact Or.inl q392
  · exact Or.inl q394
  · exact absurd hno (by decide +kernel)
  · exact absurd hno (by decide +kernel)
  · exact Or.inl q398
  · exact Or.inl q397
  · exact Or.inl q396
set_option maxHeartbeats 1000000 in
theorem at0_J22 {own : String} {ic : Nat} (h : Cond.methodLink own ic ⟨"java/lang/IllegalStateException", "<init>", "()V"⟩ ∈ lw_all) : ∀ w ∈ yx_at0 own ic "java/lang/IllegalStateException" ["java/lang/RuntimeException", "java/lang/Exception"], y_okw w := by
  intro w hw
  obtain ⟨hw, hno⟩ := List.mem_filter.mp hw
  simp only [Bundle.ownAtoms0, Bundle.throwableAtoms, Bundle.chain0Atoms, Bundle.passAtoms, List.cons_append, List.nil_append, List.mem_cons, List.not_mem_nil, or_false] at hw
  rcases hw with rfl | rfl | rfl | rfl | rfl | rfl | rfl | rfl | rfl | rfl | rfl | rfl | rfl | rfl | rfl | rfl | rfl | rfl | rfl | rfl | rfl | rfl | rfl | rfl | rfl | rfl | rfl | rfl | rfl | rfl | rfl | rfl | rfl | rfl | rfl | rfl | rfl | rfl | rfl | rfl | rfl | rfl | rfl | rfl | rfl | rfl | rfl | rfl | rfl | rfl | rfl | rfl | rfl
  · exact Or.inl q92
  · exact Or.inl q399
  · exact Or.inl q408
  · exact Or.inl q419
  · exact Or.inl q422
  · exact Or.inl q424
  · exact Or.inl q400
  · exact Or.inl q401
  · exact Or.inl q126
  · exact Or.inl q127
  · exact Or.inl q402
  · exact Or.inl q407
  · exact Or.inl q420
  · exact Or.inl q437
  · exact Or.inl q389
  · exact Or.inl q438
  · exact Or.inl q391
  · exact Or.inl q439
  · exact Or.inl q393
  · exact Or.inl q403
  · exact absurd hno (by decide +kernel)
  · exact Or.inl q405
  · exact absurd hno (by decide +kernel)
  · exact Or.inl q395
  · exact Or.inl q1705
  · exact Or.inl q1706
  · exact Or.inl q1707
  · exact Or.inl q429
  · exact Or.inr ⟨q380, Or.inr ⟨_, rfl⟩⟩
  · exact Or.inl q429
  · exact Or.inl q430
  · exact Or.inl q431
  · exact Or.inl q432
  · exact Or.inr ⟨q382, Or.inr ⟨_, rfl⟩⟩
  · exact Or.inl q432
  · exact Or.inl q433
  · exact Or.inl q434
  · exact Or.inl q400
  · exact Or.inr ⟨q384, Or.inr ⟨_, rfl⟩⟩
  · exact Or.inl h
  · exact Or.inl q1016
  · exact Or.inr ⟨q1017, Or.inl ⟨_, _, rfl⟩⟩
  · exact Or.inl q1018
  · exact Or.inl q415
  · exact Or.inl q1019
  · exact Or.inl q1020
  · exact Or.inl q1021
  · exact Or.inl q1022
  · exact absurd hno (by decide +kernel)
  · exact absurd hno (by decide +kernel)
  · exact Or.inl q398
  · exact Or.inl q397
  · exact Or.inl q1023
set_option maxHeartbeats 1000000 in
theorem at0_J23 {own : String} {ic : Nat} (h : Cond.methodLink own ic ⟨"java/lang/UnsupportedOperationException", "<init>", "()V"⟩ ∈ lw_all) : ∀ w ∈ yx_at0 own ic "java/lang/UnsupportedOperationException" ["java/lang/RuntimeException", "java/lang/Exception"], y_okw w := by
  intro w hw
  obtain ⟨hw, hno⟩ := List.mem_filter.mp hw
  simp only [Bundle.ownAtoms0, Bundle.throwableAtoms, Bundle.chain0Atoms, Bundle.passAtoms, List.cons_append, List.nil_append, List.mem_cons, List.not_mem_nil, or_false] at hw
  rcases hw with rfl | rfl | rfl | rfl | rfl | rfl | rfl | rfl | rfl | rfl | rfl | rfl | rfl | rfl | rfl | rfl | rfl | rfl | rfl | rfl | rfl | rfl | rfl | rfl | rfl | rfl | rfl | rfl | rfl | rfl | rfl | rfl | rfl | rfl | rfl | rfl | rfl | rfl | rfl | rfl | rfl | rfl | rfl | rfl | rfl | rfl | rfl | rfl | rfl | rfl | rfl | rfl | rfl
  · exact Or.inl q92
  · exact Or.inl q399
  · exact Or.inl q408
  · exact Or.inl q419
  · exact Or.inl q422
  · exact Or.inl q424
  · exact Or.inl q400
  · exact Or.inl q401
  · exact Or.inl q126
  · exact Or.inl q127
  · exact Or.inl q402
  · exact Or.inl q407
  · exact Or.inl q420
  · exact Or.inl q437
  · exact Or.inl q389
  · exact Or.inl q438
  · exact Or.inl q391
  · exact Or.inl q439
  · exact Or.inl q393
  · exact Or.inl q403
  · exact absurd hno (by decide +kernel)
  · exact Or.inl q405
  · exact absurd hno (by decide +kernel)
  · exact Or.inl q395
  · exact Or.inl q1047
  · exact Or.inl q1048
  · exact Or.inl q1049
  · exact Or.inl q429
  · exact Or.inr ⟨q380, Or.inr ⟨_, rfl⟩⟩
  · exact Or.inl q429
  · exact Or.inl q430
  · exact Or.inl q431
  · exact Or.inl q432
  · exact Or.inr ⟨q382, Or.inr ⟨_, rfl⟩⟩
  · exact Or.inl q432
  · exact Or.inl q433
  · exact Or.inl q434
  · exact Or.inl q400
  · exact Or.inr ⟨q384, Or.inr ⟨_, rfl⟩⟩
  · exact Or.inl h
  · exact Or.inl q1038
  · exact Or.inr ⟨q1039, Or.inl ⟨_, _, rfl⟩⟩
  · exact Or.inl q1040
  · exact Or.inl q418
  · exact Or.inl q1041
  · exact Or.inl q1042
  · exact Or.inl q1043
  · exact Or.inl q1044
  · exact absurd hno (by decide +kernel)
  · exact absurd hno (by decide +kernel)
  · exact Or.inl q398
  · exact Or.inl q397
  · exact Or.inl q1045
set_option maxHeartbeats 1000000 in
theorem at0_J26 {own : String} {ic : Nat} (h : Cond.methodLink own ic ⟨"java/lang/ArithmeticException", "<init>", "()V"⟩ ∈ lw_all) : ∀ w ∈ yx_at0 own ic "java/lang/ArithmeticException" ["java/lang/RuntimeException", "java/lang/Exception"], y_okw w := by
  intro w hw
  obtain ⟨hw, hno⟩ := List.mem_filter.mp hw
  simp only [Bundle.ownAtoms0, Bundle.throwableAtoms, Bundle.chain0Atoms, Bundle.passAtoms, List.cons_append, List.nil_append, List.mem_cons, List.not_mem_nil, or_false] at hw
  rcases hw with rfl | rfl | rfl | rfl | rfl | rfl | rfl | rfl | rfl | rfl | rfl | rfl | rfl | rfl | rfl | rfl | rfl | rfl | rfl | rfl | rfl | rfl | rfl | rfl | rfl | rfl | rfl | rfl | rfl | rfl | rfl | rfl | rfl | rfl | rfl | rfl | rfl | rfl | rfl | rfl | rfl | rfl | rfl | rfl | rfl | rfl | rfl | rfl | rfl | rfl | rfl | rfl | rfl
  · exact Or.inl q92
  · exact Or.inl q399
  · exact Or.inl q408
  · exact Or.inl q419
  · exact Or.inl q422
  · exact Or.inl q424
  · exact Or.inl q400
  · exact Or.inl q401
  · exact Or.inl q126
  · exact Or.inl q127
  · exact Or.inl q402
  · exact Or.inl q407
  · exact Or.inl q420
  · exact Or.inl q437
  · exact Or.inl q389
  · exact Or.inl q438
  · exact Or.inl q391
  · exact Or.inl q439
  · exact Or.inl q393
  · exact Or.inl q403
  · exact absurd hno (by decide +kernel)
  · exact Or.inl q405
  · exact absurd hno (by decide +kernel)
  · exact Or.inl q395
  · exact Or.inl q1689
  · exact Or.inl q1690
  · exact Or.inl q1691
  · exact Or.inl q429
  · exact Or.inr ⟨q380, Or.inr ⟨_, rfl⟩⟩
  · exact Or.inl q429
  · exact Or.inl q430
  · exact Or.inl q431
  · exact Or.inl q432
  · exact Or.inr ⟨q382, Or.inr ⟨_, rfl⟩⟩
  · exact Or.inl q432
  · exact Or.inl q433
  · exact Or.inl q434
  · exact Or.inl q400
  · exact Or.inr ⟨q384, Or.inr ⟨_, rfl⟩⟩
  · exact Or.inl h
  · exact Or.inl q1670
  · exact Or.inr ⟨q1681, Or.inl ⟨_, _, rfl⟩⟩
  · exact Or.inl q1682
  · exact Or.inl q412
  · exact Or.inl q1676
  · exact Or.inl q1677
  · exact Or.inl q1679
  · exact Or.inl q1675
  · exact absurd hno (by decide +kernel)
  · exact absurd hno (by decide +kernel)
  · exact Or.inl q398
  · exact Or.inl q397
  · exact Or.inl q1674
theorem z_1 : Cond.laysStatic Bundle.tN "UNASSIGNED_STACK" Bundle.steD ∈ lw_tbl := q404
theorem z_2 : Cond.laysStatic Bundle.tN "SUPPRESSED_SENTINEL" Bundle.listD ∈ lw_tbl := q406
theorem z_3 : Cond.initialized Bundle.tN ∈ lw_tbl := lw_all_tbl q92
theorem z_4 : (Jvm.Cond.isRef (Jvm.Term.static "java/lang/Throwable" "UNASSIGNED_STACK" "[Ljava/lang/StackTraceElement;")) ∈ y_nar := List.mem_of_getElem? (i := 9) (by decide +kernel)
theorem z_5 : (Jvm.Cond.isRef (Jvm.Term.static "java/lang/Throwable" "SUPPRESSED_SENTINEL" "Ljava/util/List;")) ∈ y_nar := List.mem_of_getElem? (i := 10) (by decide +kernel)
