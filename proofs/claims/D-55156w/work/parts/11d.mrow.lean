/-! ROWS: their bounds; the steps of a day -/
set_option maxRecDepth 100000
def lo (i : Nat) : Int := if 34 ≤ i ∧ i < 106 ∧ (i - 34) % 6 = 4 then -1 else 0
def hi (B : Int) (i : Nat) : Int :=
  if i = 1 then 8 else if i = 10 then 12 else if i = 11 then 3 else if i = 12 then 4 else if i < 22 then B else if i < 34 then 20
  else if i < 106 then (if (i - 34) % 6 = 0 then 1 else if (i - 34) % 6 = 1 then 8 else if (i - 34) % 6 = 2 then 150 else if (i - 34) % 6 = 3 then 28 else if (i - 34) % 6 = 4 then 11 else B)
  else if i < 118 then (if (i - 106) % 4 = 0 then 8 else if (i - 106) % 4 = 1 then 6 else B)
  else (if (i - 118) % 3 = 0 then 8 else if (i - 118) % 3 = 1 then 6 else B)
/-- every place within its bounds -/
def RB (B : Int) (g : yG) : Prop := ∀ i, i < 130 → lo i ≤ g i ∧ g i ≤ hi B i
/-- a hen's eggs and days -/
def RH (g : yG) : Prop := ∀ k, k < 12 → g (34 + 6 * k + 0) = 1 → g (34 + 6 * k + 2) ≤ 6 ∧ g (34 + 6 * k + 3) ≤ 27
/-- what comes of a bird comes behind it -/
def RM (g : yG) : Prop := ∀ k : Nat, k < 12 → (k : Int) < g 10 → g (34 + 6 * k + 4) < k
theorem lo_0 {i : Nat} (h : ¬ (34 ≤ i ∧ i < 106 ∧ (i - 34) % 6 = 4)) : lo i = 0 := if_neg h
theorem lo_b (k j : Nat) (hk : k < 12) (hj : j < 6) (h4 : j ≠ 4) : lo (34 + 6 * k + j) = 0 := lo_0 (by omega)
theorem lo_b4 (k : Nat) (hk : k < 12) : lo (34 + 6 * k + 4) = -1 := if_pos (by omega)
theorem hi_b (B : Int) (k j : Nat) (hk : k < 12) (hj : j < 6) : hi B (34 + 6 * k + j) = (if j = 0 then 1 else if j = 1 then 8 else if j = 2 then 150 else if j = 3 then 28 else if j = 4 then 11 else B) := by
  unfold hi
  have e : (34 + 6 * k + j - 34) % 6 = j := by omega
  rw [if_neg (by omega), if_neg (by omega), if_neg (by omega), if_neg (by omega), if_neg (by omega), if_neg (by omega), if_pos (by omega), e]
theorem hi_k (B : Int) (k j : Nat) (hk : k < 3) (hj : j < 4) : hi B (106 + 4 * k + j) = (if j = 0 then 8 else if j = 1 then 6 else B) := by
  unfold hi
  have e : (106 + 4 * k + j - 106) % 4 = j := by omega
  rw [if_neg (by omega), if_neg (by omega), if_neg (by omega), if_neg (by omega), if_neg (by omega), if_neg (by omega), if_neg (by omega), if_pos (by omega), e]
theorem hi_n (B : Int) (k j : Nat) (hk : k < 4) (hj : j < 3) : hi B (118 + 3 * k + j) = (if j = 0 then 8 else if j = 1 then 6 else B) := by
  unfold hi
  have e : (118 + 3 * k + j - 118) % 3 = j := by omega
  rw [if_neg (by omega), if_neg (by omega), if_neg (by omega), if_neg (by omega), if_neg (by omega), if_neg (by omega), if_neg (by omega), if_neg (by omega), e]
theorem hi_h (B : Int) (h : Nat) (hh : h < 12) : hi B (22 + h) = 20 := by
  unfold hi
  rw [if_neg (by omega), if_neg (by omega), if_neg (by omega), if_neg (by omega), if_neg (by omega), if_pos (by omega)]
theorem hi_l (B : Int) (l : Nat) (hl : l < 9) : hi B (13 + l) = B := by
  unfold hi
  rw [if_neg (by omega), if_neg (by omega), if_neg (by omega), if_neg (by omega), if_pos (by omega)]
theorem hi_s (B : Int) (i : Nat) (h : i < 10) (h1 : i ≠ 1) : hi B i = B := by
  unfold hi
  rw [if_neg (by omega), if_neg (by omega), if_neg (by omega), if_neg (by omega), if_pos (by omega)]
theorem hi_mono {B C : Int} (h : B ≤ C) (i : Nat) : hi B i ≤ hi C i := by
  unfold hi
  repeat' split
  all_goals omega
section RW
variable {B : Int} {g : yG}
theorem RB.mono {C : Int} (h : RB B g) (hc : B ≤ C) : RB C g := fun i hi => ⟨(h i hi).1, Int.le_trans (h i hi).2 (hi_mono hc i)⟩
theorem RB.st (h : RB B g) (i : Nat) {v : Int} (h1 : lo i ≤ v) (h2 : v ≤ hi B i) : RB B (st g i v) := by
  intro j hj
  by_cases e : j = i
  · subst e; rw [st_s]; exact ⟨h1, h2⟩
  · rw [st_n e]; exact h j hj
theorem RB.b (h : RB B g) (k j : Nat) (hk : k < 12) (hj : j < 6) (h4 : j ≠ 4) : 0 ≤ g (34 + 6 * k + j) ∧ g (34 + 6 * k + j) ≤ (if j = 0 then 1 else if j = 1 then 8 else if j = 2 then 150 else if j = 3 then 28 else if j = 4 then 11 else B) := by
  have := h (34 + 6 * k + j) (by omega)
  rw [lo_b k j hk hj h4, hi_b B k j hk hj] at this
  exact this
theorem RB.b0 (h : RB B g) (k : Nat) (hk : k < 12) : 0 ≤ g (34 + 6 * k + 0) ∧ g (34 + 6 * k + 0) ≤ 1 := h.b k 0 hk (by omega) (by omega)
theorem RB.b1 (h : RB B g) (k : Nat) (hk : k < 12) : 0 ≤ g (34 + 6 * k + 1) ∧ g (34 + 6 * k + 1) ≤ 8 := h.b k 1 hk (by omega) (by omega)
theorem RB.b2 (h : RB B g) (k : Nat) (hk : k < 12) : 0 ≤ g (34 + 6 * k + 2) ∧ g (34 + 6 * k + 2) ≤ 150 := h.b k 2 hk (by omega) (by omega)
theorem RB.b3 (h : RB B g) (k : Nat) (hk : k < 12) : 0 ≤ g (34 + 6 * k + 3) ∧ g (34 + 6 * k + 3) ≤ 28 := h.b k 3 hk (by omega) (by omega)
theorem RB.b4 (h : RB B g) (k : Nat) (hk : k < 12) : -1 ≤ g (34 + 6 * k + 4) ∧ g (34 + 6 * k + 4) ≤ 11 := by
  have := h (34 + 6 * k + 4) (by omega)
  rw [lo_b4 k hk, hi_b B k 4 hk (by omega)] at this
  exact this
theorem RB.b5 (h : RB B g) (k : Nat) (hk : k < 12) : 0 ≤ g (34 + 6 * k + 5) ∧ g (34 + 6 * k + 5) ≤ B := h.b k 5 hk (by omega) (by omega)
theorem RB.h (h : RB B g) (k : Nat) (hk : k < 12) : 0 ≤ g (22 + k) ∧ g (22 + k) ≤ 20 := by
  have := h (22 + k) (by omega)
  rw [lo_0 (by omega), hi_h B k hk] at this
  exact this
theorem RB.l (h : RB B g) (l : Nat) (hl : l < 9) : 0 ≤ g (13 + l) ∧ g (13 + l) ≤ B := by
  have := h (13 + l) (by omega)
  rw [lo_0 (by omega), hi_l B l hl] at this
  exact this
theorem RB.s (h : RB B g) (i : Nat) (hi : i < 10) (h1 : i ≠ 1) : 0 ≤ g i ∧ g i ≤ B := by
  have := h i (by omega)
  rw [lo_0 (by omega), hi_s B i hi h1] at this
  exact this
theorem RB.fox (h : RB B g) : 0 ≤ g 1 ∧ g 1 ≤ 8 := h 1 (by omega)
theorem RB.nb (h : RB B g) : 0 ≤ g 10 ∧ g 10 ≤ 12 := h 10 (by omega)
theorem RB.nk (h : RB B g) : 0 ≤ g 11 ∧ g 11 ≤ 3 := h 11 (by omega)
theorem RB.nn (h : RB B g) : 0 ≤ g 12 ∧ g 12 ≤ 4 := h 12 (by omega)
theorem RB.k (h : RB B g) (k j : Nat) (hk : k < 3) (hj : j < 4) : 0 ≤ g (106 + 4 * k + j) ∧ g (106 + 4 * k + j) ≤ (if j = 0 then 8 else if j = 1 then 6 else B) := by
  have := h (106 + 4 * k + j) (by omega)
  rw [lo_0 (by omega), hi_k B k j hk hj] at this
  exact this
theorem RB.n (h : RB B g) (k j : Nat) (hk : k < 4) (hj : j < 3) : 0 ≤ g (118 + 3 * k + j) ∧ g (118 + 3 * k + j) ≤ (if j = 0 then 8 else if j = 1 then 6 else B) := by
  have := h (118 + 3 * k + j) (by omega)
  rw [lo_0 (by omega), hi_n B k j hk hj] at this
  exact this
theorem sm_of {z : Int} (h : 0 ≤ z ∧ z ≤ 1000000000) : sm z := ⟨by omega, by omega⟩
theorem RB.smh (h : RB B g) : ∀ k, k < 12 → sm (g (22 + k)) := fun k hk => sm_of ⟨(h.h k hk).1, by have := (h.h k hk).2; omega⟩
theorem RB.sm0 (h : RB B g) (k : Nat) (hk : k < 12) : sm (g (34 + 6 * k + 0)) := sm_of ⟨(h.b0 k hk).1, by have := (h.b0 k hk).2; omega⟩
theorem RB.sm2 (h : RB B g) (k : Nat) (hk : k < 12) : sm (g (34 + 6 * k + 2)) := sm_of ⟨(h.b2 k hk).1, by have := (h.b2 k hk).2; omega⟩
end RW
/-! the steps of a day -/
/-- step by step -/
def itN (f : yG → Nat → yG) (g : yG) : Nat → yG
  | 0 => g
  | i+1 => f (itN f g i) i
def mon (g : yG) : Int := g 0 / 30 % 12
def grS (g : yG) (h : Nat) : yG := st g (22 + h) (g (22 + h) + (if 20 ≤ g (22 + h) then 0 else 1))
def fGrow (g : yG) : yG := if (2 ≤ mon g ∧ mon g ≤ 8) ∧ g 0 % 3 = 0 then itN grS g 12 else g
def shB (g : yG) (k : Nat) (v : Int) : yG :=
  let g1 := st g (34 + 6 * k + 2) (g (34 + 6 * k + 2) - v)
  let g2 := st g1 (34 + 6 * k + 5) (g1 (34 + 6 * k + 5) + v)
  let l := 13 + (g2 (34 + 6 * k + 1)).toNat
  let g3 := st g2 l (g2 l + v)
  st g3 9 (g3 9 + v)
def moS (g : yG) (k : Nat) : yG :=
  if g (34 + 6 * k + 0) = 1 then g
  else if 6 ≤ mon g ∧ mon g ≤ 8 then shB g k (if 5 ≤ g (34 + 6 * k + 2) then 5 else g (34 + 6 * k + 2))
  else if 10 ≤ mon g ∨ mon g ≤ 1 then st g (34 + 6 * k + 2) (if g (34 + 6 * k + 2) + 2 ≤ 150 then g (34 + 6 * k + 2) + 2 else 150)
  else g
def fMoult (g : yG) : yG := itN moS g (g 10).toNat
def mvS (g : yG) (k : Nat) : yG := st g (34 + 6 * k + 1) (gol g k)
def fMove (g : yG) : yG := itN mvS g (g 10).toNat
def viS (g : yG) (k : Nat) : yG :=
  let l := 13 + (g (118 + 3 * k + 0)).toNat
  let v := if g l ≤ g (118 + 3 * k + 1) then g l else g (118 + 3 * k + 1)
  let g1 := st g l (g l - v)
  let g2 := st g1 4 (g1 4 + v)
  st g2 (118 + 3 * k + 1) 0
def fVisit (g : yG) : yG := itN viS g (g 12).toNat
def addB (g : yG) (hen lawn many more mother : Int) : yG :=
  let k := (g 10).toNat
  st (st (st (st (st (st (st g 10 (g 10 + 1)) (34 + 6 * k + 0) hen) (34 + 6 * k + 1) lawn) (34 + 6 * k + 2) many) (34 + 6 * k + 3) more) (34 + 6 * k + 4) mother) (34 + 6 * k + 5) 0
def haS (h : Nat) (g : yG) (_ : Nat) : yG :=
  let g1 := addB g (if g 10 % 2 = 0 then 0 else 1) (g (34 + 6 * h + 1)) 0 (if g 10 % 2 = 0 then 1 else 0) h
  st g1 7 (g1 7 + 1)
/-- how many chicks there is room for -/
def haN (g : yG) (h : Nat) : Nat := if g (34 + 6 * h + 2) ≤ 12 - g 10 then (g (34 + 6 * h + 2)).toNat else (12 - g 10).toNat
def fHatch (g : yG) (h : Nat) : yG := st (st (itN (haS h) g (haN g h)) (34 + 6 * h + 2) 0) (34 + 6 * h + 3) 0
def siS (g : yG) (k : Nat) : yG :=
  if g (34 + 6 * k + 0) = 1 ∧ 0 < g (34 + 6 * k + 2) then
    (if g (34 + 6 * k + 3) + 1 = 28 then fHatch g k else st g (34 + 6 * k + 3) (g (34 + 6 * k + 3) + 1))
  else g
def fSit (g : yG) : yG := itN siS g (g 10).toNat
/-- the hen that the fox finds, or the count -/
def huN (g : yG) : Nat → Nat → Nat
  | 0, k => k
  | f+1, k => if (k : Int) < g 10 then (if (g (34 + 6 * k + 0) = 1 ∧ 0 < g (34 + 6 * k + 2)) ∧ g (34 + 6 * k + 1) = g 1 then k else huN g f (k + 1)) else k
def huE (g : yG) (k : Nat) : yG :=
  let g1 := st g (34 + 6 * k + 2) (g (34 + 6 * k + 2) - 1)
  let g2 := st g1 (34 + 6 * k + 3) (if g1 (34 + 6 * k + 2) = 0 then 0 else g1 (34 + 6 * k + 3))
  st g2 8 (g2 8 + 1)
def fHunt (g : yG) : yG :=
  let k := huN g 12 0
  let g1 := if (k : Int) < g 10 then huE g k else g
  st g1 1 (go g1 (g1 1).toNat 9 : Nat)
abbrev cor (z : Int) : Prop := z = 0 ∨ z = 2 ∨ z = 6 ∨ z = 8
def voN (g : yG) : Nat → Int
  | 0 => 0
  | k+1 => voN g k + (if g (34 + 6 * k + 0) = 1 then 0 else if cor (g (34 + 6 * k + 1)) then g (34 + 6 * k + 3) else 0)
def voc (g : yG) : Int := voN g (g 10).toNat
def fFine (g : yG) : yG :=
  let v := if 12 < voc g then (if 3 ≤ g 2 then 3 else g 2) else 0
  let g1 := st g 2 (g 2 - v)
  st g1 6 (g1 6 + v)
def reS (g : yG) (k : Nat) : yG := st g (106 + 4 * k + 1) (g (106 + 4 * k + 1) + (6 - g (106 + 4 * k + 1)))
def fRest (g : yG) : yG := itN reS g (g 11).toNat
def fDay (g : yG) : yG := fRest (fFine (fHunt (fSit (fVisit (fMove (fMoult (fGrow (st g 0 (g 0 + 1)))))))))
