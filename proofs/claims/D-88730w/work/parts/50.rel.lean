set_option maxRecDepth 100000
/-! THE PLAIN LAW: the relation of the two worlds, what keeps it -/
def b1 (b : Prop) [Decidable b] : Int32 := if b then 1 else 0
theorem b1_t {b : Prop} [Decidable b] (h : b) : b1 b = 1 := if_pos h
theorem b1_f {b : Prop} [Decidable b] (h : ¬ b) : b1 b = 0 := if_neg h
theorem b1_0 {b : Prop} [Decidable b] : (b1 b = 0) ↔ ¬ b := by
  unfold b1
  by_cases h : b
  · rw [if_pos h]; simp [h]
  · rw [if_neg h]; simp [h]
/-- rows of w that an operation may have changed: S among the arrays, F among the fields -/
def Ag (S F : List Nat) (w w' : Wd) : Prop := w'.1 = w.1 ∧ (∀ r, r ≠ 90 → r ∉ S → w'.2.1 r = w.2.1 r) ∧ (∀ j, j ∉ F → w'.2.1 90 j = w.2.1 90 j)
theorem Ag.rfl {S F : List Nat} {w : Wd} : Ag S F w w := ⟨Eq.refl _, fun _ _ _ => Eq.refl _, fun _ _ => Eq.refl _⟩
theorem Ag.trans {S F : List Nat} {w w' w'' : Wd} (h : Ag S F w w') (k : Ag S F w' w'') : Ag S F w w'' := ⟨k.1.trans h.1, fun r h1 h2 => (k.2.1 r h1 h2).trans (h.2.1 r h1 h2), fun j h1 => (k.2.2 j h1).trans (h.2.2 j h1)⟩
theorem Ag.mono {S F S' F' : List Nat} {w w' : Wd} (h : Ag S F w w') (hS : ∀ r, r ∈ S → r ∈ S') (hF : ∀ r, r ∈ F → r ∈ F') : Ag S' F' w w' := ⟨h.1, fun r h1 h2 => h.2.1 r h1 (fun z => h2 (hS r z)), fun j h1 => h.2.2 j (fun z => h1 (hF j z))⟩
theorem Ag.st {S F : List Nat} {w : Wd} {a j : Nat} {x : Int32} (ha : a ≠ 90) (h : a ∈ S) : Ag S F w (stG w a j x) := ⟨Eq.refl _, fun r _ h2 => stG_ne (fun z => h2 (z ▸ h)), fun k _ => by rw [stG_ne (Ne.symm ha)]⟩
theorem Ag.sf {S F : List Nat} {w : Wd} {j : Nat} {x : Int32} (h : j ∈ F) : Ag S F w (stG w 90 j x) := ⟨Eq.refl _, fun r h1 _ => stG_ne h1, fun k hk => by rw [stG_eq]; exact pk_un (fun z => hk (z ▸ h))⟩
theorem Ag.sl {S F : List Nat} {w : Wd} {a j : Nat} {x : Int64} : Ag S F w (stL w a j x) := ⟨Eq.refl _, fun _ _ _ => Eq.refl _, fun _ _ => Eq.refl _⟩
def Cnt (nO nB nC nU nT nL nH nP d : Nat) (w v : Wd) : Prop :=
  (nO ≤ 16 ∧ nB ≤ 8 ∧ nC ≤ 40 ∧ nU ≤ 10 ∧ nT ≤ 30 ∧ nL ≤ 60 ∧ nH ≤ 20 ∧ nP ≤ 120 ∧ d ≤ 999) ∧
  (w.1 0 = nB ∧ w.1 1 = nO ∧ w.1 2 = nU ∧ w.1 3 = nB ∧ w.1 4 = nO ∧ w.1 5 = nU) ∧
  (w.2.1 90 2 = nI nO ∧ w.2.1 90 3 = nI nB ∧ w.2.1 90 4 = nI d ∧ w.2.1 90 10 = nI nC ∧ w.2.1 90 20 = nI nU ∧ w.2.1 90 22 = nI nP ∧ w.2.1 90 32 = nI nT ∧ w.2.1 90 33 = nI nL ∧ w.2.1 90 37 = nI nH) ∧
  (v.2.1 90 10 = nI nO ∧ v.2.1 90 11 = nI nB ∧ v.2.1 90 31 = nI d ∧ v.2.1 90 16 = nI nC ∧ v.2.1 90 30 = nI nU ∧ v.2.1 90 29 = nI nP ∧ v.2.1 90 44 = nI nT ∧ v.2.1 90 45 = nI nL ∧ v.2.1 90 48 = nI nH) ∧
  (w.2.1 90 38 = v.2.1 90 49 ∧ 0 ≤ (v.2.1 90 49).toInt ∧ (v.2.1 90 49).toInt ≤ 999)
def Oars (nO : Nat) (w v : Wd) : Prop :=
  (∀ o, o < nO → ∃ k wt : Nat, k ≤ 4 ∧ 30 ≤ wt ∧ wt ≤ 150 ∧ w.1 (108 + 10 * o) = (if k = 2 then 1 else if k = 3 then 2 else if k = 4 then 3 else 0) ∧ w.2.1 (102 + 10 * o) 1 = nI wt ∧ (k < 2 → w.2.1 (102 + 10 * o) 3 = nI k) ∧ v.2.1 0 o = nI k ∧ v.2.1 1 o = nI wt ∧ w.2.1 (102 + 10 * o) 2 = v.2.1 4 o ∧ (v.2.1 4 o = 0 ∨ v.2.1 4 o = 1)) ∧ ∀ o, nO ≤ o → v.2.1 4 o = 0
def Boats (nB : Nat) (w v : Wd) : Prop :=
  (∀ b, b < nB → ∃ k ls ms ln : Nat, k ≤ 4 ∧ 30 ≤ ls ∧ ls ≤ 150 ∧ ms ≤ 150 ∧ 1 ≤ ln ∧ ln ≤ 99 ∧ w.2.1 (100 + 10 * b) 0 = nI k ∧ v.2.1 6 b = nI k ∧ w.2.1 (100 + 10 * b) 1 = nI ls ∧ v.2.1 7 b = nI ls ∧ w.2.1 (100 + 10 * b) 2 = nI ms ∧ v.2.1 8 b = nI ms ∧ w.2.1 (100 + 10 * b) 3 = nI ln ∧ v.2.1 9 b = nI ln ∧ w.2.1 (100 + 10 * b) 5 = v.2.1 5 b ∧ (v.2.1 5 b = 0 ∨ v.2.1 5 b = 1)) ∧ ∀ b, nB ≤ b → v.2.1 5 b = 0
/-- how many seats a boat of kind k has; whether a place is one of its own -/
def sN (k : Nat) : Nat := if k = 0 then 2 else if k = 2 then 8 else if k = 3 then 1 else 4
def okS (k s : Nat) : Prop := s < sN k ∨ (s = 8 ∧ (k = 1 ∨ k = 2))
def Seats (nO nB : Nat) (w v : Wd) : Prop :=
  (∀ b, b < nB → ∀ s, s < 9 → w.2.1 (101 + 10 * b) s = -1 ∨ ∃ o, o < nO ∧ w.2.1 (101 + 10 * b) s = nI o ∧ v.2.1 2 o = nI b ∧ v.2.1 3 o = nI s) ∧
  (∀ o, o < nO → v.2.1 2 o = -1 ∨ ∃ b s k, b < nB ∧ s < 9 ∧ v.2.1 6 b = nI k ∧ k ≤ 4 ∧ okS k s ∧ v.2.1 2 o = nI b ∧ v.2.1 3 o = nI s ∧ w.2.1 (101 + 10 * b) s = nI o)
def Races (nO nC : Nat) (w v : Wd) : Prop := ∀ r, r < nC → ∃ x y : Nat, x < nO ∧ y < nO ∧ x ≠ y ∧ w.2.1 5 r = nI x ∧ v.2.1 12 r = nI x ∧ w.2.1 6 r = nI y ∧ v.2.1 13 r = nI y ∧ w.2.1 7 r = v.2.1 14 r ∧ -999 ≤ (v.2.1 14 r).toInt ∧ (v.2.1 14 r).toInt ≤ 999
def River (w v : Wd) : Prop := ∀ d, d < 30 → w.2.1 17 d = v.2.1 26 d ∧ w.2.1 18 d = v.2.1 27 d
def Tape (nP : Nat) (w v : Wd) : Prop := ∀ j, j < nP → v.2.1 28 j = w.2.1 21 j &&& 255
def Rules (nU : Nat) (w v : Wd) : Prop := ∀ r, r < nU → ∃ k z : Nat, k ≤ 5 ∧ z ≤ 3 ∧ w.2.1 (103 + 10 * r) 0 = v.2.1 32 r ∧ (v.2.1 32 r = 0 ∨ v.2.1 32 r = 1) ∧ v.2.1 33 r = nI k ∧ w.2.1 (103 + 10 * r) 1 = (if k = 5 then -1 else nI k) ∧ w.2.1 (103 + 10 * r) 2 = nI z ∧ v.2.1 34 r = nI z ∧
  ∀ j, j < z → w.2.1 (107 + 10 * r) j = v.2.1 35 (12 * r + 4 * j) ∧ (v.2.1 35 (12 * r + 4 * j) = 0 ∨ v.2.1 35 (12 * r + 4 * j) = 1) ∧ (∃ f : Nat, f ≤ 6 ∧ v.2.1 35 (12 * r + 4 * j + 1) = nI f ∧ w.2.1 (104 + 10 * r) j = nI f) ∧ w.2.1 (105 + 10 * r) j = v.2.1 35 (12 * r + 4 * j + 2) ∧ w.2.1 (106 + 10 * r) j = v.2.1 35 (12 * r + 4 * j + 3)
def Outs (nB nT : Nat) (w v : Wd) : Prop := ∀ i, i < nT → (∃ b : Nat, b < nB ∧ w.2.1 25 i = nI b ∧ v.2.1 37 i = nI b) ∧ w.2.1 26 i = v.2.1 38 i ∧ w.2.1 27 i = v.2.1 39 i ∧ w.2.1 28 i = v.2.1 40 i
def Looks (nB nT nL : Nat) (w v : Wd) : Prop := ∀ i, i < nL → ∃ b t : Nat, b < nB ∧ t ≤ nT ∧ w.2.1 29 i = nI b ∧ v.2.1 41 i = nI b ∧ w.2.1 30 i = nI t ∧ v.2.1 42 i = nI t ∧ w.2.1 31 i = v.2.1 43 i ∧ (v.2.1 43 i = 0 ∨ v.2.1 43 i = 1)
def Heats (nB nH : Nat) (w v : Wd) : Prop := ∀ i, i < nH → ∃ b t : Nat, b < nB ∧ t < 1440 ∧ w.2.1 36 i = nI b ∧ v.2.1 46 i = nI b ∧ w.2.1 35 i = nI t ∧ v.2.1 47 i = nI t
/-- a boat's rack by the digits of a way: boats of the set R behind it strike off a digit each -/
def strike (R b : Nat) : Nat → Nat → Nat
  | 0, W => W
  | k + 1, W => if b < k + 1 then strike R b k (if R.testBit (k + 1) then W / 3 else W) else W
def Racks (nB : Nat) (w v : Wd) : Prop := ∃ R W : Nat, R < 2 ^ nB ∧ W < 6561 ∧ w.2.1 90 41 = nI R ∧ w.2.1 90 40 = nI W ∧ ∀ b, b < 8 → v.2.1 50 b = if R.testBit b then nI (strike R b 7 W % 3) else -1
def Rel (w v : Wd) : Prop := ∃ nO nB nC nU nT nL nH nP d : Nat, Cnt nO nB nC nU nT nL nH nP d w v ∧ Oars nO w v ∧ Boats nB w v ∧ Seats nO nB w v ∧ Races nO nC w v ∧ River w v ∧ Tape nP w v ∧ Rules nU w v ∧ Outs nB nT w v ∧ Looks nB nT nL w v ∧ Heats nB nH w v ∧ Racks nB w v
theorem rel_start : Rel wX0 (wM0 8) := by
  refine ⟨0, 0, 0, 0, 0, 0, 0, 0, 0, ⟨by decide, ⟨rfl, rfl, rfl, rfl, rfl, rfl⟩, ⟨rfl, rfl, rfl, rfl, rfl, rfl, rfl, rfl, rfl⟩, ⟨rfl, rfl, rfl, rfl, rfl, rfl, rfl, rfl, rfl⟩, rfl, by decide, by decide⟩, ⟨fun o h => absurd h (by omega), fun o _ => rfl⟩, ⟨fun o h => absurd h (by omega), fun o _ => rfl⟩, ⟨fun o h => absurd h (by omega), fun o h => absurd h (by omega)⟩, fun o h => absurd h (by omega), fun d _ => ⟨rfl, rfl⟩, fun o h => absurd h (by omega), fun o h => absurd h (by omega), fun o h => absurd h (by omega), fun o h => absurd h (by omega), fun o h => absurd h (by omega), 0, 0, by decide, by decide, rfl, rfl, ?_⟩
  intro b hb
  rw [if_neg (by simp)]
  show cr0 8 b = -1
  unfold cr0
  rw [if_pos hb]
