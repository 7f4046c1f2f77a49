set_option maxRecDepth 100000
/-- what reading a rule's tests may change in x -/
def XR (R : Nat) (w w' : Wd) : Prop := w'.1 = w.1 ∧ (∀ r, r ≠ 90 → (∀ t, 103 ≤ t → t ≤ 107 → r ≠ t + 10 * R) → w'.2.1 r = w.2.1 r) ∧ (∀ j, j ≠ 23 → j ≠ 24 → w'.2.1 90 j = w.2.1 90 j) ∧ ∀ j, j ≠ 2 → w'.2.1 (103 + 10 * R) j = w.2.1 (103 + 10 * R) j
theorem XR.trans {R : Nat} {w w' w'' : Wd} (h : XR R w w') (k : XR R w' w'') : XR R w w'' := ⟨k.1.trans h.1, fun r h1 h2 => (k.2.1 r h1 h2).trans (h.2.1 r h1 h2), fun j h1 h2 => (k.2.2.1 j h1 h2).trans (h.2.2.1 j h1 h2), fun j h1 => (k.2.2.2 j h1).trans (h.2.2.2 j h1)⟩
theorem XF.r {R z : Nat} {w w' : Wd} (h : XF R z w w') : XR R w w' := ⟨h.1, h.2.1, h.2.2.1, h.2.2.2.2⟩
/-- and in the model -/
def MR (R : Nat) (v v' : Wd) : Prop := Ag [34, 35] [36] v v' ∧ (∀ r, r ≠ R → v'.2.1 34 r = v.2.1 34 r) ∧ ∀ j, j < 12 * R → v'.2.1 35 j = v.2.1 35 j
theorem MR.trans {R : Nat} {w w' w'' : Wd} (h : MR R w w') (k : MR R w' w'') : MR R w w'' := ⟨h.1.trans k.1, fun r h1 => (k.2.1 r h1).trans (h.2.1 r h1), fun j h1 => (k.2.2 j h1).trans (h.2.2 j h1)⟩
theorem signs_wrong {S : Nat} {w : Wd} (hS : S < 17) (e : w.2.1 90 24 = 1) : sX_signs w S = some w := by
  unfold sX_signs
  rw [nm_d, eX_signs_L2]
  obtain ⟨g, hg⟩ : ∃ g, FU = g + 1 := ⟨99999, by rw [FU_v]⟩
  rw [hg, fx_s]
  unfold bX_signs_L2 sS_length
  rw [decide_eq_true hS, gd_t, bd_s, e, if_neg n10]
  exact ite_self _
theorem TestAt.keep {R z A : Nat} {w v w' v' : Wd} (h : TestAt R z A w v) (hw : ∀ t, 104 ≤ t → t ≤ 107 → w'.2.1 (t + 10 * R) z = w.2.1 (t + 10 * R) z) (hv : ∀ j, A ≤ j → j < A + 4 → v'.2.1 35 j = v.2.1 35 j) : TestAt R z A w' v' := by
  unfold TestAt at h ⊢
  rw [hw 107 (by decide) (by decide), hw 104 (by decide) (by decide), hw 105 (by decide) (by decide), hw 106 (by decide) (by decide), hv A (by omega) (by omega), hv (A + 1) (by omega) (by omega), hv (A + 2) (by omega) (by omega), hv (A + 3) (by omega) (by omega)]
  exact h
