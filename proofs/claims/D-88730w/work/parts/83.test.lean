set_option maxRecDepth 100000
/-- what a test may change in x: place, isWrong, the rule's rows at z, its size -/
def XF (R z : Nat) (w w' : Wd) : Prop := w'.1 = w.1 ∧ (∀ r, r ≠ 90 → (∀ t, 103 ≤ t → t ≤ 107 → r ≠ t + 10 * R) → w'.2.1 r = w.2.1 r) ∧ (∀ j, j ≠ 23 → j ≠ 24 → w'.2.1 90 j = w.2.1 90 j) ∧ (∀ t j, 104 ≤ t → t ≤ 107 → j ≠ z → w'.2.1 (t + 10 * R) j = w.2.1 (t + 10 * R) j) ∧ ∀ j, j ≠ 2 → w'.2.1 (103 + 10 * R) j = w.2.1 (103 + 10 * R) j
theorem XF.rfl {R z : Nat} {w : Wd} : XF R z w w := ⟨Eq.refl _, fun _ _ _ => Eq.refl _, fun _ _ _ => Eq.refl _, fun _ _ _ _ _ => Eq.refl _, fun _ _ => Eq.refl _⟩
theorem XF.trans {R z : Nat} {w w' w'' : Wd} (h : XF R z w w') (k : XF R z w' w'') : XF R z w w'' := ⟨k.1.trans h.1, fun r h1 h2 => (k.2.1 r h1 h2).trans (h.2.1 r h1 h2), fun j h1 h2 => (k.2.2.1 j h1 h2).trans (h.2.2.1 j h1 h2), fun t j h1 h2 h3 => (k.2.2.2.1 t j h1 h2 h3).trans (h.2.2.2.1 t j h1 h2 h3), fun j h1 => (k.2.2.2.2 j h1).trans (h.2.2.2.2 j h1)⟩
theorem XF.ag {R z : Nat} {w w' : Wd} (h : Ag [] [23, 24] w w') : XF R z w w' := ⟨h.1, fun r h1 _ => h.2.1 r h1 (by simp), fun j h1 h2 => h.2.2 j (by simp [h1, h2]), fun t j h1 h2 _ => by rw [h.2.1 (t + 10 * R) (by omega) (by simp)], fun j _ => by rw [h.2.1 (103 + 10 * R) (by omega) (by simp)]⟩
theorem XF.st {R z t : Nat} {w : Wd} {x : Int32} (h1 : 104 ≤ t) (h2 : t ≤ 107) : XF R z w (stG w (t + 10 * R) z x) := ⟨Eq.refl _, fun r _ h3 => stG_ne (h3 t (by omega) h2), fun j _ _ => by rw [stG_ne (by omega)], fun t' j g1 g2 g3 => by
  by_cases h : t' = t
  · rw [h, stG_eq, pk_un g3]
  · rw [stG_ne (by omega)], fun j _ => by rw [stG_ne (by omega)]⟩
theorem XF.sz {R z : Nat} {w : Wd} {x : Int32} : XF R z w (stG w (103 + 10 * R) 2 x) := ⟨Eq.refl _, fun r _ h3 => stG_ne (h3 103 (by omega) (by omega)), fun j _ _ => by rw [stG_ne (by omega)], fun t' j g1 g2 g3 => by rw [stG_ne (by omega)], fun j hj => by rw [stG_eq, pk_un hj]⟩
theorem TX.xf {T : Nat → Int32} {nP R z : Nat} {w w' : Wd} (h : TX T nP w) (hw : XF R z w w') : TX T nP w' := ⟨(hw.2.2.1 22 (by decide) (by decide)).trans h.1, fun j hj => by rw [hw.2.1 21 (by decide) (fun t h1 h2 => by omega)]; exact h.2 j hj⟩
