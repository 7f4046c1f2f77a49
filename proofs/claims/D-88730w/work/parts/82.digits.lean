set_option maxRecDepth 100000
abbrev isDg (t : Int32) : Prop := 48 ≤ t.toInt ∧ t.toInt ≤ 57
theorem isDigit_v (t : Int32) : sM_isDigit t = some (b1 (isDg t)) := by
  unfold sM_isDigit
  have h1 : (t < (48 : Int32)) ↔ t.toInt < 48 := lt32
  have h2 : ((57 : Int32) < t) ↔ 57 < t.toInt := lt32
  by_cases a : t < 48
  · rw [if_pos a, b1_f (fun z => by have := h1.mp a; have := z.1; omega)]
  · have a' : ¬ t.toInt < 48 := fun z => a (h1.mpr z)
    rw [if_neg a]
    by_cases c : (57 : Int32) < t
    · rw [if_pos c, b1_f (fun z => by have := h2.mp c; have := z.2; omega)]
    · have c' : ¬ 57 < t.toInt := fun z => c (h2.mpr z)
      rw [if_neg c, b1_t ⟨by omega, by omega⟩]
theorem inDg_v (t : Int32) : sX_in t.toInt64 48 57 = some (b1 (isDg t)) := by
  rw [sX_in_v]
  rfl
theorem dg_nP {T : Nat → Int32} {nP i : Nat} (hT : ∀ q, nP ≤ q → T q = -1) (h : isDg (T i)) : i < nP := by
  rcases Nat.lt_or_ge i nP with z | z
  · exact z
  · rw [hT i z] at h
    exact absurd h (by decide)
theorem digits_v {T : Nat → Int32} {nP : Nat} (bP : nP ≤ 120) (hT : ∀ q, nP ≤ q → T q = -1) : ∀ (m n i f f' : Nat) (x : Int32) (w v : Wd), n + m = 3 → m < f → m < f' → i ≤ nP → TX T nP w → TM T nP v → w.2.1 90 23 = nI i → w.2.1 90 24 = 0 → v.2.1 90 36 = nI i → ∃ (y : Int32) (k j : Nat) (w' v' : Wd), (∀ J, fx (fun _ _ _ => none) (bX_test_L109 J) f x (nI n) w = J y (nI k) w') ∧ (∀ J, fx (fun _ _ _ => none) (bM_test_L79 J) f' x (nI n) v = J y v') ∧ Ag [] [23] w w' ∧ Ag [] [36] v v' ∧ w'.2.1 90 23 = nI j ∧ v'.2.1 90 36 = nI j ∧ j ≤ nP ∧ n ≤ k ∧ k ≤ 3 ∧ (isDg (T i) → n < 3 → n < k) ∧ (¬ isDg (T i) → k = n ∧ j = i) := by
  intro m
  induction m with
  | zero =>
    intro n i f f' x w v hn hf hf' hi hX hM e1 e2 e3
    obtain ⟨g, rfl⟩ : ∃ g, f = g + 1 := ⟨f - 1, by omega⟩
    obtain ⟨g', rfl⟩ : ∃ g, f' = g + 1 := ⟨f' - 1, by omega⟩
    obtain rfl : n = 3 := by omega
    refine ⟨x, 3, i, w, v, fun J => ?_, fun J => ?_, Ag.rfl, Ag.rfl, e1, e3, hi, by omega, by omega, fun _ h => by omega, fun _ => ⟨rfl, rfl⟩⟩
    · rw [fx_s]
      unfold bX_test_L109
      rw [e2, if_pos z00, if_pos (show (3 : Int32) ≤ nI 3 from Int32.le_refl _)]
    · rw [fx_s]
      unfold bM_test_L79
      rw [if_pos (show (3 : Int32) ≤ nI 3 from Int32.le_refl _)]
  | succ m ih =>
    intro n i f f' x w v hn hf hf' hi hX hM e1 e2 e3
    obtain ⟨g, rfl⟩ : ∃ g, f = g + 1 := ⟨f - 1, by omega⟩
    obtain ⟨g', rfl⟩ : ∃ g, f' = g + 1 := ⟨f' - 1, by omega⟩
    have hle : ¬ (3 : Int32) ≤ nI n := fun z => absurd ((nIle (a := 3) (by decide) (by omega)).mp z) (by omega)
    have nw := now_v bP hT hX (show i < 1000 by omega) e1
    have sg := sign_v bP hT hM (show i < 1000 by omega) e3
    by_cases hd : isDg (T i)
    · have hiP := dg_nP hT hd
      have aw : Ag [] [23] w (stG w 90 23 (nI (i + 1))) := Ag.sf (by decide)
      have av : Ag [] [36] v (stG v 90 36 (nI (i + 1))) := Ag.sf (by decide)
      obtain ⟨y, k, j, w', v', r1, r2, r3, r4, r5, r6, r7, r8, r9, -⟩ := ih (n + 1) (i + 1) g g' (10 * x + T i - 48) (stG w 90 23 (nI (i + 1))) (stG v 90 36 (nI (i + 1))) (by omega) (by omega) (by omega) (by omega) (hX.ag (aw.mono (by simp) (by simp))) (hM.ag av) f90s (by rw [f90n (by decide)]; exact e2) f90s
      refine ⟨y, k, j, w', v', fun J => ?_, fun J => ?_, aw.trans r3, av.trans r4, r5, r6, r7, by omega, r9, fun _ _ => by omega, fun h => absurd hd h⟩
      · have rj := r1 J
        rw [fx_s]
        generalize fx _ _ g = s1 at rj ⊢
        unfold bX_test_L109
        rw [e2, if_pos z00, if_neg hle, nw, bd_s, inDg_v, bd_s, b1_t hd, if_neg n10, bd_s, nm_d, nm_d, nm_d, e1, nI_1, nI_1]
        exact rj
      · have rj := r2 J
        rw [fx_s]
        generalize fx _ _ g' = s1 at rj ⊢
        unfold bM_test_L79
        rw [if_neg hle, sg, bd_s, isDigit_v, bd_s, b1_t hd, if_neg n10, bd_s, nm_d, nm_d, nm_d, e3, nI_1, nI_1]
        exact rj
    · refine ⟨x, n, i, w, v, fun J => ?_, fun J => ?_, Ag.rfl, Ag.rfl, e1, e3, hi, by omega, by omega, fun h => absurd h hd, fun _ => ⟨rfl, rfl⟩⟩
      · rw [fx_s]
        unfold bX_test_L109
        rw [e2, if_pos z00, if_neg hle, nw, bd_s, inDg_v, bd_s, b1_f hd, if_pos z00]
      · rw [fx_s]
        unfold bM_test_L79
        rw [if_neg hle, sg, bd_s, isDigit_v, bd_s, b1_f hd, if_pos z00]
