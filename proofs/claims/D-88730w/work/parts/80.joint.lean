set_option maxRecDepth 100000
theorem mlen_app (T : Nat → Int32) (c : Int32) : ∀ (L : List Int32) (i : Nat), mlen T (L ++ [c]) i = if mlen T L i = L.length then (if T (i + L.length) = c then L.length + 1 else L.length) else mlen T L i := by
  intro L
  induction L with
  | nil =>
    intro i
    rw [List.nil_append]
    unfold mlen
    rw [List.length_nil, if_pos rfl]
    unfold mlen
    rfl
  | cons d L ih =>
    intro i
    rw [List.cons_append]
    unfold mlen
    rw [List.length_cons]
    by_cases h : T i = d
    · rw [if_pos h, if_pos h, ih (i + 1), show i + 1 + L.length = i + (L.length + 1) by omega]
      by_cases h2 : mlen T L (i + 1) = L.length
      · rw [if_pos h2, if_pos (show mlen T L (i + 1) + 1 = L.length + 1 by omega)]
        by_cases h3 : T (i + (L.length + 1)) = c
        · rw [if_pos h3, if_pos h3]
        · rw [if_neg h3, if_neg h3]
      · rw [if_neg h2, if_neg (show ¬ mlen T L (i + 1) + 1 = L.length + 1 by omega)]
    · rw [if_neg h, if_neg h, if_neg (by omega)]
theorem TX.ag {T : Nat → Int32} {nP : Nat} {w w' : Wd} (h : TX T nP w) (hw : Ag [] [23, 24] w w') : TX T nP w' := ⟨(hw.2.2 22 (by decide)).trans h.1, fun j hj => by rw [hw.2.1 21 (by decide) (by decide)]; exact h.2 j hj⟩
/-- a field's name in both -/
theorem field_v {T : Nat → Int32} {nP i : Nat} {w v : Wd} (bP : nP ≤ 120) (hT : ∀ q, nP ≤ q → T q = -1) (hX : TX T nP w) (hM : TM T nP v) (hi : i ≤ nP) (e1 : w.2.1 90 23 = nI i) (e2 : w.2.1 90 24 = 0) (e3 : v.2.1 90 36 = nI i) : ∃ (r : Int32) (j : Nat) (w' v' : Wd), j ≤ nP ∧ Ag [] [23, 24] w w' ∧ Ag [] [36] v v' ∧ w'.2.1 90 23 = nI j ∧ v'.2.1 90 36 = nI j ∧ sX_word w 100 1 = some (r, w') ∧ ((∃ f, f < 7 ∧ r = nI f ∧ w'.2.1 90 24 = 0 ∧ sM_word v 8 14 = some (nI (8 + f), v')) ∨ (w'.2.1 90 24 = 1 ∧ sM_word v 8 14 = some (-1, v'))) := by
  obtain ⟨rm, m, v', m1, m2, m3, m4, m5, m6⟩ := wordM (a := 8) (b := 14) bP hT hM (by decide) (by decide) (by omega) e3
  have m1' : sM_word v 8 14 = some (rm, v') := m1
  have him : i + m ≤ nP := by
    rcases Nat.eq_zero_or_pos m with h | h
    · omega
    · have := m5 (m - 1) (by omega); omega
  obtain ⟨r, w', x1, x2, x3⟩ := wordX (t := 100) bP hT hX (Or.inl rfl) (by omega) e1 e2
  have hl : tLen 100 = 7 := rfl
  have hb : tB 100 = 8 := rfl
  rw [hl, hb] at x3
  rcases x3 with ⟨rfl, y1, y2, y3⟩ | ⟨q, hq, rfl, y1, y2, y3⟩
  · have hz : ∀ x, 8 ≤ x → x ≤ 14 → mlen T (mlt x) i = 0 := by
      intro x h1 h2
      obtain ⟨k, rfl⟩ : ∃ k, x = 8 + k := ⟨x - 8, by omega⟩
      exact y3 k (by omega)
    rcases m6 with ⟨x, h1, h2, h3, -⟩ | ⟨rfl, -, ⟨x, h1, h2, h3⟩, -⟩
    · rw [hz x h1 h2] at h3
      have := (mlt_len (show x < 16 by omega)).1
      omega
    · have hm0 : m = 0 := by rw [← h3]; exact hz x h1 h2
      subst hm0
      exact ⟨-1, i, w', v', hi, x2, m2, y2, m3, x1, Or.inr ⟨y1, m1'⟩⟩
  · rcases m6 with ⟨x, h1, h2, h3, h4, rfl⟩ | ⟨rfl, h1, ⟨x, h2, h3, h4⟩, h5⟩
    · obtain ⟨k, rfl⟩ : ∃ k, x = 8 + k := ⟨x - 8, by omega⟩
      have hkq := (y3 k (by omega)).2 h3
      subst hkq
      rw [if_pos h3] at y2
      rw [h3, ← h4] at y1
      exact ⟨nI k, i + m, w', v', him, x2, m2, y1, m3, x1, Or.inl ⟨k, hq, rfl, y2, m1'⟩⟩
    · rw [if_neg (h5 (8 + q) (by omega) (by omega))] at y2
      have hmq : mlen T (mlt (8 + q)) i = m := by
        obtain ⟨k, rfl⟩ : ∃ k, x = 8 + k := ⟨x - 8, by omega⟩
        have := (y3 k (by omega)).1
        have := h1 (8 + q) (by omega) (by omega)
        omega
      rw [hmq] at y1
      exact ⟨nI q, i + m, w', v', him, x2, m2, y1, m3, x1, Or.inr ⟨y2, m1'⟩⟩
/-- a kind's name in both; the star is the model's word 5 -/
theorem kind_v {T : Nat → Int32} {nP i : Nat} {w v : Wd} (bP : nP ≤ 120) (hT : ∀ q, nP ≤ q → T q = -1) (hX : TX T nP w) (hM : TM T nP v) (hi : i ≤ nP) (e1 : w.2.1 90 23 = nI i) (e2 : w.2.1 90 24 = 0) (e3 : v.2.1 90 36 = nI i) : ∃ (j : Nat) (v' : Wd), j ≤ nP ∧ Ag [] [36] v v' ∧ v'.2.1 90 36 = nI j ∧ ((T i = 42 ∧ j = i + 1 ∧ sM_word v 0 5 = some (5, v')) ∨ (¬ T i = 42 ∧ ∃ (r : Int32) (w' : Wd), sX_word w 101 1 = some (r, w') ∧ Ag [] [23, 24] w w' ∧ w'.2.1 90 23 = nI j ∧ ((∃ f, f < 5 ∧ r = nI f ∧ w'.2.1 90 24 = 0 ∧ sM_word v 0 5 = some (nI f, v')) ∨ (w'.2.1 90 24 = 1 ∧ sM_word v 0 5 = some (-1, v'))))) := by
  obtain ⟨rm, m, v', m1, m2, m3, m4, m5, m6⟩ := wordM (a := 0) (b := 5) bP hT hM (by decide) (by decide) (by omega) e3
  have m1' : sM_word v 0 5 = some (rm, v') := m1
  have him : i + m ≤ nP := by
    rcases Nat.eq_zero_or_pos m with h | h
    · omega
    · have := m5 (m - 1) (by omega); omega
  have s5 : mlt 5 = [42] := rfl
  have e5 : mlen T (mlt 5) i = if T i = 42 then 1 else 0 := by rw [s5]; unfold mlen mlen; rfl
  have h42 : ∀ x, x < 5 → ¬ (mlt x).getD 0 0 = 42 := by decide
  by_cases hs : T i = 42
  · rw [if_pos hs] at e5
    have hz : ∀ x, x < 5 → mlen T (mlt x) i = 0 := by
      intro x hx
      rcases Nat.eq_zero_or_pos (mlen T (mlt x) i) with h | h
      · exact h
      · have := ((mlen_iff T (mlt x) i 1).mp h).2 0 (by omega)
        rw [Nat.add_zero, hs] at this
        exact absurd this (h42 x hx)
    rcases m6 with ⟨x, h1, h2, h3, h4, rfl⟩ | ⟨rfl, -, -, h5⟩
    · have hx5 : x = 5 := by
        rcases Nat.lt_or_ge x 5 with h | h
        · rw [hz x h] at h3
          have := (mlt_len (show x < 16 by omega)).1
          omega
        · omega
      subst hx5
      have hm1 : m = 1 := h4
      subst hm1
      exact ⟨i + 1, v', him, m2, m3, Or.inl ⟨hs, rfl, m1'⟩⟩
    · exact absurd e5 (h5 5 (by omega) (by omega))
  · rw [if_neg hs] at e5
    obtain ⟨r, w', x1, x2, x3⟩ := wordX (t := 101) bP hT hX (Or.inr rfl) (by omega) e1 e2
    have hl : tLen 101 = 5 := rfl
    have hb : ∀ k, tB 101 + k = k := fun k => by rw [show tB 101 = 0 from rfl, Nat.zero_add]
    rw [hl] at x3
    simp only [hb] at x3
    refine ⟨i + m, v', him, m2, m3, Or.inr ⟨hs, r, w', x1, x2, ?_⟩⟩
    rcases x3 with ⟨rfl, y1, y2, y3⟩ | ⟨q, hq, rfl, y1, y2, y3⟩
    · have hz : ∀ x, x ≤ 5 → mlen T (mlt x) i = 0 := by
        intro x h2
        rcases Nat.lt_or_ge x 5 with h | h
        · exact y3 x h
        · obtain rfl : x = 5 := by omega
          exact e5
      rcases m6 with ⟨x, h1, h2, h3, -⟩ | ⟨rfl, -, ⟨x, h1, h2, h3⟩, -⟩
      · rw [hz x h2] at h3
        have := (mlt_len (show x < 16 by omega)).1
        omega
      · have hm0 : m = 0 := by rw [← h3]; exact hz x h2
        subst hm0
        exact ⟨y2, Or.inr ⟨y1, m1'⟩⟩
    · rcases m6 with ⟨x, h1, h2, h3, h4, rfl⟩ | ⟨rfl, h1, ⟨x, h2, h3, h4⟩, h5⟩
      · have hx5 : x < 5 := by
          rcases Nat.lt_or_ge x 5 with h | h
          · exact h
          · obtain rfl : x = 5 := by omega
            rw [e5] at h3
            exact absurd h3 (by decide)
        have hkq := (y3 x hx5).2 h3
        subst hkq
        rw [if_pos h3] at y2
        rw [h3, ← h4] at y1
        exact ⟨y1, Or.inl ⟨x, hq, rfl, y2, m1'⟩⟩
      · rw [if_neg (h5 q (by omega) (by omega))] at y2
        have hmq : mlen T (mlt q) i = m := by
          have h6 := h1 q (by omega) (by omega)
          rcases Nat.lt_or_ge x 5 with h | h
          · have := (y3 x h).1
            omega
          · obtain rfl : x = 5 := by omega
            omega
        rw [hmq] at y1
        exact ⟨y1, Or.inr ⟨y2, m1'⟩⟩
