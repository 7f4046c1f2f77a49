set_option maxRecDepth 100000
theorem takes_v {T : Nat → Int32} {nP i : Nat} {v : Wd} (c : Int32) (bP : nP ≤ 120) (hT : ∀ q, nP ≤ q → T q = -1) (hM : TM T nP v) (hi : i < 1000) (e : v.2.1 90 36 = nI i) : sM_takes v c = if T i = c then some (1, stG v 90 36 (nI (i + 1))) else some (0, v) := by
  unfold sM_takes
  rw [sign_v bP hT hM hi e, bd_s, e, nI_1, nm_d]
/-- a single word: the model's walk is its letters' -/
theorem one_v {T : Nat → Int32} {nP i x : Nat} {v : Wd} (bP : nP ≤ 120) (hT : ∀ q, nP ≤ q → T q = -1) (hM : TM T nP v) (hx : x < 16) (hi : i < 800) (e : v.2.1 90 36 = nI i) : ∃ v', Ag [] [36] v v' ∧ v'.2.1 90 36 = nI (i + mlen T (mlt x) i) ∧ sM_word v (nI x) (nI x) = some (if mlen T (mlt x) i = (mlt x).length then nI x else -1, v') := by
  obtain ⟨rm, m, v', m1, m2, m3, m4, m5, m6⟩ := wordM (a := x) (b := x) bP hT hM hx (Nat.le_refl _) hi e
  rcases m6 with ⟨y, h1, h2, h3, h4, rfl⟩ | ⟨rfl, h1, ⟨y, h2, h3, h4⟩, h5⟩
  · obtain rfl : y = x := by omega
    refine ⟨v', m2, by rw [m3, h3, h4], ?_⟩
    rw [m1, if_pos h3]
  · obtain rfl : y = x := by omega
    refine ⟨v', m2, by rw [m3, h4], ?_⟩
    rw [m1, if_neg (h5 y (by omega) (by omega))]
theorem if_v {T : Nat → Int32} {nP i : Nat} {v : Wd} (bP : nP ≤ 120) (hT : ∀ q, nP ≤ q → T q = -1) (hM : TM T nP v) (hi : i < 500) (e : v.2.1 90 36 = nI i) : ∃ v', Ag [] [36] v v' ∧ v'.2.1 90 36 = nI (i + mlen T (sbyts.getD 15 []) i) ∧ ∀ K : Wd → Option (Int32 × Wd), (bd2 (sM_takes v 32) fun v15 w16 => if v15 = 0 then some (0, w16) else bd2 (sM_word w16 15 15) fun v17 w18 => if v17 < 0 then some (0, w18) else bd2 (sM_takes w18 32) fun v19 w20 => if v19 = 0 then some (0, w20) else K w20) = if mlen T (sbyts.getD 15 []) i = (sbyts.getD 15 []).length then K v' else some (0, v') := by
  have hs : sbyts.getD 15 [] = 32 :: (mlt 15 ++ [32]) := by decide
  have hl : (mlt 15).length = 2 := by decide
  rw [hs, takes_v 32 bP hT hM (by omega) e]
  unfold mlen
  rw [List.length_cons, List.length_append, hl]
  by_cases h : T i = 32
  rotate_left
  · rw [if_neg h, if_neg h]
    refine ⟨v, Ag.rfl, e, fun K => ?_⟩
    rw [bd2_s, if_pos z00, if_neg (by decide)]
  rw [if_pos h, if_pos h]
  have a1 : Ag [] [36] v (stG v 90 36 (nI (i + 1))) := Ag.sf (by decide)
  obtain ⟨v1, b1, b2, b3⟩ := one_v (x := 15) bP hT (hM.ag a1) (by decide) (show i + 1 < 800 by omega) f90s
  have b3' : sM_word (stG v 90 36 (nI (i + 1))) 15 15 = some (if mlen T (mlt 15) (i + 1) = (mlt 15).length then nI 15 else -1, v1) := b3
  rw [mlen_app, hl]
  rw [hl] at b3'
  by_cases h2 : mlen T (mlt 15) (i + 1) = 2
  rotate_left
  · rw [if_neg h2]
    rw [if_neg h2] at b3'
    have := mlen_le T (mlt 15) (i + 1)
    refine ⟨v1, a1.trans b1, by rw [b2]; congr 1; omega, fun K => ?_⟩
    rw [bd2_s, if_neg n10, b3', bd2_s, if_pos (show (-1 : Int32) < 0 by decide), if_neg (by rw [List.length_singleton]; omega)]
  rw [if_pos h2]
  rw [if_pos h2] at b3'
  rw [h2] at b2
  have tk := takes_v (i := i + 1 + 2) 32 bP hT ((hM.ag a1).ag b1) (by omega) b2
  by_cases h3 : T (i + 1 + 2) = 32
  · rw [if_pos h3] at tk ⊢
    refine ⟨stG v1 90 36 (nI (i + 1 + 2 + 1)), (a1.trans b1).trans (Ag.sf (by decide)), by rw [f90s], fun K => ?_⟩
    rw [bd2_s, if_neg n10, b3', bd2_s, if_neg (show ¬ nI 15 < 0 by decide), tk, bd2_s, if_neg n10, if_pos (by rw [List.length_singleton])]
  · rw [if_neg h3] at tk ⊢
    refine ⟨v1, a1.trans b1, by rw [b2], fun K => ?_⟩
    rw [bd2_s, if_neg n10, b3', bd2_s, if_neg (show ¬ nI 15 < 0 by decide), tk, bd2_s, if_pos z00, if_neg (by rw [List.length_singleton]; omega)]
theorem head_v {T : Nat → Int32} {nP : Nat} {v : Wd} (bP : nP ≤ 120) (hT : ∀ q, nP ≤ q → T q = -1) (hM : TM T nP v) (e : v.2.1 90 36 = nI 0) : ∃ v', Ag [] [36] v v' ∧ v'.2.1 90 36 = nI (mlen T (sbyts.getD (if T 0 = 98 then 13 else 14) []) 0) ∧ ∀ K : Int32 → Wd → Option (Int32 × Wd), (bd2 (sM_word v 6 7) fun v2 w3 => if v2 < 0 then some (0, w3) else bd2 (sM_takes w3 32) fun v5 w6 => if v5 = 0 then some (0, w6) else K v2 w6) = if mlen T (sbyts.getD (if T 0 = 98 then 13 else 14) []) 0 = (sbyts.getD (if T 0 = 98 then 13 else 14) []).length then K (nI (if T 0 = 98 then 7 else 6)) v' else some (0, v') := by
  have s13 : sbyts.getD 13 [] = mlt 7 ++ [32] := by decide
  have s14 : sbyts.getD 14 [] = mlt 6 ++ [32] := by decide
  have l6 : (mlt 6).length = 3 := by decide
  have l7 : (mlt 7).length = 3 := by decide
  obtain ⟨rm, m, v1, m1, m2, m3, m4, m5, m6⟩ := wordM (a := 6) (b := 7) bP hT hM (by decide) (by decide) (show 0 < 800 by decide) e
  have m1' : sM_word v 6 7 = some (rm, v1) := m1
  rw [Nat.zero_add] at m3
  generalize hX : (if T 0 = 98 then 7 else 6 : Nat) = X
  have hS : sbyts.getD (if T 0 = 98 then 13 else 14) [] = mlt X ++ [32] := by
    rw [← hX]
    by_cases h : T 0 = 98
    · rw [if_pos h, if_pos h]; exact s13
    · rw [if_neg h, if_neg h]; exact s14
  have hX67 : X = 6 ∨ X = 7 := by
    rw [← hX]; split; exact Or.inr rfl; exact Or.inl rfl
  have lX : (mlt X).length = 3 := by rcases hX67 with h | h <;> rw [h]; exact l6; exact l7
  have other : ∀ x, 6 ≤ x → x ≤ 7 → x ≠ X → mlen T (mlt x) 0 = 0 := by
    intro x h1 h2 hne
    rcases Nat.eq_zero_or_pos (mlen T (mlt x) 0) with h | h
    · exact h
    · have q := ((mlen_iff T (mlt x) 0 1).mp h).2 0 (by omega)
      rw [Nat.add_zero] at q
      have hx67 : x = 6 ∨ x = 7 := by omega
      rcases hx67 with rfl | rfl
      · have q' : (108 : Int32) = T 0 := q
        rw [← q', if_neg (by decide)] at hX
        exact absurd hX.symm (by omega)
      · have q' : (98 : Int32) = T 0 := q
        rw [← q', if_pos rfl] at hX
        exact absurd hX (by omega)
  rw [hS, mlen_app, List.length_append, List.length_singleton, lX]
  rcases m6 with ⟨x, h1, h2, h3, h4, rfl⟩ | ⟨rfl, h1, ⟨x, h2, h3, h4⟩, h5⟩
  · have hxX : x = X := by
      by_cases h : x = X
      · exact h
      · rw [other x h1 h2 h] at h3
        have := (mlt_len (show x < 16 by omega)).1
        omega
    subst hxX
    rw [lX] at h3 h4
    subst h4
    rw [if_pos h3]
    have tk := takes_v (i := 3) 32 bP hT (hM.ag m2) (by omega) m3
    rw [Nat.zero_add]
    by_cases h3' : T 3 = 32
    · rw [if_pos h3'] at tk ⊢
      refine ⟨stG v1 90 36 (nI 4), m2.trans (Ag.sf (by decide)), f90s, fun K => ?_⟩
      rw [m1', bd2_s, if_neg (show ¬ nI x < 0 from nI_pos (by omega)), tk, bd2_s, if_neg n10, if_pos rfl]
    · rw [if_neg h3'] at tk ⊢
      refine ⟨v1, m2, m3, fun K => ?_⟩
      rw [m1', bd2_s, if_neg (show ¬ nI x < 0 from nI_pos (by omega)), tk, bd2_s, if_pos z00, if_neg (by decide)]
  · have hXn : ¬ mlen T (mlt X) 0 = 3 := by
      have := h5 X (by omega) (by omega)
      rw [lX] at this
      exact this
    have hmX : mlen T (mlt X) 0 = m := by
      have a1 := h1 X (by omega) (by omega)
      by_cases h : x = X
      · rw [← h]; exact h4
      · rw [other x h2 h3 h] at h4
        omega
    have hm3 := mlen_le T (mlt X) 0
    rw [if_neg hXn, hmX]
    refine ⟨v1, m2, m3, fun K => ?_⟩
    rw [m1', bd2_s, if_pos (show (-1 : Int32) < 0 by decide), if_neg (by omega)]
