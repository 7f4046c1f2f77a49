set_option maxRecDepth 100000
theorem clrX {w0 : Wd} {b nB N k : Nat} (hN : N ≤ 8) (k0 : w0.1 0 = nB) (hb : b < nB) (hk : k ≤ 4) (g1 : w0.2.1 (100 + 10 * b) 0 = nI k) (hNk : N = sN k) : ∀ (m s fuel : Nat) (w : Wd), s + m = N → m < fuel → AgD 101 w0 w → (∀ i, i ≠ b → w.2.1 (101 + 10 * i) = w0.2.1 (101 + 10 * i)) → (∀ t, w.2.1 (101 + 10 * b) t = if t < s then -1 else w0.2.1 (101 + 10 * b) t) → ∃ w', (∀ J, fx (fun _ _ => none) (bX_crew_L228 b J) fuel (nI s) w = J w') ∧ AgD 101 w0 w' ∧ (∀ i, i ≠ b → w'.2.1 (101 + 10 * i) = w0.2.1 (101 + 10 * i)) ∧ ∀ t, w'.2.1 (101 + 10 * b) t = if t < N then -1 else w0.2.1 (101 + 10 * b) t := by
  intro m
  induction m with
  | zero =>
    intro s fuel w hs hf hA hi ht
    obtain ⟨g, rfl⟩ : ∃ g, fuel = g + 1 := ⟨fuel - 1, by omega⟩
    obtain rfl : s = N := by omega
    refine ⟨w, fun J => ?_, hA, hi, ht⟩
    rw [fx_s]
    unfold bX_crew_L228
    rw [hA.1, k0, decide_eq_true hb, gd_t, sB_seats_v (k := k) (by rw [hA.1, k0]; exact hb) (by rw [hA.2.2 100 b (by decide) (by decide) (by decide)]; exact g1) hk, bd_s, ← hNk, if_pos (Int32.le_refl _)]
  | succ m ih =>
    intro s fuel w hs hf hA hi ht
    obtain ⟨g, rfl⟩ : ∃ g, fuel = g + 1 := ⟨fuel - 1, by omega⟩
    obtain ⟨w', r1, r2⟩ := ih (s + 1) g (stG w (101 + 10 * b) s (-1)) (by omega) (by omega) (hA.trans (AgD.st (by decide) (by decide))) (fun i h => by rw [stG_ne (by omega)]; exact hi i h) (fun t => by
      rw [stG_eq]
      by_cases h : t = s
      · rw [h, pk_us, if_pos (by omega)]
      · rw [pk_un h, ht t]
        by_cases h' : t < s
        · rw [if_pos h', if_pos (by omega)]
        · rw [if_neg h', if_neg (by omega)])
    refine ⟨w', fun J => ?_, r2⟩
    have r1s := r1 J
    rw [fx_s]
    generalize fx _ _ g = s1 at r1s ⊢
    unfold bX_crew_L228
    rw [hA.1, k0, decide_eq_true hb, sB_seats_v (k := k) (by rw [hA.1, k0]; exact hb) (by rw [hA.2.2 100 b (by decide) (by decide) (by decide)]; exact g1) hk, ← hNk, inb_nI (show s < 9 by omega) (by decide), clN (show s < 1073741824 by omega)]
    simp only [gd_t, bd_s, Bool.and_self, rd_t, nm_d, nI_1]
    rw [if_neg (fun z => absurd ((nIle (by omega) (by omega)).mp z) (by omega))]
    exact r1s
theorem putX {w0 : Wd} {b nB nO N : Nat} {ch cm : Nat → Int32} {x9 : Int32} (hN : N ≤ 8) (k0 : w0.1 0 = nB) (hb : b < nB) (bO : nO ≤ 16) (xO : w0.2.1 90 2 = nI nO) (hch : ∀ q, q < nO → w0.2.1 16 q = ch q) (hok : ChOk cm N nO ch) (h0 : ∀ t, t < N → w0.2.1 (101 + 10 * b) t = -1) : ∀ (m p fuel : Nat) (w : Wd), p + m = nO → m < fuel → AgD 101 w0 w → (∀ i, i ≠ b → w.2.1 (101 + 10 * i) = w0.2.1 (101 + 10 * i)) → (∀ t, N ≤ t → w.2.1 (101 + 10 * b) t = w0.2.1 (101 + 10 * b) t) → (∀ t, t < N → (∃ q, q < p ∧ ch q = nI t ∧ w.2.1 (101 + 10 * b) t = nI q) ∨ (w.2.1 (101 + 10 * b) t = -1 ∧ ∀ q, q < p → ¬ ch q = nI t)) → ∃ w', fx (fun _ _ => none) (bX_crew_L256 b x9) fuel (nI p) w = some (x9, w') ∧ AgD 101 w0 w' ∧ (∀ i, i ≠ b → w'.2.1 (101 + 10 * i) = w0.2.1 (101 + 10 * i)) ∧ (∀ t, N ≤ t → w'.2.1 (101 + 10 * b) t = w0.2.1 (101 + 10 * b) t) ∧ (∀ t, t < N → (∃ q, q < nO ∧ ch q = nI t ∧ w'.2.1 (101 + 10 * b) t = nI q) ∨ (w'.2.1 (101 + 10 * b) t = -1 ∧ ∀ q, q < nO → ¬ ch q = nI t)) := by
  intro m
  induction m with
  | zero =>
    intro p fuel w hp hf hA hi hge hlt
    obtain ⟨g, rfl⟩ : ∃ g, fuel = g + 1 := ⟨fuel - 1, by omega⟩
    obtain rfl : p = nO := by omega
    refine ⟨w, ?_, hA, hi, hge, hlt⟩
    rw [fx_s]
    unfold bX_crew_L256
    rw [hA.2.1 90 (by decide), xO, if_pos (Int32.le_refl _)]
  | succ m ih =>
    intro p fuel w hp hf hA hi hge hlt
    obtain ⟨g, rfl⟩ : ∃ g, fuel = g + 1 := ⟨fuel - 1, by omega⟩
    have e16 : w.2.1 16 p = ch p := by rw [hA.2.1 16 (by decide)]; exact hch p (by omega)
    rcases hok.1 p (by omega) with e | ⟨s, hs, e, -⟩
    · obtain ⟨w', r1, r2⟩ := ih (p + 1) g w (by omega) (by omega) hA hi hge (fun t ht => by
        rcases hlt t ht with ⟨q, hq, q1, q2⟩ | ⟨q1, q2⟩
        · exact Or.inl ⟨q, by omega, q1, q2⟩
        · refine Or.inr ⟨q1, fun q hq => ?_⟩
          rcases Nat.lt_or_ge q p with h | h
          · exact q2 q h
          · obtain rfl : q = p := by omega
            rw [e]; exact fun z => nI_nm1 (by omega) z.symm)
      refine ⟨w', ?_, r2⟩
      rw [fx_s]
      generalize fx _ _ g = s1 at r1 ⊢
      unfold bX_crew_L256
      rw [hA.2.1 90 (by decide), xO, if_neg (fun z => absurd ((nIle (by omega) (by omega)).mp z) (by omega)), inb_nI (show p < 16 by omega) (by decide), clN (show p < 1073741824 by omega), rd_t, e16, e, if_pos rfl, nm_d, nI_1]
      exact r1
    · obtain ⟨w', r1, r2⟩ := ih (p + 1) g (stG w (101 + 10 * b) s (nI p)) (by omega) (by omega) (hA.trans (AgD.st (by decide) (by decide))) (fun i h => by rw [stG_ne (by omega)]; exact hi i h) (fun t ht => by rw [stG_eq, pk_un (by omega)]; exact hge t ht) (fun t ht => by
        rw [stG_eq]
        by_cases h : t = s
        · rw [h, pk_us]; exact Or.inl ⟨p, by omega, e, rfl⟩
        · rw [pk_un h]
          rcases hlt t ht with ⟨q, hq, q1, q2⟩ | ⟨q1, q2⟩
          · exact Or.inl ⟨q, by omega, q1, q2⟩
          · refine Or.inr ⟨q1, fun q hq => ?_⟩
            rcases Nat.lt_or_ge q p with h' | h'
            · exact q2 q h'
            · obtain rfl : q = p := by omega
              rw [e]; exact fun z => h ((nIeq (by omega) (by omega)).mp z).symm)
      refine ⟨w', ?_, r2⟩
      rw [fx_s]
      generalize fx _ _ g = s1 at r1 ⊢
      unfold bX_crew_L256
      rw [hA.2.1 90 (by decide), xO, if_neg (fun z => absurd ((nIle (by omega) (by omega)).mp z) (by omega)), inb_nI (show p < 16 by omega) (by decide), clN (show p < 1073741824 by omega), rd_t, e16, e, if_neg (nI_nm1 (by omega)), hA.1, k0, decide_eq_true hb, gd_t, rd_t, inb_nI (show s < 9 by omega) (by decide), clN (show s < 1073741824 by omega)]
      simp only [Bool.and_self, rd_t, nm_d, nI_1]
      exact r1
theorem putM {v0 : Wd} {b nO N : Nat} {ch cm : Nat → Int32} {x6 : Int32} (hN : N ≤ 8) (bO : nO ≤ 16) (yO : v0.2.1 90 10 = nI nO) (hch : ∀ q, q < nO → v0.2.1 25 q = ch q) (hok : ChOk cm N nO ch) : ∀ (m p fuel : Nat) (v : Wd), p + m = nO → m < fuel → Ag [2, 3] [] v0 v → (∀ q, v.2.1 2 q = if q < p then (if ch q = -1 then (if v0.2.1 2 q = nI b ∧ ¬ v0.2.1 3 q = 8 then -1 else v0.2.1 2 q) else nI b) else v0.2.1 2 q) → (∀ q, v.2.1 3 q = if q < p then (if ch q = -1 then v0.2.1 3 q else ch q) else v0.2.1 3 q) → ∃ v', fx (fun _ _ => none) (bM_crew_L229 (nI b) x6) fuel (nI p) v = some (x6, v') ∧ Ag [2, 3] [] v0 v' ∧ (∀ q, v'.2.1 2 q = if q < nO then (if ch q = -1 then (if v0.2.1 2 q = nI b ∧ ¬ v0.2.1 3 q = 8 then -1 else v0.2.1 2 q) else nI b) else v0.2.1 2 q) ∧ (∀ q, v'.2.1 3 q = if q < nO then (if ch q = -1 then v0.2.1 3 q else ch q) else v0.2.1 3 q) := by
  intro m
  induction m with
  | zero =>
    intro p fuel v hp hf hA h2 h3
    obtain ⟨g, rfl⟩ : ∃ g, fuel = g + 1 := ⟨fuel - 1, by omega⟩
    obtain rfl : p = nO := by omega
    refine ⟨v, ?_, hA, h2, h3⟩
    rw [fx_s]
    unfold bM_crew_L229
    rw [hA.2.2 10 (by simp), yO, if_pos (Int32.le_refl _)]
  | succ m ih =>
    intro p fuel v hp hf hA h2 h3
    obtain ⟨g, rfl⟩ : ∃ g, fuel = g + 1 := ⟨fuel - 1, by omega⟩
    have e25 : ∀ u : Wd, u.2.1 25 = v.2.1 25 → u.2.1 25 p = ch p := fun u hu => by rw [hu, hA.2.1 25 (by decide) (by decide)]; exact hch p (by omega)
    have e2 : v.2.1 2 p = v0.2.1 2 p := by rw [h2 p, if_neg (by omega)]
    have e3 : v.2.1 3 p = v0.2.1 3 p := by rw [h3 p, if_neg (by omega)]
    let u : Wd := if v0.2.1 2 p = nI b ∧ ¬ v0.2.1 3 p = 8 then stG v 2 p (-1) else v
    have hu25 : u.2.1 25 = v.2.1 25 := by
      show (if v0.2.1 2 p = nI b ∧ ¬ v0.2.1 3 p = 8 then stG v 2 p (-1) else v).2.1 25 = _
      split
      · rw [stG_ne (by decide)]
      · rfl
    have huA : Ag [2, 3] [] v0 u := by
      show Ag [2, 3] [] v0 (if v0.2.1 2 p = nI b ∧ ¬ v0.2.1 3 p = 8 then stG v 2 p (-1) else v)
      split
      · exact hA.trans (Ag.st (by decide) (by decide))
      · exact hA
    have hu3 : u.2.1 3 = v.2.1 3 := by
      show (if v0.2.1 2 p = nI b ∧ ¬ v0.2.1 3 p = 8 then stG v 2 p (-1) else v).2.1 3 = _
      split
      · rw [stG_ne (by decide)]
      · rfl
    have hu2 : ∀ q, u.2.1 2 q = if q = p then (if v0.2.1 2 p = nI b ∧ ¬ v0.2.1 3 p = 8 then -1 else v0.2.1 2 p) else v.2.1 2 q := by
      intro q
      show (if v0.2.1 2 p = nI b ∧ ¬ v0.2.1 3 p = 8 then stG v 2 p (-1) else v).2.1 2 q = _
      by_cases hc : v0.2.1 2 p = nI b ∧ ¬ v0.2.1 3 p = 8
      · rw [if_pos hc, if_pos hc, stG_eq]
        by_cases h : q = p
        · rw [h, pk_us, if_pos rfl]
        · rw [pk_un h, if_neg h]
      · rw [if_neg hc, if_neg hc]
        by_cases h : q = p
        · rw [h, if_pos rfl, e2]
        · rw [if_neg h]
    have st : ∀ s1, bM_crew_L229 (nI b) x6 s1 (nI p) v = if 0 ≤ ch p then s1 (nI (p + 1)) (stG (stG u 2 p (nI b)) 3 p (ch p)) else s1 (nI (p + 1)) u := by
      intro s1
      have tail : ∀ u' : Wd, u'.2.1 25 = v.2.1 25 → (rd true (u'.2.1 25 p) fun v18 => if 0 ≤ v18 then (rd true (stG u' 2 p (nI b)) fun w19 => rd true (w19.2.1 25 p) fun v20 => rd true (stG w19 3 p v20) fun w21 => nm (nI p + 1) fun x22 => s1 x22 w21) else (nm (nI p + 1) fun x23 => s1 x23 u')) = if 0 ≤ ch p then s1 (nI (p + 1)) (stG (stG u' 2 p (nI b)) 3 p (ch p)) else s1 (nI (p + 1)) u' := by
        intro u' hu'
        simp only [rd_t, nm_d, nI_1]
        rw [e25 u' hu', stG_ne (show (25 : Nat) ≠ 2 by decide), e25 u' hu']
      unfold bM_crew_L229
      rw [hA.2.2 10 (by simp), yO, if_neg (fun z => absurd ((nIle (by omega) (by omega)).mp z) (by omega)), inb_nI (show p < 16 by omega) (by decide), clN (show p < 1073741824 by omega), rd_t, e2, jn_d]
      show _ = if 0 ≤ ch p then s1 (nI (p + 1)) (stG (stG (if v0.2.1 2 p = nI b ∧ ¬ v0.2.1 3 p = 8 then stG v 2 p (-1) else v) 2 p (nI b)) 3 p (ch p)) else s1 (nI (p + 1)) (if v0.2.1 2 p = nI b ∧ ¬ v0.2.1 3 p = 8 then stG v 2 p (-1) else v)
      by_cases hb2 : v0.2.1 2 p = nI b
      · rw [if_pos hb2, rd_t, e3]
        by_cases h8 : v0.2.1 3 p = 8
        · rw [if_pos h8, if_neg (show ¬ (v0.2.1 2 p = nI b ∧ ¬ v0.2.1 3 p = 8) from fun z => z.2 h8)]
          exact tail v rfl
        · rw [if_neg h8, if_pos (show v0.2.1 2 p = nI b ∧ ¬ v0.2.1 3 p = 8 from ⟨hb2, h8⟩), rd_t]
          exact tail (stG v 2 p (-1)) (stG_ne (show (25 : Nat) ≠ 2 by decide))
      · rw [if_neg hb2, if_neg (show ¬ (v0.2.1 2 p = nI b ∧ ¬ v0.2.1 3 p = 8) from fun z => hb2 z.1)]
        exact tail v rfl
    rcases hok.1 p (by omega) with e | ⟨s, hs, e, -⟩
    · obtain ⟨v', r1, r2⟩ := ih (p + 1) g u (by omega) (by omega) huA (fun q => by
        rw [hu2 q]
        by_cases h : q = p
        · rw [h, if_pos rfl, if_pos (show p < p + 1 by omega), e, if_pos rfl]
        · rw [if_neg h, h2 q]
          by_cases h' : q < p
          · rw [if_pos h', if_pos (show q < p + 1 by omega)]
          · rw [if_neg h', if_neg (show ¬ q < p + 1 by omega)]) (fun q => by
        rw [hu3, h3 q]
        by_cases h : q = p
        · rw [h, if_neg (show ¬ p < p by omega), if_pos (show p < p + 1 by omega), e, if_pos rfl]
        · by_cases h' : q < p
          · rw [if_pos h', if_pos (show q < p + 1 by omega)]
          · rw [if_neg h', if_neg (show ¬ q < p + 1 by omega)])
      refine ⟨v', ?_, r2⟩
      rw [fx_s, st, e, if_neg (show ¬ (0 : Int32) ≤ -1 by decide)]
      exact r1
    · have en : ¬ ch p = -1 := by rw [e]; exact nI_nm1 (by omega)
      obtain ⟨v', r1, r2⟩ := ih (p + 1) g (stG (stG u 2 p (nI b)) 3 p (ch p)) (by omega) (by omega) ((huA.trans (Ag.st (by decide) (by decide))).trans (Ag.st (by decide) (by decide))) (fun q => by
        rw [stG_ne (show (2 : Nat) ≠ 3 by decide), stG_eq]
        by_cases h : q = p
        · rw [h, pk_us, if_pos (show p < p + 1 by omega), if_neg en]
        · rw [pk_un h, hu2 q, if_neg h, h2 q]
          by_cases h' : q < p
          · rw [if_pos h', if_pos (show q < p + 1 by omega)]
          · rw [if_neg h', if_neg (show ¬ q < p + 1 by omega)]) (fun q => by
        rw [stG_eq, stG_ne (show (3 : Nat) ≠ 2 by decide)]
        by_cases h : q = p
        · rw [h, pk_us, if_pos (show p < p + 1 by omega), if_neg en]
        · rw [pk_un h, hu3, h3 q]
          by_cases h' : q < p
          · rw [if_pos h', if_pos (show q < p + 1 by omega)]
          · rw [if_neg h', if_neg (show ¬ q < p + 1 by omega)])
      refine ⟨v', ?_, r2⟩
      rw [fx_s, st, if_pos (by rw [e]; exact nI_pos' (by omega))]
      exact r1
