set_option maxRecDepth 100000
theorem stopX {R f : Nat} {w : Wd} (hf : 0 < f) : fx (fun _ _ => none) (bX_read_L134 R) f 0 w = some w := by
  obtain ⟨g, rfl⟩ : ∃ g, f = g + 1 := ⟨f - 1, by omega⟩
  rw [fx_s]
  unfold bX_read_L134
  rw [if_pos z00]
theorem tests_v {T : Nat → Int32} {nP R : Nat} (bP : nP ≤ 120) (hT : ∀ q, nP ≤ q → T q = -1) (hR10 : R < 10) : ∀ (m z i f f' : Nat) (w v : Wd), z + m = 3 → 0 < m → m + 1 < f → m < f' → i ≤ nP → TX T nP w → TM T nP v → R < w.1 2 → v.2.1 90 30 = nI R → w.2.1 (103 + 10 * R) 2 = nI z → v.2.1 34 R = nI z → (∀ j, z ≤ j → j < 3 → w.2.1 (107 + 10 * R) j = 0) → (∀ j, j < z → TestAt R j (12 * R + 4 * j) w v) → w.2.1 90 23 = nI i → w.2.1 90 24 = 0 → v.2.1 90 36 = nI i → ∃ (s : Int32) (j : Nat) (w' v' : Wd), fx (fun _ _ => none) (bX_read_L134 R) f 1 w = some w' ∧ fx (fun _ => none) bM_parses_L126 f' v = some (s, v') ∧ XR R w w' ∧ MR R v v' ∧ j ≤ nP ∧ w'.2.1 90 23 = nI j ∧ v'.2.1 90 36 = nI j ∧ ((s = 1 ∧ w'.2.1 90 24 = 0 ∧ ∃ z', z' ≤ 3 ∧ w'.2.1 (103 + 10 * R) 2 = nI z' ∧ v'.2.1 34 R = nI z' ∧ ∀ j, j < z' → TestAt R j (12 * R + 4 * j) w' v') ∨ (s = 0 ∧ w'.2.1 90 24 = 1)) := by
  intro m
  induction m with
  | zero => intro z i f f' w v hz h0; omega
  | succ m ih =>
    intro z i f f' w v hz h0 hf hf' hi hX hM hR yU es ys hn ht e1 e2 e3
    obtain ⟨g, rfl⟩ : ∃ g, f = g + 1 := ⟨f - 1, by omega⟩
    obtain ⟨g', rfl⟩ : ∃ g, f' = g + 1 := ⟨f' - 1, by omega⟩
    obtain ⟨s, j1, w1, v1, x1, m1, xf, mf, mo, hj1, p23, p36, hs⟩ := test_both (A := 12 * R + 4 * z) bP hT hX hM hi hR (by omega) (by omega) es (hn z (by omega) (by omega)) e1 e2 e3
    have ixA : (12 : Int32) * nI R + 4 * nI z = nI (12 * R + 4 * z) := by rw [show (12 : Int32) = nI 12 from rfl, show (4 : Int32) = nI 4 from rfl, pk_mul, pk_mul, nI_add]
    have yU1 : v1.2.1 90 30 = nI R := (mf.2.2 30 (by decide)).trans yU
    have ys1 : v1.2.1 34 R = nI z := by rw [mf.2.1 34 (by decide) (by decide)]; exact ys
    have hX1 := hX.xf xf
    have hM1 : TM T nP v1 := ⟨(mf.2.2 29 (by decide)).trans hM.1, fun q hq => by rw [mf.2.1 28 (by decide) (by decide)]; exact hM.2 q hq⟩
    rw [fx_s, fx_s]
    have st0 := fun w => stopX (R := R) (f := g) (w := w) (by omega)
    have ihx := fun i w v => ih (z + 1) i g g' w v (by omega)
    generalize fx _ _ g = s1 at st0 ihx ⊢
    generalize fx _ _ g' = s2 at ihx ⊢
    unfold bX_read_L134 bM_parses_L126
    rw [if_neg n10, x1, bd_s, yU, inb_nI hR10 (by decide), clN (show R < 1073741824 by omega), rd_t, ys, ixA, m1, bd2_s]
    simp only [jn_d, nm_d, if_true]
    rcases hs with ⟨rfl, q24, qs, qt, qo⟩ | ⟨rfl, q24⟩
    rotate_left
    · simp only [q24, n10, if_false, if_true]
      rw [st0]
      exact ⟨0, j1, w1, v1, rfl, rfl, xf.r, ⟨mf.mono (by simp) (by simp), fun r _ => by rw [mf.2.1 34 (by decide) (by decide)], fun q hq => mo q (by omega)⟩, hj1, p23, p36, Or.inr ⟨rfl, q24⟩⟩
    have hR1 : R < w1.1 2 := by rw [xf.1]; exact hR
    have mf34 : ∀ x, MR R v (stG v1 34 R x) := fun x => ⟨(mf.mono (by simp) (by simp)).trans (Ag.st (by decide) (by decide)), fun r hr => by rw [stG_eq, pk_un hr, mf.2.1 34 (by decide) (by decide)], fun q hq => by rw [stG_ne (by decide)]; exact mo q (by omega)⟩
    have hall : ∀ q, q < z + 1 → TestAt R q (12 * R + 4 * q) w1 v1 := by
      intro q hq
      rcases Nat.lt_or_ge q z with h | h
      · exact (ht q h).keep (fun t h1 h2 => xf.2.2.2.1 t q h1 h2 (by omega)) (fun k h1 h2 => qo k (Or.inl (by omega)))
      · obtain rfl : q = z := by omega
        exact qt
    have hall2 : ∀ u : Wd, u.2.1 35 = v1.2.1 35 → ∀ q, q < z + 1 → TestAt R q (12 * R + 4 * q) w1 u := fun u hu q hq => (hall q hq).keep (fun _ _ _ => rfl) (fun k _ _ => by rw [hu])
    rw [q24, if_pos z00, if_neg n10, yU1, inb_nI hR10 (by decide), clN (show R < 1073741824 by omega)]
    simp only [rd_t]
    rw [ys1, nI_1]
    have c30 : (stG v1 34 R (nI (z + 1))).2.1 90 30 = nI R := by rw [stG_ne (by decide)]; exact yU1
    have c36 : (stG v1 34 R (nI (z + 1))).2.1 90 36 = nI j1 := by rw [stG_ne (by decide)]; exact p36
    have c29 : (stG v1 34 R (nI (z + 1))).2.1 90 29 = nI nP := by rw [stG_ne (by decide)]; exact hM1.1
    have c34 : (stG v1 34 R (nI (z + 1))).2.1 34 R = nI (z + 1) := by rw [stG_eq, pk_us]
    rw [c30, c36, c29, inb_nI hR10 (by decide), clN (show R < 1073741824 by omega), rd_t, c34, hX1.1, p23]
    by_cases hend : j1 = nP
    · rw [if_pos (show nI j1 = nI nP by rw [hend]), if_pos ((nIle (by omega) (by omega)).mpr (by omega))]
      try simp only [if_true]
      rw [st0]
      exact ⟨1, j1, w1, _, rfl, rfl, xf.r, mf34 _, hj1, p23, c36, Or.inl ⟨rfl, q24, z + 1, by omega, qs, c34, hall2 _ (stG_ne (by decide))⟩⟩
    rw [if_neg (show ¬ nI j1 = nI nP from fun q => hend ((nIeq (by omega) (by omega)).mp q)), if_neg (show ¬ nI nP ≤ nI j1 from fun q => absurd ((nIle (by omega) (by omega)).mp q) (by omega))]
    simp only [n10, if_false]
    rw [decide_eq_true hR1, rd_t, qs]
    by_cases h3 : z + 1 = 3
    · rw [h3, if_pos (show nI 3 = (3 : Int32) from rfl), if_pos (show nI 3 = (3 : Int32) from rfl), signs_wrong (by decide) f90s, bd_s, f90s]
      simp only [n10, if_false]
      rw [st0]
      refine ⟨0, j1, _, _, rfl, rfl, xf.r.trans (XF.ag (z := z) (Ag.sf (by decide))).r, mf34 _, hj1, by rw [f90n (by decide)]; exact p23, ?_, Or.inr ⟨rfl, f90s⟩⟩
      rw [stG_ne (by decide)]; exact p36
    · have h3' : ¬ nI (z + 1) = (3 : Int32) := fun q => h3 ((nIeq (b := 3) (by omega) (by decide)).mp q)
      rw [if_neg h3', if_neg h3']
      obtain ⟨w2, s1', s2', -, s3', s4'⟩ := signs0 (S := 16) (i := j1) bP hT (by decide) (by omega) hX1 p23 q24
      have sb : sbyts.getD 16 [] = [38] := by decide
      have ml : mlen T [38] j1 = if T j1 = 38 then 1 else 0 := by unfold mlen mlen; rfl
      rw [sb, ml] at s3' s4'
      have hM2 : TM T nP (stG v1 34 R (nI (z + 1))) := ⟨c29, fun q hq => by rw [stG_ne (by decide)]; exact hM1.2 q hq⟩
      rw [s1', bd_s, takes_v 38 bP hT hM2 (show j1 < 1000 by omega) c36]
      have xr2 : XR R w w2 := xf.r.trans (XF.ag (z := z) s2').r
      by_cases h38 : T j1 = 38
      · rw [if_pos h38] at s3' ⊢
        rw [if_pos h38, if_pos (show 1 = [(38 : Int32)].length from rfl)] at s4'
        rw [s4', bd2_s]
        simp only [n10, if_false, if_true]
        have row2 : ∀ q, q ≠ 90 → w2.2.1 q = w1.2.1 q := fun q h => s2'.2.1 q h (by simp)
        obtain ⟨s, j, w', v', r1, r2, r3, r4, r5⟩ := ihx (j1 + 1) w2 (stG (stG v1 34 R (nI (z + 1))) 90 36 (nI (j1 + 1))) (by omega) (by omega) (by omega) (by omega) (hX1.ag s2') (hM2.ag (Ag.sf (by decide))) (by rw [s2'.1]; exact hR1) (by rw [f90n (by decide)]; exact c30) (by rw [row2 _ (by omega)]; exact qs) (by rw [stG_ne (by decide)]; exact c34) (fun q h1 h2 => by rw [row2 _ (by omega), xf.2.2.2.1 107 q (by decide) (by decide) (by omega)]; exact hn q (by omega) h2) (fun q hq => (hall q hq).keep (fun t h1 h2 => by rw [row2 _ (by omega)]) (fun k _ _ => by rw [stG_ne (by decide), stG_ne (by decide)])) s3' s4' f90s
        refine ⟨s, j, w', v', r1, r2, xr2.trans r3, ((mf34 _).trans ⟨(Ag.sf (by decide)), fun r _ => by rw [stG_ne (by decide)], fun q _ => by rw [stG_ne (by decide)]⟩).trans r4, r5⟩
      · rw [if_neg h38] at s3' ⊢
        rw [if_neg h38, if_neg (by decide)] at s4'
        rw [s4', bd2_s]
        simp only [n10, if_false, if_true]
        rw [st0]
        exact ⟨0, j1, w2, _, rfl, rfl, xr2, mf34 _, hj1, s3', c36, Or.inr ⟨rfl, s4'⟩⟩
