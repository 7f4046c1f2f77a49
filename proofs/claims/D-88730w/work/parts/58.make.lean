set_option maxRecDepth 100000
theorem kcase {k : Nat} {P : Nat → Prop} (hk : k ≤ 4) (h0 : P 0) (h1 : P 1) (h2 : P 2) (h3 : P 3) (h4 : P 4) : P k := k5 hk h0 h1 h2 h3 h4
theorem stG_comm {w : Wd} {a b j k : Nat} {x y : Int32} (h : a ≠ b) : stG (stG w a j x) b k y = stG (stG w b k y) a j x := by
  refine Prod.ext rfl (Prod.ext ?_ rfl)
  funext r
  show (stG (stG w a j x) b k y).2.1 r = (stG (stG w b k y) a j x).2.1 r
  by_cases hb : r = b
  · subst hb
    rw [stG_eq, stG_ne (Ne.symm h), stG_ne (Ne.symm h), stG_eq]
  · rw [stG_ne hb]
    by_cases ha : r = a
    · subst ha
      rw [stG_eq, stG_eq, stG_ne hb]
    · rw [stG_ne ha, stG_ne ha, stG_ne hb]
theorem op_oar : Op_oar Rel := by
  intro w v a1 a2 hR
  have hR0 := hR
  obtain ⟨nO, nB, nC, nU, nT, nL, nH, nP, d, hC, hO, hB, hS, hRc, hV, hT, hU, hG, hL, hH, hK⟩ := hR
  have C := hC
  obtain ⟨⟨bO, bB, bC, bU, bT, bL, bH, bP, bD⟩, ⟨k0, k1, k2, k3, k4, k5⟩, ⟨xO, xB, xD, xC, xU, xP, xT, xL, xH⟩, ⟨yO, yB, yD, yC, yU, yP, yT, yL, yH⟩, hnr, hn0, hn9⟩ := C
  unfold sX_oar sM_oar
  rw [sX_in_v, sM_isIn_v, sX_in_v, sM_isIn_v]
  simp only [bd_s]
  by_cases h1 : (0 : Int64).toInt ≤ a1.toInt ∧ a1.toInt ≤ (4 : Int64).toInt
  · rw [b1_t h1, if_neg n10, if_neg n10]
    by_cases h2 : (30 : Int64).toInt ≤ a2.toInt ∧ a2.toInt ≤ (150 : Int64).toInt
    · rw [b1_t h2, if_neg n10, if_neg n10, xO, yO]
      by_cases h16 : nO = 16
      · subst h16
        exact fin3 rfl rfl hR0
      have hn16 : ¬ nI nO = 16 := fun z => h16 ((nIeq (a := nO) (b := 16) (by omega) (by decide)).mp z)
      rw [if_neg hn16, if_neg hn16]
      have hlt : nO < 16 := by omega
      have hin : inb (nI nO) 16 = true := inb_nI hlt (by decide)
      have hcl : (nI nO).toNatClampNeg = nO := clN (by omega)
      have i4 : (4 : Int64).toInt = 4 := by decide
      have i0 : (0 : Int64).toInt = 0 := by decide
      have i30 : (30 : Int64).toInt = 30 := by decide
      have i150 : (150 : Int64).toInt = 150 := by decide
      obtain ⟨k, hk, rfl⟩ := ix_of (x := a1) (n := 5) (by omega)
      obtain ⟨wt, hwt, rfl⟩ := ix_of (x := a2) (n := 151) (by omega)
      have hwt3 : 30 ≤ wt := by have h := h2.1; rw [nTi (by omega)] at h; omega
      have hkc : kcls (nI k) = (if k = 2 then 1 else if k = 3 then 2 else if k = 4 then 3 else 0) := kcase (P := fun k => kcls (nI k) = (if k = 2 then 1 else if k = 3 then 2 else if k = 4 then 3 else 0)) (by omega) rfl rfl rfl rfl rfl
      generalize hwa : addO w (kcls (nI k)) (nI nO) (nI wt) (nI k) = wa
      have p1 : ∀ i, i ≠ 1 → i ≠ 108 + 10 * nO → wa.1 i = w.1 i := by
        intro i g1 g2
        rw [← hwa]
        show (if i = 1 then _ else if i = 108 + 10 * w.1 1 then _ else _) = _
        rw [if_neg g1, k1, if_neg g2]
      have p2 : wa.1 1 = nO + 1 := by rw [← hwa]; show w.1 1 + 1 = _; rw [k1]
      have p3 : wa.1 (108 + 10 * nO) = kcls (nI k) := by
        rw [← hwa]
        show (if 108 + 10 * nO = 1 then _ else if 108 + 10 * nO = 108 + 10 * w.1 1 then _ else _) = _
        rw [if_neg (by omega), k1, if_pos rfl]
      have p4 : ∀ r, r ≠ 102 + 10 * nO → wa.2.1 r = w.2.1 r := by
        intro r g
        rw [← hwa]
        show (if r = 102 + 10 * w.1 1 then _ else _) = _
        rw [k1, if_neg g]
      have p5 : wa.2.1 (102 + 10 * nO) = fun j => if j = 0 then nI nO else if j = 1 then nI wt else if j = 3 then nI k else 0 := by
        rw [← hwa]
        show (if 102 + 10 * nO = 102 + 10 * w.1 1 then _ else _) = _
        rw [k1, if_pos rfl]
      have hkl : kcls (nI k) < 4 := by rw [hkc]; exact kcase (P := fun k => (if k = 2 then 1 else if k = 3 then 2 else if k = 4 then 3 else 0) < 4) (by omega) (by decide) (by decide) (by decide) (by decide) (by decide)
      have hg : (inb (nI nO) 16 && (oOk wa (w.1 1) && (decide ((nI nO).toNatClampNeg = wa.1 4) && decide (w.1 1 = wa.1 4)))) = true := by
        unfold oOk
        rw [hin, hcl, p1 4 (by decide) (by omega), k4, k1, p2, p3]
        simp [hkl]
      rw [k4, k1, decide_eq_true (Nat.le_refl nO), rd_t]
      rw [k1] at hg
      rw [hg, rd_t, hin, hcl]
      have xi : (incA wa 4).2.1 90 2 = nI nO := by show wa.2.1 90 2 = _; rw [p4 90 (by omega)]; exact xO
      simp only [rd_t, nm_d, xi, nI_1, f90s, nI_pred, f90 (show (0 : Nat) ≠ 90 by decide), f90 (show (1 : Nat) ≠ 90 by decide), f90 (show (2 : Nat) ≠ 90 by decide), yO, hin, hcl]
      generalize hw' : stG (incA wa 4) 90 2 (nI (nO + 1)) = w'
      generalize hv' : stG (stG (stG (stG v 0 nO (nI k)) 1 nO (nI wt)) 2 nO (-1)) 90 10 (nI (nO + 1)) = v'
      have hv : Ag [0, 1, 2] [10] v v' := by rw [← hv']; exact (((Ag.st (by decide) (by decide)).trans (Ag.st (by decide) (by decide))).trans (Ag.st (by decide) (by decide))).trans (Ag.sf (by decide))
      have q1 : ∀ i, i ≠ 1 → i ≠ 4 → i ≠ 108 + 10 * nO → w'.1 i = w.1 i := by
        intro i g1 g2 g3
        rw [← hw']
        show (if i = 4 then _ else wa.1 i) = _
        rw [if_neg g2, p1 i g1 g3]
      have q2 : w'.1 1 = nO + 1 := by rw [← hw']; show (if 1 = 4 then wa.1 4 + 1 else wa.1 1) = _; rw [if_neg (by decide), p2]
      have q3 : w'.1 4 = nO + 1 := by rw [← hw']; show wa.1 4 + 1 = _; rw [p1 4 (by decide) (by omega), k4]
      have q4 : w'.1 (108 + 10 * nO) = kcls (nI k) := by rw [← hw']; show (if 108 + 10 * nO = 4 then _ else wa.1 _) = _; rw [if_neg (by omega), p3]
      have q5 : ∀ r, r ≠ 90 → r ≠ 102 + 10 * nO → w'.2.1 r = w.2.1 r := by
        intro r g1 g2
        rw [← hw', stG_ne g1]
        exact p4 r g2
      have q6 : ∀ j, j ≠ 2 → w'.2.1 90 j = w.2.1 90 j := by
        intro j g
        rw [← hw', f90n g]
        show wa.2.1 90 j = _
        rw [p4 90 (by omega)]
      have q7 : w'.2.1 90 2 = nI (nO + 1) := by rw [← hw', f90s]
      have q8 : w'.2.1 (102 + 10 * nO) = fun j => if j = 0 then nI nO else if j = 1 then nI wt else if j = 3 then nI k else 0 := by
        rw [← hw', stG_ne (by omega)]
        exact p5
      have m0 : v'.2.1 0 = upd (v.2.1 0) nO (nI k) := by rw [← hv', stG_ne (by decide), stG_ne (by decide), stG_ne (by decide), stG_eq]
      have m1 : v'.2.1 1 = upd (v.2.1 1) nO (nI wt) := by rw [← hv', stG_ne (by decide), stG_ne (by decide), stG_eq, stG_ne (by decide)]
      have m2 : v'.2.1 2 = upd (v.2.1 2) nO (-1) := by rw [← hv', stG_ne (by decide), stG_eq, stG_ne (by decide), stG_ne (by decide)]
      have mr : ∀ r, r ≠ 90 → r ∉ [0, 1, 2] → v'.2.1 r = v.2.1 r := hv.2.1
      have m10 : v'.2.1 90 10 = nI (nO + 1) := by rw [← hv', f90s]
      have mf : ∀ j, j ≠ 10 → v'.2.1 90 j = v.2.1 90 j := fun j hj => hv.2.2 j (by simpa using hj)
      refine fin3 rfl rfl ⟨nO + 1, nB, nC, nU, nT, nL, nH, nP, d, ?_, ?_, ?_, ?_, ?_, ?_, ?_, ?_, ?_, ?_, ?_, ?_⟩
      · refine ⟨⟨by omega, bB, bC, bU, bT, bL, bH, bP, bD⟩, ⟨?_, q2, ?_, ?_, q3, ?_⟩, ⟨q7, ?_, ?_, ?_, ?_, ?_, ?_, ?_, ?_⟩, ⟨m10, ?_, ?_, ?_, ?_, ?_, ?_, ?_, ?_⟩, ?_, ?_, ?_⟩
        · rw [q1 0 (by decide) (by decide) (by omega)]; exact k0
        · rw [q1 2 (by decide) (by decide) (by omega)]; exact k2
        · rw [q1 3 (by decide) (by decide) (by omega)]; exact k3
        · rw [q1 5 (by decide) (by decide) (by omega)]; exact k5
        · rw [q6 3 (by decide)]; exact xB
        · rw [q6 4 (by decide)]; exact xD
        · rw [q6 10 (by decide)]; exact xC
        · rw [q6 20 (by decide)]; exact xU
        · rw [q6 22 (by decide)]; exact xP
        · rw [q6 32 (by decide)]; exact xT
        · rw [q6 33 (by decide)]; exact xL
        · rw [q6 37 (by decide)]; exact xH
        · rw [mf 11 (by decide)]; exact yB
        · rw [mf 31 (by decide)]; exact yD
        · rw [mf 16 (by decide)]; exact yC
        · rw [mf 30 (by decide)]; exact yU
        · rw [mf 29 (by decide)]; exact yP
        · rw [mf 44 (by decide)]; exact yT
        · rw [mf 45 (by decide)]; exact yL
        · rw [mf 48 (by decide)]; exact yH
        · rw [q6 38 (by decide), mf 49 (by decide)]; exact hnr
        · rw [mf 49 (by decide)]; exact hn0
        · rw [mf 49 (by decide)]; exact hn9
      · constructor
        · intro z hz
          by_cases hzn : z = nO
          · subst hzn
            refine ⟨k, wt, by omega, hwt3, by omega, by rw [q4]; exact hkc, by rw [q8]; rfl, fun _ => by rw [q8]; rfl, by rw [m0, pk_us], by rw [m1, pk_us], ?_, ?_⟩
            · rw [q8, mr 4 (by decide) (by decide), hO.2 z (Nat.le_refl z)]; rfl
            · left; rw [mr 4 (by decide) (by decide)]; exact hO.2 z (Nat.le_refl z)
          · rw [m0, m1, pk_un hzn, pk_un hzn, mr 4 (by decide) (by decide), q5 _ (by omega) (by omega), q1 _ (by omega) (by omega) (by omega)]
            exact hO.1 z (by omega)
        · intro z hz
          rw [mr 4 (by decide) (by decide)]
          exact hO.2 z (by omega)
      · exact hB.c (fun z => q5 _ (by omega) (by omega)) (mr 5 (by decide) (by decide)) (mr 6 (by decide) (by decide)) (mr 7 (by decide) (by decide)) (mr 8 (by decide) (by decide)) (mr 9 (by decide) (by decide))
      · constructor
        · intro b hb s hs
          rw [q5 _ (by omega) (by omega)]
          rcases hS.1 b hb s hs with h | ⟨z, hz, f1, f2, f3⟩
          · exact Or.inl h
          · exact Or.inr ⟨z, by omega, f1, by rw [m2, pk_un (by omega)]; exact f2, by rw [mr 3 (by decide) (by decide)]; exact f3⟩
        · intro z hz
          by_cases hzn : z = nO
          · left; rw [m2, hzn, pk_us]
          · rw [m2, pk_un hzn, mr 3 (by decide) (by decide), mr 6 (by decide) (by decide)]
            rcases hS.2 z (by omega) with h | ⟨b, s, k', hb, hs, g0, g1, g2, g3, g4, g5⟩
            · exact Or.inl h
            · exact Or.inr ⟨b, s, k', hb, hs, g0, g1, g2, g3, g4, by rw [q5 _ (by omega) (by omega)]; exact g5⟩
      · intro r hr
        rw [q5 5 (by decide) (by omega), q5 6 (by decide) (by omega), q5 7 (by decide) (by omega), mr 12 (by decide) (by decide), mr 13 (by decide) (by decide), mr 14 (by decide) (by decide)]
        obtain ⟨x, y, hx, hy, rest⟩ := hRc r hr
        exact ⟨x, y, by omega, by omega, rest⟩
      · exact hV.c (q5 17 (by decide) (by omega)) (q5 18 (by decide) (by omega)) (mr 26 (by decide) (by decide)) (mr 27 (by decide) (by decide))
      · exact hT.c (q5 21 (by decide) (by omega)) (mr 28 (by decide) (by decide))
      · exact hU.c (fun t i g1 g2 => q5 _ (by omega) (by omega)) (mr 32 (by decide) (by decide)) (mr 33 (by decide) (by decide)) (mr 34 (by decide) (by decide)) (mr 35 (by decide) (by decide))
      · exact hG.c (q5 25 (by decide) (by omega)) (q5 26 (by decide) (by omega)) (q5 27 (by decide) (by omega)) (q5 28 (by decide) (by omega)) (mr 37 (by decide) (by decide)) (mr 38 (by decide) (by decide)) (mr 39 (by decide) (by decide)) (mr 40 (by decide) (by decide))
      · exact hL.c (q5 29 (by decide) (by omega)) (q5 30 (by decide) (by omega)) (q5 31 (by decide) (by omega)) (mr 41 (by decide) (by decide)) (mr 42 (by decide) (by decide)) (mr 43 (by decide) (by decide))
      · exact hH.c (q5 35 (by decide) (by omega)) (q5 36 (by decide) (by omega)) (mr 46 (by decide) (by decide)) (mr 47 (by decide) (by decide))
      · exact hK.c (q6 40 (by decide)) (q6 41 (by decide)) (mr 50 (by decide) (by decide))
    · rw [b1_f h2, if_pos z00, if_pos z00]
      exact fin3 rfl rfl hR0
  · rw [b1_f h1, if_pos z00, if_pos z00]
    exact fin3 rfl rfl hR0
theorem op_boat : Op_boat Rel := by
  intro w v a1 a2 a3 a4 hR
  have hR0 := hR
  obtain ⟨nO, nB, nC, nU, nT, nL, nH, nP, d, hC, hO, hB, hS, hRc, hV, hT, hU, hG, hL, hH, hK⟩ := hR
  have C := hC
  obtain ⟨⟨bO, bB, bC, bU, bT, bL, bH, bP, bD⟩, ⟨k0, k1, k2, k3, k4, k5⟩, ⟨xO, xB, xD, xC, xU, xP, xT, xL, xH⟩, ⟨yO, yB, yD, yC, yU, yP, yT, yL, yH⟩, hnr, hn0, hn9⟩ := C
  unfold sX_boat sM_boat
  rw [sX_in_v, sM_isIn_v, sX_in_v, sM_isIn_v, sX_in_v, sM_isIn_v, sX_in_v, sM_isIn_v]
  simp only [bd_s]
  by_cases h1 : (0 : Int64).toInt ≤ a1.toInt ∧ a1.toInt ≤ (4 : Int64).toInt
  rotate_left
  · rw [b1_f h1, if_pos z00, if_pos z00]
    exact fin3 rfl rfl hR0
  rw [b1_t h1, if_neg n10, if_neg n10]
  by_cases h2 : (30 : Int64).toInt ≤ a2.toInt ∧ a2.toInt ≤ (150 : Int64).toInt
  rotate_left
  · rw [b1_f h2, if_pos z00, if_pos z00]
    exact fin3 rfl rfl hR0
  rw [b1_t h2, if_neg n10, if_neg n10]
  by_cases h3 : a2.toInt64.toInt ≤ a3.toInt ∧ a3.toInt ≤ (150 : Int64).toInt
  rotate_left
  · rw [b1_f h3, if_pos z00, if_pos z00]
    exact fin3 rfl rfl hR0
  rw [b1_t h3, if_neg n10, if_neg n10]
  by_cases h4 : (1 : Int64).toInt ≤ a4.toInt ∧ a4.toInt ≤ (99 : Int64).toInt
  rotate_left
  · rw [b1_f h4, if_pos z00, if_pos z00]
    exact fin3 rfl rfl hR0
  rw [b1_t h4, if_neg n10, if_neg n10, xB, yB]
  by_cases h8 : nB = 8
  · subst h8
    exact fin3 rfl rfl hR0
  have hn8 : ¬ nI nB = 8 := fun z => h8 ((nIeq (a := nB) (b := 8) (by omega) (by decide)).mp z)
  rw [if_neg hn8, if_neg hn8]
  have hlt : nB < 8 := by omega
  have hin : inb (nI nB) 8 = true := inb_nI hlt (by decide)
  have hcl : (nI nB).toNatClampNeg = nB := clN (by omega)
  have i4 : (4 : Int64).toInt = 4 := by decide
  have i0 : (0 : Int64).toInt = 0 := by decide
  have i1 : (1 : Int64).toInt = 1 := by decide
  have i30 : (30 : Int64).toInt = 30 := by decide
  have i99 : (99 : Int64).toInt = 99 := by decide
  have i150 : (150 : Int64).toInt = 150 := by decide
  rw [toI64] at h3
  obtain ⟨k, hk, rfl⟩ := ix_of (x := a1) (n := 5) (by omega)
  obtain ⟨ls, hls, rfl⟩ := ix_of (x := a2) (n := 151) (by omega)
  have hls3 : 30 ≤ ls := by have h := h2.1; rw [nTi (by omega)] at h; omega
  obtain ⟨ms, hms, rfl⟩ := ix_of (x := a3) (n := 151) (by rw [nTi (show ls < 2147483648 by omega)] at h3; omega)
  obtain ⟨ln, hln, rfl⟩ := ix_of (x := a4) (n := 100) (by omega)
  have hln1 : 1 ≤ ln := by have h := h4.1; rw [nTi (by omega)] at h; omega
  generalize hwa : addB w (nI k) (nI ls) (nI ms) (nI ln) = wa
  have p1 : ∀ i, i ≠ 0 → wa.1 i = w.1 i := by
    intro i g1
    rw [← hwa]
    show (if i = 0 then _ else _) = _
    rw [if_neg g1]
  have p2 : wa.1 0 = nB + 1 := by rw [← hwa]; show w.1 0 + 1 = _; rw [k0]
  have p4 : ∀ r, r ≠ 100 + 10 * nB → r ≠ 101 + 10 * nB → wa.2.1 r = w.2.1 r := by
    intro r g1 g2
    rw [← hwa]
    show (if r = 100 + 10 * w.1 0 then _ else if r = 101 + 10 * w.1 0 then _ else _) = _
    rw [k0, if_neg g1, if_neg g2]
  have p5 : wa.2.1 (100 + 10 * nB) = fun j => if j = 0 then nI k else if j = 1 then nI ls else if j = 2 then nI ms else if j = 3 then nI ln else 0 := by
    rw [← hwa]
    show (if 100 + 10 * nB = 100 + 10 * w.1 0 then _ else _) = _
    rw [k0, if_pos rfl]
  have p6 : wa.2.1 (101 + 10 * nB) = cr0 9 := by
    rw [← hwa]
    show (if 101 + 10 * nB = 100 + 10 * w.1 0 then _ else if 101 + 10 * nB = 101 + 10 * w.1 0 then _ else _) = _
    rw [k0, if_neg (by omega), if_pos rfl]
  have hg : (inb (nI nB) 8 && (decide (w.1 0 < wa.1 0) && (decide ((nI nB).toNatClampNeg = wa.1 3) && decide (w.1 0 = wa.1 3)))) = true := by
    rw [hin, hcl, p1 3 (by decide), k3, k0, p2]
    simp
  rw [k3, k0, decide_eq_true (Nat.le_refl nB), rd_t]
  rw [k0] at hg
  rw [hg, rd_t, hin, hcl]
  have xi : (incA wa 3).2.1 90 3 = nI nB := by show wa.2.1 90 3 = _; rw [p4 90 (by omega) (by omega)]; exact xB
  simp only [rd_t, nm_d, xi, nI_1, f90s, nI_pred, f90 (show (6 : Nat) ≠ 90 by decide), f90 (show (7 : Nat) ≠ 90 by decide), f90 (show (8 : Nat) ≠ 90 by decide), f90 (show (9 : Nat) ≠ 90 by decide), yB, hin, hcl]
  generalize hw' : stG (incA wa 3) 90 3 (nI (nB + 1)) = w'
  generalize hv' : stG (stG (stG (stG (stG v 6 nB (nI k)) 7 nB (nI ls)) 8 nB (nI ms)) 9 nB (nI ln)) 90 11 (nI (nB + 1)) = v'
  have hv : Ag [6, 7, 8, 9] [11] v v' := by rw [← hv']; exact ((((Ag.st (by decide) (by decide)).trans (Ag.st (by decide) (by decide))).trans (Ag.st (by decide) (by decide))).trans (Ag.st (by decide) (by decide))).trans (Ag.sf (by decide))
  have q1 : ∀ i, i ≠ 0 → i ≠ 3 → w'.1 i = w.1 i := by
    intro i g1 g2
    rw [← hw']
    show (if i = 3 then _ else wa.1 i) = _
    rw [if_neg g2, p1 i g1]
  have q2 : w'.1 0 = nB + 1 := by rw [← hw']; show (if 0 = 3 then wa.1 3 + 1 else wa.1 0) = _; rw [if_neg (by decide), p2]
  have q3 : w'.1 3 = nB + 1 := by rw [← hw']; show wa.1 3 + 1 = _; rw [p1 3 (by decide), k3]
  have q5 : ∀ r, r ≠ 90 → r ≠ 100 + 10 * nB → r ≠ 101 + 10 * nB → w'.2.1 r = w.2.1 r := by
    intro r g1 g2 g3
    rw [← hw', stG_ne g1]
    exact p4 r g2 g3
  have q6 : ∀ j, j ≠ 3 → w'.2.1 90 j = w.2.1 90 j := by
    intro j g
    rw [← hw', f90n g]
    show wa.2.1 90 j = _
    rw [p4 90 (by omega) (by omega)]
  have q7 : w'.2.1 90 3 = nI (nB + 1) := by rw [← hw', f90s]
  have q8 : w'.2.1 (100 + 10 * nB) = fun j => if j = 0 then nI k else if j = 1 then nI ls else if j = 2 then nI ms else if j = 3 then nI ln else 0 := by
    rw [← hw', stG_ne (by omega)]
    exact p5
  have q9 : w'.2.1 (101 + 10 * nB) = cr0 9 := by
    rw [← hw', stG_ne (by omega)]
    exact p6
  have m6 : v'.2.1 6 = upd (v.2.1 6) nB (nI k) := by rw [← hv', stG_ne (by decide), stG_ne (by decide), stG_ne (by decide), stG_ne (by decide), stG_eq]
  have m7 : v'.2.1 7 = upd (v.2.1 7) nB (nI ls) := by rw [← hv', stG_ne (by decide), stG_ne (by decide), stG_ne (by decide), stG_eq, stG_ne (by decide)]
  have m8 : v'.2.1 8 = upd (v.2.1 8) nB (nI ms) := by rw [← hv', stG_ne (by decide), stG_ne (by decide), stG_eq, stG_ne (by decide), stG_ne (by decide)]
  have m9 : v'.2.1 9 = upd (v.2.1 9) nB (nI ln) := by rw [← hv', stG_ne (by decide), stG_eq, stG_ne (by decide), stG_ne (by decide), stG_ne (by decide)]
  have mr : ∀ r, r ≠ 90 → r ∉ [6, 7, 8, 9] → v'.2.1 r = v.2.1 r := hv.2.1
  have m11 : v'.2.1 90 11 = nI (nB + 1) := by rw [← hv', f90s]
  have mf : ∀ j, j ≠ 11 → v'.2.1 90 j = v.2.1 90 j := fun j hj => hv.2.2 j (by simpa using hj)
  refine fin3 rfl rfl ⟨nO, nB + 1, nC, nU, nT, nL, nH, nP, d, ?_, ?_, ?_, ?_, ?_, ?_, ?_, ?_, ?_, ?_, ?_, ?_⟩
  · refine ⟨⟨bO, by omega, bC, bU, bT, bL, bH, bP, bD⟩, ⟨q2, ?_, ?_, q3, ?_, ?_⟩, ⟨?_, q7, ?_, ?_, ?_, ?_, ?_, ?_, ?_⟩, ⟨?_, m11, ?_, ?_, ?_, ?_, ?_, ?_, ?_⟩, ?_, ?_, ?_⟩
    · rw [q1 1 (by decide) (by decide)]; exact k1
    · rw [q1 2 (by decide) (by decide)]; exact k2
    · rw [q1 4 (by decide) (by decide)]; exact k4
    · rw [q1 5 (by decide) (by decide)]; exact k5
    · rw [q6 2 (by decide)]; exact xO
    · rw [q6 4 (by decide)]; exact xD
    · rw [q6 10 (by decide)]; exact xC
    · rw [q6 20 (by decide)]; exact xU
    · rw [q6 22 (by decide)]; exact xP
    · rw [q6 32 (by decide)]; exact xT
    · rw [q6 33 (by decide)]; exact xL
    · rw [q6 37 (by decide)]; exact xH
    · rw [mf 10 (by decide)]; exact yO
    · rw [mf 31 (by decide)]; exact yD
    · rw [mf 16 (by decide)]; exact yC
    · rw [mf 30 (by decide)]; exact yU
    · rw [mf 29 (by decide)]; exact yP
    · rw [mf 44 (by decide)]; exact yT
    · rw [mf 45 (by decide)]; exact yL
    · rw [mf 48 (by decide)]; exact yH
    · rw [q6 38 (by decide), mf 49 (by decide)]; exact hnr
    · rw [mf 49 (by decide)]; exact hn0
    · rw [mf 49 (by decide)]; exact hn9
  · exact hO.c (fun z => q1 _ (by omega) (by omega)) (fun z => q5 _ (by omega) (by omega) (by omega)) (mr 0 (by decide) (by decide)) (mr 1 (by decide) (by decide)) (mr 4 (by decide) (by decide))
  · constructor
    · intro z hz
      by_cases hzn : z = nB
      · subst hzn
        refine ⟨k, ls, ms, ln, by omega, hls3, by omega, by omega, hln1, by omega, by rw [q8]; rfl, by rw [m6, pk_us], by rw [q8]; rfl, by rw [m7, pk_us], by rw [q8]; rfl, by rw [m8, pk_us], by rw [q8]; rfl, by rw [m9, pk_us], ?_, ?_⟩
        · rw [q8, mr 5 (by decide) (by decide), hB.2 z (Nat.le_refl z)]; rfl
        · left; rw [mr 5 (by decide) (by decide)]; exact hB.2 z (Nat.le_refl z)
      · rw [m6, m7, m8, m9, pk_un hzn, pk_un hzn, pk_un hzn, pk_un hzn, mr 5 (by decide) (by decide), q5 _ (by omega) (by omega) (by omega)]
        exact hB.1 z (by omega)
    · intro z hz
      rw [mr 5 (by decide) (by decide)]
      exact hB.2 z (by omega)
  · constructor
    · intro b hb s hs
      by_cases hbn : b = nB
      · left
        rw [hbn, q9]
        unfold cr0
        rw [if_pos hs]
      · rw [q5 _ (by omega) (by omega) (by omega), mr 2 (by decide) (by decide), mr 3 (by decide) (by decide)]
        exact hS.1 b (by omega) s hs
    · intro z hz
      rw [mr 2 (by decide) (by decide), mr 3 (by decide) (by decide)]
      rcases hS.2 z hz with h | ⟨b, s, k', hb, hs, g0, g1, g2, g3, g4, g5⟩
      · exact Or.inl h
      · exact Or.inr ⟨b, s, k', by omega, hs, by rw [m6, pk_un (by omega)]; exact g0, g1, g2, g3, g4, by rw [q5 _ (by omega) (by omega) (by omega)]; exact g5⟩
  · exact hRc.c (q5 5 (by decide) (by omega) (by omega)) (q5 6 (by decide) (by omega) (by omega)) (q5 7 (by decide) (by omega) (by omega)) (mr 12 (by decide) (by decide)) (mr 13 (by decide) (by decide)) (mr 14 (by decide) (by decide))
  · exact hV.c (q5 17 (by decide) (by omega) (by omega)) (q5 18 (by decide) (by omega) (by omega)) (mr 26 (by decide) (by decide)) (mr 27 (by decide) (by decide))
  · exact hT.c (q5 21 (by decide) (by omega) (by omega)) (mr 28 (by decide) (by decide))
  · exact hU.c (fun t i g1 g2 => q5 _ (by omega) (by omega) (by omega)) (mr 32 (by decide) (by decide)) (mr 33 (by decide) (by decide)) (mr 34 (by decide) (by decide)) (mr 35 (by decide) (by decide))
  · intro i hi
    have h := (hG.c (q5 25 (by decide) (by omega) (by omega)) (q5 26 (by decide) (by omega) (by omega)) (q5 27 (by decide) (by omega) (by omega)) (q5 28 (by decide) (by omega) (by omega)) (mr 37 (by decide) (by decide)) (mr 38 (by decide) (by decide)) (mr 39 (by decide) (by decide)) (mr 40 (by decide) (by decide))) i hi
    obtain ⟨⟨b, hb, r1⟩, r2⟩ := h
    exact ⟨⟨b, by omega, r1⟩, r2⟩
  · intro i hi
    have h := (hL.c (q5 29 (by decide) (by omega) (by omega)) (q5 30 (by decide) (by omega) (by omega)) (q5 31 (by decide) (by omega) (by omega)) (mr 41 (by decide) (by decide)) (mr 42 (by decide) (by decide)) (mr 43 (by decide) (by decide))) i hi
    obtain ⟨b, t, hb, r1⟩ := h
    exact ⟨b, t, by omega, r1⟩
  · intro i hi
    have h := (hH.c (q5 35 (by decide) (by omega) (by omega)) (q5 36 (by decide) (by omega) (by omega)) (mr 46 (by decide) (by decide)) (mr 47 (by decide) (by decide))) i hi
    obtain ⟨b, t, hb, r1⟩ := h
    exact ⟨b, t, by omega, r1⟩
  · obtain ⟨R, W, hR, r1⟩ := hK.c (q6 40 (by decide)) (q6 41 (by decide)) (mr 50 (by decide) (by decide))
    exact ⟨R, W, Nat.lt_of_lt_of_le hR (Nat.pow_le_pow_right (by decide) (by omega)), r1⟩
theorem broken_rel {w v : Wd} {j : Nat} {x : Int32} {nO nB nC nU nT nL nH nP d : Nat} (hC : Cnt nO nB nC nU nT nL nH nP d w v) (hO : Oars nO w v) (hB : Boats nB w v) (hS : Seats nO nB w v) (hRc : Races nO nC w v) (hV : River w v) (hT : Tape nP w v) (hU : Rules nU w v) (hG : Outs nB nT w v) (hL : Looks nB nT nL w v) (hH : Heats nB nH w v) (hK : Racks nB w v) (hj : j < nB) (hx : x = 0 ∨ x = 1) : Rel (stG w (100 + 10 * j) 5 x) (stG v 5 j x) := by
  have hw : AgD 100 w (stG w (100 + 10 * j) 5 x) := AgD.st (by decide) (by decide)
  have hv : Ag [5] [] v (stG v 5 j x) := Ag.st (by decide) (by decide)
  refine ⟨nO, nB, nC, nU, nT, nL, nH, nP, d, hC.b hw hv (by decide), hO.b hw hv (by decide) (by decide), ?_, hS.b hw hv (by decide) (by decide), hRc.b hw hv (by decide), hV.b hw hv (by decide), hT.b hw hv (by decide), hU.b hw hv (by decide) (by decide), hG.b hw hv (by decide), hL.b hw hv (by decide), hH.b hw hv (by decide), hK.b hw hv (by decide)⟩
  have v5 : (stG v 5 j x).2.1 5 = upd (v.2.1 5) j x := stG_eq ..
  have v6 : (stG v 5 j x).2.1 6 = v.2.1 6 := stG_ne (by decide)
  have v7 : (stG v 5 j x).2.1 7 = v.2.1 7 := stG_ne (by decide)
  have v8 : (stG v 5 j x).2.1 8 = v.2.1 8 := stG_ne (by decide)
  have v9 : (stG v 5 j x).2.1 9 = v.2.1 9 := stG_ne (by decide)
  constructor
  · intro b hb
    rw [v5, v6, v7, v8, v9]
    by_cases hbj : b = j
    · subst hbj
      obtain ⟨k, ls, ms, ln, g1, g2, g3, g4, g5, g6, g7, g8, g9, g10, g11, g12, g13, g14, -, -⟩ := hB.1 b hb
      rw [stG_eq, pk_un (by decide), pk_un (by decide), pk_un (by decide), pk_un (by decide), pk_us, pk_us]
      exact ⟨k, ls, ms, ln, g1, g2, g3, g4, g5, g6, g7, g8, g9, g10, g11, g12, g13, g14, rfl, hx⟩
    · rw [pk_un hbj, stG_ne (by omega)]
      exact hB.1 b hb
  · intro b hb
    rw [v5, pk_un (by omega)]
    exact hB.2 b hb
theorem look_rel {w v : Wd} {b : Nat} {x y : Int32} {nO nB nC nU nT nL nH nP d : Nat} (hC : Cnt nO nB nC nU nT nL nH nP d w v) (hO : Oars nO w v) (hB : Boats nB w v) (hS : Seats nO nB w v) (hRc : Races nO nC w v) (hV : River w v) (hT : Tape nP w v) (hU : Rules nU w v) (hG : Outs nB nT w v) (hL : Looks nB nT nL w v) (hH : Heats nB nH w v) (hK : Racks nB w v) (hb : b < nB) (hn : nL < 60) (hx : x = 0 ∨ x = 1) (hy : y = 0 ∨ y = 1) : Rel (stG (stG (stG (stG (stG w 29 nL (nI b)) 30 nL (nI nT)) 31 nL x) 90 33 (nI (nL + 1))) (100 + 10 * b) 5 y) (stG (stG (stG (stG (stG v 41 nL (nI b)) 42 nL (nI nT)) 43 nL x) 90 45 (nI (nL + 1))) 5 b y) := by
  generalize hw' : stG (stG (stG (stG w 29 nL (nI b)) 30 nL (nI nT)) 31 nL x) 90 33 (nI (nL + 1)) = w'
  generalize hv' : stG (stG (stG (stG v 41 nL (nI b)) 42 nL (nI nT)) 43 nL x) 90 45 (nI (nL + 1)) = v'
  have hw : Ag [29, 30, 31] [33] w w' := by rw [← hw']; exact (((Ag.st (by decide) (by decide)).trans (Ag.st (by decide) (by decide))).trans (Ag.st (by decide) (by decide))).trans (Ag.sf (by decide))
  have hv : Ag [41, 42, 43] [45] v v' := by rw [← hv']; exact (((Ag.st (by decide) (by decide)).trans (Ag.st (by decide) (by decide))).trans (Ag.st (by decide) (by decide))).trans (Ag.sf (by decide))
  have e1 : w'.2.1 29 = upd (w.2.1 29) nL (nI b) := by rw [← hw', stG_ne (by decide), stG_ne (by decide), stG_ne (by decide), stG_eq]
  have e2 : w'.2.1 30 = upd (w.2.1 30) nL (nI nT) := by rw [← hw', stG_ne (by decide), stG_ne (by decide), stG_eq, stG_ne (by decide)]
  have e3 : w'.2.1 31 = upd (w.2.1 31) nL x := by rw [← hw', stG_ne (by decide), stG_eq, stG_ne (by decide), stG_ne (by decide)]
  have f1 : v'.2.1 41 = upd (v.2.1 41) nL (nI b) := by rw [← hv', stG_ne (by decide), stG_ne (by decide), stG_ne (by decide), stG_eq]
  have f2 : v'.2.1 42 = upd (v.2.1 42) nL (nI nT) := by rw [← hv', stG_ne (by decide), stG_ne (by decide), stG_eq, stG_ne (by decide)]
  have f3 : v'.2.1 43 = upd (v.2.1 43) nL x := by rw [← hv', stG_ne (by decide), stG_eq, stG_ne (by decide), stG_ne (by decide)]
  refine broken_rel (nL := nL + 1) (hC.u_nL hw.1 (fun j hj => hw.2.2 j (by simpa using hj)) (fun j hj => hv.2.2 j (by simpa using hj)) (by omega) (by rw [← hw', f90s]) (by rw [← hv', f90s])) (hO.a hw hv (by decide) (by decide)) (hB.a hw hv (by decide) (by decide)) (hS.a hw hv (by decide) (by decide)) (hRc.a hw hv (by decide) (by decide)) (hV.a hw hv (by decide) (by decide)) (hT.a hw hv (by decide) (by decide)) (hU.a hw hv (by decide) (by decide)) (hG.a hw hv (by decide) (by decide)) ?_ (hH.a hw hv (by decide) (by decide)) (hK.a hw hv (by decide) (by decide)) hb hy
  intro i hi
  rw [e1, e2, e3, f1, f2, f3]
  by_cases hin : i = nL
  · subst hin
    rw [pk_us, pk_us, pk_us, pk_us, pk_us, pk_us]
    exact ⟨b, nT, hb, Nat.le_refl _, rfl, rfl, rfl, rfl, rfl, hx⟩
  · rw [pk_un hin, pk_un hin, pk_un hin, pk_un hin, pk_un hin, pk_un hin]
    exact hL i (by omega)
theorem op_look : Op_look Rel := by
  intro w v a1 a2 hR
  have hR0 := hR
  obtain ⟨nO, nB, nC, nU, nT, nL, nH, nP, d, hC, hO, hB, hS, hRc, hV, hT, hU, hG, hL, hH, hK⟩ := hR
  have C := hC
  obtain ⟨⟨bO, bB, bC, bU, bT, bL, bH, bP, bD⟩, ⟨k0, k1, k2, k3, k4, k5⟩, ⟨xO, xB, xD, xC, xU, xP, xT, xL, xH⟩, ⟨yO, yB, yD, yC, yU, yP, yT, yL, yH⟩, hnr, hn0, hn9⟩ := C
  unfold sX_look sM_look
  rw [sX_isBoat_v a1 xB (by omega), sM_isBoat_v a1 yB (by omega), sX_in_v, sM_isIn_v]
  simp only [bd_s]
  by_cases h1 : 0 ≤ a1.toInt ∧ a1.toInt < nB
  rotate_left
  · rw [b1_f h1, if_pos z00, if_pos z00]
    exact fin3 rfl rfl hR0
  rw [b1_t h1, if_neg n10, if_neg n10]
  by_cases h2 : (0 : Int64).toInt ≤ a2.toInt ∧ a2.toInt ≤ (1 : Int64).toInt
  rotate_left
  · rw [b1_f h2, if_pos z00, if_pos z00]
    exact fin3 rfl rfl hR0
  rw [b1_t h2, if_neg n10, if_neg n10, xL, yL]
  by_cases h8 : nL = 60
  · subst h8
    exact fin3 rfl rfl hR0
  have hn8 : ¬ nI nL = 60 := fun z => h8 ((nIeq (a := nL) (b := 60) (by omega) (by decide)).mp z)
  rw [if_neg hn8, if_neg hn8]
  have hlt : nL < 60 := by omega
  have hin : inb (nI nL) 60 = true := inb_nI hlt (by decide)
  have hcl : (nI nL).toNatClampNeg = nL := clN (by omega)
  obtain ⟨b, hb, rfl⟩ := ix_of h1
  have hib : inb (nI b) 8 = true := inb_nI (by omega) (by decide)
  have hcb : (nI b).toNatClampNeg = b := clN (by omega)
  have c5 : ∀ (u : Wd) (x : Int32), (stG u 5 b x).2.1 90 = u.2.1 90 := fun u x => f90 (by decide)
  simp only [jn_d, nm_d, f90 (show (29 : Nat) ≠ 90 by decide), f90 (show (30 : Nat) ≠ 90 by decide), f90 (show (31 : Nat) ≠ 90 by decide), f90 (show (41 : Nat) ≠ 90 by decide), f90 (show (42 : Nat) ≠ 90 by decide), f90 (show (43 : Nat) ≠ 90 by decide), f90 (show (5 : Nat) ≠ 90 by decide), f90 (show (100 + 10 * b : Nat) ≠ 90 by omega), hin, hcl, xL, yL, xT, yT, rd_t, nI_1, f90s, nI_pred, hib, hcb, stG_1, k3, k0, decide_eq_true hb, Bool.true_and]
  by_cases h21 : a2 = 1
  · have h20 : ¬ a2 = 0 := by rw [h21]; decide
    rw [if_pos h21, if_pos h21, if_neg h20, if_neg h20, isB0, nar1, nar0]
    simp only [rd_t, f90 (show (100 + 10 * b : Nat) ≠ 90 by omega), f90s, nI_pred]
    refine fin3 rfl rfl ?_
    rw [stG_comm (show (5 : Nat) ≠ 90 by decide)]
    exact look_rel hC hO hB hS hRc hV hT hU hG hL hH hK hb hlt (Or.inr rfl) (Or.inl rfl)
  · have h20 : a2 = 0 := by
      have i0 : (0 : Int64).toInt = 0 := by decide
      have i1 : (1 : Int64).toInt = 1 := by decide
      rw [eq32]
      have h3 : a2.toInt ≠ 1 := fun z => h21 (eq32.mpr z)
      show a2.toInt = 0
      omega
    rw [if_neg h21, if_neg h21, if_pos h20, if_pos h20, isB1, nar1, nar0]
    simp only [rd_t, f90 (show (100 + 10 * b : Nat) ≠ 90 by omega), f90s, nI_pred]
    refine fin3 rfl rfl ?_
    rw [stG_comm (show (5 : Nat) ≠ 90 by decide)]
    exact look_rel hC hO hB hS hRc hV hT hU hG hL hH hK hb hlt (Or.inl rfl) (Or.inr rfl)
