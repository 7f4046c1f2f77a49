set_option maxRecDepth 100000
theorem rel_rule {nO nB nC nU nT nL nH nP d z R : Nat} {w v w' v' : Wd} (hC : Cnt nO nB nC nU nT nL nH nP d w v) (hO : Oars nO w v) (hB : Boats nB w v) (hS : Seats nO nB w v) (hRc : Races nO nC w v) (hV : River w v) (hG : Outs nB nT w v) (hL : Looks nB nT nL w v) (hH : Heats nB nH w v) (hK : Racks nB w v) (h1 : ∀ r, r ≠ 90 → (∀ t, 103 ≤ t → t ≤ 107 → r ≠ t + 10 * R) → w'.2.1 r = w.2.1 r) (h2 : ∀ j, j ∉ [20, 22, 23, 24] → w'.2.1 90 j = w.2.1 90 j) (h3 : ∀ i, i ≠ 2 → i ≠ 5 → w'.1 i = w.1 i) (h4 : w'.1 2 = z) (h5 : w'.1 5 = z) (h6 : w'.2.1 90 20 = nI z) (h7 : w'.2.1 90 22 = nI 0) (hv : Ag [32, 33, 34, 35] [36, 29, 30] v v') (h8 : v'.2.1 90 30 = nI z) (h9 : v'.2.1 90 29 = nI 0) (hz : z ≤ 10) (hU : Rules z w' v') : Rel w' v' := by
  have C := hC
  obtain ⟨⟨bO, bB, bC, bU, bT, bL, bH, bP, bD⟩, ⟨k0, k1, k2, k3, k4, k5⟩, ⟨xO, xB, xD, xC, xU, xP, xT, xL, xH⟩, ⟨yO, yB, yD, yC, yU, yP, yT, yL, yH⟩, hnr, hn0, hn9⟩ := C
  have lo : ∀ r, r < 90 → w'.2.1 r = w.2.1 r := fun r h => h1 r (by omega) (fun t _ _ => by omega)
  have dn : ∀ t o, 100 ≤ t → t ≤ 102 → w'.2.1 (t + 10 * o) = w.2.1 (t + 10 * o) := fun t o g1 g2 => h1 _ (by omega) (fun t' _ _ => by omega)
  have m : ∀ r, r ≠ 90 → r ∉ [32, 33, 34, 35] → v'.2.1 r = v.2.1 r := hv.2.1
  have n49 : v'.2.1 90 49 = v.2.1 90 49 := hv.2.2 49 (by decide)
  refine ⟨nO, nB, nC, z, nT, nL, nH, 0, d, ⟨⟨bO, bB, bC, hz, bT, bL, bH, by omega, bD⟩, ⟨?_, ?_, h4, ?_, ?_, h5⟩, ⟨?_, ?_, ?_, ?_, h6, h7, ?_, ?_, ?_⟩, ⟨?_, ?_, ?_, ?_, h8, h9, ?_, ?_, ?_⟩, ?_, ?_, ?_⟩, ?_, ?_, ?_, ?_, ?_, fun j hj => absurd hj (by omega), hU, ?_, ?_, ?_, ?_⟩
  · rw [h3 0 (by decide) (by decide)]; exact k0
  · rw [h3 1 (by decide) (by decide)]; exact k1
  · rw [h3 3 (by decide) (by decide)]; exact k3
  · rw [h3 4 (by decide) (by decide)]; exact k4
  · rw [h2 2 (by decide)]; exact xO
  · rw [h2 3 (by decide)]; exact xB
  · rw [h2 4 (by decide)]; exact xD
  · rw [h2 10 (by decide)]; exact xC
  · rw [h2 32 (by decide)]; exact xT
  · rw [h2 33 (by decide)]; exact xL
  · rw [h2 37 (by decide)]; exact xH
  · rw [hv.2.2 10 (by decide)]; exact yO
  · rw [hv.2.2 11 (by decide)]; exact yB
  · rw [hv.2.2 31 (by decide)]; exact yD
  · rw [hv.2.2 16 (by decide)]; exact yC
  · rw [hv.2.2 44 (by decide)]; exact yT
  · rw [hv.2.2 45 (by decide)]; exact yL
  · rw [hv.2.2 48 (by decide)]; exact yH
  · rw [h2 38 (by decide), n49]; exact hnr
  · rw [n49]; exact hn0
  · rw [n49]; exact hn9
  · exact hO.c (fun o => h3 _ (by omega) (by omega)) (fun o => dn 102 o (by decide) (by decide)) (m 0 (by decide) (by decide)) (m 1 (by decide) (by decide)) (m 4 (by decide) (by decide))
  · exact hB.c (fun o => dn 100 o (by decide) (by decide)) (m 5 (by decide) (by decide)) (m 6 (by decide) (by decide)) (m 7 (by decide) (by decide)) (m 8 (by decide) (by decide)) (m 9 (by decide) (by decide))
  · exact hS.c (fun o => dn 101 o (by decide) (by decide)) (m 2 (by decide) (by decide)) (m 3 (by decide) (by decide)) (m 6 (by decide) (by decide))
  · exact hRc.c (lo 5 (by decide)) (lo 6 (by decide)) (lo 7 (by decide)) (m 12 (by decide) (by decide)) (m 13 (by decide) (by decide)) (m 14 (by decide) (by decide))
  · exact hV.c (lo 17 (by decide)) (lo 18 (by decide)) (m 26 (by decide) (by decide)) (m 27 (by decide) (by decide))
  · exact hG.c (lo 25 (by decide)) (lo 26 (by decide)) (lo 27 (by decide)) (lo 28 (by decide)) (m 37 (by decide) (by decide)) (m 38 (by decide) (by decide)) (m 39 (by decide) (by decide)) (m 40 (by decide) (by decide))
  · exact hL.c (lo 29 (by decide)) (lo 30 (by decide)) (lo 31 (by decide)) (m 41 (by decide) (by decide)) (m 42 (by decide) (by decide)) (m 43 (by decide) (by decide))
  · exact hH.c (lo 35 (by decide)) (lo 36 (by decide)) (m 46 (by decide) (by decide)) (m 47 (by decide) (by decide))
  · exact hK.c (h2 40 (by decide)) (h2 41 (by decide)) (m 50 (by decide) (by decide))
theorem rules_old {nU R : Nat} {w v w' v' : Wd} (h : Rules nU w v) (hn : nU ≤ R) (h1 : ∀ r, r ≠ 90 → (∀ t, 103 ≤ t → t ≤ 107 → r ≠ t + 10 * R) → w'.2.1 r = w.2.1 r) (h2 : ∀ t, 32 ≤ t → t ≤ 34 → ∀ r, r ≠ R → v'.2.1 t r = v.2.1 t r) (h3 : ∀ j, j < 12 * R → v'.2.1 35 j = v.2.1 35 j) : Rules nU w' v' := by
  intro r hr
  obtain ⟨k, z, q⟩ := h r hr
  have e : ∀ t, 103 ≤ t → t ≤ 107 → w'.2.1 (t + 10 * r) = w.2.1 (t + 10 * r) := fun t g1 g2 => h1 _ (by omega) (fun t' _ _ => by omega)
  refine ⟨k, z, ?_⟩
  rw [e 103 (by decide) (by decide), e 104 (by decide) (by decide), e 105 (by decide) (by decide), e 106 (by decide) (by decide), e 107 (by decide) (by decide), h2 32 (by decide) (by decide) r (by omega), h2 33 (by decide) (by decide) r (by omega), h2 34 (by decide) (by decide) r (by omega)]
  obtain ⟨q1, q2, q3, q4, q5, q6, q7, q8, q9⟩ := q
  refine ⟨q1, q2, q3, q4, q5, q6, q7, q8, fun j hj => ?_⟩
  rw [h3 (12 * r + 4 * j) (by omega), h3 (12 * r + 4 * j + 1) (by omega), h3 (12 * r + 4 * j + 2) (by omega), h3 (12 * r + 4 * j + 3) (by omega)]
  exact q9 j hj
theorem op_rule : Op_rule Rel := by
  intro w v hR
  have hR0 := hR
  obtain ⟨nO, nB, nC, nU, nT, nL, nH, nP, d, hC, hO, hB, hS, hRc, hV, hT, hU, hG, hL, hH, hK⟩ := hR
  have C := hC
  obtain ⟨⟨bO, bB, bC, bU, bT, bL, bH, bP, bD⟩, ⟨k0, k1, k2, k3, k4, k5⟩, ⟨xO, xB, xD, xC, xU, xP, xT, xL, xH⟩, ⟨yO, yB, yD, yC, yU, yP, yT, yL, yH⟩, hnr, hn0, hn9⟩ := C
  unfold sX_rule sM_rule
  rw [xU, yU]
  by_cases h10 : nU = 10
  · rw [h10]
    exact ⟨-4, w, v, rfl, rfl, hR0⟩
  have hne : ¬ nI nU = (10 : Int32) := fun q => h10 ((nIeq (b := 10) (by omega) (by decide)).mp q)
  rw [if_neg hne, if_neg hne, decide_eq_true (show w.1 5 ≤ w.1 2 by omega), rd_t, k2]
  have g1 : (addR w).1 2 = nU + 1 := by unfold addR; simp only [if_true, k2]
  have g2 : ∀ i, i ≠ 2 → (addR w).1 i = w.1 i := fun i hi => by unfold addR; simp only [if_neg hi]
  have g3 : ∀ r, (∀ t, 103 ≤ t → t ≤ 107 → r ≠ t + 10 * nU) → (addR w).2.1 r = w.2.1 r := fun r hr => by
    unfold addR
    simp only [k2, if_neg (hr 103 (by decide) (by decide)), if_neg (hr 104 (by decide) (by decide)), if_neg (hr 105 (by decide) (by decide)), if_neg (hr 106 (by decide) (by decide)), if_neg (hr 107 (by decide) (by decide))]
  have g4 : (addR w).2.1 (103 + 10 * nU) = fun _ => 0 := by unfold addR; simp only [k2, if_true]
  have g5 : (addR w).2.1 (107 + 10 * nU) = fun _ => 0 := by
    unfold addR
    simp only [k2, if_true, if_neg (show ¬ 107 + 10 * nU = 103 + 10 * nU by omega), if_neg (show ¬ 107 + 10 * nU = 104 + 10 * nU by omega), if_neg (show ¬ 107 + 10 * nU = 105 + 10 * nU by omega), if_neg (show ¬ 107 + 10 * nU = 106 + 10 * nU by omega)]
  generalize addR w = w1 at g1 g2 g3 g4 g5 ⊢
  have f1 : w1.2.1 90 = w.2.1 90 := g3 90 (fun t _ _ => by omega)
  have hX : TX (fun q => if q < nP then v.2.1 28 q else -1) nP w1 := ⟨by rw [f1]; exact xP, fun q hq => by simp only [g3 21 (fun t _ _ => by omega), if_pos hq]; exact (hT q hq).symm⟩
  have hM : TM (fun q => if q < nP then v.2.1 28 q else -1) nP v := ⟨yP, fun q hq => by simp only [if_pos hq]⟩
  obtain ⟨s, j, w2, v2, r1, r2, r3, r4, r5, r6, r7, r8⟩ := read_v (R := nU) bP (fun q hq => if_neg (by omega)) (by omega) hX hM (by rw [g1]; omega) yU (by rw [g4]; rfl) (fun q _ => by rw [g5])
  rw [r1, r2, bd_s, bd2_s]
  simp only [nm_d]
  have m3 : Ag [32, 33, 34, 35] [36, 29, 30] v (stG v2 90 29 0) := (r4.1.mono (by simp) (by simp)).trans (Ag.sf (by decide))
  have x3 : ∀ r, r ≠ 90 → (∀ t, 103 ≤ t → t ≤ 107 → r ≠ t + 10 * nU) → (stG w2 90 22 0).2.1 r = w.2.1 r := fun r h1 h2 => by rw [stG_ne h1, r3.2.1 r h1 h2, g3 r h2]
  have x4 : ∀ j, j ∉ [22, 23, 24] → (stG w2 90 22 0).2.1 90 j = w.2.1 90 j := fun j hj => by
    have hj' : j ≠ 22 ∧ j ≠ 23 ∧ j ≠ 24 := by simpa using hj
    rw [f90n hj'.1, r3.2.2 j hj'.2.1 hj'.2.2, f1]
  have x24 : (stG w2 90 22 0).2.1 90 24 = w2.2.1 90 24 := f90n (by decide)
  have x23 : (stG w2 90 22 0).2.1 90 23 = nI j := by rw [f90n (by decide)]; exact r6
  have v30 : (stG v2 90 29 0).2.1 90 30 = nI nU := by rw [f90n (by decide), r4.1.2.2 30 (by decide)]; exact yU
  rcases r8 with ⟨rfl, q24, q⟩ | ⟨rfl, q24⟩
  · rw [x24, q24, if_pos z00, if_neg n10, x4 20 (by decide), xU, inb_nI (show nU < 10 by omega) (by decide), clN (show nU < 1073741824 by omega)]
    have y1 : (stG w2 90 22 0).1 2 = nU + 1 := by show w2.1 2 = _; rw [r3.1]; exact g1
    have y5 : (stG w2 90 22 0).1 5 = nU := by show w2.1 5 = _; rw [r3.1, g2 5 (by decide)]; exact k5
    rw [y1, y5, decide_eq_true (show nU < nU + 1 by omega), decide_eq_true rfl, Bool.and_self, Bool.and_self, Bool.and_self, rd_t]
    have y20 : (incA (stG w2 90 22 0) 5).2.1 90 20 = nI nU := by show (stG w2 90 22 0).2.1 90 20 = _; rw [x4 20 (by decide)]; exact xU
    rw [y20, v30, nI_1, f90s, f90s]
    have hrow : ∀ r, r ≠ 90 → (stG (incA (stG w2 90 22 0) 5) 90 20 (nI (nU + 1))).2.1 r = w2.2.1 r := fun r h => by
      rw [stG_ne h]
      show (stG w2 90 22 0).2.1 r = _
      rw [stG_ne h]
    have mrow : ∀ r, r ≠ 90 → (stG (stG v2 90 29 0) 90 30 (nI (nU + 1))).2.1 r = v2.2.1 r := fun r h => by rw [stG_ne h, stG_ne h]
    refine ⟨_, _, _, rfl, rfl, rel_rule (R := nU) (z := nU + 1) hC hO hB hS hRc hV hG hL hH hK (fun r h1 h2 => ?_) (fun j hj => ?_) (fun i h1 h2 => ?_) ?_ ?_ f90s ?_ (m3.trans (Ag.sf (by decide))) f90s ?_ (by omega) ?_⟩
    · rw [stG_ne h1]; exact x3 r h1 h2
    · have hj' : j ≠ 20 ∧ j ≠ 22 ∧ j ≠ 23 ∧ j ≠ 24 := by simpa using hj
      rw [f90n hj'.1]
      exact x4 j (by simp; exact hj'.2)
    · show (if i = 5 then (stG w2 90 22 0).1 5 + 1 else (stG w2 90 22 0).1 i) = _
      rw [if_neg h2]
      show w2.1 i = _
      rw [r3.1, g2 i h1]
    · exact y1
    · show (stG w2 90 22 0).1 5 + 1 = _
      rw [y5]
    · rw [f90n (by decide)]
      show (stG w2 90 22 0).2.1 90 22 = _
      rw [f90s]; rfl
    · rw [f90n (by decide), f90s]; rfl
    · intro r hr
      by_cases e : r = nU
      · subst e
        obtain ⟨k, z, q1, q2, q3, q4, q5, q6, q7, q8, q9⟩ := q
        refine ⟨k, z, q1, q2, ?_⟩
        rw [hrow (103 + 10 * r) (by omega), hrow (104 + 10 * r) (by omega), hrow (105 + 10 * r) (by omega), hrow (106 + 10 * r) (by omega), hrow (107 + 10 * r) (by omega), mrow 32 (by decide), mrow 33 (by decide), mrow 34 (by decide), mrow 35 (by decide)]
        exact ⟨q3, q4, q5, q6, q7, q8, q9⟩
      · exact rules_old hU (Nat.le_refl nU) (fun r h1 h2 => by rw [hrow r h1, r3.2.1 r h1 h2, g3 r h2]) (fun t h1 h2 r h3 => by rw [mrow t (by omega), r4.2.1 t h1 h2 r h3]) (fun j hj => by rw [mrow 35 (by decide), r4.2.2 j hj]) r (by omega)
  · rw [x24, q24, if_neg n10, if_pos z00, x23, f90n (by decide), r7]
    have y1 : (stG w2 90 22 0).1 = w1.1 := by show w2.1 = _; exact r3.1
    refine ⟨_, _, _, rfl, rfl, rel_rule (R := nU) (z := nU) hC hO hB hS hRc hV hG hL hH hK (fun r h1 h2 => x3 r h1 h2) (fun j hj => x4 j (by simp at hj ⊢; exact hj.2)) (fun i h1 h2 => ?_) ?_ ?_ ?_ ?_ m3 v30 ?_ bU ?_⟩
    · show (if i = 2 then (stG w2 90 22 0).1 2 - 1 else (stG w2 90 22 0).1 i) = _
      rw [if_neg h1, y1, g2 i h1]
    · show (stG w2 90 22 0).1 2 - 1 = _
      rw [y1, g1]; rfl
    · show (stG w2 90 22 0).1 5 = _
      rw [y1, g2 5 (by decide)]; exact k5
    · show (stG w2 90 22 0).2.1 90 20 = _
      rw [x4 20 (by decide)]; exact xU
    · show (stG w2 90 22 0).2.1 90 22 = _
      rw [f90s]; rfl
    · rw [f90s]; rfl
    · exact rules_old hU (Nat.le_refl nU) (fun r h1 h2 => x3 r h1 h2) (fun t h1 h2 r h3 => by rw [stG_ne (by omega), r4.2.1 t h1 h2 r h3]) (fun j hj => by rw [stG_ne (by decide), r4.2.2 j hj])
