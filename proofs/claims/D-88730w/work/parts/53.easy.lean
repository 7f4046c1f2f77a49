set_option maxRecDepth 100000
theorem fin3 {ρ : Type} {R : Wd → Wd → Prop} {x m : Option (ρ × Wd)} {r : ρ} {w1 v1 : Wd} (h1 : x = some (r, w1)) (h2 : m = some (r, v1)) (h3 : R w1 v1) : ∃ (r : ρ) (w1 v1 : Wd), x = some (r, w1) ∧ m = some (r, v1) ∧ R w1 v1 := ⟨r, w1, v1, h1, h2, h3⟩
theorem n10 : ¬ ((1 : Int32) = 0) := by decide
theorem z00 : (0 : Int32) = 0 := rfl
theorem fin1 {ρ : Type} {x m : Option ρ} {r : ρ} (h1 : x = some r) (h2 : m = some r) : ∃ (r : ρ), x = some r ∧ m = some r := ⟨r, h1, h2⟩
theorem finE {ρ : Type} {x m : Option ρ} (h : x = m) (hs : ∃ r, x = some r) : ∃ (r : ρ), x = some r ∧ m = some r := by
  obtain ⟨r, hr⟩ := hs
  exact ⟨r, hr, h ▸ hr⟩
theorem op_count : Op_count Rel := by
  intro w v a1 hR
  have hR0 := hR
  obtain ⟨nO, nB, nC, nU, nT, nL, nH, nP, d, hC, hO, hB, hS, hRc, hV, hT, hU, hG, hL, hH, hK⟩ := hR
  have C := hC
  obtain ⟨⟨bO, bB, bC, bU, bT, bL, bH, bP, bD⟩, ⟨k0, k1, k2, k3, k4, k5⟩, ⟨xO, xB, xD, xC, xU, xP, xT, xL, xH⟩, ⟨yO, yB, yD, yC, yU, yP, yT, yL, yH⟩, hnr, hn0, hn9⟩ := C
  unfold sX_count sM_count
  rw [xO, xB, xD, xC, xU, xP, xT, xL, xH, yO, yB, yD, yC, yU, yP, yT, yL, yH]
  refine finE rfl ?_
  repeat' split
  all_goals exact ⟨_, rfl⟩
theorem op_unrace : Op_unrace Rel := by
  intro w v hR
  have hR0 := hR
  obtain ⟨nO, nB, nC, nU, nT, nL, nH, nP, d, hC, hO, hB, hS, hRc, hV, hT, hU, hG, hL, hH, hK⟩ := hR
  have C := hC
  obtain ⟨⟨bO, bB, bC, bU, bT, bL, bH, bP, bD⟩, ⟨k0, k1, k2, k3, k4, k5⟩, ⟨xO, xB, xD, xC, xU, xP, xT, xL, xH⟩, ⟨yO, yB, yD, yC, yU, yP, yT, yL, yH⟩, hnr, hn0, hn9⟩ := C
  unfold sX_unrace sM_unrace
  rw [xC, yC]
  by_cases h : nC = 0
  · subst h
    exact ⟨-3, w, v, rfl, rfl, hR0⟩
  · have h0 : ¬ nI nC = 0 := nI_ne0 (by omega) (by omega)
    obtain ⟨z, rfl⟩ : ∃ z, nC = z + 1 := ⟨nC - 1, by omega⟩
    rw [if_neg h0, if_neg h0, nI_pred]
    have hw : Ag [] [10] w (stG w 90 10 (nI z)) := Ag.sf (by decide)
    have hv : Ag [] [16] v (stG v 90 16 (nI z)) := Ag.sf (by decide)
    rw [nm_d, nm_d, f90s, f90s]
    refine fin3 rfl rfl ?_
    · exact ⟨nO, nB, z, nU, nT, nL, nH, nP, d, hC.u_nC rfl (fun j hj => f90n hj) (fun j hj => f90n hj) (by omega) f90s f90s, hO.a hw hv (by decide) (by decide), hB.a hw hv (by decide) (by decide), hS.a hw hv (by decide) (by decide), fun r hr => (hRc.a (nC := z + 1) hw hv (by decide) (by decide)) r (by omega), hV.a hw hv (by decide) (by decide), hT.a hw hv (by decide) (by decide), hU.a hw hv (by decide) (by decide), hG.a hw hv (by decide) (by decide), hL.a hw hv (by decide) (by decide), hH.a hw hv (by decide) (by decide), hK.a hw hv (by decide) (by decide)⟩
theorem op_near : Op_near Rel := by
  intro w v a1 hR
  have hR0 := hR
  obtain ⟨nO, nB, nC, nU, nT, nL, nH, nP, d, hC, hO, hB, hS, hRc, hV, hT, hU, hG, hL, hH, hK⟩ := hR
  have C := hC
  obtain ⟨⟨bO, bB, bC, bU, bT, bL, bH, bP, bD⟩, ⟨k0, k1, k2, k3, k4, k5⟩, ⟨xO, xB, xD, xC, xU, xP, xT, xL, xH⟩, ⟨yO, yB, yD, yC, yU, yP, yT, yL, yH⟩, hnr, hn0, hn9⟩ := C
  unfold sX_near sM_near
  rw [sX_in_v, sM_isIn_v, bd_s, bd_s]
  by_cases h : (0 : Int64).toInt ≤ a1.toInt ∧ a1.toInt ≤ (999 : Int64).toInt
  · rw [b1_t h, if_neg n10, if_neg n10, nm_d, nm_d, nm_d, nm_d, hnr]
    have hw : Ag [] [38] w (stG w 90 38 a1) := Ag.sf (by decide)
    have hv : Ag [] [49] v (stG v 90 49 a1) := Ag.sf (by decide)
    refine fin3 rfl rfl ?_
    exact ⟨nO, nB, nC, nU, nT, nL, nH, nP, d, hC.u_near rfl (fun j hj => f90n hj) (fun j hj => f90n hj) (by simpa using h) f90s f90s, hO.a hw hv (by decide) (by decide), hB.a hw hv (by decide) (by decide), hS.a hw hv (by decide) (by decide), hRc.a hw hv (by decide) (by decide), hV.a hw hv (by decide) (by decide), hT.a hw hv (by decide) (by decide), hU.a hw hv (by decide) (by decide), hG.a hw hv (by decide) (by decide), hL.a hw hv (by decide) (by decide), hH.a hw hv (by decide) (by decide), hK.a hw hv (by decide) (by decide)⟩
  · rw [b1_f h, if_pos z00, if_pos z00]
    exact fin3 rfl rfl hR0
theorem op_day : Op_day Rel := by
  intro w v a1 hR
  have hR0 := hR
  obtain ⟨nO, nB, nC, nU, nT, nL, nH, nP, d, hC, hO, hB, hS, hRc, hV, hT, hU, hG, hL, hH, hK⟩ := hR
  have C := hC
  obtain ⟨⟨bO, bB, bC, bU, bT, bL, bH, bP, bD⟩, ⟨k0, k1, k2, k3, k4, k5⟩, ⟨xO, xB, xD, xC, xU, xP, xT, xL, xH⟩, ⟨yO, yB, yD, yC, yU, yP, yT, yL, yH⟩, hnr, hn0, hn9⟩ := C
  unfold sX_day sM_day
  rw [xD, yD, sX_in_v, sM_isIn_v, bd_s, bd_s]
  by_cases h : (nI d).toInt64.toInt ≤ a1.toInt ∧ a1.toInt ≤ (999 : Int64).toInt
  · rw [b1_t h, if_neg n10, if_neg n10, nm_d, nm_d, nm_d, nm_d]
    rw [toI64, nTi (by omega)] at h
    obtain ⟨z, hz, rfl⟩ := ix_of (x := a1) (n := 1000) (by have h9 : (999 : Int64).toInt = 999 := by decide
                                                           omega)
    have hw : Ag [] [4] w (stG w 90 4 (nI z)) := Ag.sf (by decide)
    have hv : Ag [] [31] v (stG v 90 31 (nI z)) := Ag.sf (by decide)
    refine fin3 rfl rfl ?_
    exact ⟨nO, nB, nC, nU, nT, nL, nH, nP, z, hC.u_d rfl (fun j hj => f90n hj) (fun j hj => f90n hj) (by omega) f90s f90s, hO.a hw hv (by decide) (by decide), hB.a hw hv (by decide) (by decide), hS.a hw hv (by decide) (by decide), hRc.a hw hv (by decide) (by decide), hV.a hw hv (by decide) (by decide), hT.a hw hv (by decide) (by decide), hU.a hw hv (by decide) (by decide), hG.a hw hv (by decide) (by decide), hL.a hw hv (by decide) (by decide), hH.a hw hv (by decide) (by decide), hK.a hw hv (by decide) (by decide)⟩
  · rw [b1_f h, if_pos z00, if_pos z00]
    exact fin3 rfl rfl hR0
theorem op_outing : Op_outing Rel := by
  intro w v a1 a2 hR
  have hR0 := hR
  obtain ⟨nO, nB, nC, nU, nT, nL, nH, nP, d, hC, hO, hB, hS, hRc, hV, hT, hU, hG, hL, hH, hK⟩ := hR
  have C := hC
  obtain ⟨⟨bO, bB, bC, bU, bT, bL, bH, bP, bD⟩, ⟨k0, k1, k2, k3, k4, k5⟩, ⟨xO, xB, xD, xC, xU, xP, xT, xL, xH⟩, ⟨yO, yB, yD, yC, yU, yP, yT, yL, yH⟩, hnr, hn0, hn9⟩ := C
  unfold sX_outing sM_outing
  rw [xT, yT, in_below a1 (by omega), isIn_below a1 (by omega), bd_s, bd_s]
  by_cases h : 0 ≤ a1.toInt ∧ a1.toInt < nT
  · rw [b1_t h, if_neg n10, if_neg n10]
    obtain ⟨j, hj, rfl⟩ := ix_of h
    rw [inb_nI (show j < 30 by omega) (by decide), clN (by omega)]
    simp only [rd_t]
    obtain ⟨⟨b, hb, g1, g2⟩, g3, g4, g5⟩ := hG j hj
    rw [g1, g2, g3, g4, g5]
    refine finE rfl ?_
    repeat' split
    all_goals exact ⟨_, rfl⟩
  · rw [b1_f h, if_pos z00, if_pos z00]
    exact fin1 rfl rfl
theorem op_water : Op_water Rel := by
  intro w v a1 a2 a3 hR
  have hR0 := hR
  obtain ⟨nO, nB, nC, nU, nT, nL, nH, nP, d, hC, hO, hB, hS, hRc, hV, hT, hU, hG, hL, hH, hK⟩ := hR
  have C := hC
  obtain ⟨⟨bO, bB, bC, bU, bT, bL, bH, bP, bD⟩, ⟨k0, k1, k2, k3, k4, k5⟩, ⟨xO, xB, xD, xC, xU, xP, xT, xL, xH⟩, ⟨yO, yB, yD, yC, yU, yP, yT, yL, yH⟩, hnr, hn0, hn9⟩ := C
  unfold sX_water sM_water
  rw [sX_in_v, sM_isIn_v, sX_in_v, sM_isIn_v, sX_in_v, sM_isIn_v]
  simp only [bd_s]
  by_cases h : (0 : Int64).toInt ≤ a1.toInt ∧ a1.toInt ≤ (29 : Int64).toInt
  · rw [b1_t h, if_neg n10, if_neg n10]
    by_cases h2 : (0 : Int64).toInt ≤ a2.toInt ∧ a2.toInt ≤ (200 : Int64).toInt
    · rw [b1_t h2, if_neg n10, if_neg n10]
      by_cases h3 : (0 : Int64).toInt ≤ a3.toInt ∧ a3.toInt ≤ (12 : Int64).toInt
      · rw [b1_t h3, if_neg n10, if_neg n10]
        obtain ⟨j, hj, rfl⟩ := ix_of (x := a1) (n := 30) (by have h9 : (29 : Int64).toInt = 29 := by decide
                                                             have h8 : (0 : Int64).toInt = 0 := by decide
                                                             omega)
        rw [inb_nI hj (by decide), clN (by omega)]
        simp only [rd_t]
        have hw : Ag [17, 18] [] w (stG (stG w 17 j a2) 18 j a3) := (Ag.st (by decide) (by decide)).trans (Ag.st (by decide) (by decide))
        have hv : Ag [26, 27] [] v (stG (stG v 26 j a2) 27 j a3) := (Ag.st (by decide) (by decide)).trans (Ag.st (by decide) (by decide))
        refine fin3 rfl rfl ?_
        refine ⟨nO, nB, nC, nU, nT, nL, nH, nP, d, hC.a hw hv (by decide) (by decide), hO.a hw hv (by decide) (by decide), hB.a hw hv (by decide) (by decide), hS.a hw hv (by decide) (by decide), hRc.a hw hv (by decide) (by decide), ?_, hT.a hw hv (by decide) (by decide), hU.a hw hv (by decide) (by decide), hG.a hw hv (by decide) (by decide), hL.a hw hv (by decide) (by decide), hH.a hw hv (by decide) (by decide), hK.a hw hv (by decide) (by decide)⟩
        intro z hz
        obtain ⟨e1, e2⟩ := hV z hz
        have a1' : (stG (stG w 17 j a2) 18 j a3).2.1 17 = upd (w.2.1 17) j a2 := by rw [stG_ne (by decide), stG_eq]
        have a2' : (stG (stG w 17 j a2) 18 j a3).2.1 18 = upd (w.2.1 18) j a3 := by rw [stG_eq, stG_ne (by decide)]
        have b1' : (stG (stG v 26 j a2) 27 j a3).2.1 26 = upd (v.2.1 26) j a2 := by rw [stG_ne (by decide), stG_eq]
        have b2' : (stG (stG v 26 j a2) 27 j a3).2.1 27 = upd (v.2.1 27) j a3 := by rw [stG_eq, stG_ne (by decide)]
        rw [a1', a2', b1', b2']
        unfold upd
        rw [e1, e2]
        exact ⟨rfl, rfl⟩
      · rw [b1_f h3, if_pos z00, if_pos z00]
        exact fin3 rfl rfl hR0
    · rw [b1_f h2, if_pos z00, if_pos z00]
      exact fin3 rfl rfl hR0
  · rw [b1_f h, if_pos z00, if_pos z00]
    exact fin3 rfl rfl hR0
theorem op_race : Op_race Rel := by
  intro w v a1 a2 a3 hR
  have hR0 := hR
  obtain ⟨nO, nB, nC, nU, nT, nL, nH, nP, d, hC, hO, hB, hS, hRc, hV, hT, hU, hG, hL, hH, hK⟩ := hR
  have C := hC
  obtain ⟨⟨bO, bB, bC, bU, bT, bL, bH, bP, bD⟩, ⟨k0, k1, k2, k3, k4, k5⟩, ⟨xO, xB, xD, xC, xU, xP, xT, xL, xH⟩, ⟨yO, yB, yD, yC, yU, yP, yT, yL, yH⟩, hnr, hn0, hn9⟩ := C
  unfold sX_race sM_race
  rw [sX_isOar_v a1 xO (by omega), sX_isOar_v a2 xO (by omega), sM_isOar_v a1 yO (by omega), sM_isOar_v a2 yO (by omega), sX_in_v, sM_isIn_v]
  simp only [bd_s]
  by_cases h1 : 0 ≤ a1.toInt ∧ a1.toInt < nO
  · rw [b1_t h1, if_neg n10, if_neg n10]
    by_cases h2 : 0 ≤ a2.toInt ∧ a2.toInt < nO
    · rw [b1_t h2, if_neg n10, if_neg n10]
      by_cases h12 : a1 = a2
      · rw [if_pos h12, if_pos h12]
        exact fin3 rfl rfl hR0
      rw [if_neg h12, if_neg h12]
      by_cases h3 : (-999 : Int64).toInt ≤ a3.toInt ∧ a3.toInt ≤ (999 : Int64).toInt
      · rw [b1_t h3, if_neg n10, if_neg n10, xC, yC]
        by_cases h4 : nC = 40
        · subst h4
          exact fin3 rfl rfl hR0
        have h40 : ¬ nI nC = 40 := fun z => h4 ((nIeq (a := nC) (b := 40) (by omega) (by decide)).mp z)
        rw [if_neg h40, if_neg h40]
        have hlt : nC < 40 := by omega
        have hin : inb (nI nC) 40 = true := inb_nI hlt (by decide)
        have hcl : (nI nC).toNatClampNeg = nC := clN (by omega)
        simp only [f90 (show (5 : Nat) ≠ 90 by decide), f90 (show (6 : Nat) ≠ 90 by decide), f90 (show (7 : Nat) ≠ 90 by decide), f90 (show (12 : Nat) ≠ 90 by decide), f90 (show (13 : Nat) ≠ 90 by decide), f90 (show (14 : Nat) ≠ 90 by decide), xC, yC, hin, hcl, rd_t, nm_d, f90s, nI_1]
        have hw : Ag [5, 6, 7] [10] w (stG (stG (stG (stG w 5 nC a1) 6 nC a2) 7 nC a3) 90 10 (nI (nC + 1))) := (((Ag.st (by decide) (by decide)).trans (Ag.st (by decide) (by decide))).trans (Ag.st (by decide) (by decide))).trans (Ag.sf (by decide))
        have hv : Ag [12, 13, 14] [16] v (stG (stG (stG (stG v 12 nC a1) 13 nC a2) 14 nC a3) 90 16 (nI (nC + 1))) := (((Ag.st (by decide) (by decide)).trans (Ag.st (by decide) (by decide))).trans (Ag.st (by decide) (by decide))).trans (Ag.sf (by decide))
        refine fin3 rfl rfl ?_
        obtain ⟨x, hx, rfl⟩ := ix_of h1
        obtain ⟨y, hy, rfl⟩ := ix_of h2
        refine ⟨nO, nB, (nC + 1), nU, nT, nL, nH, nP, d, hC.u_nC rfl (fun j hj => by rw [f90n hj, f90 (by decide), f90 (by decide), f90 (by decide)]) (fun j hj => by rw [f90n hj, f90 (by decide), f90 (by decide), f90 (by decide)]) (by omega) f90s f90s, hO.a hw hv (by decide) (by decide), hB.a hw hv (by decide) (by decide), hS.a hw hv (by decide) (by decide), ?_, hV.a hw hv (by decide) (by decide), hT.a hw hv (by decide) (by decide), hU.a hw hv (by decide) (by decide), hG.a hw hv (by decide) (by decide), hL.a hw hv (by decide) (by decide), hH.a hw hv (by decide) (by decide), hK.a hw hv (by decide) (by decide)⟩
        have e5 : (stG (stG (stG (stG w 5 nC (nI x)) 6 nC (nI y)) 7 nC a3) 90 10 (nI (nC + 1))).2.1 5 = upd (w.2.1 5) nC (nI x) := by rw [stG_ne (by decide), stG_ne (by decide), stG_ne (by decide), stG_eq]
        have e6 : (stG (stG (stG (stG w 5 nC (nI x)) 6 nC (nI y)) 7 nC a3) 90 10 (nI (nC + 1))).2.1 6 = upd (w.2.1 6) nC (nI y) := by rw [stG_ne (by decide), stG_ne (by decide), stG_eq, stG_ne (by decide)]
        have e7 : (stG (stG (stG (stG w 5 nC (nI x)) 6 nC (nI y)) 7 nC a3) 90 10 (nI (nC + 1))).2.1 7 = upd (w.2.1 7) nC a3 := by rw [stG_ne (by decide), stG_eq, stG_ne (by decide), stG_ne (by decide)]
        have f5 : (stG (stG (stG (stG v 12 nC (nI x)) 13 nC (nI y)) 14 nC a3) 90 16 (nI (nC + 1))).2.1 12 = upd (v.2.1 12) nC (nI x) := by rw [stG_ne (by decide), stG_ne (by decide), stG_ne (by decide), stG_eq]
        have f6 : (stG (stG (stG (stG v 12 nC (nI x)) 13 nC (nI y)) 14 nC a3) 90 16 (nI (nC + 1))).2.1 13 = upd (v.2.1 13) nC (nI y) := by rw [stG_ne (by decide), stG_ne (by decide), stG_eq, stG_ne (by decide)]
        have f7 : (stG (stG (stG (stG v 12 nC (nI x)) 13 nC (nI y)) 14 nC a3) 90 16 (nI (nC + 1))).2.1 14 = upd (v.2.1 14) nC a3 := by rw [stG_ne (by decide), stG_eq, stG_ne (by decide), stG_ne (by decide)]
        intro r hr
        rw [e5, e6, e7, f5, f6, f7]
        by_cases hrn : r = nC
        · subst hrn
          rw [pk_us, pk_us, pk_us, pk_us, pk_us, pk_us]
          have h9 : (-999 : Int64).toInt = -999 := by decide
          have h8 : (999 : Int64).toInt = 999 := by decide
          exact ⟨x, y, hx, hy, fun z => h12 (by rw [z]), rfl, rfl, rfl, rfl, rfl, by omega, by omega⟩
        · rw [pk_un hrn, pk_un hrn, pk_un hrn, pk_un hrn, pk_un hrn, pk_un hrn]
          exact hRc r (by omega)
      · rw [b1_f h3, if_pos z00, if_pos z00]
        exact fin3 rfl rfl hR0
    · rw [b1_f h2, if_pos z00, if_pos z00]
      exact fin3 rfl rfl hR0
  · rw [b1_f h1, if_pos z00, if_pos z00]
    exact fin3 rfl rfl hR0
theorem op_heat : Op_heat Rel := by
  intro w v a1 a2 hR
  have hR0 := hR
  obtain ⟨nO, nB, nC, nU, nT, nL, nH, nP, d, hC, hO, hB, hS, hRc, hV, hT, hU, hG, hL, hH, hK⟩ := hR
  have C := hC
  obtain ⟨⟨bO, bB, bC, bU, bT, bL, bH, bP, bD⟩, ⟨k0, k1, k2, k3, k4, k5⟩, ⟨xO, xB, xD, xC, xU, xP, xT, xL, xH⟩, ⟨yO, yB, yD, yC, yU, yP, yT, yL, yH⟩, hnr, hn0, hn9⟩ := C
  unfold sX_heat sM_heat
  rw [sX_isBoat_v a1 xB (by omega), sM_isBoat_v a1 yB (by omega), sX_in_v, sM_isIn_v]
  simp only [bd_s]
  by_cases h1 : 0 ≤ a1.toInt ∧ a1.toInt < nB
  · rw [b1_t h1, if_neg n10, if_neg n10]
    by_cases h3 : (0 : Int64).toInt ≤ a2.toInt ∧ a2.toInt ≤ (1439 : Int64).toInt
    · rw [b1_t h3, if_neg n10, if_neg n10, xH, yH]
      by_cases h4 : nH = 20
      · subst h4
        exact fin3 rfl rfl hR0
      have h40 : ¬ nI nH = 20 := fun z => h4 ((nIeq (a := nH) (b := 20) (by omega) (by decide)).mp z)
      rw [if_neg h40, if_neg h40]
      have hlt : nH < 20 := by omega
      have hin : inb (nI nH) 20 = true := inb_nI hlt (by decide)
      have hcl : (nI nH).toNatClampNeg = nH := clN (by omega)
      simp only [f90 (show (35 : Nat) ≠ 90 by decide), f90 (show (36 : Nat) ≠ 90 by decide), f90 (show (46 : Nat) ≠ 90 by decide), f90 (show (47 : Nat) ≠ 90 by decide), xH, yH, hin, hcl, rd_t, nm_d, f90s, nI_1, nI_pred]
      have hw : Ag [35, 36] [37] w (stG (stG (stG w 36 nH a1) 35 nH a2) 90 37 (nI (nH + 1))) := ((Ag.st (by decide) (by decide)).trans (Ag.st (by decide) (by decide))).trans (Ag.sf (by decide))
      have hv : Ag [46, 47] [48] v (stG (stG (stG v 46 nH a1) 47 nH a2) 90 48 (nI (nH + 1))) := ((Ag.st (by decide) (by decide)).trans (Ag.st (by decide) (by decide))).trans (Ag.sf (by decide))
      refine fin3 rfl rfl ?_
      obtain ⟨x, hx, rfl⟩ := ix_of h1
      obtain ⟨y, hy, rfl⟩ := ix_of (x := a2) (n := 1440) (by have h9 : (1439 : Int64).toInt = 1439 := by decide
                                                             have h8 : (0 : Int64).toInt = 0 := by decide
                                                             omega)
      refine ⟨nO, nB, nC, nU, nT, nL, (nH + 1), nP, d, hC.u_nH rfl (fun j hj => by rw [f90n hj, f90 (by decide), f90 (by decide)]) (fun j hj => by rw [f90n hj, f90 (by decide), f90 (by decide)]) (by omega) f90s f90s, hO.a hw hv (by decide) (by decide), hB.a hw hv (by decide) (by decide), hS.a hw hv (by decide) (by decide), hRc.a hw hv (by decide) (by decide), hV.a hw hv (by decide) (by decide), hT.a hw hv (by decide) (by decide), hU.a hw hv (by decide) (by decide), hG.a hw hv (by decide) (by decide), hL.a hw hv (by decide) (by decide), ?_, hK.a hw hv (by decide) (by decide)⟩
      have e5 : (stG (stG (stG w 36 nH (nI x)) 35 nH (nI y)) 90 37 (nI (nH + 1))).2.1 36 = upd (w.2.1 36) nH (nI x) := by rw [stG_ne (by decide), stG_ne (by decide), stG_eq]
      have e6 : (stG (stG (stG w 36 nH (nI x)) 35 nH (nI y)) 90 37 (nI (nH + 1))).2.1 35 = upd (w.2.1 35) nH (nI y) := by rw [stG_ne (by decide), stG_eq, stG_ne (by decide)]
      have f5 : (stG (stG (stG v 46 nH (nI x)) 47 nH (nI y)) 90 48 (nI (nH + 1))).2.1 46 = upd (v.2.1 46) nH (nI x) := by rw [stG_ne (by decide), stG_ne (by decide), stG_eq]
      have f6 : (stG (stG (stG v 46 nH (nI x)) 47 nH (nI y)) 90 48 (nI (nH + 1))).2.1 47 = upd (v.2.1 47) nH (nI y) := by rw [stG_ne (by decide), stG_eq, stG_ne (by decide)]
      intro r hr
      rw [e5, e6, f5, f6]
      by_cases hrn : r = nH
      · subst hrn
        rw [pk_us, pk_us, pk_us, pk_us]
        exact ⟨x, y, hx, hy, rfl, rfl, rfl, rfl⟩
      · rw [pk_un hrn, pk_un hrn, pk_un hrn, pk_un hrn]
        exact hH r (by omega)
    · rw [b1_f h3, if_pos z00, if_pos z00]
      exact fin3 rfl rfl hR0
  · rw [b1_f h1, if_pos z00, if_pos z00]
    exact fin3 rfl rfl hR0
