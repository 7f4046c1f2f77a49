set_option maxRecDepth 100000
def tY (a1 : Nat) (w12 : Wd) : Option Wd := nm (0 : Int32) fun x14 => nm (0 : Int32) fun x15 => jn (fun x16 x17 w18 => jn (fun w20 => gd (decide (a1 < w20.1 2)) (rd (decide (a1 < w20.1 2)) (w20.2.1 (103 + 10 * a1) 2) fun v22 => rd (decide (a1 < w20.1 2) && inb v22 3) (stG w20 (106 + 10 * a1) (Int32.toNatClampNeg v22) x16) fun w23 => rd (decide (a1 < w23.1 2)) (w23.2.1 (103 + 10 * a1) 2) fun v24 => rd (decide (a1 < w23.1 2)) (stG w23 (103 + 10 * a1) 2 (v24 + (1 : Int32))) fun w25 => some w25)) fun J21 => if x17 = 0 then (nm (stG w18 90 24 (1 : Int32)) fun w26 => J21 w26) else (J21 w18)) fun J19 => sX_test_L109 J19 x14 x15 w12
def tX (a1 : Nat) (w2 : Wd) : Option Wd := gd (decide (a1 < w2.1 2)) (rd (decide (a1 < w2.1 2)) (w2.2.1 (103 + 10 * a1) 2) fun v4 => bd2 (sX_word w2 100 (1 : Int32)) fun v5 w6 => rd (decide (a1 < w6.1 2) && inb v4 3) (stG w6 (104 + 10 * a1) (Int32.toNatClampNeg v4) v5) fun w7 => if (w7.2.1 90 24) = 0 then (gd (decide (a1 < w7.1 2)) (rd (decide (a1 < w7.1 2)) (w7.2.1 (103 + 10 * a1) 2) fun v8 => bd (sX_now w7) fun v9 => rd (decide (a1 < w7.1 2) && inb v8 3) (stG w7 (105 + 10 * a1) (Int32.toNatClampNeg v8) v9) fun w10 => bd (sX_now w10) fun v11 => jn (tY a1) fun J13 => jn (nm (stG w10 90 23 ((w10.2.1 90 23) + (1 : Int32))) fun w38 => J13 w38) fun J37 => if v11 = (60 : Int32) then (J37) else (bd (sX_now w10) fun v39 => if v39 = (62 : Int32) then (J37) else (bd (sX_signs w10 12) fun w40 => J13 w40)))) else (some w7))
def tM (a1 x3 : Int32) (w2 : Wd) : Option (Int32 × Wd) := bd2 (sM_word w2 (8 : Int32) (14 : Int32)) fun v4 w5 => nm v4 fun x6 => if 0 ≤ x6 then (bd (sM_sign w5) fun v7 => nm v7 fun x8 => jn (nm (stG w5 90 36 ((w5.2.1 90 36) + (1 : Int32))) fun w10 => bd (sM_sign w10) fun v11 => bd (sM_isDigit v11) fun v12 => if v12 = 0 then (some ((0 : Int32), w10)) else (nm (0 : Int32) fun x13 => nm (0 : Int32) fun x14 => jn (fun x15 w16 => jn (fun z18 => rd (inb a1 120) (stG w16 35 (Int32.toNatClampNeg a1) z18) fun w20 => rd (inb (a1 + (1 : Int32)) 120) (stG w20 35 (Int32.toNatClampNeg (a1 + (1 : Int32))) (x6 - (8 : Int32))) fun w21 => rd (inb (a1 + (2 : Int32)) 120) (stG w21 35 (Int32.toNatClampNeg (a1 + (2 : Int32))) x8) fun w22 => rd (inb (a1 + (3 : Int32)) 120) (stG w22 35 (Int32.toNatClampNeg (a1 + (3 : Int32))) x15) fun w23 => some ((1 : Int32), w23)) fun J19 => if x3 = 0 then (J19 (0 : Int32)) else (J19 (1 : Int32))) fun J17 => sM_test_L79 J17 x13 x14 w10)) fun J9 => if x8 = (61 : Int32) then (J9) else (if x8 = (60 : Int32) then (J9) else (if x8 = (62 : Int32) then (J9) else (some ((0 : Int32), w5))))) else (some ((0 : Int32), w5))
theorem tX_e (w : Wd) (a1 : Nat) : sX_test w a1 = bd (sX_now w) fun v1 => jn (tX a1) fun J3 => if v1 = 33 then nm (stG w 90 23 (w.2.1 90 23 + 1)) fun w41 => gd (decide (a1 < w41.1 2)) (rd (decide (a1 < w41.1 2)) (w41.2.1 (103 + 10 * a1) 2) fun v42 => rd (decide (a1 < w41.1 2) && inb v42 3) (stG w41 (107 + 10 * a1) v42.toNatClampNeg (vp_nar .boolean 1)) fun w43 => J3 w43) else J3 w := rfl
theorem tM_e (w : Wd) (a1 : Int32) : sM_test w a1 = bd2 (sM_takes w 33) fun v1 w2 => tM a1 v1 w2 := rfl
theorem tYtail {R z : Nat} {w18 : Wd} {x16 : Int32} (hR : R < w18.1 2) (hz : z < 3) (es : w18.2.1 (103 + 10 * R) 2 = nI z) : ∃ w', (gd (decide (R < w18.1 2)) (rd (decide (R < w18.1 2)) (w18.2.1 (103 + 10 * R) 2) fun v22 => rd (decide (R < w18.1 2) && inb v22 3) (stG w18 (106 + 10 * R) (Int32.toNatClampNeg v22) x16) fun w23 => rd (decide (R < w23.1 2)) (w23.2.1 (103 + 10 * R) 2) fun v24 => rd (decide (R < w23.1 2)) (stG w23 (103 + 10 * R) 2 (v24 + (1 : Int32))) fun w25 => some w25)) = some w' ∧ XF R z w18 w' ∧ w'.2.1 90 = w18.2.1 90 ∧ w'.2.1 (106 + 10 * R) z = x16 ∧ w'.2.1 (103 + 10 * R) 2 = nI (z + 1) ∧ w'.2.1 (104 + 10 * R) = w18.2.1 (104 + 10 * R) ∧ w'.2.1 (105 + 10 * R) = w18.2.1 (105 + 10 * R) ∧ w'.2.1 (107 + 10 * R) = w18.2.1 (107 + 10 * R) := by
  rw [decide_eq_true hR, gd_t, rd_t, es, inb_nI hz (by decide), clN (show z < 1073741824 by omega), show (true && true) = true from rfl, rd_t, show (stG w18 (106 + 10 * R) z x16).1 = w18.1 from rfl, decide_eq_true hR, rd_t, rd_t, stG_ne (show 103 + 10 * R ≠ 106 + 10 * R by omega), es, nI_1]
  refine ⟨_, rfl, (XF.st (by decide) (by decide)).trans XF.sz, ?_, ?_, ?_, ?_, ?_, ?_⟩
  · rw [stG_ne (by omega), stG_ne (by omega)]
  · rw [stG_ne (by omega), stG_eq, pk_us]
  · rw [stG_eq, pk_us]
  · rw [stG_ne (by omega), stG_ne (by omega)]
  · rw [stG_ne (by omega), stG_ne (by omega)]
  · rw [stG_ne (by omega), stG_ne (by omega)]
theorem tY_bad {T : Nat → Int32} {nP R z i : Nat} {w : Wd} (bP : nP ≤ 120) (hT : ∀ q, nP ≤ q → T q = -1) (hX : TX T nP w) (hi : i ≤ nP) (hR : R < w.1 2) (hz : z < 3) (es : w.2.1 (103 + 10 * R) 2 = nI z) (e1 : w.2.1 90 23 = nI i) (e2 : w.2.1 90 24 = 1 ∨ (w.2.1 90 24 = 0 ∧ ¬ isDg (T i))) : ∃ w', tY R w = some w' ∧ XF R z w w' ∧ w'.2.1 90 23 = nI i ∧ w'.2.1 90 24 = 1 := by
  have hL : ∀ J, sX_test_L109 J 0 0 w = J 0 0 w := by
    intro J
    rw [eX_test_L109]
    obtain ⟨g, hg⟩ : ∃ g, FU = g + 1 := ⟨99999, by rw [FU_v]⟩
    rw [hg, fx_s]
    unfold bX_test_L109
    rcases e2 with e2 | ⟨e2, hd⟩
    · rw [e2, if_neg n10]
    · rw [e2, if_pos z00, if_neg (show ¬ (3 : Int32) ≤ 0 by decide), now_v bP hT hX (show i < 1000 by omega) e1, bd_s, inDg_v, bd_s, b1_f hd, if_pos z00]
  have a1 : Ag [] [23, 24] w (stG w 90 24 1) := Ag.sf (by decide)
  obtain ⟨w', q1, q2, q3, -⟩ := tYtail (w18 := stG w 90 24 1) (x16 := 0) (R := R) (z := z) hR hz (by rw [stG_ne (by omega)]; exact es)
  refine ⟨w', ?_, (XF.ag a1).trans q2, ?_, ?_⟩
  · unfold tY
    simp only [nm_d]
    rw [jn_d, hL, jn_d, if_pos z00]
    exact q1
  · rw [q3, f90n (by decide)]; exact e1
  · rw [q3, f90s]
theorem tY_good {T : Nat → Int32} {nP R z i : Nat} {w v : Wd} (bP : nP ≤ 120) (hT : ∀ q, nP ≤ q → T q = -1) (hX : TX T nP w) (hM : TM T nP v) (hi : i ≤ nP) (hR : R < w.1 2) (hz : z < 3) (es : w.2.1 (103 + 10 * R) 2 = nI z) (e1 : w.2.1 90 23 = nI i) (e2 : w.2.1 90 24 = 0) (e3 : v.2.1 90 36 = nI i) (hd : isDg (T i)) : ∃ (y : Int32) (j : Nat) (w' v' : Wd), tY R w = some w' ∧ (∀ J, sM_test_L79 J 0 0 v = J y v') ∧ XF R z w w' ∧ Ag [] [36] v v' ∧ j ≤ nP ∧ w'.2.1 90 23 = nI j ∧ v'.2.1 90 36 = nI j ∧ w'.2.1 90 24 = 0 ∧ w'.2.1 (106 + 10 * R) z = y ∧ w'.2.1 (103 + 10 * R) 2 = nI (z + 1) ∧ w'.2.1 (104 + 10 * R) = w.2.1 (104 + 10 * R) ∧ w'.2.1 (105 + 10 * R) = w.2.1 (105 + 10 * R) ∧ w'.2.1 (107 + 10 * R) = w.2.1 (107 + 10 * R) := by
  obtain ⟨y, k, j, w1, v1, r1, r2, r3, r4, r5, r6, r7, r8, r9, r10, -⟩ := digits_v bP hT 3 0 i FU FU 0 w v (by omega) (by rw [FU_v]; omega) (by rw [FU_v]; omega) hi hX hM e1 e2 e3
  have hk := r10 hd (by omega)
  have r1' : ∀ J, sX_test_L109 J 0 0 w = J y (nI k) w1 := fun J => by rw [eX_test_L109]; exact r1 J
  have r2' : ∀ J, sM_test_L79 J 0 0 v = J y v1 := fun J => by rw [eM_test_L79]; exact r2 J
  have rw_ : ∀ r, r ≠ 90 → w1.2.1 r = w.2.1 r := fun r h => r3.2.1 r h (by simp)
  obtain ⟨w', q1, q2, q3, q4, q5, q6, q7, q8⟩ := tYtail (w18 := w1) (x16 := y) (R := R) (z := z) (by rw [r3.1]; exact hR) hz (by rw [rw_ _ (by omega)]; exact es)
  refine ⟨y, j, w', v1, ?_, r2', (XF.ag (r3.mono (by simp) (by simp))).trans q2, r4, r7, by rw [q3]; exact r5, r6, ?_, q4, q5, by rw [q6, rw_ _ (by omega)], by rw [q7, rw_ _ (by omega)], by rw [q8, rw_ _ (by omega)]⟩
  · unfold tY
    simp only [nm_d]
    rw [jn_d, r1', jn_d, if_neg (nI_ne0 (by omega) (by omega))]
    exact q1
  · rw [q3, r3.2.2 24 (by decide)]; exact e2
