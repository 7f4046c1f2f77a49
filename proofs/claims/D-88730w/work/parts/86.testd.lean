set_option maxRecDepth 100000
theorem rest_v {T : Nat → Int32} {nP R z i A : Nat} {w v : Wd} {x3 : Int32} (bP : nP ≤ 120) (hT : ∀ q, nP ≤ q → T q = -1) (hX : TX T nP w) (hM : TM T nP v) (hi : i ≤ nP) (hR : R < w.1 2) (hz : z < 3) (hA : A + 3 < 120) (es : w.2.1 (103 + 10 * R) 2 = nI z) (e1 : w.2.1 90 23 = nI i) (e2 : w.2.1 90 24 = 0) (e3 : v.2.1 90 36 = nI i) : ∃ (s : Int32) (j : Nat) (w' v' : Wd), tX R w = some w' ∧ tM (nI A) x3 v = some (s, v') ∧ XF R z w w' ∧ Ag [35] [36] v v' ∧ (∀ q, q < A → v'.2.1 35 q = v.2.1 35 q) ∧ j ≤ nP ∧ w'.2.1 90 23 = nI j ∧ v'.2.1 90 36 = nI j ∧ ((s = 1 ∧ w'.2.1 90 24 = 0 ∧ TestOk R z A x3 w v w' v') ∨ (s = 0 ∧ w'.2.1 90 24 = 1)) := by
  obtain ⟨r, j1, w6, v5, hj1, a6, b5, p6, p5, ex, hr⟩ := field_v bP hT hX hM hi e1 e2 e3
  have row6 : ∀ q, q ≠ 90 → w6.2.1 q = w.2.1 q := fun q h => a6.2.1 q h (by simp)
  have es6 : w6.2.1 (103 + 10 * R) 2 = nI z := by rw [row6 _ (by omega)]; exact es
  have xf7 : XF R z w (stG w6 (104 + 10 * R) z r) := (XF.ag a6).trans (XF.st (by decide) (by decide))
  have hX7 := hX.xf xf7
  unfold tX tM
  rw [decide_eq_true hR, gd_t, rd_t, es, ex, bd2_s, a6.1, decide_eq_true hR, inb_nI hz (by decide), clN (show z < 1073741824 by omega), show (true && true) = true from rfl, rd_t]
  have f7 : ∀ k, (stG w6 (104 + 10 * R) z r).2.1 90 k = w6.2.1 90 k := fun k => by rw [stG_ne (by omega)]
  rcases hr with ⟨f, hf, rfl, q24, em⟩ | ⟨q24, em⟩
  rotate_left
  · rw [f7, q24, if_neg n10, em, bd2_s, nm_d, if_neg (show ¬ (0 : Int32) ≤ -1 by decide)]
    exact ⟨0, j1, _, v5, rfl, rfl, xf7, b5.mono (by simp) (by simp), fun q _ => by rw [b5.2.1 35 (by decide) (by decide)], hj1, by rw [f7]; exact p6, p5, Or.inr ⟨rfl, by rw [f7]; exact q24⟩⟩
  rw [f7, q24, if_pos z00, em, bd2_s, nm_d, if_pos (show (0 : Int32) ≤ nI (8 + f) from nI_pos' (by omega))]
  have now7 := now_v bP hT hX7 (show j1 < 1000 by omega) (by rw [f7]; exact p6)
  have sg5 := sign_v bP hT (hM.ag b5) (show j1 < 1000 by omega) p5
  have es7 : (stG w6 (104 + 10 * R) z (nI f)).2.1 (103 + 10 * R) 2 = nI z := by rw [stG_ne (by omega)]; exact es6
  rw [show (stG w6 (104 + 10 * R) z (nI f)).1 = w.1 from a6.1, decide_eq_true hR, gd_t, rd_t, es7, now7, bd_s, inb_nI hz (by decide), clN (show z < 1073741824 by omega), show (true && true) = true from rfl, rd_t, sg5, bd_s, nm_d]
  generalize hw10 : stG (stG w6 (104 + 10 * R) z (nI f)) (105 + 10 * R) z (T j1) = w10
  have xf10 : XF R z w w10 := by rw [← hw10]; exact xf7.trans (XF.st (by decide) (by decide))
  have c1 : w10.1 = w.1 := xf10.1
  have c90 : w10.2.1 90 = w6.2.1 90 := by rw [← hw10, stG_ne (by omega), stG_ne (by omega)]
  have c23 : w10.2.1 90 23 = nI j1 := by rw [c90]; exact p6
  have c24 : w10.2.1 90 24 = 0 := by rw [c90]; exact q24
  have c103 : w10.2.1 (103 + 10 * R) 2 = nI z := by rw [← hw10, stG_ne (by omega)]; exact es7
  have c104 : w10.2.1 (104 + 10 * R) z = nI f := by rw [← hw10, stG_ne (by omega), stG_eq, pk_us]
  have c105 : w10.2.1 (105 + 10 * R) z = T j1 := by rw [← hw10, stG_eq, pk_us]
  have c107 : w10.2.1 (107 + 10 * R) z = w.2.1 (107 + 10 * R) z := by rw [← hw10, stG_ne (by omega), stG_ne (by omega), row6 _ (by omega)]
  have hX10 := hX.xf xf10
  have now10 := now_v bP hT hX10 (show j1 < 1000 by omega) c23
  rw [now10, bd_s]
  have jlt : ¬ T j1 = -1 → j1 < nP := fun h => by
    rcases Nat.lt_or_ge j1 nP with q | q
    · exact q
    · exact absurd (hT j1 q) h
  have b10 : Ag [] [36] v (stG v5 90 36 (nI (j1 + 1))) := b5.trans (Ag.sf (by decide))
  have sg10 := fun (h : j1 < nP) => sign_v (i := j1 + 1) bP hT (hM.ag b10) (by omega) f90s
  -- the sign is one of three: a number follows, or not
  have mid : ∀ w12 : Wd, ¬ T j1 = -1 → Ag [] [23, 24] w10 w12 → w12.2.1 90 23 = nI (j1 + 1) → w12.2.1 90 24 = 0 → ∃ (s : Int32) (j : Nat) (w' v' : Wd), tY R w12 = some w' ∧ (nm (stG v5 90 36 (v5.2.1 90 36 + 1)) fun w10 => bd (sM_sign w10) fun v11 => bd (sM_isDigit v11) fun v12 => if v12 = 0 then (some ((0 : Int32), w10)) else (nm (0 : Int32) fun x13 => nm (0 : Int32) fun x14 => jn (fun x15 w16 => jn (fun z18 => rd (inb (nI A) 120) (stG w16 35 (Int32.toNatClampNeg (nI A)) z18) fun w20 => rd (inb ((nI A) + (1 : Int32)) 120) (stG w20 35 (Int32.toNatClampNeg ((nI A) + (1 : Int32))) (nI (8 + f) - (8 : Int32))) fun w21 => rd (inb ((nI A) + (2 : Int32)) 120) (stG w21 35 (Int32.toNatClampNeg ((nI A) + (2 : Int32))) (T j1)) fun w22 => rd (inb ((nI A) + (3 : Int32)) 120) (stG w22 35 (Int32.toNatClampNeg ((nI A) + (3 : Int32))) x15) fun w23 => some ((1 : Int32), w23)) fun J19 => if x3 = 0 then (J19 (0 : Int32)) else (J19 (1 : Int32))) fun J17 => sM_test_L79 J17 x13 x14 w10)) = some (s, v') ∧ XF R z w w' ∧ Ag [35] [36] v v' ∧ (∀ q, q < A → v'.2.1 35 q = v.2.1 35 q) ∧ j ≤ nP ∧ w'.2.1 90 23 = nI j ∧ v'.2.1 90 36 = nI j ∧ ((s = 1 ∧ w'.2.1 90 24 = 0 ∧ TestOk R z A x3 w v w' v') ∨ (s = 0 ∧ w'.2.1 90 24 = 1)) := by
    intro w12 hne a12 d23 d24
    have hj := jlt hne
    have row12 : ∀ q, q ≠ 90 → w12.2.1 q = w10.2.1 q := fun q h => a12.2.1 q h (by simp)
    have hR12 : R < w12.1 2 := by rw [a12.1, c1]; exact hR
    have es12 : w12.2.1 (103 + 10 * R) 2 = nI z := by rw [row12 _ (by omega)]; exact c103
    have hX12 := hX10.ag a12
    have xf12 : XF R z w w12 := xf10.trans (XF.ag a12)
    rw [p5, nI_1, nm_d, sg10 hj, bd_s, isDigit_v, bd_s]
    by_cases hd : isDg (T (j1 + 1))
    · rw [b1_t hd, if_neg n10, nm_d, nm_d, jn_d]
      obtain ⟨y, j, w', v', t1, t2, t3, t4, t5, t6, t7, t8, t9, t10, t11, t12, t13⟩ := tY_good bP hT hX12 (hM.ag b10) (by omega) hR12 hz es12 d23 d24 f90s hd
      rw [t2]
      obtain ⟨v'', u1, u2, u3, u4, u5, u6, u7⟩ := testM_put (A := A) (f := f) (v := v') (x3 := x3) (x8 := T j1) (y := y) hA
      refine ⟨1, j, w', v'', t1, u1, xf12.trans t3, ((b10.trans t4).mono (by simp) (by simp)).trans (u2.mono (by simp) (by simp)), fun q hq => by rw [u7 q (Or.inl hq), t4.2.1 35 (by decide) (by decide), b10.2.1 35 (by decide) (by decide)], t5, t6, by rw [u2.2.2 36 (by simp)]; exact t7, Or.inl ⟨rfl, t8, t10, ?_, u3, ⟨f, by omega, u4, ?_⟩, ?_, ?_, ?_⟩⟩
      · rw [t13, row12 _ (by omega)]; exact c107
      · rw [t11, row12 _ (by omega)]; exact c104
      · rw [t12, row12 _ (by omega), u5]; exact c105
      · rw [t9, u6]
      · intro q hq
        rw [u7 q hq, t4.2.1 35 (by decide) (by decide), b10.2.1 35 (by decide) (by decide)]
    · rw [b1_f hd, if_pos z00]
      obtain ⟨w', t1, t2, t3, t4⟩ := tY_bad (i := j1 + 1) bP hT hX12 (by omega) hR12 hz es12 d23 (Or.inr ⟨d24, hd⟩)
      exact ⟨0, j1 + 1, w', _, t1, rfl, xf12.trans t2, b10.mono (by simp) (by simp), fun q _ => by rw [b10.2.1 35 (by decide) (by decide)], by omega, t3, f90s, Or.inr ⟨rfl, t4⟩⟩
  rw [jn_d, jn_d, bd_s, c23, nI_1, nm_d, jn_d]
  have up : Ag [] [23, 24] w10 (stG w10 90 23 (nI (j1 + 1))) := Ag.sf (by decide)
  have up24 : (stG w10 90 23 (nI (j1 + 1))).2.1 90 24 = 0 := by rw [f90n (by decide)]; exact c24
  by_cases h60 : T j1 = 60
  · have hne : ¬ T j1 = -1 := by rw [h60]; decide
    have m1 := mid _ hne up f90s up24
    rw [h60] at m1 ⊢
    rw [if_pos rfl, if_neg (show ¬ (60 : Int32) = 61 by decide), if_pos rfl]
    exact m1
  by_cases h62 : T j1 = 62
  · have hne : ¬ T j1 = -1 := by rw [h62]; decide
    have m1 := mid _ hne up f90s up24
    rw [h62] at m1 ⊢
    rw [if_neg (show ¬ (62 : Int32) = 60 by decide), if_pos rfl, if_neg (show ¬ (62 : Int32) = 61 by decide), if_neg (show ¬ (62 : Int32) = 60 by decide), if_pos rfl]
    exact m1
  obtain ⟨w40, s1, s2, -, s3, s4⟩ := signs0 (S := 12) (i := j1) bP hT (by decide) (by omega) hX10 c23 c24
  have sb : sbyts.getD 12 [] = [61] := by decide
  have ml : mlen T [61] j1 = if T j1 = 61 then 1 else 0 := by unfold mlen mlen; rfl
  rw [sb, ml] at s3 s4
  rw [if_neg h60, if_neg h62, s1, bd_s]
  by_cases h61 : T j1 = 61
  · have hne : ¬ T j1 = -1 := by rw [h61]; decide
    rw [if_pos h61] at s3
    rw [if_pos h61, if_pos (show 1 = [(61 : Int32)].length from rfl)] at s4
    have m1 := mid _ hne s2 s3 s4
    rw [if_pos h61]
    exact m1
  · rw [if_neg h61] at s3
    rw [if_neg h61, if_neg (by decide)] at s4
    rw [if_neg h61, if_neg h60, if_neg h62]
    obtain ⟨w', t1, t2, t3, t4⟩ := tY_bad (z := z) (i := j1) (R := R) bP hT (hX10.ag s2) hj1 (by rw [s2.1, c1]; exact hR) hz (by rw [s2.2.1 _ (by omega) (by simp)]; exact c103) s3 (Or.inl s4)
    exact ⟨0, j1, w', v5, t1, rfl, (xf10.trans (XF.ag s2)).trans t2, b5.mono (by simp) (by simp), fun q _ => by rw [b5.2.1 35 (by decide) (by decide)], hj1, t3, p5, Or.inr ⟨rfl, t4⟩⟩
