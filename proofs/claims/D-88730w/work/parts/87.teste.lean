set_option maxRecDepth 100000
/-- test z of rule R is alike in both -/
def TestAt (R z A : Nat) (w v : Wd) : Prop := w.2.1 (107 + 10 * R) z = v.2.1 35 A ∧ (v.2.1 35 A = 0 ∨ v.2.1 35 A = 1) ∧ (∃ f : Nat, f ≤ 6 ∧ v.2.1 35 (A + 1) = nI f ∧ w.2.1 (104 + 10 * R) z = nI f) ∧ w.2.1 (105 + 10 * R) z = v.2.1 35 (A + 2) ∧ w.2.1 (106 + 10 * R) z = v.2.1 35 (A + 3)
theorem test_both {T : Nat → Int32} {nP R z i A : Nat} {w v : Wd} (bP : nP ≤ 120) (hT : ∀ q, nP ≤ q → T q = -1) (hX : TX T nP w) (hM : TM T nP v) (hi : i ≤ nP) (hR : R < w.1 2) (hz : z < 3) (hA : A + 3 < 120) (es : w.2.1 (103 + 10 * R) 2 = nI z) (en : w.2.1 (107 + 10 * R) z = 0) (e1 : w.2.1 90 23 = nI i) (e2 : w.2.1 90 24 = 0) (e3 : v.2.1 90 36 = nI i) : ∃ (s : Int32) (j : Nat) (w' v' : Wd), sX_test w R = some w' ∧ sM_test v (nI A) = some (s, v') ∧ XF R z w w' ∧ Ag [35] [36] v v' ∧ (∀ q, q < A → v'.2.1 35 q = v.2.1 35 q) ∧ j ≤ nP ∧ w'.2.1 90 23 = nI j ∧ v'.2.1 90 36 = nI j ∧ ((s = 1 ∧ w'.2.1 90 24 = 0 ∧ w'.2.1 (103 + 10 * R) 2 = nI (z + 1) ∧ TestAt R z A w' v' ∧ ∀ j, j < A ∨ A + 4 ≤ j → v'.2.1 35 j = v.2.1 35 j) ∨ (s = 0 ∧ w'.2.1 90 24 = 1)) := by
  rw [tX_e, tM_e, now_v bP hT hX (show i < 1000 by omega) e1, bd_s, takes_v 33 bP hT hM (show i < 1000 by omega) e3, jn_d]
  by_cases h : T i = 33
  · have hiP : i < nP := by
      rcases Nat.lt_or_ge i nP with q | q
      · exact q
      · rw [hT i q] at h; exact absurd h (by decide)
    rw [if_pos h, if_pos h, bd2_s, nm_d, e1, nI_1]
    have a1 : Ag [] [23, 24] w (stG w 90 23 (nI (i + 1))) := Ag.sf (by decide)
    have es1 : (stG w 90 23 (nI (i + 1))).2.1 (103 + 10 * R) 2 = nI z := by rw [stG_ne (by omega)]; exact es
    rw [show (stG w 90 23 (nI (i + 1))).1 = w.1 from rfl, decide_eq_true hR, gd_t, rd_t, es1, inb_nI hz (by decide), clN (show z < 1073741824 by omega), show (true && true) = true from rfl, rd_t, show vp_nar .boolean 1 = (1 : Int32) from rfl]
    generalize hw2 : stG (stG w 90 23 (nI (i + 1))) (107 + 10 * R) z 1 = w2
    have xf : XF R z w w2 := by rw [← hw2]; exact (XF.ag a1).trans (XF.st (by decide) (by decide))
    have c90 : w2.2.1 90 = (stG w 90 23 (nI (i + 1))).2.1 90 := by rw [← hw2, stG_ne (by omega)]
    obtain ⟨s, j, w', v', r1, r2, r3, r4, ro, r5, r6, r7, r8⟩ := rest_v (A := A) (x3 := 1) (R := R) (z := z) (i := i + 1) (w := w2) (v := stG v 90 36 (nI (i + 1))) bP hT (hX.xf xf) (hM.ag (Ag.sf (by decide))) (by omega) (by rw [xf.1]; exact hR) hz hA (by rw [← hw2, stG_ne (by omega)]; exact es1) (by rw [c90, f90s]) (by rw [c90, f90n (by decide)]; exact e2) f90s
    refine ⟨s, j, w', v', r1, r2, xf.trans r3, (Ag.sf (by decide)).trans r4, fun q hq => by rw [ro q hq, stG_ne (by decide)], r5, r6, r7, ?_⟩
    rcases r8 with ⟨q1, q2, t1, t2, t3, t4, t5, t6, t7⟩ | q
    · rw [if_neg n10] at t3
      refine Or.inl ⟨q1, q2, t1, ⟨?_, Or.inr t3, t4, t5, t6⟩, fun j hj => ?_⟩
      · rw [t2, t3, ← hw2, stG_eq, pk_us]
      · rw [t7 j hj, stG_ne (by decide)]
    · exact Or.inr q
  · rw [if_neg h, if_neg h, bd2_s]
    obtain ⟨s, j, w', v', r1, r2, r3, r4, ro, r5, r6, r7, r8⟩ := rest_v (A := A) (x3 := 0) (R := R) (z := z) (i := i) (w := w) (v := v) bP hT hX hM hi hR hz hA es e1 e2 e3
    refine ⟨s, j, w', v', r1, r2, r3, r4, ro, r5, r6, r7, ?_⟩
    rcases r8 with ⟨q1, q2, t1, t2, t3, t4, t5, t6, t7⟩ | q
    · rw [if_pos rfl] at t3
      exact Or.inl ⟨q1, q2, t1, ⟨by rw [t2, t3]; exact en, Or.inl t3, t4, t5, t6⟩, t7⟩
    · exact Or.inr q
