set_option maxRecDepth 100000
theorem op_about : Op_about Rel := by
  intro w v a1 a2 hR
  have hR0 := hR
  obtain ⟨nO, nB, nC, nU, nT, nL, nH, nP, d, hC, hO, hB, hS, hRc, hV, hT, hU, hG, hL, hH, hK⟩ := hR
  have C := hC
  obtain ⟨⟨bO, bB, bC, bU, bT, bL, bH, bP, bD⟩, ⟨k0, k1, k2, k3, k4, k5⟩, ⟨xO, xB, xD, xC, xU, xP, xT, xL, xH⟩, ⟨yO, yB, yD, yC, yU, yP, yT, yL, yH⟩, hnr, hn0, hn9⟩ := C
  unfold sX_about sM_about
  rw [sX_isOar_v a1 xO (by omega), sM_isOar_v a1 yO (by omega), bd_s, bd_s]
  by_cases h1 : 0 ≤ a1.toInt ∧ a1.toInt < nO
  · rw [b1_t h1, if_neg n10, if_neg n10]
    obtain ⟨j, hj, rfl⟩ := ix_of h1
    have hok := oOk_t hO k1 hj
    obtain ⟨k, wt, q1, q2, q3, q4, q5, q6, q7, q8, q9, q10⟩ := hO.1 j hj
    rw [inb_nI (show j < 16 by omega) (by decide), clN (by omega), k4, decide_eq_true hj]
    simp only [Bool.and_self, rd_t, hok, gd_t, nm_d, jn_d]
    rw [sO_kind_v k1 hj q1 q4 q6, bd_s, q5, q9, q7, q8]
    have loop : sX_about_L80 w (nI j) (fun x9 => rd (inb x9 8 && decide (Int32.toNatClampNeg x9 < w.1 3)) (Int32.toNatClampNeg x9) fun k11 => gd (decide (k11 < w.1 0)) (bd (sB_place w k11 (nI j)) fun v12 => some (((10 : Int32) * x9) + v12))) 0 = some (if 0 ≤ v.2.1 2 j then 10 * v.2.1 2 j + v.2.1 3 j else -1) := by
      unfold sX_about_L80
      have hb2 : v.2.1 2 j = -1 ∨ ∃ b, b < nB ∧ v.2.1 2 j = nI b := by
        rcases hS.2 j hj with h | ⟨b, s, k, hb, hs, -, -, -, g3, -⟩
        · exact Or.inl h
        · exact Or.inr ⟨b, hb, g3⟩
      obtain ⟨r, hr, e⟩ := fx1_run (F := fun self14 x13 => if (w.2.1 90 3) ≤ x13 then (some (-1 : Int32)) else (rd (inb x13 8 && decide (Int32.toNatClampNeg x13 < w.1 3)) (Int32.toNatClampNeg x13) fun k15 => gd (decide (k15 < w.1 0)) (bd (sB_place w k15 (nI j)) fun v16 => if v16 = (-1 : Int32) then (nm (x13 + (1 : Int32)) fun x17 => self14 x17) else (rd (inb x13 8 && decide (Int32.toNatClampNeg x13 < w.1 3)) (Int32.toNatClampNeg x13) fun k11 => gd (decide (k11 < w.1 0)) (bd (sB_place w k11 (nI j)) fun v12 => some (((10 : Int32) * x13) + v12)))))) (fun a => ∃ i, i ≤ nB ∧ a = nI i ∧ ∀ b, b < i → v.2.1 2 j ≠ nI b) (fun a => nB - a.toNatClampNeg) (fun r => r = if 0 ≤ v.2.1 2 j then 10 * v.2.1 2 j + v.2.1 3 j else -1) (by
        rintro self a ⟨i, hi, rfl, hn⟩ ih
        rw [xB]
        by_cases hin : i = nB
        · subst hin
          rw [if_pos (show nI i ≤ nI i by rw [nIle (by omega) (by omega)]; omega)]
          refine ⟨_, rfl, ?_⟩
          rcases hb2 with h | ⟨b, hb, h⟩
          · rw [h, if_neg (by decide)]
          · exact absurd h (hn b hb)
        · rw [if_neg (fun z => by have := (nIle (by omega) (by omega)).mp z; omega), inb_nI (show i < 8 by omega) (by decide), clN (by omega), k3, decide_eq_true (show i < nB by omega)]
          simp only [Bool.and_self, rd_t]
          rw [k0, decide_eq_true (show i < nB by omega), gd_t, gd_t, place_v hS k0 bB bO (by omega) hj, bd_s, bd_s]
          by_cases hq : v.2.1 2 j = nI i
          · rcases hS.2 j hj with h | ⟨b, s, k, hb, hs, -, -, -, g3, g4, -⟩
            · rw [h] at hq; exact absurd hq.symm (nI_nm1 (by omega))
            · rw [if_pos hq, g4, if_neg (nI_nm1 (by omega))]
              refine ⟨_, rfl, ?_⟩
              rw [hq, if_pos (nI_pos' (by omega))]
          · rw [if_neg hq, if_pos rfl, nm_d, nI_1]
            refine ih _ ⟨i + 1, by omega, rfl, fun b hb => ?_⟩ (by rw [clN (by omega), clN (by omega)]; omega)
            by_cases hbi : b = i
            · rw [hbi]; exact hq
            · exact hn b (by omega)) FU 0 ⟨0, by omega, rfl, fun b h => by omega⟩ (by rw [FU_v]; omega)
      rw [hr, e]
    rw [loop]
    refine finE ?_ ?_
    · by_cases c0 : a2 = 0
      · rw [if_pos c0, if_pos c0]
      rw [if_neg c0, if_neg c0]
      by_cases c1 : a2 = 1
      · rw [if_pos c1, if_pos c1]
      rw [if_neg c1, if_neg c1]
      by_cases c2 : a2 = 2
      · rw [if_pos c2, if_pos c2]
      rw [if_neg c2, if_neg c2]
      by_cases c3 : a2 = 3
      · rw [if_pos c3, if_pos c3]
        by_cases h0 : 0 ≤ v.2.1 2 j
        · rw [if_pos h0, if_pos h0]
        · rw [if_neg h0, if_neg h0]
      rw [if_neg c3, if_neg c3]
    · repeat' split
      all_goals exact ⟨_, rfl⟩
  · rw [b1_f h1, if_pos z00, if_pos z00]
    exact fin1 rfl rfl
/-- the last of a seating: whoever sat there is gone, o sits there alone -/
theorem sit_fin {w v : Wd} {nO nB b s k o : Nat} {w1 : Wd} (hS : Seats nO nB w v) (bB : nB ≤ 8) (bO : nO ≤ 16) (hb : b < nB) (hs : s < 9) (ho : o < nO) (hk : v.2.1 6 b = nI k) (h4 : k ≤ 4) (hok : okS k s) (hl : (v.2.1 2 o = -1 ∧ w1 = w) ∨ ∃ b' s', b' < nB ∧ s' < 9 ∧ v.2.1 2 o = nI b' ∧ v.2.1 3 o = nI s' ∧ w.2.1 (101 + 10 * b') s' = nI o ∧ w1 = stG w (101 + 10 * b') s' (-1)) :
    (w.2.1 (101 + 10 * b) s = -1 → Seats nO nB (stG w1 (101 + 10 * b) s (nI o)) (stG (stG v 2 o (nI b)) 3 o (nI s))) ∧ (∀ q, q < nO → w.2.1 (101 + 10 * b) s = nI q → Seats nO nB (stG w1 (101 + 10 * b) s (nI o)) (stG (stG (stG v 2 q (-1)) 2 o (nI b)) 3 o (nI s))) := by
  -- o has left
  have h1 : Seats nO nB w1 (stG v 2 o (-1)) := by
    rcases hl with ⟨g, rfl⟩ | ⟨b', s', hb', hs', -, -, g5, rfl⟩
    · exact hS.c (fun _ => rfl) (by rw [stG_eq, upd_same g]) (stG_ne (by decide)) (stG_ne (by decide))
    · exact hS.rm bB bO hb' hs' ho g5
  have v1o : (stG v 2 o (-1)).2.1 2 o = -1 := by rw [stG_eq, pk_us]
  have v16 : (stG v 2 o (-1)).2.1 6 b = nI k := by rw [stG_ne (by decide)]; exact hk
  -- what is at (b, s) of w1: o is not
  have hcase : w1.2.1 (101 + 10 * b) s = w.2.1 (101 + 10 * b) s ∨ w1.2.1 (101 + 10 * b) s = -1 := by
    rcases hl with ⟨-, rfl⟩ | ⟨b', s', hb', hs', -, -, g5, rfl⟩
    · exact Or.inl rfl
    · by_cases hbb : b = b'
      · subst hbb
        rw [stG_eq]
        by_cases hss : s = s'
        · subst hss; right; rw [pk_us]
        · left; rw [pk_un hss]
      · left; rw [stG_ne (by omega)]
  constructor
  · intro hc
    have hc1 : w1.2.1 (101 + 10 * b) s = -1 := by
      rcases hcase with h | h
      · rw [h, hc]
      · exact h
    refine (h1.put bB bO hb hs ho hc1 v1o v16 h4 hok).c (fun _ => rfl) ?_ ?_ ?_
    · rw [stG_ne (by decide), stG_eq, stG_ne (by decide), stG_eq, stG_eq, upd_upd]
    · rw [stG_eq, stG_ne (by decide), stG_eq, stG_ne (by decide), stG_ne (by decide)]
    · rw [stG_ne (by decide), stG_ne (by decide), stG_ne (by decide), stG_ne (by decide), stG_ne (by decide)]
  · intro q hq hc
    by_cases hqo : q = o
    · subst hqo
      -- o itself sat there: it has left
      have hc1 : w1.2.1 (101 + 10 * b) s = -1 := by
        rcases hcase with h | h
        · rcases h1.1 b hb s hs with h' | ⟨q', hq', f1, f2, f3⟩
          · exact h'
          · have e : q' = q := (nIeq (by omega) (by omega)).mp (f1.symm.trans (h.trans hc))
            subst e
            rw [v1o] at f2
            exact absurd f2.symm (nI_nm1 (by omega))
        · exact h
      exact h1.put bB bO hb hs ho hc1 v1o v16 h4 hok
    · -- another sat there: it is struck out
      have hc1 : w1.2.1 (101 + 10 * b) s = nI q := by
        rcases hcase with h | h
        · rw [h, hc]
        · exfalso
          -- then (b, s) would have been o's
          rcases hl with ⟨-, rfl⟩ | ⟨b', s', hb', hs', -, -, g5, rfl⟩
          · rw [hc] at h; exact nI_nm1 (by omega) h
          · by_cases hbb : b = b'
            · subst hbb
              rw [stG_eq] at h
              by_cases hss : s = s'
              · subst hss
                rw [hc] at g5
                exact hqo ((nIeq (by omega) (by omega)).mp g5)
              · rw [pk_un hss, hc] at h; exact nI_nm1 (by omega) h
            · rw [stG_ne (by omega), hc] at h; exact nI_nm1 (by omega) h
      have h2 := h1.rm bB bO hb hs hq hc1
      have hx : (stG (stG v 2 o (-1)) 2 q (-1)).2.1 2 o = -1 := by rw [stG_eq, pk_un (fun z => hqo z.symm), stG_eq, pk_us]
      have hy : (stG (stG v 2 o (-1)) 2 q (-1)).2.1 6 b = nI k := by rw [stG_ne (by decide), stG_ne (by decide)]; exact hk
      have h3 := h2.put bB bO hb hs ho (by rw [stG_eq, pk_us]) hx hy h4 hok
      refine h3.c ?_ ?_ ?_ ?_
      · intro z
        by_cases hz : z = b
        · subst hz
          rw [stG_eq, stG_eq, stG_eq, upd_upd]
        · rw [stG_ne (by omega), stG_ne (by omega), stG_ne (by omega)]
      · rw [stG_ne (by decide), stG_eq, stG_eq, stG_ne (by decide), stG_eq, stG_eq, stG_eq]
        funext z
        unfold upd
        by_cases h1 : z = o
        · rw [if_pos h1, if_pos h1]
        · rw [if_neg h1, if_neg h1]
          by_cases h2 : z = q
          · rw [if_pos h2, if_pos h2]
          · rw [if_neg h2, if_neg h2, if_neg h1]
      · rw [stG_eq, stG_ne (by decide), stG_ne (by decide), stG_eq, stG_ne (by decide), stG_ne (by decide), stG_ne (by decide)]
      · rw [stG_ne (by decide), stG_ne (by decide), stG_ne (by decide), stG_ne (by decide), stG_ne (by decide), stG_ne (by decide), stG_ne (by decide)]
theorem op_sit : Op_sit Rel := by
  intro w v a1 a2 a3 hR
  have hR0 := hR
  obtain ⟨nO, nB, nC, nU, nT, nL, nH, nP, d, hC, hO, hB, hS, hRc, hV, hT, hU, hG, hL, hH, hK⟩ := hR
  have C := hC
  obtain ⟨⟨bO, bB, bC, bU, bT, bL, bH, bP, bD⟩, ⟨k0, k1, k2, k3, k4, k5⟩, ⟨xO, xB, xD, xC, xU, xP, xT, xL, xH⟩, ⟨yO, yB, yD, yC, yU, yP, yT, yL, yH⟩, hnr, hn0, hn9⟩ := C
  unfold sX_sit sM_sit
  rcases isSeat_v hB bB xB yB k0 k3 a1 a2 with ⟨e1, e2⟩ | ⟨b, s, k, hb, hs, hk4, hk, hok, rfl, rfl, e1, e2⟩
  · rw [e1, e2, bd_s, bd_s, if_pos z00, if_pos z00]
    exact fin3 rfl rfl hR0
  rw [e1, e2, bd_s, bd_s, if_neg n10, if_neg n10, sX_isOar_v a3 xO (by omega), sM_isOar_v a3 yO (by omega), sitter_crew hS bO bB yO hb hs]
  have hcrew := hS.1 b hb s hs
  have hib : inb (nI b) 8 = true := inb_nI (by omega) (by decide)
  have hcb : (nI b).toNatClampNeg = b := clN (by omega)
  have his : inb (nI s) 9 = true := inb_nI hs (by decide)
  have hcs : (nI s).toNatClampNeg = s := clN (by omega)
  by_cases h3 : a3 = -1
  · subst h3
    simp only [jn_d, nm_d, bd_s, if_true, hib, hcb, k3, k0, decide_eq_true hb, Bool.and_self, rd_t, gd_t, his, hcs, show ((-1 : Int32) < 0) = True from by decide]
    have hw : AgD 101 w (stG w (101 + 10 * b) s (-1)) := AgD.st (by decide) (by decide)
    rcases hcrew with h | ⟨q, hq, f1, f2, f3⟩
    · rw [h, if_pos (by decide)]
      have hv : Ag [] [] v v := Ag.rfl
      refine fin3 rfl rfl ?_
      refine ⟨nO, nB, nC, nU, nT, nL, nH, nP, d, hC.b hw hv (by decide), hO.b hw hv (by decide) (by decide), hB.b hw hv (by decide) (by decide), ?_, hRc.b hw hv (by decide), hV.b hw hv (by decide), hT.b hw hv (by decide), hU.b hw hv (by decide) (by decide), hG.b hw hv (by decide), hL.b hw hv (by decide), hH.b hw hv (by decide), hK.b hw hv (by decide)⟩
      refine hS.c (fun z => ?_) rfl rfl rfl
      by_cases hz : z = b
      · subst hz; rw [stG_eq, upd_same h]
      · rw [stG_ne (by omega)]
    · rw [f1, if_neg (nI_pos (by omega)), inb_nI (show q < 16 by omega) (by decide), clN (by omega), rd_t]
      have hv : Ag [2] [] v (stG v 2 q (-1)) := Ag.st (by decide) (by decide)
      refine fin3 rfl rfl ?_
      exact ⟨nO, nB, nC, nU, nT, nL, nH, nP, d, hC.b hw hv (by decide), hO.b hw hv (by decide) (by decide), hB.b hw hv (by decide) (by decide), hS.rm bB bO hb hs hq f1, hRc.b hw hv (by decide), hV.b hw hv (by decide), hT.b hw hv (by decide), hU.b hw hv (by decide) (by decide), hG.b hw hv (by decide), hL.b hw hv (by decide), hH.b hw hv (by decide), hK.b hw hv (by decide)⟩
  · rw [jn_d, jn_d, jn_d, jn_d]
    simp only [if_neg h3, bd_s]
    by_cases h1 : 0 ≤ a3.toInt ∧ a3.toInt < nO
    · rw [b1_t h1, if_neg n10, if_neg n10]
      obtain ⟨o, ho, rfl⟩ := ix_of h1
      have hok2 := oOk_t hO k1 ho
      obtain ⟨ko, wt, q1, q2, q3, q4, q5, q6, q7, q8, q9, q10⟩ := hO.1 o ho
      have hio : inb (nI o) 16 = true := inb_nI (by omega) (by decide)
      have hco : (nI o).toNatClampNeg = o := clN (by omega)
      have hneg : ¬ nI o < 0 := nI_pos (by omega)
      obtain ⟨w1, hl1, hl2⟩ := leaves_v hS k0 k3 xB bB bO ho
      have hw1 : AgD 101 w w1 := by
        rcases hl2 with ⟨-, rfl⟩ | ⟨b', s', -, -, -, -, -, rfl⟩
        · exact AgD.rfl
        · exact AgD.st (by decide) (by decide)
      have z3 : w1.1 3 = nB := by rw [hw1.1]; exact k3
      have z0 : w1.1 0 = nB := by rw [hw1.1]; exact k0
      simp only [hio, hco, k4, decide_eq_true ho, Bool.and_self, rd_t, hok2, gd_t, jn_d, nm_d, if_neg hneg, sO_mayCox_v hok2 q5 q3, bd_s, hib, hcb, k3, k0, decide_eq_true hb, his, hcs, hl1, q9, q8, z3, z0]
      obtain ⟨hf1, hf2⟩ := sit_fin hS bB bO hb hs ho hk hk4 hok hl2
      have hw : AgD 101 w (stG w1 (101 + 10 * b) s (nI o)) := hw1.trans (AgD.st (by decide) (by decide))
      have key : ∃ (r : Int32) (w' v' : Wd), some (w.2.1 (101 + 10 * b) s, stG w1 (101 + 10 * b) s (nI o)) = some (r, w') ∧ (if w.2.1 (101 + 10 * b) s < 0 then some (w.2.1 (101 + 10 * b) s, stG (stG v 2 o (nI b)) 3 o (nI s)) else rd (inb (w.2.1 (101 + 10 * b) s) 16) (stG v 2 (w.2.1 (101 + 10 * b) s).toNatClampNeg (-1)) fun w10 => some (w.2.1 (101 + 10 * b) s, stG (stG w10 2 o (nI b)) 3 o (nI s))) = some (r, v') ∧ Rel w' v' := by
        rcases hcrew with h | ⟨q, hq, f1, f2, f3⟩
        · rw [h, if_pos (by decide)]
          have hv : Ag [2, 3] [] v (stG (stG v 2 o (nI b)) 3 o (nI s)) := (Ag.st (by decide) (by decide)).trans (Ag.st (by decide) (by decide))
          refine fin3 rfl rfl ?_
          exact ⟨nO, nB, nC, nU, nT, nL, nH, nP, d, hC.b hw hv (by decide), hO.b hw hv (by decide) (by decide), hB.b hw hv (by decide) (by decide), hf1 h, hRc.b hw hv (by decide), hV.b hw hv (by decide), hT.b hw hv (by decide), hU.b hw hv (by decide) (by decide), hG.b hw hv (by decide), hL.b hw hv (by decide), hH.b hw hv (by decide), hK.b hw hv (by decide)⟩
        · rw [f1, if_neg (nI_pos (by omega)), inb_nI (show q < 16 by omega) (by decide), clN (by omega), rd_t]
          have hv : Ag [2, 3] [] v (stG (stG (stG v 2 q (-1)) 2 o (nI b)) 3 o (nI s)) := ((Ag.st (by decide) (by decide)).trans (Ag.st (by decide) (by decide))).trans (Ag.st (by decide) (by decide))
          refine fin3 rfl rfl ?_
          exact ⟨nO, nB, nC, nU, nT, nL, nH, nP, d, hC.b hw hv (by decide), hO.b hw hv (by decide) (by decide), hB.b hw hv (by decide) (by decide), hf2 q hq f1, hRc.b hw hv (by decide), hV.b hw hv (by decide), hT.b hw hv (by decide), hU.b hw hv (by decide) (by decide), hG.b hw hv (by decide), hL.b hw hv (by decide), hH.b hw hv (by decide), hK.b hw hv (by decide)⟩
      rcases q10 with qi | qi
      · rw [qi, if_pos z00, if_pos z00]
        by_cases h8 : nI s = 8
        · rw [if_pos h8, if_pos h8]
          by_cases h7 : wt ≤ 70
          · rw [b1_t h7, if_neg n10, if_pos (show nI wt ≤ (70 : Int32) from (nIle (a := wt) (b := 70) (by omega) (by decide)).mpr h7)]
            exact key
          · rw [b1_f h7, if_pos z00, if_neg (show ¬ nI wt ≤ (70 : Int32) from fun z => h7 ((nIle (a := wt) (b := 70) (by omega) (by decide)).mp z))]
            exact fin3 rfl rfl hR0
        · rw [if_neg h8, if_neg h8]
          exact key
      · rw [qi, if_neg n10, if_neg n10]
        exact fin3 rfl rfl hR0
    · rw [b1_f h1, if_pos z00, if_pos z00]
      exact fin3 rfl rfl hR0
