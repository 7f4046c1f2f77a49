set_option maxRecDepth 100000
theorem seats_new {w v w' v' : Wd} {nO nB b k N : Nat} {ch cm : Nat → Int32} (hS : Seats nO nB w v) (bO : nO ≤ 16) (bB : nB ≤ 8) (hb : b < nB) (hk : k ≤ 4) (g2 : v.2.1 6 b = nI k) (hNk : N = sN k) (hok : ChOk cm N nO ch) (hcm : ∀ p, p < nO → ¬ cm p = 0 → (v.2.1 2 p = -1 ∨ (v.2.1 2 p = nI b ∧ ∃ s, s < 8 ∧ v.2.1 3 p = nI s))) (hi : ∀ i, i ≠ b → w'.2.1 (101 + 10 * i) = w.2.1 (101 + 10 * i)) (hge : ∀ t, N ≤ t → w'.2.1 (101 + 10 * b) t = w.2.1 (101 + 10 * b) t) (hlt : ∀ t, t < N → (∃ q, q < nO ∧ ch q = nI t ∧ w'.2.1 (101 + 10 * b) t = nI q) ∨ (w'.2.1 (101 + 10 * b) t = -1 ∧ ∀ q, q < nO → ¬ ch q = nI t)) (v6 : v'.2.1 6 = v.2.1 6) (h2 : ∀ q, q < nO → v'.2.1 2 q = if ch q = -1 then (if v.2.1 2 q = nI b ∧ ¬ v.2.1 3 q = 8 then -1 else v.2.1 2 q) else nI b) (h3 : ∀ q, q < nO → v'.2.1 3 q = if ch q = -1 then v.2.1 3 q else ch q) : Seats nO nB w' v' := by
  have hs8 := sN_b hk
  have keep : ∀ p, p < nO → ch p = -1 → ¬ (v.2.1 2 p = nI b ∧ ¬ v.2.1 3 p = 8) → v'.2.1 2 p = v.2.1 2 p ∧ v'.2.1 3 p = v.2.1 3 p := by
    intro p hp e hn
    rw [h2 p hp, h3 p hp, if_pos e, if_pos e, if_neg hn]
    exact ⟨rfl, rfl⟩
  have free : ∀ p, p < nO → ¬ ch p = -1 → (v.2.1 2 p = -1 ∨ (v.2.1 2 p = nI b ∧ ∃ s, s < 8 ∧ v.2.1 3 p = nI s)) := by
    intro p hp e
    rcases hok.1 p hp with z | ⟨s, hs, z, hc⟩
    · exact absurd z e
    · exact hcm p hp hc
  constructor
  · intro b' hb' s hs
    by_cases hbb : b' = b
    · subst hbb
      rcases Nat.lt_or_ge s N with hsN | hsN
      · rcases hlt s hsN with ⟨q, hq, q1, q2⟩ | ⟨q1, -⟩
        · refine Or.inr ⟨q, hq, q2, ?_, ?_⟩
          · rw [h2 q hq, if_neg (by rw [q1]; exact nI_nm1 (by omega))]
          · rw [h3 q hq, if_neg (by rw [q1]; exact nI_nm1 (by omega)), q1]
        · exact Or.inl q1
      · rw [hge s hsN]
        rcases hS.1 b' hb s hs with e | ⟨q, hq, e, e2, e3⟩
        · exact Or.inl e
        · have hs8' : s = 8 := by
            rcases hS.2 q hq with z | ⟨b2, s2, k2, hb2, hs2, q6, hk2, hok2, q1, q2, q3⟩
            · rw [e2] at z; exact absurd z (nI_nm1 (by omega))
            · rw [e2] at q1
              rw [e3] at q2
              have e4 := (nIeq (by omega) (by omega)).mp q1
              have e5 := (nIeq (by omega) (by omega)).mp q2
              subst e4; subst e5
              rw [g2] at q6
              have e6 := (nIeq (by omega) (by omega)).mp q6
              subst e6
              rcases hok2 with h | h
              · omega
              · exact h.1
          subst hs8'
          have hch : ch q = -1 := by
            by_cases h : ch q = -1
            · exact h
            · exfalso
              rcases free q hq h with z | ⟨-, s2, hs2, z⟩
              · rw [e2] at z; exact nI_nm1 (by omega) z
              · rw [e3] at z
                have := (nIeq (by omega) (by omega)).mp z
                omega
          have kp := keep q hq hch (fun z => z.2 e3)
          exact Or.inr ⟨q, hq, e, by rw [kp.1]; exact e2, by rw [kp.2]; exact e3⟩
    · rw [hi b' hbb]
      rcases hS.1 b' hb' s hs with e | ⟨q, hq, e, e2, e3⟩
      · exact Or.inl e
      · have hne : ¬ v.2.1 2 q = nI b := fun z => hbb ((nIeq (by omega) (by omega)).mp (e2.symm.trans z))
        have hch : ch q = -1 := by
          by_cases h : ch q = -1
          · exact h
          · exfalso
            rcases free q hq h with z | ⟨z, -⟩
            · rw [e2] at z; exact nI_nm1 (by omega) z
            · exact hne z
        have kp := keep q hq hch (fun z => hne z.1)
        exact Or.inr ⟨q, hq, e, by rw [kp.1]; exact e2, by rw [kp.2]; exact e3⟩
  · intro p hp
    rw [v6]
    by_cases hch : ch p = -1
    · by_cases hc : v.2.1 2 p = nI b ∧ ¬ v.2.1 3 p = 8
      · refine Or.inl ?_
        rw [h2 p hp, if_pos hch, if_pos hc]
      · have kp := keep p hp hch hc
        rw [kp.1, kp.2]
        rcases hS.2 p hp with z | ⟨b2, s2, k2, hb2, hs2, q6, hk2, hok2, q1, q2, q3⟩
        · exact Or.inl z
        · refine Or.inr ⟨b2, s2, k2, hb2, hs2, q6, hk2, hok2, q1, q2, ?_⟩
          by_cases hbb : b2 = b
          · subst hbb
            have h38 : v.2.1 3 p = 8 := by
              by_cases h : v.2.1 3 p = 8
              · exact h
              · exact absurd ⟨q1, h⟩ hc
            have hs28 : s2 = 8 := (nIeq (b := 8) (by omega) (by decide)).mp (q2.symm.trans h38)
            rw [hge s2 (by omega)]; exact q3
          · rw [hi b2 hbb]; exact q3
    · rcases hok.1 p hp with z | ⟨s, hs, z, hc⟩
      · exact absurd z hch
      · refine Or.inr ⟨b, s, k, hb, by omega, g2, hk, Or.inl (by omega), ?_, ?_, ?_⟩
        · rw [h2 p hp, if_neg hch]
        · rw [h3 p hp, if_neg hch, z]
        · rcases hlt s hs with ⟨q, hq, q1, q2⟩ | ⟨-, q2⟩
          · by_cases hqp : q = p
            · rw [← hqp]; exact q2
            · rcases hok.2 q p hq hp hqp with e | e
              · rw [q1] at e; exact absurd e (nI_nm1 (by omega))
              · exact absurd (q1.trans z.symm) e
          · exact absurd z (q2 p hp)
theorem crew_fin {w v w' v' : Wd} {mO mB : Nat} (hR : Rel w v) (hw : AgD 101 w w') (hv : Ag [2, 3] [] v v') (zO : w.2.1 90 2 = nI mO) (zB : w.1 0 = mB) (yO16 : mO ≤ 16) (hS' : Seats mO mB w' v') : Rel w' v' := by
  have hR0 := hR
  obtain ⟨nO, nB, nC, nU, nT, nL, nH, nP, d, hC, hO, hB, hS, hRc, hV, hT, hU, hG, hL, hH, hK⟩ := hR
  have C := hC
  obtain ⟨⟨bO, bB, bC, bU, bT, bL, bH, bP, bD⟩, ⟨k0, k1, k2, k3, k4, k5⟩, ⟨xO, xB, xD, xC, xU, xP, xT, xL, xH⟩, ⟨yO, yB, yD, yC, yU, yP, yT, yL, yH⟩, hnr, hn0, hn9⟩ := C
  have e1 : nO = mO := (nIeq (by omega) (by omega)).mp (xO.symm.trans zO)
  have e2 : nB = mB := k0.symm.trans zB
  subst e1; subst e2
  exact ⟨nO, nB, nC, nU, nT, nL, nH, nP, d, hC.b hw hv (by decide), hO.b hw hv (by decide) (by decide), hB.b hw hv (by decide) (by decide), hS', hRc.b hw hv (by decide), hV.b hw hv (by decide), hT.b hw hv (by decide), hU.b hw hv (by decide) (by decide), hG.b hw hv (by decide), hL.b hw hv (by decide), hH.b hw hv (by decide), hK.b hw hv (by decide)⟩
theorem Env.ag {w v w' v' : Wd} {nO nB nU d : Nat} (E : Env nO nB nU d w v) (hw : Ag [14, 16] [15] w w') (hv : Ag [24, 25] [] v v') : Env nO nB nU d w' v' := ⟨E.hO.a hw hv (by decide) (by decide), E.hB.a hw hv (by decide) (by decide), E.hS.a hw hv (by decide) (by decide), E.hV.a hw hv (by decide) (by decide), E.hU.a hw hv (by decide) (by decide), by rw [hw.1]; exact E.k0, by rw [hw.1]; exact E.k1, by rw [hw.1]; exact E.k2, by rw [hw.1]; exact E.k3, by rw [hw.1]; exact E.k4, by rw [hw.1]; exact E.k5, E.bO, E.bB, E.bU, E.bD, (hw.2.2 4 (by decide)).trans E.xD, (hv.2.2 31 (by simp)).trans E.yD, (hw.2.2 20 (by decide)).trans E.xU, (hv.2.2 30 (by simp)).trans E.yU, (hv.2.2 10 (by simp)).trans E.yO⟩
theorem op_crew : Op_crew Rel := by
  intro w v a1 a2 a3 hR
  have hR0 := hR
  obtain ⟨nO, nB, nC, nU, nT, nL, nH, nP, d, hC, hO, hB, hS, hRc, hV, hT, hU, hG, hL, hH, hK⟩ := hR
  have C := hC
  obtain ⟨⟨bO, bB, bC, bU, bT, bL, bH, bP, bD⟩, ⟨k0, k1, k2, k3, k4, k5⟩, ⟨xO, xB, xD, xC, xU, xP, xT, xL, xH⟩, ⟨yO, yB, yD, yC, yU, yP, yT, yL, yH⟩, hnr, hn0, hn9⟩ := C
  have E : Env nO nB nU d w v := ⟨hO, hB, hS, hV, hU, k0, k1, k2, k3, k4, k5, bO, bB, bU, bD, xD, yD, xU, yU, yO⟩
  unfold sX_crew sM_crew
  rw [sX_isBoat_v a1 xB (by omega), sM_isBoat_v a1 yB (by omega), sX_in_v, sM_isIn_v, sX_in_v, sM_isIn_v]
  simp only [bd_s]
  by_cases h1 : 0 ≤ a1.toInt ∧ a1.toInt < nB
  rotate_left
  · rw [b1_f h1, if_pos z00, if_pos z00]
    exact fin3 rfl rfl hR0
  rw [b1_t h1, if_neg n10, if_neg n10]
  by_cases h2 : (0 : Int64).toInt ≤ a2.toInt ∧ a2.toInt ≤ (23 : Int64).toInt
  rotate_left
  · rw [b1_f h2, if_pos z00, if_pos z00]
    exact fin3 rfl rfl hR0
  rw [b1_t h2, if_neg n10, if_neg n10]
  by_cases h3 : (0 : Int64).toInt ≤ a3.toInt ∧ a3.toInt ≤ (1 : Int64).toInt
  rotate_left
  · rw [b1_f h3, if_pos z00, if_pos z00]
    exact fin3 rfl rfl hR0
  rw [b1_t h3, if_neg n10, if_neg n10]
  obtain ⟨b, hb, rfl⟩ := ix_of h1
  rw [inb_nI (show b < 8 by omega) (by decide), clN (show b < 1073741824 by omega), k3, decide_eq_true hb]
  simp only [Bool.and_self, rd_t, nm_d]
  obtain ⟨k, ls, ms, ln, hk, -, -, -, -, -, g1, g2, -⟩ := hB.1 b hb
  have hs8 := sN_b hk
  generalize hw5 : stG w 90 15 a2 = w5
  have a5 : Ag [14, 16] [15] w w5 := by rw [← hw5]; exact Ag.sf (by decide)
  have x15 : w5.2.1 90 15 = a2 := by rw [← hw5, f90s]
  have lift : ∀ w', Ag [14, 16] [] w5 w' → Ag [14, 16] [15] w w' := fun w' h => a5.trans (h.mono (by simp) (by simp))
  have xBl : ∀ w', Ag [14, 16] [] w5 w' → w'.2.1 90 3 = nI nB := fun w' h => ((lift w' h).2.2 3 (by decide)).trans xB
  have x15l : ∀ w', Ag [14, 16] [] w5 w' → w'.2.1 90 15 = a2 := fun w' h => (h.2.2 15 (by simp)).trans x15
  let cm : Nat → Int32 := fun p => (sM_canSit v (nI p) (nI b) a2).getD 0
  let ct : Nat → Nat → Nat := fun p s => min 8 ((sM_costOf v (nI p) (nI b) (nI s)).getD 0).toNatClampNeg
  have hc8 : ∀ p s, ct p s ≤ 8 := fun p s => Nat.min_le_left _ _
  have cme : ∀ p r, sM_canSit v (nI p) (nI b) a2 = some r → cm p = r := fun p r e => by
    show (sM_canSit v (nI p) (nI b) a2).getD 0 = r
    rw [e]; rfl
  have cte : ∀ p s c, c ≤ 8 → sM_costOf v (nI p) (nI b) (nI s) = some (nI c) → ct p s = c := fun p s c hc e => by
    show min 8 ((sM_costOf v (nI p) (nI b) (nI s)).getD 0).toNatClampNeg = c
    rw [e]
    show min 8 (nI c).toNatClampNeg = c
    rw [clN (by omega)]; omega
  have hme : ∀ p, p < nO → ¬ cm p = 0 → (v.2.1 2 p = -1 ∨ (v.2.1 2 p = nI b ∧ ∃ s, s < 8 ∧ v.2.1 3 p = nI s)) := by
    intro p hp hc
    obtain ⟨r, r1, r2, r3⟩ := come_v (E.ag a5 Ag.rfl) (xBl w5 Ag.rfl) x15 hb hp
    rw [cme p r r2] at hc
    rcases r3 with h | h
    · exact absurd h hc
    · exact h.2
  have hcmX : ∀ w', Ag [14, 16] [] w5 w' → ∀ p, p < nO → sX_mayCome w' b (nI p) = some (cm p) := by
    intro w' hw' p hp
    obtain ⟨r, r1, r2, r3⟩ := come_v (E.ag (lift w' hw') Ag.rfl) (xBl w' hw') (x15l w' hw') hb hp
    rw [r1, cme p r r2]
  have hcX : ∀ w', Ag [14, 16] [] w5 w' → ∀ p, p < nO → ¬ cm p = 0 → ∀ s, s < sN k → sX_costOf w' b (nI s) (nI p) = some (nI (ct p s)) := by
    intro w' hw' p hp hc s hs
    obtain ⟨c, c1, c2, c3⟩ := cost_v (s := s) (E.ag (lift w' hw') Ag.rfl) hb hp (by omega) (hme p hp hc)
    rw [c2, cte p s c c1 c3]
  have hcmM : ∀ v', Ag [24, 25] [] v v' → ∀ p, p < nO → sM_canSit v' (nI p) (nI b) a2 = some (cm p) := by
    intro v' hv' p hp
    obtain ⟨r, r1, r2, r3⟩ := come_v (E.ag a5 hv') (xBl w5 Ag.rfl) x15 hb hp
    rw [hcmX w5 Ag.rfl p hp] at r1
    rw [r2, ← Option.some.inj r1]
  have hcM : ∀ v', Ag [24, 25] [] v v' → ∀ p, p < nO → ¬ cm p = 0 → ∀ s, s < sN k → sM_costOf v' (nI p) (nI b) (nI s) = some (nI (ct p s)) := by
    intro v' hv' p hp hc s hs
    obtain ⟨c, c1, c2, c3⟩ := cost_v (s := s) (E.ag a5 hv') hb hp (by omega) (by rw [hv'.2.1 2 (by decide) (by decide), hv'.2.1 3 (by decide) (by decide)]; exact hme p hp hc)
    rw [hcX w5 Ag.rfl p hp hc s hs] at c2
    rw [c3, ← Option.some.inj c2]
  have hseatX : ∀ w', Ag [14, 16] [] w5 w' → sB_seats w' b = some (nI (sN k)) := fun w' hw' => sB_seats_v (by rw [(lift w' hw').1, k0]; exact hb) (by rw [(lift w' hw').2.1 (100 + 10 * b) (by omega) (by simp; omega)]; exact g1) hk
  have hseatM : ∀ v', Ag [24, 25] [] v v' → sM_seatsOf v' (nI b) = some (nI (sN k)) := fun v' hv' => sM_seatsOf_v (by omega) (by rw [hv'.2.1 6 (by decide) (by decide)]; exact g2) hk
  have xO5 : w5.2.1 90 2 = nI nO := (a5.2.2 2 (by decide)).trans xO
  have hb5 : b < w5.1 0 := by rw [a5.1, k0]; exact hb
  obtain ⟨w6, e6, a6, t6⟩ := tabX (cm := cm) (ct := ct) hs8.2 hs8.1 bO xO5 hb5 hseatX hcmX hc8 hcX
  obtain ⟨v6, f6, b6, u6⟩ := tabM (cm := cm) (ct := ct) hs8.2 hs8.1 bO yO (hseatM v Ag.rfl) hcmM hc8 hcM
  have h2N := p2N hs8.2
  have z6 : w6.2.1 14 0 = nI (tab cm ct nO (sN k) 1048576 nO 0) := t6 0 (by omega) 0 (by omega)
  have y6 : v6.2.1 24 0 = nI (tab cm ct nO (sN k) 1000000 nO 0) := u6 0 (by omega) 0 (by omega)
  have hR6 : Rel w6 v6 := hR0.keep ((lift w6 a6).mono (by simp) (by simp)) (b6.mono (by simp) (by simp))
  rw [e6, f6, bd_s, bd_s, show inb (0 : Int32) 4352 = true from rfl, show (0 : Int32).toNatClampNeg = 0 from rfl]
  simp only [rd_t]
  rw [z6, y6]
  rcases tab_r cm ct nO (sN k) hs8.2 hc8 nO bO 0 (by omega) with ⟨q1, q2⟩ | ⟨q1, q2⟩
  · rw [q1, q2, if_neg (show ¬ nI 1048576 < (1048576 : Int32) by decide), if_neg (show ¬ nI 1000000 < (1000000 : Int32) by decide)]
    exact fin3 rfl rfl hR6
  rw [q1] at q2 ⊢
  generalize tab cm ct nO (sN k) 1000000 nO 0 = q at q2 ⊢
  rw [if_pos (show nI q < (1048576 : Int32) from (nIlt (b := 1048576) (by omega) (by decide)).mpr (by omega)), if_pos (show nI q < (1000000 : Int32) from (nIlt (b := 1000000) (by omega) (by decide)).mpr (by omega))]
  by_cases h30 : a3 = 0
  · rw [if_pos h30, if_pos h30]
    exact fin3 rfl rfl hR6
  rw [if_neg h30, if_neg h30, jn_d, jn_d]
  obtain ⟨ch, w7, v7, r1, r2, a7, b7, hch, hok⟩ := choose_v (cm := cm) (ct := ct) hs8.2 hs8.1 bO xO5 yO hb5 hseatX hcmX hc8 hcX hseatM hcmM hcM nO 0 0 FU FU w6 v6 (fun _ => -1) (by omega) (by rw [FU_v]; omega) (by rw [FU_v]; omega) (by omega) a6 b6 t6 u6 (fun q hq => by omega) ⟨fun p hp => by omega, fun p q hp => by omega⟩ (fun q hq => by omega)
  have r1' : ∀ J, sX_crew_L90 b J 0 0 w6 = J w7 := fun J => by rw [eX_crew_L90]; exact r1 J
  have r2' : ∀ J, sM_crew_L72 (nI b) a2 J 0 0 v6 = J v7 := fun J => by rw [eM_crew_L72]; exact r2 J
  rw [r1', r2', jn_d]
  have A7 := lift w7 a7
  have k07 : w7.1 0 = nB := by rw [A7.1]; exact k0
  have xO7 : w7.2.1 90 2 = nI nO := (A7.2.2 2 (by decide)).trans xO
  obtain ⟨w8, c1, c2, c3, c4⟩ := clrX (N := sN k) hs8.2 k07 hb hk (by rw [A7.2.1 (100 + 10 * b) (by omega) (by simp; omega)]; exact g1) rfl (sN k) 0 FU w7 (by omega) (by rw [FU_v]; omega) AgD.rfl (fun _ _ => rfl) (fun t => by rw [if_neg (by omega)])
  have c1' : ∀ J, sX_crew_L228 b J 0 w7 = J w8 := fun J => by rw [eX_crew_L228]; exact c1 J
  rw [c1', eX_crew_L256, eM_crew_L229]
  obtain ⟨w9, p1, p2, p3, p4, p5⟩ := putX (N := sN k) (ch := ch) (cm := cm) (x9 := nI q) hs8.2 (by rw [c2.1]; exact k07) hb bO (by rw [c2.2.1 90 (by decide)]; exact xO7) (fun q hq => by rw [c2.2.1 16 (by decide)]; exact (hch q hq).1) hok (fun t ht => by rw [c4 t, if_pos ht]) nO 0 FU w8 (by omega) (by rw [FU_v]; omega) AgD.rfl (fun _ _ => rfl) (fun _ _ => rfl) (fun t ht => Or.inr ⟨by rw [c4 t, if_pos ht], fun q hq => by omega⟩)
  obtain ⟨v9, m1, m2, m3, m4⟩ := putM (N := sN k) (b := b) (ch := ch) (cm := cm) (x6 := nI q) hs8.2 bO ((b7.2.2 10 (by simp)).trans yO) (fun q hq => (hch q hq).2) hok nO 0 FU v7 (by omega) (by rw [FU_v]; omega) Ag.rfl (fun q => by rw [if_neg (by omega)]) (fun q => by rw [if_neg (by omega)])
  refine fin3 p1 m1 ?_
  have hR7 : Rel w7 v7 := hR0.keep (A7.mono (by simp) (by simp)) (b7.mono (by simp) (by simp))
  refine crew_fin hR7 (c2.trans p2) m2 xO7 k07 bO ?_
  refine seats_new (b := b) (k := k) (N := sN k) (ch := ch) (cm := cm) (hS.a A7 b7 (by decide) (by decide)) bO bB hb hk (by rw [b7.2.1 6 (by decide) (by decide)]; exact g2) rfl hok (fun p hp hc => by rw [b7.2.1 2 (by decide) (by decide), b7.2.1 3 (by decide) (by decide)]; exact hme p hp hc) (fun i h => by rw [p3 i h, c3 i h]) (fun t ht => by rw [p4 t ht, c4 t, if_neg (by omega)]) p5 (m2.2.1 6 (by decide) (by decide)) (fun q hq => by rw [m3 q, if_pos hq]) (fun q hq => by rw [m4 q, if_pos hq])
