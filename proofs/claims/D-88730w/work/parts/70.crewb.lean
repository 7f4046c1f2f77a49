set_option maxRecDepth 100000
theorem dis_v {w v : Wd} {nO nB nU d b p s : Nat} (E : Env nO nB nU d w v) (hb : b < nB) (hp : p < nO) (hs : s < 8) : ∃ c sd, c ≤ 3 ∧ sB_side w b (nI s) = some sd ∧ sO_dislikes w p sd = some (nI c) ∧ sM_dislikes v (nI p) (nI b) (nI s) = some (nI c) := by
  have bO := E.bO
  have bB := E.bB
  obtain ⟨kb, ls, ms, ln, hkb, -, -, -, -, -, g1, g2, -⟩ := E.hB.1 b hb
  obtain ⟨k, wt, hk, -, -, hc, -, hsd, q0, -⟩ := E.hO.1 p hp
  have q2 : irm (nI s) 2 = nI (s % 2) := remN (d := 2) (by omega) (by decide) (by decide)
  obtain ⟨sd, hsd2, e1, e2⟩ : ∃ sd : Nat, sd ≤ 2 ∧ sB_side w b (nI s) = some (nI sd) ∧ sM_dislikes v (nI p) (nI b) (nI s) = (if (2 : Int32) ≤ nI k then (if nI k = (3 : Int32) then (if nI sd = (2 : Int32) then some 0 else some 2) else (if nI sd = (2 : Int32) then some 1 else some 0)) else (if nI sd = (2 : Int32) then some 3 else if nI sd = nI k then some 0 else some 2)) := by
    unfold sB_side sM_dislikes
    rw [E.k0, decide_eq_true hb, rd_t, g1, inb_nI (show b < 8 by omega) (by decide), clN (show b < 1073741824 by omega), rd_t, g2, inb_nI (show p < 16 by omega) (by decide), clN (show p < 1073741824 by omega), q2]
    simp only [rd_t, jn_d, nm_d]
    rw [q0]
    by_cases h : kb ≤ 2
    · have hle : nI kb ≤ (2 : Int32) := (nIle (b := 2) (by omega) (by decide)).mpr h
      rw [if_pos hle, if_pos hle]
      exact ⟨s % 2, by omega, rfl, rfl⟩
    · have hle : ¬ nI kb ≤ (2 : Int32) := fun z => h ((nIle (b := 2) (by omega) (by decide)).mp z)
      rw [if_neg hle, if_neg hle]
      exact ⟨2, by omega, rfl, rfl⟩
  have s3 : sd = 0 ∨ sd = 1 ∨ sd = 2 := by omega
  have k5 : k = 0 ∨ k = 1 ∨ k = 2 ∨ k = 3 ∨ k = 4 := by omega
  rw [e2]
  unfold sO_dislikes sX6_dislikes sX3_dislikes sX4_dislikes sX3_dislikes
  rw [hc, E.k1, decide_eq_true hp]
  rcases k5 with rfl | rfl | rfl | rfl | rfl
  · rw [hsd (by decide)]
    rcases s3 with rfl | rfl | rfl
    · exact ⟨0, _, by decide, e1, rfl, rfl⟩
    · exact ⟨2, _, by decide, e1, rfl, rfl⟩
    · exact ⟨3, _, by decide, e1, rfl, rfl⟩
  · rw [hsd (by decide)]
    rcases s3 with rfl | rfl | rfl
    · exact ⟨2, _, by decide, e1, rfl, rfl⟩
    · exact ⟨0, _, by decide, e1, rfl, rfl⟩
    · exact ⟨3, _, by decide, e1, rfl, rfl⟩
  · rcases s3 with rfl | rfl | rfl
    · exact ⟨0, _, by decide, e1, rfl, rfl⟩
    · exact ⟨0, _, by decide, e1, rfl, rfl⟩
    · exact ⟨1, _, by decide, e1, rfl, rfl⟩
  · rcases s3 with rfl | rfl | rfl
    · exact ⟨2, _, by decide, e1, rfl, rfl⟩
    · exact ⟨2, _, by decide, e1, rfl, rfl⟩
    · exact ⟨0, _, by decide, e1, rfl, rfl⟩
  · rcases s3 with rfl | rfl | rfl
    · exact ⟨0, _, by decide, e1, rfl, rfl⟩
    · exact ⟨0, _, by decide, e1, rfl, rfl⟩
    · exact ⟨1, _, by decide, e1, rfl, rfl⟩
theorem cost_v {w v : Wd} {nO nB nU d b p s : Nat} (E : Env nO nB nU d w v) (hb : b < nB) (hp : p < nO) (hs : s < 8) (hme : v.2.1 2 p = -1 ∨ (v.2.1 2 p = nI b ∧ ∃ s, s < 8 ∧ v.2.1 3 p = nI s)) : ∃ c, c ≤ 8 ∧ sX_costOf w b (nI s) (nI p) = some (nI c) ∧ sM_costOf v (nI p) (nI b) (nI s) = some (nI c) := by
  have bO := E.bO
  have bB := E.bB
  obtain ⟨c, sd, hc, d1, d2, d3⟩ := dis_v E hb hp hs
  have hcr : w.2.1 (101 + 10 * b) s = nI p ↔ (v.2.1 2 p = nI b ∧ v.2.1 3 p = nI s) := by
    constructor
    · intro z
      rcases E.hS.1 b hb s (by omega) with e | ⟨q, hq, e, e2, e3⟩
      · rw [e] at z; exact absurd z.symm (nI_nm1 (by omega))
      · rw [e] at z
        have := (nIeq (by omega) (by omega)).mp z
        subst this
        exact ⟨e2, e3⟩
    · rintro ⟨z1, z2⟩
      rcases E.hS.2 p hp with z | ⟨b', s', k', hb', hs', -, -, -, q1, q2, q3⟩
      · rw [z1] at z; exact absurd z (nI_nm1 (by omega))
      · rw [z1] at q1
        rw [z2] at q2
        have h1 := (nIeq (by omega) (by omega)).mp q1
        have h2 := (nIeq (by omega) (by omega)).mp q2
        subst h1; subst h2
        exact q3
  unfold sX_costOf sM_costOf
  rw [E.k0, decide_eq_true hb, inb_nI (show s < 9 by omega) (by decide), clN (show s < 1073741824 by omega), inb_nI (show p < 16 by omega) (by decide), clN (show p < 1073741824 by omega), E.k4, decide_eq_true hp, place_v E.hS E.k0 bB bO hb hp, d1, d3]
  simp only [Bool.and_self, rd_t, gd_t, jn_d, nm_d, bd_s]
  rw [oOk_t E.hO E.k1 hp, d2]
  simp only [gd_t, bd_s]
  rcases hme with z | ⟨z1, s0, hs0, z2⟩
  · have hnb : ¬ v.2.1 2 p = nI b := fun e => nI_nm1 (by omega) (e.symm.trans z)
    rw [if_neg (fun e => hnb (hcr.mp e).1), if_neg hnb, if_pos rfl, if_neg hnb, show (5 : Int32) = nI 5 from rfl, nI_add]
    exact ⟨5 + c, by omega, rfl, rfl⟩
  · rw [if_pos z1, if_pos z1, z2, if_neg (nI_nm1 (by omega)), if_neg (show ¬ (8 : Int32) ≤ nI s0 from fun z => absurd ((nIle (a := 8) (by decide) (by omega)).mp z) (by omega))]
    by_cases hss : s0 = s
    · subst hss
      rw [if_pos (hcr.mpr ⟨z1, z2⟩), if_pos rfl, Int32.zero_add]
      exact ⟨c, by omega, rfl, rfl⟩
    · have hne : ¬ nI s0 = nI s := fun e => hss ((nIeq (by omega) (by omega)).mp e)
      rw [if_neg (fun e => hne (z2.symm.trans (hcr.mp e).2)), if_neg hne, show (4 : Int32) = nI 4 from rfl, nI_add]
      exact ⟨4 + c, by omega, rfl, rfl⟩
