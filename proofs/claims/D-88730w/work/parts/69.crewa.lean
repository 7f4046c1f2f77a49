set_option maxRecDepth 100000
theorem comeLoop {w v : Wd} {nO nB nU d b p : Nat} (E : Env nO nB nU d w v) (xB : w.2.1 90 3 = nI nB) (hb : b < nB) (hp : p < nO) : ((∀ k, k < nB → k ≠ b → ¬ v.2.1 2 p = nI k) → sX_mayCome_L38 w b (nI p) 0 = some 1) ∧ (∀ b', b' < nB → b' ≠ b → v.2.1 2 p = nI b' → (∃ s, s < 9 ∧ v.2.1 3 p = nI s) → sX_mayCome_L38 w b (nI p) 0 = some 0) := by
  have bO := E.bO
  have bB := E.bB
  have st : ∀ k, k < nB → ∀ s1, bX_mayCome_L38 w b (nI p) s1 (nI k) = if k = b then s1 (nI (k + 1)) else if (if v.2.1 2 p = nI k then v.2.1 3 p else -1) = -1 then s1 (nI (k + 1)) else some 0 := by
    intro k hk s1
    unfold bX_mayCome_L38
    rw [xB, if_neg (fun z => absurd ((nIle (by omega) (by omega)).mp z) (by omega)), inb_nI (show k < 8 by omega) (by decide), clN (show k < 1073741824 by omega), E.k3, decide_eq_true hk]
    simp only [Bool.and_self, rd_t, nm_d, nI_1]
    rw [E.k0, decide_eq_true hk, decide_eq_true hb]
    simp only [Bool.and_self, gd_t]
    rw [place_v E.hS E.k0 bB bO hk hp, bd_s]
  constructor
  · intro hn
    rw [eX_mayCome_L38]
    have key : ∀ m k fuel, k + m = nB → m < fuel → fx (fun _ => none) (bX_mayCome_L38 w b (nI p)) fuel (nI k) = some 1 := by
      intro m
      induction m with
      | zero =>
        intro k fuel hk hf
        obtain ⟨g, rfl⟩ : ∃ g, fuel = g + 1 := ⟨fuel - 1, by omega⟩
        obtain rfl : k = nB := by omega
        rw [fx_s]
        unfold bX_mayCome_L38
        rw [xB, if_pos (Int32.le_refl _)]
      | succ m ih =>
        intro k fuel hk hf
        obtain ⟨g, rfl⟩ : ∃ g, fuel = g + 1 := ⟨fuel - 1, by omega⟩
        rw [fx_s, st k (by omega)]
        by_cases h : k = b
        · rw [if_pos h]; exact ih (k + 1) g (by omega) (by omega)
        · rw [if_neg h, if_neg (hn k (by omega) h), if_pos rfl]; exact ih (k + 1) g (by omega) (by omega)
    exact key nB 0 FU (by omega) (by rw [FU_v]; omega)
  · intro b' hb' hne e1 ⟨s, hs, e2⟩
    rw [eX_mayCome_L38]
    have key : ∀ m k fuel, k + m = b' → m < fuel → fx (fun _ => none) (bX_mayCome_L38 w b (nI p)) fuel (nI k) = some 0 := by
      intro m
      induction m with
      | zero =>
        intro k fuel hk hf
        obtain ⟨g, rfl⟩ : ∃ g, fuel = g + 1 := ⟨fuel - 1, by omega⟩
        obtain rfl : k = b' := by omega
        rw [fx_s, st k hb', if_neg hne, if_pos e1, e2, if_neg (nI_nm1 (by omega))]
      | succ m ih =>
        intro k fuel hk hf
        obtain ⟨g, rfl⟩ : ∃ g, fuel = g + 1 := ⟨fuel - 1, by omega⟩
        rw [fx_s, st k (by omega)]
        have hk' : ¬ v.2.1 2 p = nI k := fun z => by
          rw [e1] at z
          have := (nIeq (by omega) (by omega)).mp z
          omega
        by_cases h : k = b
        · rw [if_pos h]; exact ih (k + 1) g (by omega) (by omega)
        · rw [if_neg h, if_neg hk', if_pos rfl]; exact ih (k + 1) g (by omega) (by omega)
    exact key b' 0 FU (by omega) (by rw [FU_v]; omega)
theorem come_v {w v : Wd} {nO nB nU d b p : Nat} {hour : Int32} (E : Env nO nB nU d w v) (xB : w.2.1 90 3 = nI nB) (xW : w.2.1 90 15 = hour) (hb : b < nB) (hp : p < nO) : ∃ r, sX_mayCome w b (nI p) = some r ∧ sM_canSit v (nI p) (nI b) hour = some r ∧ (r = 0 ∨ (r = 1 ∧ (v.2.1 2 p = -1 ∨ (v.2.1 2 p = nI b ∧ ∃ s, s < 8 ∧ v.2.1 3 p = nI s)))) := by
  have bO := E.bO
  have bB := E.bB
  obtain ⟨r0, m1, m2⟩ := mbo_v E hp hour
  obtain ⟨k, ls, ms, ln, hk, -, -, -, -, -, g1, g2, -⟩ := E.hB.1 b hb
  obtain ⟨c1, c0⟩ := comeLoop E xB hb hp
  have hcx : ∀ x : Int32, w.2.1 (101 + 10 * b) 8 = nI p → v.2.1 2 p = nI b ∧ v.2.1 3 p = nI 8 := by
    intro _ z
    rcases E.hS.1 b hb 8 (by omega) with e | ⟨q, hq, e, e2, e3⟩
    · rw [e] at z; exact absurd z.symm (nI_nm1 (by omega))
    · rw [e] at z
      have := (nIeq (by omega) (by omega)).mp z
      subst this
      exact ⟨e2, e3⟩
  unfold sX_mayCome sM_canSit
  rw [inb_nI (show p < 16 by omega) (by decide), clN (show p < 1073741824 by omega), E.k4, decide_eq_true hp, xW, m2]
  simp only [Bool.and_self, rd_t, nm_d, jn_d]
  rw [oOk_t E.hO E.k1 hp, m1, E.k0, decide_eq_true hb, sB_hasCox_v (by rw [E.k0]; exact hb) g1 hk, show inb (8 : Int32) 9 = true from rfl, show (8 : Int32).toNatClampNeg = 8 from rfl]
  simp only [gd_t, bd_s, Bool.and_self, rd_t]
  by_cases hr0 : r0 = 0
  · rw [if_pos hr0]
    refine ⟨0, rfl, ?_, Or.inl rfl⟩
    simp only [if_pos hr0, ite_self]
  rw [if_neg hr0]
  simp only [if_neg hr0]
  rcases E.hS.2 p hp with z | ⟨b', s, k', hb', hs, q6, hk', hok, q1, q2, q3⟩
  · have hne : ∀ k, k < nB → ¬ v.2.1 2 p = nI k := fun k hk e => nI_nm1 (by omega) (e.symm.trans z)
    have h8 : ¬ w.2.1 (101 + 10 * b) 8 = nI p := fun e => hne b hb (hcx 0 e).1
    refine ⟨1, ?_, ?_, Or.inr ⟨rfl, Or.inl z⟩⟩
    · rw [c1 (fun k hk _ => hne k hk), if_neg h8]
      exact ite_self _
    · rw [z, if_pos (show (-1 : Int32) < 0 by decide)]
      rfl
  · have hlt : ¬ v.2.1 2 p < 0 := by rw [q1]; exact nI_pos (by omega)
    rw [if_neg hlt]
    by_cases hbb : b' = b
    · subst hbb
      have hne : ∀ k, k < nB → k ≠ b' → ¬ v.2.1 2 p = nI k := fun k hk hkb e => hkb ((nIeq (by omega) (by omega)).mp (e.symm.trans q1))
      rw [c1 hne, if_pos q1]
      by_cases hs8 : s = 8
      · subst hs8
        rw [g2] at q6
        have hkk := (nIeq (by omega) (by omega)).mp q6
        subst hkk
        have hcox : k = 1 ∨ k = 2 := by
          rcases hok with h | h
          · have := sN_b hk; omega
          · exact h.2
        refine ⟨0, ?_, ?_, Or.inl rfl⟩
        · rw [b1_t hcox, if_neg n10, if_pos q3]
        · rw [if_pos (show v.2.1 3 p = 8 from q2)]
          rfl
      · have h8 : ¬ w.2.1 (101 + 10 * b') 8 = nI p := fun e => hs8 ((nIeq (by omega) (by decide)).mp (q2.symm.trans (hcx 0 e).2))
        have h8' : ¬ v.2.1 3 p = (8 : Int32) := fun e => hs8 ((nIeq (b := 8) (by omega) (by decide)).mp (q2.symm.trans e))
        refine ⟨1, ?_, ?_, Or.inr ⟨rfl, Or.inr ⟨q1, s, by omega, q2⟩⟩⟩
        · rw [if_neg h8]; exact ite_self _
        · rw [if_neg h8']
          rfl
    · have hnb : ¬ v.2.1 2 p = nI b := fun e => hbb ((nIeq (by omega) (by omega)).mp (q1.symm.trans e))
      have h8 : ¬ w.2.1 (101 + 10 * b) 8 = nI p := fun e => hnb (hcx 0 e).1
      refine ⟨0, ?_, ?_, Or.inl rfl⟩
      · rw [c0 b' hb' hbb q1 ⟨s, hs, q2⟩, if_neg h8]
        exact ite_self _
      · rw [if_neg hnb]
        rfl
