set_option maxRecDepth 100000
theorem ix256 (p x : Nat) : (256 : Int32) * nI p + nI x = nI (p * 256 + x) := by
  rw [show (256 : Int32) = nI 256 from rfl, pk_mul, nI_add, Nat.mul_comm]
theorem inM {v : Wd} {b p x N K : Nat} {cm : Nat → Int32} {c T : Nat → Nat} {hour : Int32} (hN : N ≤ 8) (hp : p < 16) (hx : x < 2 ^ N) (hK : K ≤ 1048576) (hcm : sM_canSit v (nI p) (nI b) hour = some (cm p)) (hc0 : ¬ cm p = 0) (hc8 : ∀ s, c s ≤ 8) (hc : ∀ s, s < N → sM_costOf v (nI p) (nI b) (nI s) = some (nI (c s))) (hT : ∀ y, y < 2 ^ N → T y ≤ K ∧ v.2.1 24 ((p + 1) * 256 + y) = nI (T y)) (J : Int32 → Option Wd) : ∀ m s z fuel, s + m = N → m < fuel → z ≤ K → fx (fun _ _ => none) (bM_fillCost_L102 (nI b) hour (nI N) (nI p) (nI x) v J) fuel (nI z) (nI s) = J (nI (inn c T x m s z)) := by
  have h2 := p2N hN
  intro m
  induction m with
  | zero =>
    intro s z fuel hs hf hz
    obtain ⟨g, rfl⟩ : ∃ g, fuel = g + 1 := ⟨fuel - 1, by omega⟩
    obtain rfl : s = N := by omega
    rw [fx_s]
    unfold bM_fillCost_L102
    rw [if_pos (Int32.le_refl _)]
    rfl
  | succ m ih =>
    intro s z fuel hs hf hz
    obtain ⟨g, rfl⟩ : ∃ g, fuel = g + 1 := ⟨fuel - 1, by omega⟩
    have ihx := fun z hz => ih (s + 1) z g (by omega) (by omega) hz
    rw [fx_s]
    generalize fx _ _ g = s1 at ihx ⊢
    unfold bM_fillCost_L102
    rw [if_neg (fun z => absurd ((nIle (by omega) (by omega)).mp z) (by omega)), hcm, bd_s, if_neg hc0]
    conv => rhs; unfold inn
    by_cases ht : x.testBit s = true
    · rw [if_pos ((bito (by omega) (by omega)).mpr ht), if_pos ht, nm_d, nI_1]
      exact ihx z hz
    · have ht' : x.testBit s = false := by simpa using ht
      have hadd := addb hN hx (show s < N by omega) ht'
      have hTy := hT _ hadd
      have h2s : 1 ≤ 2 ^ s := Nat.one_le_two_pow
      have hcs := hc8 s
      rw [if_neg (fun z => ht ((bito (by omega) (by omega)).mp z)), if_neg ht, hc s (by omega), bd_s, orb (by omega) (by omega) ht', nI_1, ix256, inb_nI (show (p + 1) * 256 + (x + 2 ^ s) < 4352 by omega) (by decide), clN (show (p + 1) * 256 + (x + 2 ^ s) < 1073741824 by omega), rd_t, hTy.2, nI_add]
      simp only [nm_d, nI_1]
      by_cases hle : z ≤ c s + T (x + 2 ^ s)
      · rw [if_pos ((nIle (by omega) (by omega)).mpr hle), Nat.min_eq_left hle]
        exact ihx z hz
      · rw [if_neg (fun q => hle ((nIle (by omega) (by omega)).mp q)), Nat.min_eq_right (by omega)]
        exact ihx _ (by omega)
theorem rowM {v0 : Wd} {b nO N : Nat} {cm : Nat → Int32} {ct : Nat → Nat → Nat} {hour : Int32} (hN : N ≤ 8) (h1N : 1 ≤ N) (bO : nO ≤ 16) (hcm : ∀ v, Ag [24, 25] [] v0 v → ∀ p, p < nO → sM_canSit v (nI p) (nI b) hour = some (cm p)) (hc8 : ∀ p s, ct p s ≤ 8) (hc : ∀ v, Ag [24, 25] [] v0 v → ∀ p, p < nO → ¬ cm p = 0 → ∀ s, s < N → sM_costOf v (nI p) (nI b) (nI s) = some (nI (ct p s))) (p : Nat) (hp : p < nO) : ∀ (m x fuel : Nat) (w : Wd), x + m = 2 ^ N → m < fuel → Ag [24, 25] [] v0 w → (∀ q, p < q → q ≤ nO → ∀ y, y < 2 ^ N → w.2.1 24 (q * 256 + y) = nI (tab cm ct nO N 1000000 (nO - q) y)) → (∀ y, y < x → w.2.1 24 (p * 256 + y) = nI (tab cm ct nO N 1000000 (nO - p) y)) → ∃ w', (∀ self, fx (fun _ _ => none) (bM_fillCost_L74 (nI b) hour (nI N) (nI (2 ^ N - 1)) (nI p) self) fuel (nI x) w = self (nI p + (-1)) w') ∧ Ag [24, 25] [] v0 w' ∧ (∀ q, p ≤ q → q ≤ nO → ∀ y, y < 2 ^ N → w'.2.1 24 (q * 256 + y) = nI (tab cm ct nO N 1000000 (nO - q) y)) := by
  have h2 := p2N hN
  intro m
  induction m with
  | zero =>
    intro x fuel w hx hf hA hq hy
    obtain ⟨g, rfl⟩ : ∃ g, fuel = g + 1 := ⟨fuel - 1, by omega⟩
    obtain rfl : x = 2 ^ N := by omega
    refine ⟨w, fun self => ?_, hA, fun q h1 h3 y h4 => ?_⟩
    · rw [fx_s]
      unfold bM_fillCost_L74
      rw [if_pos ((nIlt (by omega) (by omega)).mpr (by omega)), nm_d]
    · rcases Nat.lt_or_ge p q with h | h
      · exact hq q h h3 y h4
      · obtain rfl : p = q := by omega
        exact hy y h4
  | succ m ih =>
    intro x fuel w hx hf hA hq hy
    obtain ⟨g, rfl⟩ : ∃ g, fuel = g + 1 := ⟨fuel - 1, by omega⟩
    have hxN : x < 2 ^ N := by omega
    obtain ⟨j, hj⟩ : ∃ j, nO - p = j + 1 := ⟨nO - p - 1, by omega⟩
    have hj2 : nO - (p + 1) = j := by omega
    have hj3 : nO - (j + 1) = p := by omega
    have hTb := fun y hy => (tab_b cm ct nO N hN hc8 j (by omega) y hy).2
    have hrow : ∀ y, y < 2 ^ N → w.2.1 24 ((p + 1) * 256 + y) = nI (tab cm ct nO N 1000000 j y) := by
      intro y hy
      have := hq (p + 1) (by omega) (by omega) y hy
      rw [hj2] at this
      exact this
    have hin : ∀ J, sM_fillCost_L102 (nI b) hour (nI N) (nI p) (nI x) w J (nI (tab cm ct nO N 1000000 j x)) 0 = J (nI (tab cm ct nO N 1000000 (nO - p) x)) := by
      intro J
      rw [hj, tab_s, hj3, eM_fillCost_L102]
      by_cases hc0 : cm p = 0
      · rw [if_pos hc0]
        obtain ⟨g2, hg2⟩ : ∃ g, FU = g + 1 := ⟨99999, by rw [FU_v]⟩
        rw [hg2, fx_s]
        unfold bM_fillCost_L102
        rw [if_neg (show ¬ nI N ≤ 0 from fun z => absurd ((nIle (b := 0) (by omega) (by decide)).mp z) (by omega)), hcm w hA p hp, bd_s, if_pos hc0]
      · rw [if_neg hc0]
        exact inM (cm := cm) (K := 1000000) hN (by omega) hxN (by omega) (hcm w hA p hp) hc0 (hc8 p) (fun s hs => hc w hA p hp hc0 s hs) (fun y hy => ⟨hTb y hy, hrow y hy⟩) J N 0 _ FU (by omega) (by rw [FU_v]; omega) (hTb x hxN)
    obtain ⟨w', r1, r2⟩ := ih (x + 1) g (stG w 24 (p * 256 + x) (nI (tab cm ct nO N 1000000 (nO - p) x))) (by omega) (by omega) (hA.trans (Ag.st (by decide) (by decide))) (fun q h1 h3 y h4 => by
      rw [stG_eq, pk_un (by omega)]; exact hq q h1 h3 y h4) (fun y h4 => by
      rw [stG_eq]
      by_cases e : y = x
      · rw [e, pk_us]
      · rw [pk_un (by omega)]; exact hy y (by omega))
    refine ⟨w', fun self => ?_, r2⟩
    have r1s := r1 self
    rw [fx_s]
    generalize fx _ _ g = s1 at r1s ⊢
    unfold bM_fillCost_L74
    rw [if_neg (fun z => absurd ((nIlt (by omega) (by omega)).mp z) (by omega)), nI_1, ix256, ix256, inb_nI (show (p + 1) * 256 + x < 4352 by omega) (by decide), clN (show (p + 1) * 256 + x < 1073741824 by omega), inb_nI (show p * 256 + x < 4352 by omega) (by decide), clN (show p * 256 + x < 1073741824 by omega)]
    simp only [rd_t, nm_d, jn_d, nI_1]
    rw [hrow x hxN, hin]
    exact r1s
theorem tabM {v0 : Wd} {b nO N : Nat} {cm : Nat → Int32} {ct : Nat → Nat → Nat} {hour : Int32} (hN : N ≤ 8) (h1N : 1 ≤ N) (bO : nO ≤ 16) (yO : v0.2.1 90 10 = nI nO) (hseat : sM_seatsOf v0 (nI b) = some (nI N)) (hcm : ∀ v, Ag [24, 25] [] v0 v → ∀ p, p < nO → sM_canSit v (nI p) (nI b) hour = some (cm p)) (hc8 : ∀ p s, ct p s ≤ 8) (hc : ∀ v, Ag [24, 25] [] v0 v → ∀ p, p < nO → ¬ cm p = 0 → ∀ s, s < N → sM_costOf v (nI p) (nI b) (nI s) = some (nI (ct p s))) : ∃ w', sM_fillCost v0 (nI b) hour = some w' ∧ Ag [24, 25] [] v0 w' ∧ ∀ q, q ≤ nO → ∀ y, y < 2 ^ N → w'.2.1 24 (q * 256 + y) = nI (tab cm ct nO N 1000000 (nO - q) y) := by
  have h2 := p2N hN
  have hini : ∀ (m x fuel : Nat) (w : Wd), x + m = 2 ^ N → m < fuel → Ag [24, 25] [] v0 w → (∀ y, y < x → w.2.1 24 (nO * 256 + y) = nI (tab cm ct nO N 1000000 0 y)) → ∃ w', (∀ J, fx (fun _ _ => none) (bM_fillCost_L16 (nI (2 ^ N - 1)) J) fuel (nI x) w = J w') ∧ Ag [24, 25] [] v0 w' ∧ (∀ y, y < 2 ^ N → w'.2.1 24 (nO * 256 + y) = nI (tab cm ct nO N 1000000 0 y)) := by
    intro m
    induction m with
    | zero =>
      intro x fuel w hx hf hA hy
      obtain ⟨g, rfl⟩ : ∃ g, fuel = g + 1 := ⟨fuel - 1, by omega⟩
      obtain rfl : x = 2 ^ N := by omega
      refine ⟨w, fun J => ?_, hA, hy⟩
      rw [fx_s]
      unfold bM_fillCost_L16
      rw [if_pos ((nIlt (by omega) (by omega)).mpr (by omega))]
    | succ m ih =>
      intro x fuel w hx hf hA hy
      obtain ⟨g, rfl⟩ : ∃ g, fuel = g + 1 := ⟨fuel - 1, by omega⟩
      obtain ⟨w', r1, r2⟩ := ih (x + 1) g (stG w 24 (nO * 256 + x) (nI (tab cm ct nO N 1000000 0 x))) (by omega) (by omega) (hA.trans (Ag.st (by decide) (by decide))) (fun y h4 => by
        rw [stG_eq]
        by_cases e : y = x
        · rw [e, pk_us]
        · rw [pk_un (by omega)]; exact hy y (by omega))
      refine ⟨w', fun J => ?_, r2⟩
      have r1s := r1 J
      rw [fx_s]
      generalize fx _ _ g = s1 at r1s ⊢
      unfold bM_fillCost_L16
      rw [if_neg (fun z => absurd ((nIlt (by omega) (by omega)).mp z) (by omega)), hA.2.2 10 (by simp), yO, ix256, inb_nI (show nO * 256 + x < 4352 by omega) (by decide), clN (show nO * 256 + x < 1073741824 by omega)]
      simp only [rd_t, nm_d, jn_d, nI_1]
      have et : tab cm ct nO N 1000000 0 x = if x = 2 ^ N - 1 then 0 else 1000000 := rfl
      rw [et] at r1s
      by_cases h : x = 2 ^ N - 1
      · rw [if_pos h] at r1s
        rw [if_pos (congrArg nI h)]
        exact r1s
      · rw [if_neg h] at r1s
        rw [if_neg (fun z => h ((nIeq (by omega) (by omega)).mp z))]
        exact r1s
  have key : ∀ (k fuel : Nat) (w : Wd), k ≤ nO → k < fuel → Ag [24, 25] [] v0 w → (∀ q, k ≤ q → q ≤ nO → ∀ y, y < 2 ^ N → w.2.1 24 (q * 256 + y) = nI (tab cm ct nO N 1000000 (nO - q) y)) → ∃ w', fx (fun _ _ => none) (bM_fillCost_L66 (nI b) hour (nI N) (nI (2 ^ N - 1))) fuel (nI k + (-1)) w = some w' ∧ Ag [24, 25] [] v0 w' ∧ ∀ q, q ≤ nO → ∀ y, y < 2 ^ N → w'.2.1 24 (q * 256 + y) = nI (tab cm ct nO N 1000000 (nO - q) y) := by
    intro k
    induction k with
    | zero =>
      intro fuel w hk hf hA hq
      obtain ⟨g, rfl⟩ : ∃ g, fuel = g + 1 := ⟨fuel - 1, by omega⟩
      refine ⟨w, ?_, hA, fun q hq' => hq q (by omega) hq'⟩
      rw [fx_s]
      unfold bM_fillCost_L66
      rw [if_pos (show nI 0 + (-1) < (0 : Int32) by decide)]
    | succ k ih =>
      intro fuel w hk hf hA hq
      obtain ⟨g, rfl⟩ : ∃ g, fuel = g + 1 := ⟨fuel - 1, by omega⟩
      obtain ⟨w1, r1, r2, r3⟩ := rowM hN h1N bO hcm hc8 hc k (by omega) (2 ^ N) 0 FU w (by omega) (by rw [FU_v]; omega) hA (fun q h1 h3 => hq q (by omega) h3) (fun y hy => by omega)
      obtain ⟨w', s1, s2⟩ := ih g w1 (by omega) (by omega) r2 r3
      refine ⟨w', ?_, s2⟩
      rw [fx_s, pk_m1]
      have hr : ∀ self, sM_fillCost_L74 (nI b) hour (nI N) (nI (2 ^ N - 1)) (nI k) self 0 w = self (nI k + (-1)) w1 := fun self => by rw [eM_fillCost_L74]; exact r1 self
      generalize fx _ _ g = t1 at s1 ⊢
      unfold bM_fillCost_L66
      rw [if_neg (show ¬ nI k < 0 from nI_pos (by omega)), nm_d, hr]
      exact s1
  obtain ⟨w1, i1, i2, i3⟩ := hini (2 ^ N) 0 FU v0 (by omega) (by rw [FU_v]; omega) Ag.rfl (fun y hy => by omega)
  have i1' : ∀ J, sM_fillCost_L16 (nI (2 ^ N - 1)) J 0 v0 = J w1 := fun J => by rw [eM_fillCost_L16]; exact i1 J
  unfold sM_fillCost
  have e1 : nI (2 ^ N) - 1 = nI (2 ^ N - 1) := nIsub (b := 1) (by omega)
  rw [hseat, bd_s, nm_d, shlb (by omega), e1]
  simp only [nm_d, jn_d]
  rw [i1', i2.2.2 10 (by simp), yO, nIsub1, eM_fillCost_L66]
  exact key nO FU w1 (Nat.le_refl _) (by rw [FU_v]; omega) i2 (fun q h1 h3 => by
    obtain rfl : q = nO := by omega
    rw [Nat.sub_self]; exact i3)
