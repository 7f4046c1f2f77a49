set_option maxRecDepth 100000
theorem bitadd {x s t : Nat} (hx : x < 256) (hs : s < 8) (ht : t < 8) (hb : x.testBit s = false) : (x + 2 ^ s).testBit t = (decide (t = s) || x.testBit t) := by
  have h : ∀ s, s < 8 → ∀ t, t < 8 → ∀ x, x < 256 → x.testBit s = false → (x + 2 ^ s).testBit t = (decide (t = s) || x.testBit t) := by decide +kernel
  exact h s hs t ht x hx hb
/-- the first that fits, from s on -/
def fu (m : Nat → Bool) : Nat → Nat → Int32
  | 0, _ => -1
  | n + 1, s => if m s then nI s else fu m n (s + 1)
theorem fu_r (m : Nat → Bool) : ∀ n s, fu m n s = -1 ∨ ∃ t, t < s + n ∧ fu m n s = nI t ∧ m t = true := by
  intro n
  induction n with
  | zero => intro s; exact Or.inl rfl
  | succ n ih =>
    intro s
    unfold fu
    by_cases h : m s = true
    · rw [if_pos h]; exact Or.inr ⟨s, by omega, rfl, h⟩
    · rw [if_neg h]
      rcases ih (s + 1) with e | ⟨t, ht, e⟩
      · exact Or.inl e
      · exact Or.inr ⟨t, by omega, e⟩
def mtb (cm : Nat → Int32) (ct : Nat → Nat → Nat) (nO N K p x s : Nat) : Bool := !x.testBit s && decide (ct p s + tab cm ct nO N K (nO - (p + 1)) (x + 2 ^ s) = tab cm ct nO N K (nO - p) x)
theorem mtb_e (cm : Nat → Int32) (ct : Nat → Nat → Nat) (nO N p x s : Nat) (hN : N ≤ 8) (bO : nO ≤ 16) (hc : ∀ p s, ct p s ≤ 8) (hx : x < 2 ^ N) (hs : s < N) : mtb cm ct nO N 1048576 p x s = mtb cm ct nO N 1000000 p x s := by
  unfold mtb
  by_cases hb : x.testBit s = true
  · rw [hb]; rfl
  · have hb' : x.testBit s = false := by simpa using hb
    rw [hb']
    have h1 := tab_r cm ct nO N hN hc (nO - (p + 1)) (by omega) (x + 2 ^ s) (addb hN hx hs hb')
    have h2 := tab_r cm ct nO N hN hc (nO - p) (by omega) x hx
    have h3 := hc p s
    rw [Bool.not_false, Bool.true_and, Bool.true_and]
    refine decide_eq_decide.mpr ?_
    omega
theorem fu_c (m m' : Nat → Bool) : ∀ n s, (∀ t, t < s + n → m t = m' t) → fu m n s = fu m' n s := by
  intro n
  induction n with
  | zero => intro s _; rfl
  | succ n ih => intro s h; unfold fu; rw [h s (by omega), ih (s + 1) (fun t ht => h t (by omega))]
def sel (cm : Nat → Int32) (ct : Nat → Nat → Nat) (nO N p x : Nat) : Int32 := if cm p = 0 then -1 else fu (mtb cm ct nO N 1048576 p x) N 0
theorem selX {w : Wd} {b nO N p x : Nat} {cm : Nat → Int32} {ct : Nat → Nat → Nat} (hN : N ≤ 8) (h1N : 1 ≤ N) (bO : nO ≤ 16) (hp : p < nO) (hx : x < 2 ^ N) (hcm : sX_mayCome w b (nI p) = some (cm p)) (hc8 : ∀ p s, ct p s ≤ 8) (hc : ¬ cm p = 0 → ∀ s, s < N → sX_costOf w b (nI s) (nI p) = some (nI (ct p s))) (hT : ∀ q, q ≤ nO → ∀ y, y < 2 ^ N → w.2.1 14 (q * 256 + y) = nI (tab cm ct nO N 1048576 (nO - q) y)) (J : Int32 → Option (Int32 × Wd)) : sX_crew_L122 b (nI x) (nI p) w (nI (p * 256 + x)) J (-1) (nI N - 1) = J (sel cm ct nO N p x) := by
  have h2 := p2N hN
  rw [eX_crew_L122, nIsub1]
  unfold sel
  by_cases hc0 : cm p = 0
  · rw [if_pos hc0]
    obtain ⟨g2, hg2⟩ : ∃ g, FU = g + 1 := ⟨99999, by rw [FU_v]⟩
    obtain ⟨n, rfl⟩ : ∃ n, N = n + 1 := ⟨N - 1, by omega⟩
    rw [hg2, fx_s, pk_m1]
    unfold bX_crew_L122
    rw [if_neg (show ¬ nI n < 0 from nI_pos (by omega)), hcm, bd_s, if_pos hc0]
  · rw [if_neg hc0]
    have key : ∀ k n fuel, k + n = N → k < fuel → fx (fun _ _ => none) (bX_crew_L122 b (nI x) (nI p) w (nI (p * 256 + x)) J) fuel (fu (mtb cm ct nO N 1048576 p x) n k) (nI k + (-1)) = J (fu (mtb cm ct nO N 1048576 p x) N 0) := by
      intro k
      induction k with
      | zero =>
        intro n fuel hk hf
        obtain ⟨g, rfl⟩ : ∃ g, fuel = g + 1 := ⟨fuel - 1, by omega⟩
        obtain rfl : n = N := by omega
        rw [fx_s]
        unfold bX_crew_L122
        rw [if_pos (show nI 0 + (-1) < (0 : Int32) by decide)]
      | succ k ih =>
        intro n fuel hk hf
        obtain ⟨g, rfl⟩ : ∃ g, fuel = g + 1 := ⟨fuel - 1, by omega⟩
        have ihx := ih (n + 1) g (by omega) (by omega)
        rw [fx_s, pk_m1]
        generalize fx _ _ g = s1 at ihx ⊢
        rw [← ihx]
        unfold bX_crew_L122
        rw [if_neg (show ¬ nI k < 0 from nI_pos (by omega)), hcm, bd_s, if_neg hc0]
        conv => rhs; unfold fu
        by_cases ht : x.testBit k = true
        · have hm : ¬ mtb cm ct nO N 1048576 p x k = true := by unfold mtb; rw [ht]; simp
          rw [if_neg (fun z => (bitz (by omega) (by omega)).mp z ht), if_neg hm, nm_d]
        · have ht' : x.testBit k = false := by simpa using ht
          have hadd := addb hN hx (show k < N by omega) ht'
          have h2s : 1 ≤ 2 ^ k := Nat.one_le_two_pow
          have e1 : nI (p * 256 + x) + 256 + nI (2 ^ k) = nI ((p + 1) * 256 + (x + 2 ^ k)) := by
            rw [show (256 : Int32) = nI 256 from rfl, nI_add, nI_add]; congr 1; omega
          have t1 := (tab_b cm ct nO N hN hc8 (nO - (p + 1)) (by omega) (x + 2 ^ k) hadd).1
          have t2 := (tab_b cm ct nO N hN hc8 (nO - p) (by omega) x hx).1
          have t3 := hc8 p k
          rw [if_pos ((bitz (by omega) (by omega)).mpr ht), hc hc0 k (by omega), bd_s, shlb (by omega), e1, inb_nI (show p * 256 + x < 4352 by omega) (by decide), clN (show p * 256 + x < 1073741824 by omega), inb_nI (show (p + 1) * 256 + (x + 2 ^ k) < 4352 by omega) (by decide), clN (show (p + 1) * 256 + (x + 2 ^ k) < 1073741824 by omega), rd_t, rd_t, hT (p + 1) (by omega) _ hadd, hT p (by omega) x hx, nI_add]
          simp only [nm_d]
          have hm : mtb cm ct nO N 1048576 p x k = decide (ct p k + tab cm ct nO N 1048576 (nO - (p + 1)) (x + 2 ^ k) = tab cm ct nO N 1048576 (nO - p) x) := by unfold mtb; rw [ht']; rfl
          rw [hm]
          by_cases he : ct p k + tab cm ct nO N 1048576 (nO - (p + 1)) (x + 2 ^ k) = tab cm ct nO N 1048576 (nO - p) x
          · rw [if_pos (congrArg nI he), if_pos (decide_eq_true he)]
          · rw [if_neg (fun z => he ((nIeq (by omega) (by omega)).mp z)), if_neg (by rw [decide_eq_false he]; decide)]
    exact key N 0 FU (by omega) (by rw [FU_v]; omega)
theorem selM {v : Wd} {b nO N p x : Nat} {cm : Nat → Int32} {ct : Nat → Nat → Nat} {hour : Int32} (hN : N ≤ 8) (h1N : 1 ≤ N) (bO : nO ≤ 16) (hp : p < nO) (hx : x < 2 ^ N) (hseat : ∀ z, sM_seatsOf (stG v 25 p z) (nI b) = some (nI N)) (hcm : ∀ z, sM_canSit (stG v 25 p z) (nI p) (nI b) hour = some (cm p)) (hc8 : ∀ p s, ct p s ≤ 8) (hc : ∀ z, ¬ cm p = 0 → ∀ s, s < N → sM_costOf (stG v 25 p z) (nI p) (nI b) (nI s) = some (nI (ct p s))) (hT : ∀ q, q ≤ nO → ∀ y, y < 2 ^ N → v.2.1 24 (q * 256 + y) = nI (tab cm ct nO N 1000000 (nO - q) y)) (J : Wd → Option (Int32 × Wd)) : sM_crew_L92 (nI b) hour (nI x) (nI p) J 0 (stG v 25 p (-1)) = J (stG v 25 p (sel cm ct nO N p x)) := by
  have h2 := p2N hN
  rw [eM_crew_L92]
  have c25 : ∀ z, (stG v 25 p z).2.1 25 p = z := fun z => by rw [stG_eq, pk_us]
  have c24 : ∀ z, (stG v 25 p z).2.1 24 = v.2.1 24 := fun z => stG_ne (by decide)
  unfold sel
  by_cases hc0 : cm p = 0
  · rw [if_pos hc0]
    obtain ⟨g2, hg2⟩ : ∃ g, FU = g + 1 := ⟨99999, by rw [FU_v]⟩
    rw [hg2, fx_s]
    unfold bM_crew_L92
    rw [hseat, bd_s, if_neg (show ¬ nI N ≤ 0 from fun z => absurd ((nIle (b := 0) (by omega) (by decide)).mp z) (by omega)), inb_nI (show p < 16 by omega) (by decide), clN (show p < 1073741824 by omega), rd_t, c25, if_neg (show ¬ (0 : Int32) ≤ -1 by decide), hcm, bd_s, if_pos hc0]
  · rw [if_neg hc0, fu_c _ (mtb cm ct nO N 1000000 p x) N 0 (fun t ht => mtb_e cm ct nO N p x t hN bO hc8 hx (by omega))]
    have stop : ∀ (t s fuel : Nat), t < 8 → s ≤ N → 0 < fuel → fx (fun _ _ => none) (bM_crew_L92 (nI b) hour (nI x) (nI p) J) fuel (nI s) (stG v 25 p (nI t)) = J (stG v 25 p (nI t)) := by
      intro t s fuel ht hs hf
      obtain ⟨g, rfl⟩ : ∃ g, fuel = g + 1 := ⟨fuel - 1, by omega⟩
      rw [fx_s]
      unfold bM_crew_L92
      rw [hseat, bd_s, inb_nI (show p < 16 by omega) (by decide), clN (show p < 1073741824 by omega), rd_t, c25, if_pos (show (0 : Int32) ≤ nI t from nI_pos' (by omega))]
      exact ite_self _
    have key : ∀ n s fuel, s + n = N → n + 1 < fuel → fx (fun _ _ => none) (bM_crew_L92 (nI b) hour (nI x) (nI p) J) fuel (nI s) (stG v 25 p (-1)) = J (stG v 25 p (fu (mtb cm ct nO N 1000000 p x) n s)) := by
      intro n
      induction n with
      | zero =>
        intro s fuel hs hf
        obtain ⟨g, rfl⟩ : ∃ g, fuel = g + 1 := ⟨fuel - 1, by omega⟩
        obtain rfl : s = N := by omega
        rw [fx_s]
        unfold bM_crew_L92
        rw [hseat, bd_s, if_pos (Int32.le_refl _)]
        rfl
      | succ n ih =>
        intro s fuel hs hf
        obtain ⟨g, rfl⟩ : ∃ g, fuel = g + 1 := ⟨fuel - 1, by omega⟩
        have ihx := ih (s + 1) g (by omega) (by omega)
        have stx := stop s (s + 1) g (by omega) (by omega) (by omega)
        rw [fx_s]
        generalize fx _ _ g = s1 at ihx stx ⊢
        unfold bM_crew_L92
        rw [hseat, bd_s, if_neg (fun z => absurd ((nIle (by omega) (by omega)).mp z) (by omega)), inb_nI (show p < 16 by omega) (by decide), clN (show p < 1073741824 by omega), rd_t, c25, if_neg (show ¬ (0 : Int32) ≤ -1 by decide), hcm, bd_s, if_neg hc0]
        conv => rhs; unfold fu
        by_cases ht : x.testBit s = true
        · have hm : ¬ mtb cm ct nO N 1000000 p x s = true := by unfold mtb; rw [ht]; simp
          rw [if_neg (fun z => (bitz (by omega) (by omega)).mp z ht), if_neg hm, nm_d, nI_1]
          exact ihx
        · have ht' : x.testBit s = false := by simpa using ht
          have hadd := addb hN hx (show s < N by omega) ht'
          have h2s : 1 ≤ 2 ^ s := Nat.one_le_two_pow
          have t1 := (tab_b cm ct nO N hN hc8 (nO - (p + 1)) (by omega) (x + 2 ^ s) hadd).2
          have t2 := (tab_b cm ct nO N hN hc8 (nO - p) (by omega) x hx).2
          have t3 := hc8 p s
          rw [if_pos ((bitz (by omega) (by omega)).mpr ht), hc _ hc0 s (by omega), bd_s, orb (by omega) (by omega) ht', nI_1, ix256, ix256, inb_nI (show p * 256 + x < 4352 by omega) (by decide), clN (show p * 256 + x < 1073741824 by omega), inb_nI (show (p + 1) * 256 + (x + 2 ^ s) < 4352 by omega) (by decide), clN (show (p + 1) * 256 + (x + 2 ^ s) < 1073741824 by omega), rd_t, rd_t, c24, hT (p + 1) (by omega) _ hadd, hT p (by omega) x hx, nI_add]
          simp only [nm_d, rd_t, nI_1, stG_stG]
          have hm : mtb cm ct nO N 1000000 p x s = decide (ct p s + tab cm ct nO N 1000000 (nO - (p + 1)) (x + 2 ^ s) = tab cm ct nO N 1000000 (nO - p) x) := by unfold mtb; rw [ht']; rfl
          rw [hm]
          by_cases he : ct p s + tab cm ct nO N 1000000 (nO - (p + 1)) (x + 2 ^ s) = tab cm ct nO N 1000000 (nO - p) x
          · rw [if_pos (congrArg nI he), if_pos (decide_eq_true he)]
            exact stx
          · rw [if_neg (fun z => he ((nIeq (by omega) (by omega)).mp z)), if_neg (by rw [decide_eq_false he]; decide)]
            exact ihx
    exact key N 0 FU (by omega) (by rw [FU_v]; omega)
