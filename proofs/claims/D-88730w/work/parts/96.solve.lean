set_option maxRecDepth 100000
/-! the table solved without fractions -/
theorem iL_toInt {z : Int} (h : z.natAbs < 9223372036854775808) : (iL z).toInt = z ∨ z = -9223372036854775808 := by
  exact Or.inl (Int64.toInt_ofInt_of_le (by omega) (by omega))
theorem iL_div {d x : Int} (h0 : 0 < d) (hd : d ≤ 1048576) (h : (d * x).natAbs < 9223372036854775808) : iL (d * x) / iL d = iL x := by
  have e1 : Int64.minValue.toInt = -9223372036854775808 := by decide
  have e2 : Int64.maxValue.toInt = 9223372036854775807 := by decide
  rw [← Int64.ofInt_tdiv (by rw [e1]; omega) (by rw [e2]; omega) (by rw [e1]; omega) (by rw [e2]; omega), Int.mul_tdiv_cancel_left _ (by omega)]
theorem iL_ne {d : Int} (h0 : 0 < d) (hd : d ≤ 1048576) : ¬ iL d = 0 := fun z => by
  have h1 : (iL d).toInt = d := Int64.toInt_ofInt_of_le (by omega) (by omega)
  rw [z, show (0 : Int64).toInt = 0 from rfl] at h1
  omega
/-- the matrix in the midst of step k: rows below r are done, and of row r the columns below c -/
def MS (w : Wd) (n : Nat) (A : Nat → Nat → Int) (k r c : Nat) : Prop := ∀ r', r' < n → ∀ c', c' ≤ n → w.2.2 11 (17 * r' + c') = iL (if r' = k ∨ r' < r ∨ (r' = r ∧ c' < c) then mW n A (k + 1) r' c' else mW n A k r' c')
theorem solveC {w0 : Wd} {n k r : Nat} {A : Nat → Nat → Int} (hA : mOk n A) (hk : k < n) (hr : r < n) (hne : r ≠ k) (x12 : w0.2.1 90 12 = nI n) : ∀ (m c fuel : Nat) (w : Wd), c + m = n + 1 → m < fuel → LG [11] w0 w → MS w n A k r c → ∃ w', (∀ self, fx (fun _ _ => none) (bX_solve_L61 (iL (mG n A k)) (nI k) (iL (mG n A (k + 1))) (nI r) self (iL (mW n A k r k))) fuel (nI c) w = self (nI (r + 1)) w') ∧ LG [11] w0 w' ∧ MS w' n A k (r + 1) 0 := by
  have hn : n ≤ 6 := hA.1
  intro m
  induction m with
  | zero =>
    intro c fuel w hc hf hL hM
    obtain ⟨f, rfl⟩ : ∃ f, fuel = f + 1 := ⟨fuel - 1, by omega⟩
    obtain rfl : c = n + 1 := by omega
    refine ⟨w, fun self => ?_, hL, fun r' h1 c' h2 => ?_⟩
    · rw [fx_s]
      unfold bX_solve_L61
      rw [hL.2.1, x12, if_pos ((nIlt (by omega) (by omega)).mpr (by omega)), nm_d, nI_1]
    · rw [hM r' h1 c' h2]
      by_cases e : r' = k ∨ r' < r ∨ (r' = r ∧ c' < n + 1)
      · rw [if_pos e, if_pos (by omega)]
      · rw [if_neg e, if_neg (by omega)]
  | succ m ih =>
    intro c fuel w hc hf hL hM
    obtain ⟨f, rfl⟩ : ∃ f, fuel = f + 1 := ⟨fuel - 1, by omega⟩
    have vr : w.2.2 11 (17 * r + c) = iL (mW n A k r c) := by rw [hM r hr c (by omega), if_neg (by omega)]
    have vk : w.2.2 11 (17 * k + c) = iL (mW n A k k c) := by rw [hM k hk c (by omega), if_pos (Or.inl rfl), mW_s]
    obtain ⟨g0, g1⟩ := mG_abs hA hk
    have hall := (mPos_all hn hA.2.1 k (by omega)).1
    have hrec := mW_rec (c := c) hn hk hr hne hall
    have hv : (iL (mW n A k r c) * iL (mG n A (k + 1)) - iL (mW n A k k c) * iL (mW n A k r k)) / iL (mG n A k) = iL (mW n A (k + 1) r c) := by
      rw [iL_mul, iL_mul, iL_sub, mG_s, ← hrec]
      exact iL_div g0 g1 (mStep_abs hA hk hr (by omega))
    obtain ⟨w', h1, h2, h3⟩ := ih (c + 1) f (stL w 11 (17 * r + c) (iL (mW n A (k + 1) r c))) (by omega) (by omega) (hL.trans (LG.st (by decide))) (fun r' h1 c' h2 => by
      by_cases e : r' = r ∧ c' = c
      · rw [e.1, e.2, stL_s, if_pos (by omega)]
      · rw [stL_n (by omega), hM r' h1 c' h2]
        by_cases e2 : r' = k ∨ r' < r ∨ (r' = r ∧ c' < c)
        · rw [if_pos e2, if_pos (by omega)]
        · rw [if_neg e2, if_neg (by omega)])
    refine ⟨w', fun self => ?_, h2, h3⟩
    have h1s := h1 self
    rw [fx_s]
    generalize fx _ _ f = sf at h1s ⊢
    unfold bX_solve_L61 sX_at
    rw [hL.2.1, x12, if_neg (fun z => absurd ((nIlt (by omega) (by omega)).mp z) (by omega)), bd_s, bd_s, ixX, inb_nI (show 17 * r + c < 272 by omega) (by decide), clN (show 17 * r + c < 1073741824 by omega), rd_t, bd_s, ixX, inb_nI (show 17 * k + c < 272 by omega) (by decide), clN (show 17 * k + c < 1073741824 by omega), rd_t, vr, vk, hv, decide_eq_false (iL_ne g0 g1), Bool.not_false, rd_t, rd_t, nm_d, nI_1]
    exact h1s
theorem solveR {w0 : Wd} {n k : Nat} {A : Nat → Nat → Int} (hA : mOk n A) (hk : k < n) (x12 : w0.2.1 90 12 = nI n) : ∀ (m r fuel : Nat) (w : Wd), r + m = n → m < fuel → LG [11] w0 w → MS w n A k r 0 → ∃ w', (∀ J, fx (fun _ _ => none) (bX_solve_L27 (iL (mG n A k)) (nI k) (iL (mG n A (k + 1))) J) fuel (nI r) w = J w') ∧ LG [11] w0 w' ∧ MX w' n (fun c r => mW n A (k + 1) r c) := by
  have hn : n ≤ 6 := hA.1
  intro m
  induction m with
  | zero =>
    intro r fuel w hc hf hL hM
    obtain ⟨f, rfl⟩ : ∃ f, fuel = f + 1 := ⟨fuel - 1, by omega⟩
    obtain rfl : r = n := by omega
    refine ⟨w, fun J => ?_, hL, fun r' h1 c' h2 => ?_⟩
    · rw [fx_s]
      unfold bX_solve_L27
      rw [hL.2.1, x12, if_pos (Int32.le_refl _)]
    · rw [hM r' h1 c' h2, if_pos (by omega)]
  | succ m ih =>
    intro r fuel w hc hf hL hM
    obtain ⟨f, rfl⟩ : ∃ f, fuel = f + 1 := ⟨fuel - 1, by omega⟩
    by_cases hrk : r = k
    · obtain ⟨w', h1, h2, h3⟩ := ih (r + 1) f w (by omega) (by omega) hL (fun r' h1 c' h2 => by
        rw [hM r' h1 c' h2]
        by_cases e2 : r' = k ∨ r' < r ∨ (r' = r ∧ c' < 0)
        · rw [if_pos e2, if_pos (by omega)]
        · rw [if_neg e2, if_neg (by omega)])
      refine ⟨w', fun J => ?_, h2, h3⟩
      have h1s := h1 J
      rw [fx_s]
      generalize fx _ _ f = sf at h1s ⊢
      unfold bX_solve_L27
      rw [hL.2.1, x12, if_neg (fun z => absurd ((nIle (by omega) (by omega)).mp z) (by omega)), if_pos (by rw [hrk]), nm_d, nI_1]
      exact h1s
    · have vr : w.2.2 11 (17 * r + k) = iL (mW n A k r k) := by rw [hM r (by omega) k (by omega), if_neg (by omega)]
      obtain ⟨w1, c1, c2, c3⟩ := solveC (r := r) hA hk (by omega) hrk x12 (n + 1) 0 FU w (by omega) (by rw [FU_v]; omega) hL hM
      obtain ⟨w', h1, h2, h3⟩ := ih (r + 1) f w1 (by omega) (by omega) c2 c3
      refine ⟨w', fun J => ?_, h2, h3⟩
      have h1s := h1 J
      rw [fx_s]
      generalize fx _ _ f = sf at h1s ⊢
      unfold bX_solve_L27 sX_at
      rw [hL.2.1, x12, if_neg (fun z => absurd ((nIle (by omega) (by omega)).mp z) (by omega)), if_neg (fun z => hrk ((nIeq (by omega) (by omega)).mp z)), bd_s, ixX, inb_nI (show 17 * r + k < 272 by omega) (by decide), clN (show 17 * r + k < 1073741824 by omega), rd_t, vr, nm_d, nm_d, eX_solve_L61]
      exact (c1 sf).trans h1s
theorem solveK {w0 : Wd} {n : Nat} {A : Nat → Nat → Int} (hA : mOk n A) (x12 : w0.2.1 90 12 = nI n) : ∀ (m k fuel : Nat) (w : Wd), k + m = n → m < fuel → LG [11] w0 w → MX w n (fun c r => mW n A k r c) → ∃ w', (∀ J, fx (fun _ _ _ => none) (bX_solve_L4 J) fuel (iL (mG n A k)) (nI k) w = J (iL (mG n A n)) w') ∧ LG [11] w0 w' ∧ MX w' n (fun c r => mW n A n r c) := by
  have hn : n ≤ 6 := hA.1
  intro m
  induction m with
  | zero =>
    intro k fuel w hc hf hL hM
    obtain ⟨f, rfl⟩ : ∃ f, fuel = f + 1 := ⟨fuel - 1, by omega⟩
    obtain rfl : k = n := by omega
    refine ⟨w, fun J => ?_, hL, hM⟩
    rw [fx_s]
    unfold bX_solve_L4
    rw [hL.2.1, x12, if_pos (Int32.le_refl _)]
  | succ m ih =>
    intro k fuel w hc hf hL hM
    obtain ⟨f, rfl⟩ : ∃ f, fuel = f + 1 := ⟨fuel - 1, by omega⟩
    have vk : w.2.2 11 (17 * k + k) = iL (mG n A (k + 1)) := by rw [hM k (by omega) k (by omega), mG_s]
    obtain ⟨w1, c1, c2, c3⟩ := solveR hA (show k < n by omega) x12 n 0 FU w (by omega) (by rw [FU_v]; omega) hL (fun r' h1 c' h2 => by
      rw [hM r' h1 c' h2]
      by_cases e : r' = k
      · rw [if_pos (Or.inl e), e, mW_s]
      · rw [if_neg (by omega)])
    obtain ⟨w', h1, h2, h3⟩ := ih (k + 1) f w1 (by omega) (by omega) c2 c3
    refine ⟨w', fun J => ?_, h2, h3⟩
    have h1s := h1 J
    rw [fx_s]
    generalize fx _ _ f = sf at h1s ⊢
    unfold bX_solve_L4 sX_at
    rw [hL.2.1, x12, if_neg (fun z => absurd ((nIle (by omega) (by omega)).mp z) (by omega)), bd_s, ixX, inb_nI (show 17 * k + k < 272 by omega) (by decide), clN (show 17 * k + k < 1073741824 by omega), rd_t, vk, nm_d, nm_d, jn_d, eX_solve_L27]
    refine (c1 _).trans ?_
    rw [nm_d, nm_d, nI_1]
    exact h1s
theorem solve_v {w : Wd} {n : Nat} {A : Nat → Nat → Int} (hA : mOk n A) (x12 : w.2.1 90 12 = nI n) (hM : MX w n A) : ∃ w', sX_solve w = some w' ∧ LG [11, 90] w w' ∧ MX w' n (fun c r => mW n A n r c) ∧ w'.2.2 90 13 = iL (mG n A n) := by
  have hn : n ≤ 6 := hA.1
  have g0 : mG n A 0 = 1 := mD_unit A n hn
  obtain ⟨w1, c1, c2, c3⟩ := solveK hA x12 n 0 FU w (by omega) (by rw [FU_v]; omega) LG.rfl (fun r hr c hc => by rw [hM r hr c hc]; simp only [mW_0 hn hr])
  rw [g0] at c1
  refine ⟨stL w1 90 13 (iL (mG n A n)), ?_, (c2.mono (by simp)).trans (LG.st (by decide)), fun r hr c hc => by rw [stL_ne (by decide)]; exact c3 r hr c hc, stL_s⟩
  unfold sX_solve
  rw [nm_d, nm_d, jn_d, eX_solve_L4]
  refine (c1 _).trans ?_
  rw [jn_d, c2.2.1, x12]
  by_cases h : n = 0
  · subst h
    rw [if_pos (show nI 0 = (0 : Int32) from rfl), g0]
    simp only [nm_d]
    rw [iL_1]
  · rw [if_neg (nI_ne0 (by omega) (by omega))]
    simp only [nm_d]
