set_option maxRecDepth 100000
/-! the table of a group is whole: it can be solved -/
theorem dD_abs (i : Int32) (t : Nat) : (dD i t).natAbs ≤ 1 ∧ 0 ≤ dD i t ∧ dD i t ≤ 1 := by
  unfold dD
  by_cases h : i = nI t
  · rw [if_pos h]; decide
  · rw [if_neg h]; decide
theorem dD_sum (i : Int32) : ∀ n, n ≤ 1000 → dN (fun t => (dD i t).natAbs) n ≤ 1 ∧ (0 < dN (fun t => (dD i t).natAbs) n → ∃ t, t < n ∧ i = nI t) := by
  intro n
  induction n with
  | zero => intro _; exact ⟨Nat.zero_le _, fun h => absurd h (Nat.lt_irrefl _)⟩
  | succ n ih =>
    intro hn
    obtain ⟨i1, i2⟩ := ih (by omega)
    rw [dN_s]
    by_cases h : i = nI n
    · have z : dN (fun t => (dD i t).natAbs) n = 0 := by
        rcases Nat.eq_zero_or_pos (dN (fun t => (dD i t).natAbs) n) with q | q
        · exact q
        · obtain ⟨t, ht, e⟩ := i2 q
          have := (nIeq (by omega) (by omega)).mp (h.symm.trans e)
          omega
      have : dD i n = 1 := by unfold dD; rw [if_pos h]
      rw [z, this]
      exact ⟨by decide, fun _ => ⟨n, by omega, h⟩⟩
    · have : dD i n = 0 := by unfold dD; rw [if_neg h]
      rw [this]
      refine ⟨by simpa using i1, fun q => ?_⟩
      obtain ⟨t, ht, e⟩ := i2 (by simpa using q)
      exact ⟨t, by omega, e⟩
theorem dD_pick {P : Nat → Nat} {g o nO : Nat} (bO : nO ≤ 16) (ho : o < nO) (x : Nat → Int) : dS (fun t => dD (pl P g o) t * x t) (cn P g nO) = if P o = g ∧ o ≠ g then x (cn P g o) else 0 := by
  have hl := cn_le P g nO
  by_cases h : P o = g ∧ o ≠ g
  · have hlt := cn_lt P g ho h
    rw [if_pos h, dS_one hlt (fun t ht hne => ?_)]
    · unfold pl; rw [if_pos h, dD_n (by omega) (by omega), if_pos rfl, Int.one_mul]
    · unfold pl; rw [if_pos h, dD_n (by omega) (by omega), if_neg (fun e => hne e.symm), Int.zero_mul]
  · rw [if_neg h]
    refine dS_0 (fun t ht => ?_)
    unfold pl
    rw [if_neg h, dD_m (by omega), Int.zero_mul]
theorem eR_ok {nO nC g : Nat} {P X Y : Nat → Nat} {b : Nat → Int} (bO : nO ≤ 16) (bC : nC ≤ 40) (hg : g < nO) (h6 : cn P g nO ≤ 6) (hP : PartsOk X Y nC P) (hr : ∀ q, q < nC → X q < nO ∧ Y q < nO) (hb : ∀ q, q < nC → -999 ≤ b q ∧ b q ≤ 999) : mOk (cn P g nO) (mA (cn P g nO) nC (eR P g X Y) b) := by
  refine mA_ok h6 bC (fun q _ t _ => ?_) (fun q _ => ?_) (fun q hq => ?_) (fun x hx j hj => ?_)
  · unfold eR
    have h1 := dD_abs (pl P g (X q)) t
    have h2 := dD_abs (pl P g (Y q)) t
    omega
  · refine Nat.le_trans (dN_le (g := fun t => (dD (pl P g (X q)) t).natAbs + (dD (pl P g (Y q)) t).natAbs) (fun t _ => ?_)) ?_
    · unfold eR; omega
    · rw [dN_add]
      have h1 := (dD_sum (pl P g (X q)) (cn P g nO) (by omega)).1
      have h2 := (dD_sum (pl P g (Y q)) (cn P g nO) (by omega)).1
      omega
  · have := hb q hq; omega
  · obtain ⟨k, hk, hm, rfl⟩ := cn_sur P g nO hj
    have xt : ∀ q, q < nC → (if P (X q) = g ∧ X q ≠ g then x (cn P g (X q)) else 0) = (if P (Y q) = g ∧ Y q ≠ g then x (cn P g (Y q)) else 0) := fun q hq => by
      have := hx q hq
      rw [← dD_pick bO (hr q hq).1 x, ← dD_pick bO (hr q hq).2 x]
      have e : dS (fun t => eR P g X Y q t * x t) (cn P g nO) = 1 * dS (fun t => dD (pl P g (X q)) t * x t) (cn P g nO) + (-1) * dS (fun t => dD (pl P g (Y q)) t * x t) (cn P g nO) := by
        rw [← dS_lin]
        refine dS_c (fun t _ => ?_)
        unfold eR
        grind
      omega
    have hf := hP.2.2 (fun o => if (if P o = g ∧ o ≠ g then x (cn P g o) else 0) = x (cn P g k) then 1 else 0) (fun q hq => by simp only [xt q hq]) k
    simp only [hm.1, if_pos hm, if_true] at hf
    rw [if_neg (show ¬ (P g = g ∧ g ≠ g) from fun z => z.2 rfl)] at hf
    by_cases e : 0 = x (cn P g k)
    · exact e.symm
    · rw [if_neg e] at hf
      have hm2 : g = g ∧ k ≠ g := ⟨rfl, hm.2⟩
      simp at hf
      exact absurd hf.1 hm.2
