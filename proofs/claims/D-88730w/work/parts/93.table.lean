set_option maxRecDepth 100000
/-- what the table of a group keeps: n others, A j t, the other side A n -/
def mOk (n : Nat) (A : Nat → Nat → Int) : Prop := n ≤ 6 ∧ mPos n A ∧ (∀ j, j < n → dN (fun t => (A j t).natAbs) n ≤ 2 * (A j j).natAbs) ∧ dN (fun j => (A j j).natAbs) n ≤ 80 ∧ dN (fun t => (A n t).natAbs) n ≤ 79920
theorem dN_ext (f : Nat → Nat) {n : Nat} : ∀ m, n ≤ m → dN (fun j => if j < n then f j else 0) m = dN f n := by
  intro m hm
  induction m with
  | zero => have : n = 0 := by omega
            subst this; rfl
  | succ m ih =>
    by_cases h : n = m + 1
    · subst h
      exact Nat.le_antisymm (dN_le (fun i hi => by rw [if_pos hi]; exact Nat.le_refl _)) (dN_le (fun i hi => by rw [if_pos hi]; exact Nat.le_refl _))
    · rw [dN_s, if_neg (by omega), Nat.add_zero]
      exact ih (by omega)
theorem dN_mem {f : Nat → Nat} {j : Nat} : ∀ {n}, j < n → f j ≤ dN f n := by
  intro n
  induction n with
  | zero => intro h; omega
  | succ n ih =>
    intro h
    unfold dN
    by_cases e : j = n
    · subst e; omega
    · have := ih (by omega); omega
theorem am_f {c a u : Nat} (ha : a ≤ 80) (hc : c ≤ u * max 1 a) : c * (17 ^ 16 * 16 ^ a) ≤ u * 16 ^ 17 * 17 ^ a := by
  have k := all6_t am_b a (by omega)
  rw [decide_eq_true_eq] at k
  refine Nat.le_trans (Nat.mul_le_mul hc (Nat.le_refl _)) ?_
  rw [Nat.mul_assoc, Nat.mul_assoc]
  exact Nat.mul_le_mul (Nat.le_refl u) k
theorem unit_abs (j : Nat) : ∀ n, dN (fun t => ((if t = j then 1 else 0 : Int)).natAbs) n ≤ 1 := by
  have : ∀ n, dN (fun t => ((if t = j then 1 else 0 : Int)).natAbs) n = if j < n then 1 else 0 := by
    intro n
    induction n with
    | zero => rfl
    | succ n ih =>
      unfold dN
      rw [ih]
      by_cases h1 : n = j
      · rw [if_neg (by omega), if_pos h1, if_pos (by omega)]; rfl
      · rw [if_neg h1]
        by_cases h2 : j < n
        · rw [if_pos h2, if_pos (by omega)]; rfl
        · rw [if_neg h2, if_neg (by omega)]; rfl
  intro n
  rw [this]
  by_cases h2 : j < n
  · rw [if_pos h2]; exact Nat.le_refl _
  · rw [if_neg h2]; exact Nat.zero_le _
theorem mW_abs {n k r c : Nat} {A : Nat → Nat → Int} (h : mOk n A) (hk : k ≤ n) (hr : r < n) (hc : c ≤ n) : (mW n A k r c).natAbs ≤ 79920 * 2 ^ 5 * 16 ^ 5 := by
  obtain ⟨hn, hp, h1, h2, h3⟩ := h
  have hd : ∀ j, j < n → (A j j).natAbs ≤ 80 := fun j hj => Nat.le_trans (dN_mem (f := fun j => (A j j).natAbs) hj) h2
  have hcol : dN (fun t => (A c t).natAbs) n ≤ 79920 := by
    by_cases e : c = n
    · rw [e]; exact h3
    · have := h1 c (by omega); have := hd c (by omega); omega
  refine Nat.le_trans (mU_abs _ (full_l hn)) (am_6 (a := fun j => if j < n then (A j j).natAbs else 0) (r := r) (fun j hj hne => am_f ?_ ?_) ?_ (by omega) ?_)
  · by_cases e : j < n
    · rw [if_pos e]; exact hd j e
    · rw [if_neg e]; omega
  · by_cases e : has6 (2 ^ n - 1) j = true
    · have hjn := (full_h hn hj).mp e
      rw [if_pos e, if_pos hjn, mC_ne hne]
      unfold mE
      by_cases e2 : j < k
      · rw [if_pos e2]
        have := h1 j hjn
        omega
      · rw [if_neg e2]
        have := unit_abs j n
        omega
    · rw [if_neg e]; omega
  · by_cases e : has6 (2 ^ n - 1) r = true
    · rw [if_pos e, mC_same]; exact hcol
    · rw [if_neg e]; omega
  · rw [dN_ext (fun j => (A j j).natAbs) 6 hn]; exact h2
theorem mG_abs {n k : Nat} {A : Nat → Nat → Int} (h : mOk n A) (hk : k < n) : 0 < mG n A k ∧ mG n A k ≤ 16 ^ 5 := by
  obtain ⟨hn, hp, h1, h2, h3⟩ := h
  have hall := mPos_all hn hp
  refine ⟨(hall k (by omega)).2, ?_⟩
  have hd : ∀ j, j < n → (A j j).natAbs ≤ 80 := fun j hj => Nat.le_trans (dN_mem (f := fun j => (A j j).natAbs) hj) h2
  have b : ∀ m, m ≤ k → (mG n A m).natAbs ≤ dP (fun j => (A j j).natAbs) m := by
    intro m
    induction m with
    | zero => intro _; unfold mG; rw [mD_unit A n hn]; exact Nat.le_refl _
    | succ m ih =>
      intro hm
      obtain ⟨p1, p2⟩ := mPos_step (by omega) hp (hall m (by omega)).1 (hall m (by omega)).2
      have i1 := ih (by omega)
      have p3 : (mG n A (m + 1)).natAbs ≤ (A m m * mG n A m).natAbs := by omega
      rw [Int.natAbs_mul] at p3
      rw [dP_s]
      refine Nat.le_trans p3 ?_
      rw [Nat.mul_comm]
      exact Nat.mul_le_mul i1 (Nat.le_refl _)
  have b2 : dP (fun j => (A j j).natAbs) k ≤ dP (fun j => if j < k then (A j j).natAbs else 1) 6 := by
    have : ∀ m, k ≤ m → m ≤ 6 → dP (fun j => (A j j).natAbs) k ≤ dP (fun j => if j < k then (A j j).natAbs else 1) m := by
      intro m
      induction m with
      | zero => intro h1 h2; have : k = 0 := by omega
                subst this; exact Nat.le_refl _
      | succ m ih =>
        intro h1 h2
        by_cases e : k = m + 1
        · subst e; exact Nat.le_of_eq (dP_c (fun i hi => by rw [if_pos hi]))
        · rw [dP_s, if_neg (by omega), Nat.mul_one]; exact ih (by omega) (by omega)
    exact this 6 (by omega) (Nat.le_refl _)
  have b3 : dP (fun j => if j < k then (A j j).natAbs else 1) 6 ≤ 1 * 1 ^ 5 * 16 ^ 5 := by
    refine am_6 (a := fun j => if j < n then (A j j).natAbs else 0) (r := 5) (fun j hj hne => am_f ?_ ?_) ?_ (by omega) ?_
    · by_cases e : j < n
      · rw [if_pos e]; exact hd j e
      · rw [if_neg e]; omega
    · by_cases e : j < k
      · rw [if_pos e, if_pos (by omega)]; omega
      · rw [if_neg e]; omega
    · rw [if_neg (by omega)]; exact Nat.le_refl _
    · rw [dN_ext (fun j => (A j j).natAbs) 6 hn]; exact h2
  have := b k (Nat.le_refl k)
  omega
/-- what one step divides is not too large -/
theorem mStep_abs {n k r c : Nat} {A : Nat → Nat → Int} (h : mOk n A) (hk : k < n) (hr : r < n) (hc : c ≤ n) : (mG n A k * mW n A (k + 1) r c).natAbs < 9223372036854775808 := by
  rw [Int.natAbs_mul]
  have h1 := mG_abs h hk
  have h2 := mW_abs h (show k + 1 ≤ n by omega) hr hc
  have h3 : (mG n A k).natAbs ≤ 16 ^ 5 := by omega
  exact Nat.lt_of_le_of_lt (Nat.mul_le_mul h3 h2) (by decide)
theorem dN_add (f g : Nat → Nat) : ∀ n, dN (fun i => f i + g i) n = dN f n + dN g n := by
  intro n
  induction n with
  | zero => rfl
  | succ n ih => rw [dN_s, dN_s, dN_s, ih]; omega
theorem dN_0 {f : Nat → Nat} : ∀ {n}, (∀ i, i < n → f i = 0) → dN f n = 0 := by
  intro n
  induction n with
  | zero => intro _; rfl
  | succ n ih => intro h; rw [dN_s, ih (fun i hi => h i (by omega)), h n (by omega)]
theorem dN_comm (f : Nat → Nat → Nat) (m : Nat) : ∀ n, dN (fun i => dN (f i) m) n = dN (fun j => dN (fun i => f i j) n) m := by
  intro n
  induction n with
  | zero => exact (dN_0 (fun _ _ => rfl)).symm
  | succ n ih => rw [dN_s, ih, ← dN_add]; rfl
theorem dN_c {f g : Nat → Nat} {n : Nat} (h : ∀ i, i < n → f i = g i) : dN f n = dN g n :=
  Nat.le_antisymm (dN_le (fun i hi => Nat.le_of_eq (h i hi))) (dN_le (fun i hi => Nat.le_of_eq (h i hi).symm))
theorem dN_const (a : Nat) : ∀ n, dN (fun _ => a) n = n * a := by
  intro n
  induction n with
  | zero => rw [Nat.zero_mul]; rfl
  | succ n ih => rw [dN_s, ih, Nat.succ_mul]
/-- the table of races: e q t is 1 at the one's place, -1 at the other's -/
def mA (n N : Nat) (e : Nat → Nat → Int) (b : Nat → Int) : Nat → Nat → Int := fun c t => if c < n then dS (fun q => e q t * e q c) N else dS (fun q => e q t * b q) N
theorem mA_lt {n N c : Nat} {e : Nat → Nat → Int} {b : Nat → Int} (h : c < n) (t : Nat) : mA n N e b c t = dS (fun q => e q t * e q c) N := by unfold mA; rw [if_pos h]
theorem mA_n {n N : Nat} {e : Nat → Nat → Int} {b : Nat → Int} (t : Nat) : mA n N e b n t = dS (fun q => e q t * b q) N := by unfold mA; rw [if_neg (Nat.lt_irrefl n)]
theorem mA_B {n N : Nat} {e : Nat → Nat → Int} {b : Nat → Int} (x : Nat → Int) : mB n (mA n N e b) x x = dS (fun q => dS (fun t => e q t * x t) n * dS (fun t => e q t * x t) n) N := by
  have e1 : mB n (mA n N e b) x x = dS (fun i => dS (fun q => (e q i * x i) * dS (fun j => e q j * x j) n) N) n := by
    unfold mB
    refine dS_c (fun i _ => ?_)
    have e2 : dS (fun j => mA n N e b j i * x j) n = dS (fun q => e q i * dS (fun j => e q j * x j) n) N := by
      have e3 : dS (fun j => mA n N e b j i * x j) n = dS (fun j => dS (fun q => e q i * (e q j * x j)) N) n := by
        refine dS_c (fun j hj => ?_)
        rw [mA_lt hj, Int.mul_comm, ← dS_mul]
        refine dS_c (fun q _ => ?_)
        grind
      rw [e3, dS_comm]
      exact dS_c (fun q _ => dS_mul _ _ _)
    rw [e2, ← dS_mul]
    exact dS_c (fun q _ => by grind)
  rw [e1, dS_comm]
  refine dS_c (fun q _ => ?_)
  have e4 : dS (fun i => (e q i * x i) * dS (fun j => e q j * x j) n) n = dS (fun i => dS (fun j => e q j * x j) n * (e q i * x i)) n := dS_c (fun i _ => Int.mul_comm _ _)
  rw [e4, dS_mul]
theorem dS_nn {f : Nat → Int} : ∀ {n}, (∀ i, i < n → 0 ≤ f i) → 0 ≤ dS f n := by
  intro n
  induction n with
  | zero => intro _; exact Int.le_refl _
  | succ n ih => intro h; unfold dS; have := ih (fun i hi => h i (by omega)); have := h n (by omega); omega
theorem dS_nz {f : Nat → Int} : ∀ {n}, (∀ i, i < n → 0 ≤ f i) → dS f n = 0 → ∀ i, i < n → f i = 0 := by
  intro n
  induction n with
  | zero => intro _ _ i hi; omega
  | succ n ih =>
    intro h h0 i hi
    unfold dS at h0
    have h1 := dS_nn (fun i hi => h i (Nat.lt_succ_of_lt hi)) (n := n)
    have h2 := h n (by omega)
    by_cases e : i = n
    · subst e; omega
    · exact ih (fun i hi => h i (by omega)) (by omega) i (by omega)
theorem mA_ok {n N : Nat} {e : Nat → Nat → Int} {b : Nat → Int} (hn : n ≤ 6) (hN : N ≤ 40) (h1 : ∀ q, q < N → ∀ t, t < n → (e q t).natAbs ≤ 1) (h2 : ∀ q, q < N → dN (fun t => (e q t).natAbs) n ≤ 2) (hb : ∀ q, q < N → (b q).natAbs ≤ 999) (h3 : ∀ x : Nat → Int, (∀ q, q < N → dS (fun t => e q t * x t) n = 0) → ∀ j, j < n → x j = 0) : mOk n (mA n N e b) := by
  have hdiag : ∀ j, j < n → (mA n N e b j j).natAbs = dN (fun q => (e q j).natAbs) N := by
    intro j hj
    rw [mA_lt hj]
    have : ∀ m, m ≤ N → dS (fun q => e q j * e q j) m = (dN (fun q => (e q j).natAbs) m : Nat) := by
      intro m
      induction m with
      | zero => intro _; rfl
      | succ m ih =>
        intro hm
        rw [dN_s, show dS (fun q => e q j * e q j) (m + 1) = dS (fun q => e q j * e q j) m + e m j * e m j from rfl, ih (by omega)]
        have := h1 m (by omega) j hj
        have h : e m j = 0 ∨ e m j = 1 ∨ e m j = -1 := by omega
        rcases h with h | h | h <;> rw [h] <;> simp
    rw [this N (Nat.le_refl _)]; rfl
  refine ⟨hn, ⟨?_, ?_⟩, ?_, ?_, ?_⟩
  · intro i j hi hj
    rw [mA_lt hi, mA_lt hj]
    exact dS_c (fun q _ => Int.mul_comm _ _)
  · intro x hx
    rw [mA_B]
    have nn : ∀ q, q < N → 0 ≤ dS (fun t => e q t * x t) n * dS (fun t => e q t * x t) n := fun q _ => by
      rcases Int.le_total 0 (dS (fun t => e q t * x t) n) with h | h
      · exact Int.mul_nonneg h h
      · exact Int.mul_nonneg_of_nonpos_of_nonpos h h
    rcases Int.lt_or_eq_of_le (dS_nn nn) with h | h
    · exact h
    · obtain ⟨j, hj, hne⟩ := hx
      exact absurd (h3 x (fun q hq => by
        have := dS_nz nn h.symm q hq
        rcases Int.mul_eq_zero.mp this with h | h <;> exact h) j hj) hne
  · intro j hj
    rw [hdiag j hj]
    have a1 : dN (fun t => (mA n N e b j t).natAbs) n ≤ dN (fun t => dN (fun q => (e q t).natAbs * (e q j).natAbs) N) n := by
      refine dN_le (fun t ht => ?_)
      rw [mA_lt hj]
      refine Nat.le_trans (dS_abs _ _) (dN_le (fun q _ => Nat.le_of_eq (Int.natAbs_mul _ _)))
    refine Nat.le_trans a1 ?_
    rw [dN_comm, Nat.mul_comm, ← dN_mul]
    refine dN_le (fun q hq => ?_)
    rw [dN_mul, Nat.mul_comm]
    exact Nat.mul_le_mul (Nat.le_refl _) (h2 q hq)
  · have a1 : dN (fun j => (mA n N e b j j).natAbs) n = dN (fun q => dN (fun j => (e q j).natAbs) n) N := by
      rw [← dN_comm]
      exact dN_c (fun j hj => hdiag j hj)
    rw [a1]
    refine Nat.le_trans (dN_le (g := fun _ => 2) (fun q hq => h2 q hq)) ?_
    rw [dN_const]; omega
  · have a1 : dN (fun t => (mA n N e b n t).natAbs) n ≤ dN (fun t => dN (fun q => (e q t).natAbs * (b q).natAbs) N) n := by
      refine dN_le (fun t ht => ?_)
      rw [mA_n]
      refine Nat.le_trans (dS_abs _ _) (dN_le (fun q _ => Nat.le_of_eq (Int.natAbs_mul _ _)))
    refine Nat.le_trans a1 ?_
    rw [dN_comm]
    refine Nat.le_trans (dN_le (g := fun _ => 1998) (fun q hq => ?_)) ?_
    · rw [dN_mul]
      exact Nat.le_trans (Nat.mul_le_mul (h2 q hq) (hb q hq)) (by decide)
    · rw [dN_const]; omega
