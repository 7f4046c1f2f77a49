set_option maxRecDepth 100000
/-- the form x A y -/
def mB (n : Nat) (A : Nat → Nat → Int) (x y : Nat → Int) : Int := dS (fun i => x i * dS (fun j => A j i * y j) n) n
theorem mB_addl {n : Nat} {A : Nat → Nat → Int} {x y z : Nat → Int} : mB n A (fun i => x i + y i) z = mB n A x z + mB n A y z := by
  unfold mB
  rw [← dS_add]
  exact dS_c (fun i _ => Int.add_mul _ _ _)
theorem mB_sym {n : Nat} {A : Nat → Nat → Int} (h : ∀ i j, i < n → j < n → A i j = A j i) (x y : Nat → Int) : mB n A x y = mB n A y x := by
  unfold mB
  have e1 : dS (fun i => x i * dS (fun j => A j i * y j) n) n = dS (fun i => dS (fun j => x i * (A j i * y j)) n) n := dS_c (fun i _ => (dS_mul _ _ _).symm)
  rw [e1, dS_comm]
  refine dS_c (fun i hi => ?_)
  rw [← dS_mul]
  refine dS_c (fun j hj => ?_)
  rw [h j i hj hi]
  grind
theorem mB_c {n : Nat} {A : Nat → Nat → Int} {x x' y y' : Nat → Int} (hx : ∀ i, i < n → x i = x' i) (hy : ∀ i, i < n → y i = y' i) : mB n A x y = mB n A x' y' := by
  unfold mB
  refine dS_c (fun i hi => ?_)
  rw [hx i hi, dS_c (fun j hj => by rw [hy j hj])]
/-- A is whole, alike on both sides and above nought -/
def mPos (n : Nat) (A : Nat → Nat → Int) : Prop := (∀ i j, i < n → j < n → A i j = A j i) ∧ ∀ x : Nat → Int, (∃ j, j < n ∧ x j ≠ 0) → 0 < mB n A x x
theorem mPos_nn {n : Nat} {A : Nat → Nat → Int} (h : mPos n A) (x : Nat → Int) : 0 ≤ mB n A x x := by
  by_cases hx : ∃ j, j < n ∧ x j ≠ 0
  · exact Int.le_of_lt (h.2 x hx)
  · have : mB n A x x = 0 := by
      unfold mB
      refine dS_0 (fun i hi => ?_)
      have : x i = 0 := Classical.byContradiction (fun e => hx ⟨i, hi, e⟩)
      rw [this, Int.zero_mul]
    omega
theorem mX_row {n k : Nat} {A : Nat → Nat → Int} (hk : k < n) (h : mK n A k) {t : Nat} (ht : t < n) : dS (fun j => A j t * (if j = k then mG n A k else if j < k then - mW n A k j k else 0)) n = if k ≤ t then mW n A k t k else 0 := by
  have hh := h k t ht
  have e : dS (fun j => A j t * (if j = k then mG n A k else if j < k then - mW n A k j k else 0)) n = mG n A k * A k t + (-1) * dS (fun j => if j < k then mW n A k j k * A j t else 0) n := by
    rw [← dS_mul, dS_at _ k n hk, if_pos rfl, Int.mul_comm (A k t)]
    congr 1
    refine dS_c (fun j hj => ?_)
    by_cases h1 : j = k
    · rw [if_pos h1, if_neg (by omega)]; rfl
    · rw [if_neg h1, if_neg h1]
      by_cases h2 : j < k
      · rw [if_pos h2, if_pos h2]; grind
      · rw [if_neg h2, if_neg h2]; omega
  rw [e, hh]
  have e2 : dS (fun j => mW n A k j k * mE A k j t) n = dS (fun j => if j < k then mW n A k j k * A j t else 0) n + dS (fun j => if j < k then 0 else mW n A k j k * (if t = j then 1 else 0)) n := by
    rw [← dS_add]
    refine dS_c (fun j hj => ?_)
    unfold mE
    by_cases h2 : j < k
    · rw [if_pos h2, if_pos h2, if_pos h2]; omega
    · rw [if_neg h2, if_neg h2, if_neg h2]; omega
  have e3 : dS (fun j => if j < k then 0 else mW n A k j k * (if t = j then 1 else 0)) n = if k ≤ t then mW n A k t k else 0 := by
    rw [dS_one ht (fun j hj hne => ?_)]
    · by_cases h2 : k ≤ t
      · rw [if_neg (by omega), if_pos h2, if_pos rfl, Int.mul_one]
      · rw [if_pos (by omega), if_neg h2]
    · rw [if_neg (show ¬ t = j from fun e => hne e.symm), Int.mul_zero]
      by_cases h2 : j < k
      · rw [if_pos h2]
      · rw [if_neg h2]
  rw [e2, e3]
  omega
theorem mPos_step {n k : Nat} {A : Nat → Nat → Int} (hk : k < n) (hp : mPos n A) (h : mK n A k) (h0 : 0 < mG n A k) : 0 < mG n A (k + 1) ∧ mG n A (k + 1) ≤ A k k * mG n A k := by
  let x : Nat → Int := fun j => if j = k then mG n A k else if j < k then - mW n A k j k else 0
  let z : Nat → Int := fun j => if j < k then mW n A k j k else 0
  have ex : ∀ y : Nat → Int, mB n A y x = dS (fun t => y t * (if k ≤ t then mW n A k t k else 0)) n := fun y => by
    unfold mB
    refine dS_c (fun t ht => ?_)
    rw [mX_row hk h ht]
  have xx : mB n A x x = mG n A k * mG n A (k + 1) := by
    rw [ex, dS_one hk (fun j hj hne => ?_)]
    · show (if k = k then mG n A k else if k < k then - mW n A k k k else 0) * _ = _
      rw [if_pos rfl, if_pos (Nat.le_refl k), mG_s]
    · show (if j = k then mG n A k else if j < k then - mW n A k j k else 0) * _ = _
      rw [if_neg hne]
      by_cases h2 : j < k
      · rw [if_neg (show ¬ k ≤ j by omega), Int.mul_zero]
      · rw [if_neg h2, Int.zero_mul]
  have zx : mB n A z x = 0 := by
    rw [ex]
    refine dS_0 (fun j hj => ?_)
    show (if j < k then mW n A k j k else 0) * _ = 0
    by_cases h2 : j < k
    · rw [if_neg (show ¬ k ≤ j by omega), Int.mul_zero]
    · rw [if_neg h2, Int.zero_mul]
  have yy : mB n A (fun i => x i + z i) (fun i => x i + z i) = A k k * (mG n A k * mG n A k) := by
    have ey : ∀ i, i < n → x i + z i = if i = k then mG n A k else 0 := fun i _ => by
      show (if i = k then mG n A k else if i < k then - mW n A k i k else 0) + (if i < k then mW n A k i k else 0) = _
      by_cases h1 : i = k
      · rw [if_pos h1, if_neg (by omega), if_pos h1]; omega
      · rw [if_neg h1, if_neg h1]
        by_cases h2 : i < k
        · rw [if_pos h2, if_pos h2]; omega
        · rw [if_neg h2, if_neg h2]; omega
    rw [mB_c ey ey]
    unfold mB
    rw [dS_one hk (fun j hj hne => by simp only [if_neg hne, Int.zero_mul]), dS_one hk (fun j hj hne => by simp only [if_neg hne, Int.mul_zero])]
    simp only [if_true]
    grind
  have pos := hp.2 x ⟨k, hk, by show (if k = k then mG n A k else _) ≠ 0; rw [if_pos rfl]; omega⟩
  rw [xx] at pos
  have zz := mPos_nn hp z
  have s1 : mB n A (fun i => x i + z i) (fun i => x i + z i) = mB n A x x + mB n A z x + (mB n A z x + mB n A z z) := by
    rw [mB_addl, mB_sym hp.1 x, mB_addl, mB_sym hp.1 z (fun i => x i + z i), mB_addl, mB_sym hp.1 x z]
  rw [yy, xx, zx] at s1
  refine ⟨?_, ?_⟩
  · exact Int.pos_of_mul_pos_right pos h0
  · have : mG n A k * mG n A (k + 1) ≤ mG n A k * (A k k * mG n A k) := by
      have : A k k * (mG n A k * mG n A k) = mG n A k * (A k k * mG n A k) := by grind
      omega
    exact Int.le_of_mul_le_mul_left this h0
theorem mPos_all {n : Nat} {A : Nat → Nat → Int} (hn : n ≤ 6) (hp : mPos n A) : ∀ k, k ≤ n → mK n A k ∧ 0 < mG n A k := by
  intro k
  induction k with
  | zero => intro _; exact ⟨mK_0 hn A, by unfold mG; rw [mD_unit A n hn]; decide⟩
  | succ k ih =>
    intro hk
    obtain ⟨i1, i2⟩ := ih (by omega)
    exact ⟨mK_s hn (by omega) i1 (by omega), (mPos_step (by omega) hp i1 i2).1⟩
def dN (f : Nat → Nat) : Nat → Nat
  | 0 => 0
  | n + 1 => dN f n + f n
def dP (f : Nat → Nat) : Nat → Nat
  | 0 => 1
  | n + 1 => dP f n * f n
theorem dN_le {f g : Nat → Nat} : ∀ {n}, (∀ i, i < n → f i ≤ g i) → dN f n ≤ dN g n := by
  intro n
  induction n with
  | zero => intro _; exact Nat.le_refl _
  | succ n ih => intro h; unfold dN; have := ih (fun i hi => h i (by omega)); have := h n (by omega); omega
theorem dP_le {f g : Nat → Nat} : ∀ {n}, (∀ i, i < n → f i ≤ g i) → dP f n ≤ dP g n := by
  intro n
  induction n with
  | zero => intro _; exact Nat.le_refl _
  | succ n ih => intro h; unfold dP; exact Nat.mul_le_mul (ih (fun i hi => h i (by omega))) (h n (by omega))
theorem dP_c {f g : Nat → Nat} {n : Nat} (h : ∀ i, i < n → f i = g i) : dP f n = dP g n :=
  Nat.le_antisymm (dP_le (fun i hi => Nat.le_of_eq (h i hi))) (dP_le (fun i hi => Nat.le_of_eq (h i hi).symm))
theorem dS_abs (f : Nat → Int) : ∀ n, (dS f n).natAbs ≤ dN (fun i => (f i).natAbs) n := by
  intro n
  induction n with
  | zero => exact Nat.le_refl _
  | succ n ih => unfold dS dN; have := Int.natAbs_add_le (dS f n) (f n); omega
theorem dN_mul (f : Nat → Nat) (a : Nat) : ∀ n, dN (fun i => f i * a) n = dN f n * a := by
  intro n
  induction n with
  | zero => simp [dN]
  | succ n ih => unfold dN; rw [ih, Nat.add_mul]
theorem dN_s (f : Nat → Nat) (n : Nat) : dN f (n + 1) = dN f n + f n := rfl
theorem dP_s (f : Nat → Nat) (n : Nat) : dP f (n + 1) = dP f n * f n := rfl
theorem dP_one (h : Nat → Bool) (p q : Nat → Nat) : ∀ m, dN (fun j => if h j = true then q j * dP (fun l => if l = j then 1 else if h l = true then p l else 1) m else 0) m ≤ dP (fun j => if h j = true then p j + q j else 1) m := by
  intro m
  induction m with
  | zero => exact Nat.zero_le _
  | succ m ih =>
    have e1 : dN (fun j => if h j = true then q j * dP (fun l => if l = j then 1 else if h l = true then p l else 1) (m + 1) else 0) m = dN (fun j => if h j = true then q j * dP (fun l => if l = j then 1 else if h l = true then p l else 1) m else 0) m * (if h m = true then p m else 1) := by
      rw [← dN_mul]
      refine Nat.le_antisymm (dN_le (fun j hj => Nat.le_of_eq ?_)) (dN_le (fun j hj => Nat.le_of_eq ?_))
      all_goals
        by_cases hh : h j = true
        · rw [if_pos hh, if_pos hh]
          rw [dP_s, if_neg (show ¬ m = j by omega), Nat.mul_assoc]
        · rw [if_neg hh, if_neg hh, Nat.zero_mul]
    have e2 : dP (fun l => if l = m then 1 else if h l = true then p l else 1) (m + 1) = dP (fun l => if h l = true then p l else 1) m := by
      rw [dP_s, if_pos rfl, Nat.mul_one]
      exact dP_c (fun i hi => if_neg (Nat.ne_of_lt hi))
    have e3 : dP (fun l => if h l = true then p l else 1) m ≤ dP (fun j => if h j = true then p j + q j else 1) m := by
      refine dP_le (fun i _ => ?_)
      by_cases hh : h i = true
      · rw [if_pos hh, if_pos hh]; omega
      · rw [if_neg hh, if_neg hh]; omega
    rw [show dN (fun j => if h j = true then q j * dP (fun l => if l = j then 1 else if h l = true then p l else 1) (m + 1) else 0) (m + 1) = dN (fun j => if h j = true then q j * dP (fun l => if l = j then 1 else if h l = true then p l else 1) (m + 1) else 0) m + (if h m = true then q m * dP (fun l => if l = m then 1 else if h l = true then p l else 1) (m + 1) else 0) from rfl, e1, e2, show dP (fun j => if h j = true then p j + q j else 1) (m + 1) = dP (fun j => if h j = true then p j + q j else 1) m * (if h m = true then p m + q m else 1) from rfl]
    by_cases hh : h m = true
    · rw [if_pos hh, if_pos hh, if_pos hh, Nat.mul_add]
      exact Nat.add_le_add (Nat.mul_le_mul ih (Nat.le_refl _)) (by rw [Nat.mul_comm]; exact Nat.mul_le_mul e3 (Nat.le_refl _))
    · rw [if_neg hh, if_neg hh, if_neg hh]; omega
theorem sgn6_abs (S j : Nat) : (sgn6 S j).natAbs = 1 := by
  unfold sgn6
  by_cases h : bit7 (S / 2 ^ (j + 1)) % 2 = 1
  · rw [if_pos h]; rfl
  · rw [if_neg h]; rfl
theorem mU_abs (E : Nat → Nat → Int) : ∀ {i S}, S < 64 → (mU E i S).natAbs ≤ dP (fun j => if has6 S j = true then dN (fun t => (E j t).natAbs) i else 1) 6 := by
  intro i
  induction i with
  | zero =>
    intro S hS
    unfold mU
    by_cases h : S = 0
    · subst h; rw [if_pos rfl]
      have : dP (fun j => if has6 0 j = true then dN (fun t => (E j t).natAbs) 0 else 1) 6 = dP (fun _ => 1) 6 := dP_c (fun j hj => if_neg (by rw [has6_0 j hj]; decide))
      rw [this]; decide
    · rw [if_neg h]; exact Nat.zero_le _
  | succ i ih =>
    intro S hS
    refine Nat.le_trans (dS_abs _ 6) (Nat.le_trans (dN_le (g := fun j => if has6 S j = true then (E j i).natAbs * dP (fun l => if l = j then 1 else if has6 S l = true then dN (fun t => (E l t).natAbs) i else 1) 6 else 0) (fun j hj => ?_)) (dP_one (has6 S) (fun j => dN (fun t => (E j t).natAbs) i) (fun j => (E j i).natAbs) 6))
    by_cases hh : has6 S j = true
    · obtain ⟨d1, d2, d3⟩ := dl_f hS hj hh
      rw [if_pos hh, if_pos hh, Int.natAbs_mul, Int.natAbs_mul, sgn6_abs, Nat.one_mul]
      refine Nat.mul_le_mul (Nat.le_refl _) (Nat.le_trans (ih d1) (Nat.le_of_eq (dP_c (fun l hl => ?_))))
      by_cases hl2 : l = j
      · subst hl2; rw [d2, if_pos rfl]; rfl
      · rw [if_neg hl2, d3 l hl hl2]
    · rw [if_neg hh, if_neg hh]; exact Nat.le_refl _
/-- few large factors -/
theorem am_b : all6 (fun a => decide (max 1 a * (17 ^ 16 * 16 ^ a) ≤ 16 ^ 17 * 17 ^ a)) 81 = true := by decide
theorem am_p {c a : Nat → Nat} {r u b : Nat} (h : ∀ j, j < 6 → j ≠ r → c j * (17 ^ 16 * 16 ^ a j) ≤ u * 16 ^ 17 * 17 ^ a j) (hr : c r ≤ b) : ∀ m, m ≤ 6 → dP c m * (17 ^ (16 * (if r < m then m - 1 else m)) * 16 ^ dN a m) ≤ (if r < m then b else 1) * u ^ (if r < m then m - 1 else m) * 16 ^ (17 * (if r < m then m - 1 else m)) * 17 ^ dN a m := by
  intro m
  induction m with
  | zero => intro _; simp [dP, dN]
  | succ m ih =>
    intro hm
    have i1 := ih (by omega)
    rw [show dP c (m + 1) = dP c m * c m from rfl, show dN a (m + 1) = dN a m + a m from rfl, Nat.pow_add, Nat.pow_add]
    by_cases h1 : m = r
    · subst h1
      rw [if_neg (Nat.lt_irrefl m)] at i1
      rw [if_pos (Nat.lt_succ_self m)]
      simp only [if_pos (Nat.lt_succ_self m), if_neg (Nat.lt_irrefl m), Nat.add_sub_cancel, Nat.one_mul] at i1 ⊢
      have e : 16 ^ a m ≤ 17 ^ a m := Nat.pow_le_pow_left (by decide) _
      have k := Nat.mul_le_mul i1 (Nat.mul_le_mul hr e)
      calc dP c m * c m * (17 ^ (16 * m) * (16 ^ dN a m * 16 ^ a m)) = dP c m * (17 ^ (16 * m) * 16 ^ dN a m) * (c m * 16 ^ a m) := by ac_rfl
        _ ≤ _ := k
        _ = _ := by ac_rfl
    · have k := Nat.mul_le_mul i1 (h m (by omega) h1)
      generalize hx : (if r < m then m - 1 else m) = x at k
      have e : (if r < m + 1 then m + 1 - 1 else m + 1) = x + 1 := by
        by_cases h2 : r < m
        · rw [if_pos h2] at hx; rw [if_pos (by omega)]; omega
        · rw [if_neg h2] at hx; rw [if_neg (by omega)]; omega
      have e2 : (if r < m + 1 then b else 1) = (if r < m then b else 1) := by
        by_cases h2 : r < m
        · rw [if_pos h2, if_pos (by omega)]
        · rw [if_neg h2, if_neg (by omega)]
      rw [e, e2, Nat.mul_add, Nat.mul_add, Nat.pow_add 17 (16 * x), Nat.pow_add 16 (17 * x), Nat.pow_succ (m := x)]
      calc dP c m * c m * (17 ^ (16 * x) * 17 ^ (16 * 1) * (16 ^ dN a m * 16 ^ a m)) = dP c m * (17 ^ (16 * x) * 16 ^ dN a m) * (c m * (17 ^ 16 * 16 ^ a m)) := by rw [Nat.mul_one]; ac_rfl
        _ ≤ _ := k
        _ = _ := by rw [Nat.mul_one]; ac_rfl
theorem am_6 {c a : Nat → Nat} {r u b : Nat} (h : ∀ j, j < 6 → j ≠ r → c j * (17 ^ 16 * 16 ^ a j) ≤ u * 16 ^ 17 * 17 ^ a j) (hr : c r ≤ b) (h6 : r < 6) (has6 : dN a 6 ≤ 80) : dP c 6 ≤ b * u ^ 5 * 16 ^ 5 := by
  have k := am_p h hr 6 (Nat.le_refl 6)
  rw [if_pos h6, if_pos h6] at k
  generalize dN a 6 = s at k has6
  generalize dP c 6 = X at k
  have e1 : 17 ^ s * 16 ^ (80 - s) ≤ 17 ^ (16 * (6 - 1)) := by
    have : (17 : Nat) ^ (16 * (6 - 1)) = 17 ^ s * 17 ^ (80 - s) := by rw [← Nat.pow_add]; congr 1; omega
    rw [this]
    exact Nat.mul_le_mul (Nat.le_refl _) (Nat.pow_le_pow_left (by decide) _)
  have e2 : (16 : Nat) ^ 80 = 16 ^ (80 - s) * 16 ^ s := by rw [← Nat.pow_add]; congr 1; omega
  have k2 : X * 16 ^ 80 * 17 ^ s ≤ b * u ^ 5 * 16 ^ 85 * 17 ^ s := by
    refine Nat.le_trans ?_ k
    rw [e2]
    calc X * (16 ^ (80 - s) * 16 ^ s) * 17 ^ s = X * (17 ^ s * 16 ^ (80 - s) * 16 ^ s) := by ac_rfl
      _ ≤ _ := Nat.mul_le_mul (Nat.le_refl _) (Nat.mul_le_mul e1 (Nat.le_refl _))
  have k3 := Nat.le_of_mul_le_mul_right k2 (Nat.pow_pos (by decide))
  have e3 : b * u ^ 5 * 16 ^ 85 = b * u ^ 5 * 16 ^ 5 * 16 ^ 80 := by rw [Nat.mul_assoc _ (16 ^ 5), ← Nat.pow_add]
  rw [e3] at k3
  exact Nat.le_of_mul_le_mul_right k3 (by decide)
