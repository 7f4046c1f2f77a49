set_option maxRecDepth 100000
/-! determinants of at most six columns, by sets of columns -/
def dS (f : Nat → Int) : Nat → Int
  | 0 => 0
  | n + 1 => dS f n + f n
theorem dS_c {f g : Nat → Int} : ∀ {n}, (∀ i, i < n → f i = g i) → dS f n = dS g n := by
  intro n
  induction n with
  | zero => intro _; rfl
  | succ n ih => intro h; unfold dS; rw [ih (fun i hi => h i (by omega)), h n (by omega)]
theorem dS_0 {f : Nat → Int} : ∀ {n}, (∀ i, i < n → f i = 0) → dS f n = 0 := by
  intro n
  induction n with
  | zero => intro _; rfl
  | succ n ih => intro h; unfold dS; rw [ih (fun i hi => h i (by omega)), h n (by omega)]; rfl
theorem dS_add (f g : Nat → Int) : ∀ n, dS (fun i => f i + g i) n = dS f n + dS g n := by
  intro n
  induction n with
  | zero => rfl
  | succ n ih => unfold dS; rw [ih]; omega
theorem dS_mul (a : Int) (f : Nat → Int) : ∀ n, dS (fun i => a * f i) n = a * dS f n := by
  intro n
  induction n with
  | zero => simp [dS]
  | succ n ih => unfold dS; rw [ih, Int.mul_add]
theorem dS_lin (a b : Int) (f g : Nat → Int) (n : Nat) : dS (fun i => a * f i + b * g i) n = a * dS f n + b * dS g n := by
  rw [dS_add, dS_mul, dS_mul]
theorem dS_comm (f : Nat → Nat → Int) (m : Nat) : ∀ n, dS (fun i => dS (f i) m) n = dS (fun j => dS (fun i => f i j) n) m := by
  intro n
  induction n with
  | zero => exact (dS_0 (fun _ _ => rfl)).symm
  | succ n ih =>
    rw [show dS (fun i => dS (f i) m) (n + 1) = dS (fun i => dS (f i) m) n + dS (f n) m from rfl, ih, ← dS_add]
    rfl
/-- one place of a sum by itself -/
theorem dS_at (f : Nat → Int) (p : Nat) : ∀ n, p < n → dS f n = f p + dS (fun j => if j = p then 0 else f j) n := by
  intro n
  induction n with
  | zero => intro h; omega
  | succ n ih =>
    intro h
    unfold dS
    by_cases hp : p = n
    · subst hp
      rw [if_pos rfl, dS_c (f := f) (g := fun j => if j = p then 0 else f j) (fun i hi => (if_neg (by omega)).symm)]
      omega
    · rw [ih (by omega), if_neg (by omega)]; omega
theorem dS_one {f : Nat → Int} {p n : Nat} (hp : p < n) (h : ∀ j, j < n → j ≠ p → f j = 0) : dS f n = f p := by
  rw [dS_at f p n hp, dS_0 (fun j hj => ?_), Int.add_zero]
  by_cases h1 : j = p
  · rw [if_pos h1]
  · rw [if_neg h1]; exact h j hj h1
theorem dS_two (f : Nat → Int) {p q n : Nat} (hp : p < n) (hq : q < n) (hn : p ≠ q) : dS f n = f p + f q + dS (fun j => if j = q then 0 else if j = p then 0 else f j) n := by
  rw [dS_at f p n hp, dS_at (fun j => if j = p then 0 else f j) q n hq, if_neg (fun h => hn h.symm)]
  omega
def bit7 (S : Nat) : Nat := S % 2 + (S / 2) % 2 + (S / 4) % 2 + (S / 8) % 2 + (S / 16) % 2 + (S / 32) % 2 + (S / 64) % 2
def sgn6 (S j : Nat) : Int := if bit7 (S / 2 ^ (j + 1)) % 2 = 1 then -1 else 1
def has6 (S j : Nat) : Bool := S / 2 ^ j % 2 == 1
def del6 (S j : Nat) : Nat := S - 2 ^ j
def swp6 (S p q : Nat) : Nat := S - 2 ^ p + 2 ^ q
def par6 (S p q : Nat) : Int := if bit7 ((S / 2 ^ (min p q + 1)) % 2 ^ (max p q - min p q - 1)) % 2 = 1 then -1 else 1
def all6 (p : Nat → Bool) : Nat → Bool
  | 0 => true
  | n + 1 => all6 p n && p n
theorem all6_t {p : Nat → Bool} : ∀ {n}, all6 p n = true → ∀ i, i < n → p i = true := by
  intro n
  induction n with
  | zero => intro _ i hi; omega
  | succ n ih =>
    intro h i hi
    unfold all6 at h
    rw [Bool.and_eq_true] at h
    by_cases e : i = n
    · rw [e]; exact h.2
    · exact ih h.1 i (by omega)
theorem dl_b : all6 (fun S => all6 (fun j => !has6 S j || (decide (del6 S j < 64) && !has6 (del6 S j) j && all6 (fun l => l == j || has6 (del6 S j) l == has6 S l) 6)) 6) 64 = true := by decide
theorem sw_b : all6 (fun T => all6 (fun p => !has6 T p || all6 (fun q => has6 T q || (decide (swp6 T p q < 64) && decide (swp6 T p q ≠ 0) && has6 (swp6 T p q) q && !has6 (swp6 T p q) p && decide (del6 (swp6 T p q) q = del6 T p) && decide (sgn6 (swp6 T p q) q = par6 T p q * sgn6 T p))) 6) 6) 64 = true := by decide
theorem sw_c : all6 (fun T => all6 (fun p => !has6 T p || all6 (fun q => has6 T q || all6 (fun j => j == p || (j == q || (has6 (swp6 T p q) j == has6 T j && (!has6 T j || (decide (sgn6 (swp6 T p q) j * par6 (del6 T j) p q = par6 T p q * sgn6 T j) && decide (swp6 (del6 T j) p q = del6 (swp6 T p q) j)))))) 6) 6) 6) 64 = true := by decide
theorem sw_d : all6 (fun S => all6 (fun p => !has6 S p || all6 (fun q => q == p || (!has6 S q || (decide (swp6 (del6 S q) p q = del6 S p) && decide (sgn6 S p * par6 (del6 S q) p q + sgn6 S q = 0)))) 6) 6) 64 = true := by decide
theorem has6_0 : ∀ j, j < 6 → has6 0 j = false := by decide
theorem dl_f {S j : Nat} (hS : S < 64) (hj : j < 6) (h : has6 S j = true) : del6 S j < 64 ∧ has6 (del6 S j) j = false ∧ ∀ l, l < 6 → l ≠ j → has6 (del6 S j) l = has6 S l := by
  have k := all6_t (all6_t dl_b S hS) j hj
  simp only [h, Bool.not_true, Bool.false_or, Bool.and_eq_true, decide_eq_true_eq, Bool.not_eq_true'] at k
  refine ⟨k.1.1, k.1.2, fun l hl hn => ?_⟩
  have k2 := all6_t k.2 l hl
  simpa [hn] using k2
theorem sw_f {T p q : Nat} (hT : T < 64) (hp : p < 6) (h : has6 T p = true) (hq : q < 6) (h' : has6 T q = false) : swp6 T p q < 64 ∧ swp6 T p q ≠ 0 ∧ has6 (swp6 T p q) q = true ∧ has6 (swp6 T p q) p = false ∧ del6 (swp6 T p q) q = del6 T p ∧ sgn6 (swp6 T p q) q = par6 T p q * sgn6 T p := by
  have k := all6_t (all6_t sw_b T hT) p hp
  simp only [h, Bool.not_true, Bool.false_or] at k
  have k2 := all6_t k q hq
  simp only [h', Bool.false_or, Bool.and_eq_true, decide_eq_true_eq, Bool.not_eq_true'] at k2
  obtain ⟨⟨⟨⟨⟨k1, k3⟩, k4⟩, k5⟩, k6⟩, k7⟩ := k2
  exact ⟨k1, k3, k4, k5, k6, k7⟩
theorem sw_g {T p q j : Nat} (hT : T < 64) (hp : p < 6) (h : has6 T p = true) (hq : q < 6) (h' : has6 T q = false) (hj : j < 6) (n1 : j ≠ p) (n2 : j ≠ q) : has6 (swp6 T p q) j = has6 T j ∧ (has6 T j = true → sgn6 (swp6 T p q) j * par6 (del6 T j) p q = par6 T p q * sgn6 T j ∧ swp6 (del6 T j) p q = del6 (swp6 T p q) j) := by
  have k := all6_t (all6_t sw_c T hT) p hp
  simp only [h, Bool.not_true, Bool.false_or] at k
  have k2 := all6_t k q hq
  simp only [h', Bool.false_or] at k2
  have k3 := all6_t k2 j hj
  simp only [beq_eq_false_iff_ne.mpr n1, beq_eq_false_iff_ne.mpr n2, Bool.false_or, Bool.and_eq_true, beq_iff_eq] at k3
  refine ⟨k3.1, fun hh => ?_⟩
  have k4 := k3.2
  simp only [hh, Bool.not_true, Bool.false_or, Bool.and_eq_true, decide_eq_true_eq] at k4
  exact k4
theorem sw_h {S p q : Nat} (hS : S < 64) (hp : p < 6) (h : has6 S p = true) (hq : q < 6) (n : q ≠ p) (h' : has6 S q = true) : swp6 (del6 S q) p q = del6 S p ∧ sgn6 S p * par6 (del6 S q) p q + sgn6 S q = 0 := by
  have k := all6_t (all6_t sw_d S hS) p hp
  simp only [h, Bool.not_true, Bool.false_or] at k
  have k2 := all6_t k q hq
  simp only [h', beq_eq_false_iff_ne.mpr n, Bool.not_true, Bool.false_or, Bool.and_eq_true, decide_eq_true_eq] at k2
  exact k2
/-- the minor of the first rows, by a set of columns: A j t is row t of column j -/
def mU (A : Nat → Nat → Int) : Nat → Nat → Int
  | 0, S => if S = 0 then 1 else 0
  | i + 1, S => dS (fun j => if has6 S j = true then sgn6 S j * A j i * mU A i (del6 S j) else 0) 6
theorem mU_c {A B : Nat → Nat → Int} : ∀ {i S}, S < 64 → (∀ j, j < 6 → has6 S j = true → ∀ t, t < i → A j t = B j t) → mU A i S = mU B i S := by
  intro i
  induction i with
  | zero => intro S _ _; rfl
  | succ i ih =>
    intro S hS h
    unfold mU
    refine dS_c (fun j hj => ?_)
    by_cases hh : has6 S j = true
    · obtain ⟨d1, d2, d3⟩ := dl_f hS hj hh
      rw [if_pos hh, if_pos hh, h j hj hh i (by omega), ih d1 (fun l hl h2 t ht => ?_)]
      have hn : l ≠ j := fun e => by rw [e, d2] at h2; cases h2
      exact h l hl (by rw [← d3 l hl hn]; exact h2) t (by omega)
    · rw [if_neg hh, if_neg hh]
theorem mU_swap {A : Nat → Nat → Int} {p q : Nat} (hp : p < 6) (hq : q < 6) : ∀ {i T}, T < 64 → has6 T p = true → has6 T q = false → (∀ t, t < i → A p t = A q t) → mU A i (swp6 T p q) = par6 T p q * mU A i T := by
  intro i
  induction i with
  | zero =>
    intro T hT h h' _
    have e : T ≠ 0 := fun e => by rw [e, has6_0 p hp] at h; cases h
    unfold mU
    rw [if_neg e, if_neg (sw_f hT hp h hq h').2.1, Int.mul_zero]
  | succ i ih =>
    intro T hT h h' hA
    obtain ⟨f1, f2, f3, f4, f5, f6⟩ := sw_f hT hp h hq h'
    have hn : p ≠ q := fun e => by rw [e, h'] at h; cases h
    unfold mU
    rw [← dS_mul, dS_two _ hp hq hn, dS_two (fun j => par6 T p q * _) hp hq hn]
    simp only [h, h', f3, f4, if_true, f5, f6, hA i (by omega)]
    simp only [Bool.false_eq_true, if_false]
    have e : dS (fun j => if j = q then 0 else if j = p then 0 else if has6 (swp6 T p q) j = true then sgn6 (swp6 T p q) j * A j i * mU A i (del6 (swp6 T p q) j) else 0) 6 = dS (fun j => if j = q then 0 else if j = p then 0 else par6 T p q * (if has6 T j = true then sgn6 T j * A j i * mU A i (del6 T j) else 0)) 6 := by
      refine dS_c (fun j hj => ?_)
      by_cases j1 : j = q
      · rw [if_pos j1, if_pos j1]
      by_cases j2 : j = p
      · rw [if_neg j1, if_neg j1, if_pos j2, if_pos j2]
      rw [if_neg j1, if_neg j1, if_neg j2, if_neg j2]
      obtain ⟨g1, g2⟩ := sw_g hT hp h hq h' hj j2 j1
      rw [g1]
      by_cases hh : has6 T j = true
      · obtain ⟨g3, g4⟩ := g2 hh
        obtain ⟨d1, d2, d3⟩ := dl_f hT hj hh
        have g5 := ih (T := del6 T j) d1 (by rw [d3 p hp (fun e => j2 e.symm)]; exact h) (by rw [d3 q hq (fun e => j1 e.symm)]; exact h') (fun t ht => hA t (by omega))
        rw [if_pos hh, if_pos hh, ← g4, g5]
        grind
      · rw [if_neg hh, if_neg hh, Int.mul_zero]
    rw [e]
    grind
theorem mU_alt {A : Nat → Nat → Int} {p q : Nat} (hp : p < 6) (hq : q < 6) (hn : p ≠ q) : ∀ {i S}, S < 64 → has6 S p = true → has6 S q = true → (∀ t, t < i → A p t = A q t) → mU A i S = 0 := by
  intro i
  induction i with
  | zero =>
    intro S hS h h' _
    unfold mU
    rw [if_neg (fun e => by rw [e, has6_0 p hp] at h; cases h)]
  | succ i ih =>
    intro S hS h h' hA
    unfold mU
    rw [dS_two _ hp hq hn, dS_0 (n := 6) (fun j hj => ?_)]
    · obtain ⟨e1, e2⟩ := sw_h hS hp h hq (fun e => hn e.symm) h'
      obtain ⟨d1, d2, d3⟩ := dl_f hS hq h'
      have g := mU_swap (A := A) hp hq (i := i) d1 (by rw [d3 p hp hn]; exact h) d2 (fun t ht => hA t (by omega))
      rw [if_pos h, if_pos h', ← e1, g, hA i (by omega)]
      have e3 : sgn6 S q = - (sgn6 S p * par6 (del6 S q) p q) := by omega
      rw [e3]
      grind
    · by_cases j1 : j = q
      · rw [if_pos j1]
      by_cases j2 : j = p
      · rw [if_neg j1, if_pos j2]
      rw [if_neg j1, if_neg j2]
      by_cases hh : has6 S j = true
      · obtain ⟨d1, d2, d3⟩ := dl_f hS hj hh
        rw [if_pos hh, ih d1 (by rw [d3 p hp (fun e => j2 e.symm)]; exact h) (by rw [d3 q hq (fun e => j1 e.symm)]; exact h') (fun t ht => hA t (by omega)), Int.mul_zero]
      · rw [if_neg hh]
/-- column p changed for u -/
def mC (A : Nat → Nat → Int) (p : Nat) (u : Nat → Int) : Nat → Nat → Int := fun j => if j = p then u else A j
theorem mC_same {A : Nat → Nat → Int} {p : Nat} {u : Nat → Int} : mC A p u p = u := if_pos rfl
theorem mC_ne {A : Nat → Nat → Int} {p j : Nat} {u : Nat → Int} (h : j ≠ p) : mC A p u j = A j := if_neg h
theorem mU_lin {A : Nat → Nat → Int} {p : Nat} (hp : p < 6) (a b : Int) (u v : Nat → Int) : ∀ {i S}, S < 64 → has6 S p = true → mU (mC A p (fun t => a * u t + b * v t)) i S = a * mU (mC A p u) i S + b * mU (mC A p v) i S := by
  intro i
  induction i with
  | zero =>
    intro S hS h
    unfold mU
    rw [if_neg (fun e => by rw [e, has6_0 p hp] at h; cases h)]
    omega
  | succ i ih =>
    intro S hS h
    unfold mU
    rw [← dS_lin]
    refine dS_c (fun j hj => ?_)
    by_cases hh : has6 S j = true
    · obtain ⟨d1, d2, d3⟩ := dl_f hS hj hh
      rw [if_pos hh, if_pos hh, if_pos hh]
      by_cases hjp : j = p
      · subst hjp
        have c : ∀ x, mU (mC A j x) i (del6 S j) = mU A i (del6 S j) := fun x => mU_c d1 (fun l hl h2 t _ => by
          rw [mC_ne (fun e => by rw [e, d2] at h2; cases h2)])
        rw [c, c, c, mC_same, mC_same, mC_same]
        grind
      · rw [mC_ne hjp, mC_ne hjp, mC_ne hjp, ih d1 (by rw [d3 p hp (fun e => hjp e.symm)]; exact h)]
        grind
    · rw [if_neg hh, if_neg hh, if_neg hh]; omega
theorem full_b : all6 (fun n => decide (2 ^ n - 1 < 64) && all6 (fun j => has6 (2 ^ n - 1) j == decide (j < n)) 6) 7 = true := by decide
theorem full_l {n : Nat} (hn : n ≤ 6) : 2 ^ n - 1 < 64 := by
  have k := all6_t full_b n (by omega)
  simp only [Bool.and_eq_true, decide_eq_true_eq] at k
  exact k.1
theorem full_h {n j : Nat} (hn : n ≤ 6) (hj : j < 6) : has6 (2 ^ n - 1) j = true ↔ j < n := by
  have k := all6_t full_b n (by omega)
  simp only [Bool.and_eq_true] at k
  have k2 := all6_t k.2 j hj
  rw [beq_iff_eq] at k2
  rw [k2, decide_eq_true_eq]
/-- the determinant of n columns -/
def mD (n : Nat) (A : Nat → Nat → Int) : Int := mU A n (2 ^ n - 1)
theorem mD_c {n : Nat} (hn : n ≤ 6) {A B : Nat → Nat → Int} (h : ∀ j, j < n → ∀ t, t < n → A j t = B j t) : mD n A = mD n B :=
  mU_c (full_l hn) (fun j hj hh t ht => h j ((full_h hn hj).mp hh) t ht)
theorem mD_alt {n p q : Nat} (hn : n ≤ 6) (hp : p < n) (hq : q < n) (hne : p ≠ q) {A : Nat → Nat → Int} (h : ∀ t, t < n → A p t = A q t) : mD n A = 0 :=
  mU_alt (by omega) (by omega) hne (full_l hn) ((full_h hn (by omega)).mpr hp) ((full_h hn (by omega)).mpr hq) h
theorem mD_lin {n p : Nat} (hn : n ≤ 6) (hp : p < n) (A : Nat → Nat → Int) (a b : Int) (u v : Nat → Int) : mD n (mC A p (fun t => a * u t + b * v t)) = a * mD n (mC A p u) + b * mD n (mC A p v) :=
  mU_lin (by omega) a b u v (full_l hn) ((full_h hn (by omega)).mpr hp)
theorem mD_sum {n p : Nat} (hn : n ≤ 6) (hp : p < n) (A : Nat → Nat → Int) (c : Nat → Int) (v : Nat → Nat → Int) : ∀ m, mD n (mC A p (fun t => dS (fun j => c j * v j t) m)) = dS (fun j => c j * mD n (mC A p (v j))) m := by
  intro m
  induction m with
  | zero =>
    have h := mD_lin hn hp A 0 0 (fun _ => 0) (fun _ => 0)
    simp only [Int.zero_mul, Int.add_zero] at h
    exact h
  | succ m ih =>
    have h := mD_lin hn hp A 1 (c m) (fun t => dS (fun j => c j * v j t) m) (v m)
    simp only [Int.one_mul] at h
    rw [ih] at h
    exact h
theorem mC_comm {A : Nat → Nat → Int} {p q : Nat} {u v : Nat → Int} (h : p ≠ q) : mC (mC A p u) q v = mC (mC A q v) p u := by
  funext j
  unfold mC
  by_cases h1 : j = q
  · rw [if_pos h1, if_neg (fun e => h (e.symm.trans h1)), if_pos h1]
  · rw [if_neg h1]
    by_cases h2 : j = p
    · rw [if_pos h2, if_pos h2]
    · rw [if_neg h2, if_neg h2, if_neg h1]
theorem mC_mC {A : Nat → Nat → Int} {p : Nat} {u v : Nat → Int} : mC (mC A p u) p v = mC A p v := by
  funext j
  unfold mC
  by_cases h1 : j = p
  · rw [if_pos h1, if_pos h1]
  · rw [if_neg h1, if_neg h1, if_neg h1]
theorem mC_id {A : Nat → Nat → Int} {p : Nat} : mC A p (A p) = A := by
  funext j
  unfold mC
  by_cases h1 : j = p
  · rw [if_pos h1, h1]
  · rw [if_neg h1]
theorem mD_swap {n p q : Nat} (hn : n ≤ 6) (hp : p < n) (hq : q < n) (hne : p ≠ q) (A : Nat → Nat → Int) (u v : Nat → Int) : mD n (mC (mC A p u) q v) = - mD n (mC (mC A p v) q u) := by
  have z : ∀ x : Nat → Int, mD n (mC (mC A p x) q x) = 0 := fun x => mD_alt hn hp hq hne (fun t _ => by rw [mC_ne hne, mC_same, mC_same])
  have l2 : ∀ x : Nat → Int, mD n (mC (mC A p x) q (fun t => 1 * u t + 1 * v t)) = 1 * mD n (mC (mC A p x) q u) + 1 * mD n (mC (mC A p x) q v) := fun x => mD_lin hn hq _ 1 1 u v
  have l1 : ∀ x : Nat → Int, mD n (mC (mC A p (fun t => 1 * u t + 1 * v t)) q x) = 1 * mD n (mC (mC A p u) q x) + 1 * mD n (mC (mC A p v) q x) := fun x => by
    rw [mC_comm hne, mD_lin hn hp _ 1 1 u v, mC_comm (fun e => hne e.symm), mC_comm (fun e => hne e.symm)]
  have h := z (fun t => 1 * u t + 1 * v t)
  rw [l2, l1, l1, z u, z v] at h
  omega
/-- the first k columns of A, the others of the unit -/
def mE (A : Nat → Nat → Int) (k : Nat) : Nat → Nat → Int := fun j => if j < k then A j else fun t => if t = j then 1 else 0
def mW (n : Nat) (A : Nat → Nat → Int) (k r c : Nat) : Int := mD n (mC (mE A k) r (A c))
def mG (n : Nat) (A : Nat → Nat → Int) (k : Nat) : Int := mD n (mE A k)
theorem mE_s {A : Nat → Nat → Int} {k : Nat} : mC (mE A k) k (A k) = mE A (k + 1) := by
  funext j
  unfold mC mE
  by_cases h1 : j = k
  · rw [if_pos h1, if_pos (by omega), h1]
  · rw [if_neg h1]
    by_cases h2 : j < k
    · rw [if_pos h2, if_pos (by omega)]
    · rw [if_neg h2, if_neg (by omega)]
theorem mG_s {n k : Nat} {A : Nat → Nat → Int} : mG n A (k + 1) = mW n A k k k := by
  unfold mG mW
  rw [mE_s]
theorem mW_s {n k c : Nat} {A : Nat → Nat → Int} : mW n A (k + 1) k c = mW n A k k c := by
  unfold mW
  rw [← mE_s, mC_mC]
theorem mD_unit (A : Nat → Nat → Int) : ∀ n, n ≤ 6 → mD n (mE A 0) = 1 := by
  have h : ∀ n, n ≤ 6 → mD n (fun j t => if t = j then 1 else 0) = 1 := by decide
  intro n hn
  rw [← h n hn]
  refine mD_c hn (fun j _ t _ => ?_)
  unfold mE
  rw [if_neg (by omega)]
theorem mW_0 {n r c : Nat} (hn : n ≤ 6) (hr : r < n) (A : Nat → Nat → Int) : mW n A 0 r c = A c r := by
  unfold mW
  have e : mD n (mC (mE A 0) r (A c)) = mD n (mC (mE A 0) r (fun t => dS (fun j => A c j * mE A 0 j t) n)) := by
    refine mD_c hn (fun j hj t ht => ?_)
    by_cases h1 : j = r
    · subst h1
      rw [mC_same, mC_same, dS_one ht (fun j _ hne => ?_)]
      · unfold mE; rw [if_neg (by omega), if_pos rfl, Int.mul_one]
      · unfold mE; rw [if_neg (by omega), if_neg (fun e => hne e.symm), Int.mul_zero]
    · rw [mC_ne h1, mC_ne h1]
  rw [e, mD_sum hn hr, dS_one hr (fun j hj hne => ?_)]
  · rw [mC_id, mD_unit A n hn, Int.mul_one]
  · rw [mD_alt hn hr hj (fun e => hne e.symm) (fun t _ => by rw [mC_same, mC_ne hne]), Int.mul_zero]
/-- each column by the first k and the others of the unit -/
def mK (n : Nat) (A : Nat → Nat → Int) (k : Nat) : Prop := ∀ c t, t < n → mG n A k * A c t = dS (fun j => mW n A k j c * mE A k j t) n
theorem mK_0 {n : Nat} (hn : n ≤ 6) (A : Nat → Nat → Int) : mK n A 0 := by
  intro c t ht
  unfold mG
  rw [mD_unit A n hn, dS_one ht (fun j hj hne => ?_)]
  · rw [mW_0 hn ht]; unfold mE; rw [if_neg (by omega), if_pos rfl]; omega
  · unfold mE; rw [if_neg (by omega), if_neg (fun e => hne e.symm), Int.mul_zero]
theorem mW_rec {n k r c : Nat} (hn : n ≤ 6) {A : Nat → Nat → Int} (hk : k < n) (hr : r < n) (hne : r ≠ k) (h : mK n A k) : mG n A k * mW n A (k + 1) r c = mW n A k r c * mW n A k k k - mW n A k k c * mW n A k r k := by
  have e1 : mG n A k * mW n A (k + 1) r c = mD n (mC (mE A (k + 1)) r (fun t => dS (fun j => mW n A k j c * mE A k j t) n)) := by
    have l := mD_lin hn hr (mE A (k + 1)) (mG n A k) 0 (A c) (A c)
    have e : mW n A (k + 1) r c = mD n (mC (mE A (k + 1)) r (A c)) := rfl
    rw [e, show mG n A k * mD n (mC (mE A (k + 1)) r (A c)) = mG n A k * mD n (mC (mE A (k + 1)) r (A c)) + 0 * mD n (mC (mE A (k + 1)) r (A c)) by omega, ← l]
    refine mD_c hn (fun j hj t ht => ?_)
    by_cases h1 : j = r
    · subst h1
      rw [mC_same, mC_same, ← h c t ht]; omega
    · rw [mC_ne h1, mC_ne h1]
  rw [e1, mD_sum hn hr, dS_two _ hr hk hne, dS_0 (n := n) (fun j hj => ?_)]
  · have er : mC (mE A (k + 1)) r (mE A k r) = mE A (k + 1) := by
      have : mE A k r = mE A (k + 1) r := by
        unfold mE
        by_cases h1 : r < k
        · rw [if_pos h1, if_pos (by omega)]
        · rw [if_neg h1, if_neg (by omega)]
      rw [this, mC_id]
    have ek : mD n (mC (mE A (k + 1)) r (mE A k k)) = - mW n A k r k := by
      rw [← mE_s, mD_swap hn hk hr (fun e => hne e.symm), mC_id]
      rfl
    rw [er, ek, ← mG_s]
    unfold mG
    grind
  · by_cases j1 : j = k
    · rw [if_pos j1]
    by_cases j2 : j = r
    · rw [if_neg j1, if_pos j2]
    rw [if_neg j1, if_neg j2, mD_alt hn hr hj (fun e => j2 e.symm) (fun t _ => ?_), Int.mul_zero]
    rw [mC_same, mC_ne j2]
    unfold mE
    by_cases h1 : j < k
    · rw [if_pos h1, if_pos (by omega)]
    · rw [if_neg h1, if_neg (show ¬ j < k + 1 by omega)]
theorem mK_s {n k : Nat} (hn : n ≤ 6) {A : Nat → Nat → Int} (hk : k < n) (h : mK n A k) (h0 : mG n A k ≠ 0) : mK n A (k + 1) := by
  intro c t ht
  apply Int.eq_of_mul_eq_mul_left h0
  rw [← dS_mul]
  have hc := h c t ht
  have hkk := h k t ht
  rw [dS_at _ k n hk] at hc hkk ⊢
  have e : dS (fun j => if j = k then 0 else mG n A k * (mW n A (k + 1) j c * mE A (k + 1) j t)) n = mG n A (k + 1) * dS (fun j => if j = k then 0 else mW n A k j c * mE A k j t) n + (- mW n A k k c) * dS (fun j => if j = k then 0 else mW n A k j k * mE A k j t) n := by
    rw [← dS_lin]
    refine dS_c (fun j hj => ?_)
    by_cases h1 : j = k
    · rw [if_pos h1, if_pos h1, if_pos h1]; omega
    · rw [if_neg h1, if_neg h1, if_neg h1]
      have r := mW_rec (c := c) hn hk hj h1 h
      have e2 : mE A (k + 1) j t = mE A k j t := by
        unfold mE
        by_cases h3 : j < k
        · rw [if_pos h3, if_pos (by omega)]
        · rw [if_neg h3, if_neg (by omega)]
      rw [e2, mG_s]
      grind
  rw [e, mW_s, mG_s]
  have e3 : mE A (k + 1) k t = A k t := by unfold mE; rw [if_pos (by omega)]
  rw [e3]
  generalize dS (fun j => if j = k then 0 else mW n A k j c * mE A k j t) n = X1 at *
  generalize dS (fun j => if j = k then 0 else mW n A k j k * mE A k j t) n = X2 at *
  rw [← mG_s] at *
  grind
