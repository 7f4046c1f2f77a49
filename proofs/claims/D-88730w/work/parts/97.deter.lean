set_option maxRecDepth 100000
/-! the model's determinant, by sets of columns -/
theorem bits_b : all6 (fun s => decide (sM_bits (nI s) = some (nI (bit7 s)))) 128 = true := by decide
theorem set_b : all6 (fun s => all6 (fun j => decide (((nI s >>> (nI j &&& 31)) &&& 1) = nI (s / 2 ^ j % 2)) && (has6 s j || decide ((nI s ||| ((1 : Int32) <<< (nI j &&& 31))) = nI (s + 2 ^ j))) && decide ((nI s >>> ((nI j + 1) &&& 31)) = nI (s / 2 ^ (j + 1)))) 6) 128 = true := by decide
theorem set_c : all6 (fun s => all6 (fun j => has6 s j || (decide (s + 2 ^ j < 128) && has6 (s + 2 ^ j) j && decide (del6 (s + 2 ^ j) j = s) && decide (bit7 (s + 2 ^ j) = bit7 s + 1) && decide (bit7 ((s + 2 ^ j) / 2 ^ (j + 1)) = bit7 (s / 2 ^ (j + 1))))) 6) 128 = true := by decide
theorem set_d : all6 (fun s => all6 (fun j => decide (s / 2 ^ (j + 1) < 128) && decide (bit7 (s / 2 ^ (j + 1)) < 8)) 6) 128 = true := by decide
theorem set_e : all6 (fun T => decide (bit7 T < 7) && (decide (T = 0) || decide (0 < bit7 T)) && all6 (fun l => !has6 T l || (decide (del6 T l + 2 ^ l = T) && decide (bit7 (del6 T l) + 1 = bit7 T) && !has6 (del6 T l) l)) 6) 64 = true := by decide
theorem set_n : all6 (fun n => decide (bit7 (2 ^ n - 1) = n) && decide (((1 : Int32) <<< (nI n &&& 31)) - 1 = nI (2 ^ n - 1)) && decide (2 ^ n ≤ 64) && all6 (fun T => !decide (T < 2 ^ n) || all6 (fun l => !has6 T l || decide (l < n)) 6) 64) 7 = true := by decide
theorem irm_b : all6 (fun b => decide (irm (nI b) 2 = nI (b % 2))) 8 = true := by decide
theorem bits_v {s : Nat} (h : s < 128) : sM_bits (nI s) = some (nI (bit7 s)) := of_decide_eq_true (all6_t bits_b s h)
theorem set_v {s j : Nat} (hs : s < 128) (hj : j < 6) : ((nI s >>> (nI j &&& 31)) &&& 1) = nI (s / 2 ^ j % 2) ∧ (has6 s j = false → (nI s ||| ((1 : Int32) <<< (nI j &&& 31))) = nI (s + 2 ^ j)) ∧ (nI s >>> ((nI j + 1) &&& 31)) = nI (s / 2 ^ (j + 1)) := by
  have k := all6_t (all6_t set_b s hs) j hj
  rw [Bool.and_eq_true, Bool.and_eq_true, Bool.or_eq_true] at k
  obtain ⟨⟨k1, k2⟩, k3⟩ := k
  refine ⟨of_decide_eq_true k1, fun h => ?_, of_decide_eq_true k3⟩
  rcases k2 with k2 | k2
  · rw [h] at k2; cases k2
  · exact of_decide_eq_true k2
theorem set_w {s j : Nat} (hs : s < 128) (hj : j < 6) (h : has6 s j = false) : s + 2 ^ j < 128 ∧ has6 (s + 2 ^ j) j = true ∧ del6 (s + 2 ^ j) j = s ∧ bit7 (s + 2 ^ j) = bit7 s + 1 ∧ bit7 ((s + 2 ^ j) / 2 ^ (j + 1)) = bit7 (s / 2 ^ (j + 1)) := by
  have k := all6_t (all6_t set_c s hs) j hj
  rw [h, Bool.false_or, Bool.and_eq_true, Bool.and_eq_true, Bool.and_eq_true, Bool.and_eq_true] at k
  obtain ⟨⟨⟨⟨k1, k2⟩, k3⟩, k4⟩, k5⟩ := k
  exact ⟨of_decide_eq_true k1, k2, of_decide_eq_true k3, of_decide_eq_true k4, of_decide_eq_true k5⟩
theorem set_x {s j : Nat} (hs : s < 128) (hj : j < 6) : s / 2 ^ (j + 1) < 128 ∧ bit7 (s / 2 ^ (j + 1)) < 8 := by
  have k := all6_t (all6_t set_d s hs) j hj
  rw [Bool.and_eq_true] at k
  exact ⟨of_decide_eq_true k.1, of_decide_eq_true k.2⟩
theorem set_y {T l : Nat} (hT : T < 64) (hl : l < 6) (h : has6 T l = true) : del6 T l + 2 ^ l = T ∧ bit7 (del6 T l) + 1 = bit7 T ∧ has6 (del6 T l) l = false := by
  have k := all6_t set_e T hT
  rw [Bool.and_eq_true] at k
  have k2 := all6_t k.2 l hl
  rw [h, Bool.not_true, Bool.false_or, Bool.and_eq_true, Bool.and_eq_true] at k2
  exact ⟨of_decide_eq_true k2.1.1, of_decide_eq_true k2.1.2, by simpa using k2.2⟩
theorem bit_0 {T : Nat} (hT : T < 64) (h : bit7 T = 0) : T = 0 := by
  have k := all6_t set_e T hT
  rw [Bool.and_eq_true, Bool.and_eq_true, Bool.or_eq_true] at k
  rcases k.1.2 with q | q
  · exact of_decide_eq_true q
  · have := of_decide_eq_true q; omega
theorem set_nv {n : Nat} (hn : n ≤ 6) : bit7 (2 ^ n - 1) = n ∧ ((1 : Int32) <<< (nI n &&& 31)) - 1 = nI (2 ^ n - 1) ∧ 2 ^ n ≤ 64 ∧ ∀ T, T < 2 ^ n → ∀ l, l < 6 → has6 T l = true → l < n := by
  have k := all6_t set_n n (by omega)
  rw [Bool.and_eq_true, Bool.and_eq_true, Bool.and_eq_true] at k
  obtain ⟨⟨⟨k1, k2⟩, k3⟩, k4⟩ := k
  have h3 := of_decide_eq_true k3
  refine ⟨of_decide_eq_true k1, of_decide_eq_true k2, h3, fun T hT l hl h => ?_⟩
  have q := all6_t k4 T (by omega)
  rw [decide_eq_true hT, Bool.not_true, Bool.false_or] at q
  have q2 := all6_t q l hl
  rw [h, Bool.not_true, Bool.false_or] at q2
  exact of_decide_eq_true q2
theorem irm_v {b : Nat} (h : b < 8) : irm (nI b) 2 = nI (b % 2) := of_decide_eq_true (all6_t irm_b b h)
/-- what has been brought to the set T in row i, from the sets c -/
def acc (B : Nat → Nat → Int) (i : Nat) (c : Nat → Nat → Bool) (T : Nat) : Int := dS (fun l => if has6 T l = true ∧ c (del6 T l) l = true then sgn6 T l * B l i * mU B i (del6 T l) else 0) 6
def cL (s j : Nat) : Nat → Nat → Bool := fun S l => decide (s < S ∨ (S = s ∧ l < j))
def cK (k : Nat) : Nat → Nat → Bool := fun S _ => decide (k ≤ S)
theorem acc_c {B : Nat → Nat → Int} {i T : Nat} {c c' : Nat → Nat → Bool} (h : ∀ l, l < 6 → has6 T l = true → c (del6 T l) l = c' (del6 T l) l) : acc B i c T = acc B i c' T := by
  refine dS_c (fun l hl => ?_)
  by_cases e : has6 T l = true
  · simp only [h l hl e]
  · rw [if_neg (fun z => e z.1), if_neg (fun z => e z.1)]
theorem acc_ne {B : Nat → Nat → Int} {i s j T : Nat} (hT : T < 64) (h : T ≠ s + 2 ^ j) : acc B i (cL s (j + 1)) T = acc B i (cL s j) T := by
  refine acc_c (fun l hl hh => ?_)
  unfold cL
  obtain ⟨y1, -, -⟩ := set_y hT hl hh
  apply decide_eq_decide.mpr
  constructor
  · rintro (q | ⟨q1, q2⟩)
    · exact Or.inl q
    · refine Or.inr ⟨q1, ?_⟩
      by_cases e : l = j
      · rw [e] at y1 q1; exact absurd (by omega) h
      · omega
  · rintro (q | ⟨q1, q2⟩)
    · exact Or.inl q
    · exact Or.inr ⟨q1, by omega⟩
theorem acc_j {B : Nat → Nat → Int} {i s j : Nat} (hs : s < 64) (hj : j < 6) (h : has6 s j = false) : acc B i (cL s (j + 1)) (s + 2 ^ j) = acc B i (cL s j) (s + 2 ^ j) + sgn6 (s + 2 ^ j) j * B j i * mU B i s := by
  obtain ⟨-, w2, w3, -, -⟩ := set_w (show s < 128 by omega) hj h
  unfold acc
  rw [dS_at _ j 6 hj, dS_at (fun l => if has6 (s + 2 ^ j) l = true ∧ cL s j (del6 (s + 2 ^ j) l) l = true then sgn6 (s + 2 ^ j) l * B l i * mU B i (del6 (s + 2 ^ j) l) else 0) j 6 hj]
  have c1 : cL s (j + 1) s j = true := by unfold cL; exact decide_eq_true (Or.inr ⟨rfl, by omega⟩)
  have c0 : ¬ cL s j s j = true := by unfold cL; rw [decide_eq_true_eq]; omega
  rw [w3, if_pos ⟨w2, c1⟩, if_neg (fun z => c0 z.2), Int.zero_add, Int.add_comm]
  congr 1
  refine dS_c (fun l _ => ?_)
  by_cases e : l = j
  · rw [if_pos e, if_pos e]
  · rw [if_neg e, if_neg e]
    have : cL s (j + 1) (del6 (s + 2 ^ j) l) l = cL s j (del6 (s + 2 ^ j) l) l := by
      unfold cL
      apply decide_eq_decide.mpr
      omega
    rw [this]
theorem acc_0 {B : Nat → Nat → Int} {i s T : Nat} (hT : T < 64) (hs : s < 64 → iL (mU B i s) = 0) : ∀ j, j ≤ 6 → iL (acc B i (cL s j) T) = iL (acc B i (cL s 0) T) := by
  intro j
  induction j with
  | zero => intro _; rfl
  | succ j ih =>
    intro hj
    by_cases e : T = s + 2 ^ j
    · by_cases hh : has6 s j = true
      · rw [← ih (by omega)]
        congr 1
        refine acc_c (fun l hl h2 => ?_)
        unfold cL
        obtain ⟨y1, -, y3⟩ := set_y hT hl h2
        apply decide_eq_decide.mpr
        constructor
        · rintro (q | ⟨q1, q2⟩)
          · exact Or.inl q
          · refine Or.inr ⟨q1, ?_⟩
            by_cases e2 : l = j
            · rw [q1, e2, hh] at y3; cases y3
            · omega
        · rintro (q | ⟨q1, q2⟩)
          · exact Or.inl q
          · exact Or.inr ⟨q1, by omega⟩
      · have hh' : has6 s j = false := by simpa using hh
        have hs64 : s < 64 := by have := Nat.two_pow_pos j; omega
        rw [e, acc_j hs64 (by omega) hh', ← iL_add, ← iL_mul (sgn6 _ _ * _), hs hs64, Int64.mul_zero, Int64.add_zero, ← e]
        exact ih (by omega)
    · rw [acc_ne hT e]; exact ih (by omega)
theorem acc_end {B : Nat → Nat → Int} {i s n T : Nat} (hn : n ≤ 6) (hT : T < 2 ^ n) : acc B i (cL s n) T = acc B i (cK s) T := by
  refine acc_c (fun l hl h2 => ?_)
  have := (set_nv hn).2.2.2 T hT l hl h2
  unfold cL cK
  apply decide_eq_decide.mpr
  omega
theorem acc_beg {B : Nat → Nat → Int} {i s T : Nat} : acc B i (cL s 0) T = acc B i (cK (s + 1)) T := by
  refine acc_c (fun l _ _ => ?_)
  unfold cL cK
  apply decide_eq_decide.mpr
  omega
def DI (v : Wd) (n : Nat) (B : Nat → Nat → Int) (i : Nat) (c : Nat → Nat → Bool) : Prop := ∀ T, T < 2 ^ n → (bit7 T ≤ i → v.2.2 20 T = iL (mU B (bit7 T) T)) ∧ (bit7 T = i + 1 → v.2.2 20 T = iL (acc B i c T)) ∧ (i + 1 < bit7 T → v.2.2 20 T = 0)
theorem detC {w0 : Wd} {n i s : Nat} {a1 : Int32} {B : Nat → Nat → Int} (hn : n ≤ 6) (hi : i < n) (hs : s < 128) (hb : bit7 s = i) (y22 : w0.2.1 90 22 = nI n) (hV : ∀ j, j < n → (nI j = a1 → w0.2.2 19 i = iL (B j i)) ∧ (¬ nI j = a1 → w0.2.2 18 (7 * i + j) = iL (B j i))) : ∀ (m j fuel : Nat) (w : Wd), j + m = n → m < fuel → LG [20] w0 w → DI w n B i (cL s j) → ∃ w', (∀ self, fx (fun _ _ => none) (bM_determinant_L72 a1 (nI i) (nI s) self) fuel (nI j) w = self (nI s + (-1)) w') ∧ LG [20] w0 w' ∧ DI w' n B i (cL s n) := by
  obtain ⟨-, -, n64, -⟩ := set_nv hn
  intro m
  induction m with
  | zero =>
    intro j fuel w hj hf hL hD
    obtain ⟨f, rfl⟩ : ∃ f, fuel = f + 1 := ⟨fuel - 1, by omega⟩
    obtain rfl : j = n := by omega
    refine ⟨w, fun self => ?_, hL, hD⟩
    rw [fx_s]
    unfold bM_determinant_L72
    rw [hL.2.1, y22, if_pos (Int32.le_refl _), nm_d]
  | succ m ih =>
    intro j fuel w hj hf hL hD
    obtain ⟨f, rfl⟩ : ∃ f, fuel = f + 1 := ⟨fuel - 1, by omega⟩
    obtain ⟨t1, t2, t3⟩ := set_v hs (show j < 6 by omega)
    have hjn : ¬ nI n ≤ nI j := fun z => absurd ((nIle (by omega) (by omega)).mp z) (by omega)
    by_cases hh : has6 s j = true
    · have one : s / 2 ^ j % 2 = 1 := by unfold has6 at hh; simpa using hh
      obtain ⟨w', h1, h2, h3⟩ := ih (j + 1) f w (by omega) (by omega) hL (fun T hT => by
        obtain ⟨q1, q2, q3⟩ := hD T hT
        refine ⟨q1, fun e => ?_, q3⟩
        rw [q2 e]
        congr 1
        refine acc_c (fun l hl hl2 => ?_)
        obtain ⟨y1, -, y3⟩ := set_y (show T < 64 by omega) hl hl2
        unfold cL
        apply decide_eq_decide.mpr
        constructor
        · rintro (q | ⟨q1, q2⟩)
          · exact Or.inl q
          · exact Or.inr ⟨q1, by omega⟩
        · rintro (q | ⟨q1, q2⟩)
          · exact Or.inl q
          · refine Or.inr ⟨q1, ?_⟩
            by_cases e2 : l = j
            · rw [q1, e2, hh] at y3; cases y3
            · omega)
      refine ⟨w', fun self => ?_, h2, h3⟩
      have h1s := h1 self
      rw [fx_s]
      generalize fx _ _ f = sf at h1s ⊢
      unfold bM_determinant_L72
      rw [hL.2.1, y22, if_neg hjn, t1, one, if_pos (show nI 1 = (1 : Int32) from rfl), nm_d, nI_1]
      exact h1s
    · have hh' : has6 s j = false := by simpa using hh
      have zero : s / 2 ^ j % 2 = 0 := by
        unfold has6 at hh'
        have : ¬ s / 2 ^ j % 2 = 1 := by simpa using hh'
        omega
      obtain ⟨u1, u2, u3, u4, u5⟩ := set_w hs (show j < 6 by omega) hh'
      obtain ⟨x1, x2⟩ := set_x hs (show j < 6 by omega)
      have hne : s ≠ s + 2 ^ j := by have := Nat.two_pow_pos j; omega
      obtain ⟨w', h1, h2, h3⟩ := ih (j + 1) f (stL w 20 (s + 2 ^ j) (w.2.2 20 (s + 2 ^ j) + (if bit7 (s / 2 ^ (j + 1)) % 2 = 1 then - (w.2.2 20 s * iL (B j i)) else w.2.2 20 s * iL (B j i)))) (by omega) (by omega) (hL.trans (LG.st (by decide))) (fun T hT => by
        obtain ⟨q1, q2, q3⟩ := hD T hT
        by_cases e : T = s + 2 ^ j
        · have hp2 := Nat.two_pow_pos j
          have hs64 : s < 64 := by omega
          obtain ⟨r1, -, -⟩ := hD s (by omega)
          subst e
          refine ⟨fun z => by omega, fun _ => ?_, fun z => by omega⟩
          rw [stL_s, q2 (by omega), acc_j hs64 (by omega) hh', r1 (by omega), hb, ← iL_add]
          congr 1
          unfold sgn6
          rw [u5]
          by_cases e3 : bit7 (s / 2 ^ (j + 1)) % 2 = 1
          · rw [if_pos e3, if_pos e3, iL_mul, iL_neg]
            congr 1
            grind
          · rw [if_neg e3, if_neg e3, iL_mul]
            congr 1
            grind
        · rw [stL_n e]
          exact ⟨q1, fun z => by rw [acc_ne (by omega) e]; exact q2 z, q3⟩)
      refine ⟨w', fun self => ?_, h2, h3⟩
      have h1s := h1 self
      rw [fx_s]
      generalize fx _ _ f = sf at h1s ⊢
      unfold bM_determinant_L72
      rw [hL.2.1, y22, if_neg hjn, t1, zero, if_neg (show ¬ nI 0 = (1 : Int32) by decide), inb_nI hs (by decide), clN (show s < 1073741824 by omega), rd_t, t2 hh', inb_nI u1 (by decide), clN (show s + 2 ^ j < 1073741824 by omega)]
      rw [jn_arg (z := iL (B j i)) (fun J => by
        by_cases e : nI j = a1
        · rw [if_pos e, inb_nI (show i < 7 by omega) (by decide), clN (show i < 1073741824 by omega), rd_t, hL.2.2 19 (by decide), (hV j (by omega)).1 e]
        · rw [if_neg e, ixM, inb_nI (show 7 * i + j < 49 by omega) (by decide), clN (show 7 * i + j < 1073741824 by omega), rd_t, hL.2.2 18 (by decide), (hV j (by omega)).2 e])]
      simp only [nm_d]
      rw [rd_t, t3, bits_v x1, bd_s]
      rw [jn_arg (z := if bit7 (s / 2 ^ (j + 1)) % 2 = 1 then - (w.2.2 20 s * iL (B j i)) else w.2.2 20 s * iL (B j i)) (fun J => by
        rw [irm_v x2]
        by_cases e : bit7 (s / 2 ^ (j + 1)) % 2 = 1
        · rw [if_pos e, e, if_pos (show nI 1 = (1 : Int32) from rfl)]
        · rw [if_neg e, if_neg (show ¬ nI (bit7 (s / 2 ^ (j + 1)) % 2) = (1 : Int32) from fun z => e ((nIeq (b := 1) (by omega) (by decide)).mp z))])]
      rw [rd_t, nI_1]
      exact h1s
theorem detS {w0 : Wd} {n i : Nat} {a1 : Int32} {B : Nat → Nat → Int} (hn : n ≤ 6) (hi : i < n) (y22 : w0.2.1 90 22 = nI n) (hV : ∀ j, j < n → (nI j = a1 → w0.2.2 19 i = iL (B j i)) ∧ (¬ nI j = a1 → w0.2.2 18 (7 * i + j) = iL (B j i))) : ∀ (k fuel : Nat) (w : Wd), k ≤ 128 → k < fuel → LG [20] w0 w → DI w n B i (cK k) → ∃ w', (∀ self, fx (fun _ _ => none) (bM_determinant_L43 a1 (nI i) self) fuel (nI k + (-1)) w = self (nI (i + 1)) w') ∧ LG [20] w0 w' ∧ DI w' n B i (cK 0) := by
  obtain ⟨-, -, n64, -⟩ := set_nv hn
  intro k
  induction k with
  | zero =>
    intro fuel w hk hf hL hD
    obtain ⟨f, rfl⟩ : ∃ f, fuel = f + 1 := ⟨fuel - 1, by omega⟩
    refine ⟨w, fun self => ?_, hL, hD⟩
    rw [fx_s]
    unfold bM_determinant_L43
    rw [if_pos (show nI 0 + (-1) < 0 by decide), nm_d, nI_1]
  | succ s ih =>
    intro fuel w hk hf hL hD
    obtain ⟨f, rfl⟩ : ∃ f, fuel = f + 1 := ⟨fuel - 1, by omega⟩
    have hs : s < 128 := by omega
    rw [pk_m1]
    have hbl : bit7 s < 1000 := by unfold bit7; omega
    by_cases hb : bit7 s = i
    · by_cases hz : w.2.2 20 s = 0
      · obtain ⟨w', h1, h2, h3⟩ := ih f w (by omega) (by omega) hL (fun T hT => by
          obtain ⟨q1, q2, q3⟩ := hD T hT
          refine ⟨q1, fun e => ?_, q3⟩
          rw [q2 e, ← acc_end (s := s) hn hT, ← acc_beg]
          by_cases hs2 : s < 2 ^ n
          · exact (acc_0 (by omega) (fun _ => by rw [← hz, (hD s hs2).1 (by omega), hb]) n hn).symm
          · have : ∀ j, j ≤ n → acc B i (cL s j) T = acc B i (cL s 0) T := by
              intro j
              induction j with
              | zero => intro _; rfl
              | succ j ihj => intro hj; have hp2 := Nat.two_pow_pos j; rw [acc_ne (by omega) (by omega)]; exact ihj (by omega)
            rw [this n (Nat.le_refl n)])
        refine ⟨w', fun self => ?_, h2, h3⟩
        have h1s := h1 self
        rw [fx_s]
        generalize fx _ _ f = sf at h1s ⊢
        unfold bM_determinant_L43
        rw [if_neg (nI_pos (by omega)), bits_v hs, bd_s, if_pos (by rw [hb]), inb_nI hs (by decide), clN (show s < 1073741824 by omega), rd_t, if_pos hz, nm_d]
        exact h1s
      · obtain ⟨w1, c1, c2, c3⟩ := detC hn hi hs hb y22 hV n 0 FU w (by omega) (by rw [FU_v]; omega) hL (fun T hT => by
          obtain ⟨q1, q2, q3⟩ := hD T hT
          exact ⟨q1, fun e => by rw [q2 e, acc_beg], q3⟩)
        obtain ⟨w', h1, h2, h3⟩ := ih f w1 (by omega) (by omega) c2 (fun T hT => by
          obtain ⟨q1, q2, q3⟩ := c3 T hT
          exact ⟨q1, fun e => by rw [q2 e, acc_end hn hT], q3⟩)
        refine ⟨w', fun self => ?_, h2, h3⟩
        have h1s := h1 self
        rw [fx_s]
        generalize fx _ _ f = sf at h1s ⊢
        unfold bM_determinant_L43
        rw [if_neg (nI_pos (by omega)), bits_v hs, bd_s, if_pos (by rw [hb]), inb_nI hs (by decide), clN (show s < 1073741824 by omega), rd_t, if_neg hz, nm_d, eM_determinant_L72]
        exact (c1 sf).trans h1s
    · obtain ⟨w', h1, h2, h3⟩ := ih f w (by omega) (by omega) hL (fun T hT => by
        obtain ⟨q1, q2, q3⟩ := hD T hT
        refine ⟨q1, fun e => ?_, q3⟩
        rw [q2 e]
        congr 1
        refine acc_c (fun l hl h2 => ?_)
        obtain ⟨-, y2, -⟩ := set_y (show T < 64 by omega) hl h2
        unfold cK
        apply decide_eq_decide.mpr
        have : del6 T l ≠ s := fun z => hb (by rw [z] at y2; omega)
        omega)
      refine ⟨w', fun self => ?_, h2, h3⟩
      have h1s := h1 self
      rw [fx_s]
      generalize fx _ _ f = sf at h1s ⊢
      unfold bM_determinant_L43
      rw [if_neg (nI_pos (by omega)), bits_v hs, bd_s, if_neg (fun z => hb ((nIeq (by omega) (by omega)).mp z)), nm_d]
      exact h1s
theorem detR {w0 : Wd} {n : Nat} {a1 : Int32} {B : Nat → Nat → Int} (hn : n ≤ 6) (y22 : w0.2.1 90 22 = nI n) (hV : ∀ i, i < n → ∀ j, j < n → (nI j = a1 → w0.2.2 19 i = iL (B j i)) ∧ (¬ nI j = a1 → w0.2.2 18 (7 * i + j) = iL (B j i))) : ∀ (m i fuel : Nat) (w : Wd), i + m = n → m < fuel → LG [20] w0 w → DI w n B i (cK 128) → ∃ w', (∀ J, fx (fun _ _ => none) (bM_determinant_L32 a1 J) fuel (nI i) w = J w') ∧ LG [20] w0 w' ∧ DI w' n B n (cK 128) := by
  obtain ⟨-, -, n64, -⟩ := set_nv hn
  intro m
  induction m with
  | zero =>
    intro i fuel w hi hf hL hD
    obtain ⟨f, rfl⟩ : ∃ f, fuel = f + 1 := ⟨fuel - 1, by omega⟩
    obtain rfl : i = n := by omega
    refine ⟨w, fun J => ?_, hL, hD⟩
    rw [fx_s]
    unfold bM_determinant_L32
    rw [hL.2.1, y22, if_pos (Int32.le_refl _)]
  | succ m ih =>
    intro i fuel w hi hf hL hD
    obtain ⟨f, rfl⟩ : ∃ f, fuel = f + 1 := ⟨fuel - 1, by omega⟩
    obtain ⟨w1, c1, c2, c3⟩ := detS hn (show i < n by omega) y22 (hV i (by omega)) 128 FU w (Nat.le_refl _) (by rw [FU_v]; omega) hL hD
    obtain ⟨w', h1, h2, h3⟩ := ih (i + 1) f w1 (by omega) (by omega) c2 (fun T hT => by
      obtain ⟨q1, q2, q3⟩ := c3 T hT
      refine ⟨fun e => ?_, fun e => ?_, fun e => q3 (by omega)⟩
      · by_cases e2 : bit7 T = i + 1
        · rw [q2 e2, e2]
          congr 1
          unfold acc
          rw [show mU B (i + 1) T = dS (fun j => if has6 T j = true then sgn6 T j * B j i * mU B i (del6 T j) else 0) 6 from rfl]
          refine dS_c (fun l _ => ?_)
          have : cK 0 (del6 T l) l = true := decide_eq_true (Nat.zero_le _)
          by_cases e3 : has6 T l = true
          · rw [if_pos ⟨e3, this⟩, if_pos e3]
          · rw [if_neg (fun z => e3 z.1), if_neg e3]
        · exact q1 (by omega)
      · rw [q3 (by omega), iL_0]
        congr 1
        refine (dS_0 (fun l hl => ?_)).symm
        rw [if_neg (fun z => ?_)]
        have h64 : T < 64 := by omega
        have := (dl_f h64 hl z.1).1
        have q := of_decide_eq_true z.2
        omega)
    refine ⟨w', fun J => ?_, h2, h3⟩
    have h1s := h1 J
    rw [fx_s]
    generalize fx _ _ f = sf at h1s ⊢
    unfold bM_determinant_L32
    rw [hL.2.1, y22, if_neg (fun z => absurd ((nIle (by omega) (by omega)).mp z) (by omega)), nm_d, eM_determinant_L43, show (127 : Int32) = nI 128 + (-1) from by decide]
    exact (c1 sf).trans h1s
theorem detI : ∀ (m k fuel : Nat) (w : Wd), k + m = 128 → m < fuel → (∀ j, j < k → w.2.2 20 j = if j = 0 then 1 else 0) → ∃ w', (∀ J, fx (fun _ _ => none) (bM_determinant_L2 J) fuel (nI k) w = J w') ∧ LG [20] w w' ∧ ∀ j, j < 128 → w'.2.2 20 j = if j = 0 then 1 else 0 := by
  intro m
  induction m with
  | zero =>
    intro k fuel w hk hf hv
    obtain ⟨f, rfl⟩ : ∃ f, fuel = f + 1 := ⟨fuel - 1, by omega⟩
    obtain rfl : k = 128 := by omega
    refine ⟨w, fun J => ?_, LG.rfl, hv⟩
    rw [fx_s]
    unfold bM_determinant_L2
    exact if_pos (Int32.le_refl _)
  | succ m ih =>
    intro k fuel w hk hf hv
    obtain ⟨f, rfl⟩ : ∃ f, fuel = f + 1 := ⟨fuel - 1, by omega⟩
    obtain ⟨w', h1, h2, h3⟩ := ih (k + 1) f (stL w 20 k (if k = 0 then 1 else 0)) (by omega) (by omega) (fun j hj => by
      by_cases h : j = k
      · rw [h, stL_s]
      · rw [stL_n h]; exact hv j (by omega))
    refine ⟨w', fun J => ?_, (LG.st (by decide)).trans h2, h3⟩
    have h1s := h1 J
    rw [fx_s]
    generalize fx _ _ f = s1 at h1s ⊢
    unfold bM_determinant_L2
    rw [show (128 : Int32) = nI 128 from rfl, if_neg (fun z => absurd ((nIle (by decide) (by omega)).mp z) (by omega))]
    rw [jn_arg (z := if k = 0 then (1 : Int64) else 0) (fun J => by
      by_cases e : k = 0
      · rw [if_pos e, if_pos (by rw [e]; rfl)]
      · rw [if_neg e, if_neg (nI_ne0 (by omega) (by omega))])]
    rw [inb_nI (show k < 128 by omega) (by decide), clN (show k < 1073741824 by omega), rd_t, nm_d, nI_1]
    exact h1s
theorem det_v {w : Wd} {n : Nat} {a1 : Int32} {B : Nat → Nat → Int} (hn : n ≤ 6) (y22 : w.2.1 90 22 = nI n) (hV : ∀ i, i < n → ∀ j, j < n → (nI j = a1 → w.2.2 19 i = iL (B j i)) ∧ (¬ nI j = a1 → w.2.2 18 (7 * i + j) = iL (B j i))) : ∃ w', sM_determinant w a1 = some (iL (mD n B), w') ∧ LG [20] w w' := by
  obtain ⟨b1', b2, n64, -⟩ := set_nv hn
  obtain ⟨w1, i1, i2, i3⟩ := detI 128 0 FU w (by omega) (by rw [FU_v]; omega) (fun j hj => absurd hj (by omega))
  obtain ⟨w2, r1, r2, r3⟩ := detR hn y22 hV n 0 FU w1 (by omega) (by rw [FU_v]; omega) i2 (fun T hT => by
    rw [i3 T (by omega)]
    refine ⟨fun e => ?_, fun e => ?_, fun e => ?_⟩
    · have := bit_0 (show T < 64 by omega) (by omega)
      subst this
      rw [if_pos rfl]
      rfl
    · have ne : T ≠ 0 := fun z => by rw [z] at e; exact absurd e (by decide)
      rw [if_neg ne, iL_0]
      congr 1
      refine (dS_0 (fun l hl => ?_)).symm
      rw [if_neg (fun z => ?_)]
      have h64 : T < 64 := by omega
      have := (dl_f h64 hl z.1).1
      have q := of_decide_eq_true z.2
      omega
    · rw [if_neg (fun z => by rw [z] at e; exact absurd e (by decide))])
  refine ⟨w2, ?_, r2⟩
  unfold sM_determinant
  rw [nm_d, jn_d, eM_determinant_L2]
  refine (i1 _).trans ?_
  rw [nm_d, jn_d, eM_determinant_L32]
  refine (r1 _).trans ?_
  have hp := Nat.two_pow_pos n
  rw [r2.2.1, y22, b2, inb_nI (show 2 ^ n - 1 < 128 by omega) (by decide), clN (show 2 ^ n - 1 < 1073741824 by omega), rd_t, (r3 (2 ^ n - 1) (by omega)).1 (by omega), b1']
  rfl
