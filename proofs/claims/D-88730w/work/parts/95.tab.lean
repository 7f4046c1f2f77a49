set_option maxRecDepth 100000
/-- only long rows of S may have changed -/
def LG (S : List Nat) (w w' : Wd) : Prop := w'.1 = w.1 ∧ w'.2.1 = w.2.1 ∧ ∀ b, b ∉ S → w'.2.2 b = w.2.2 b
theorem LG.rfl {S : List Nat} {w : Wd} : LG S w w := ⟨Eq.refl _, Eq.refl _, fun _ _ => Eq.refl _⟩
theorem LG.trans {S : List Nat} {w w' w'' : Wd} (h : LG S w w') (k : LG S w' w'') : LG S w w'' := ⟨k.1.trans h.1, k.2.1.trans h.2.1, fun b hb => (k.2.2 b hb).trans (h.2.2 b hb)⟩
theorem LG.mono {S S' : List Nat} {w w' : Wd} (h : LG S w w') (hS : ∀ r, r ∈ S → r ∈ S') : LG S' w w' := ⟨h.1, h.2.1, fun b hb => h.2.2 b (fun z => hb (hS b z))⟩
theorem stL_eq {w : Wd} {a j : Nat} {x : Int64} : (stL w a j x).2.2 a = vp_updL (w.2.2 a) j x := by unfold stL; simp only [if_true]
theorem stL_ne {w : Wd} {a b j : Nat} {x : Int64} (h : b ≠ a) : (stL w a j x).2.2 b = w.2.2 b := by unfold stL; simp only [if_neg h]
theorem stL_s {w : Wd} {a j : Nat} {x : Int64} : (stL w a j x).2.2 a j = x := by rw [stL_eq, pk_uLs]
theorem stL_n {w : Wd} {a j k : Nat} {x : Int64} (h : k ≠ j) : (stL w a j x).2.2 a k = w.2.2 a k := by rw [stL_eq, pk_uLn h]
theorem stL_1 {w : Wd} {a j : Nat} {x : Int64} : (stL w a j x).2.1 = w.2.1 := rfl
theorem LG.st {S : List Nat} {w : Wd} {a j : Nat} {x : Int64} (h : a ∈ S) : LG S w (stL w a j x) := ⟨Eq.refl _, Eq.refl _, fun b hb => stL_ne (fun z => hb (z ▸ h))⟩
abbrev iL (z : Int) : Int64 := Int64.ofInt z
theorem iL_add (a b : Int) : iL a + iL b = iL (a + b) := (Int64.ofInt_add a b).symm
theorem iL_sub (a b : Int) : iL a - iL b = iL (a - b) := (Int64.ofInt_sub a b).symm
theorem iL_mul (a b : Int) : iL a * iL b = iL (a * b) := (Int64.ofInt_mul a b).symm
theorem iL_neg (a : Int) : - iL a = iL (-a) := (Int64.ofInt_neg a).symm
theorem iL_32 (x : Int32) : x.toInt64 = iL x.toInt := (Int64.ofInt_int32ToInt x).symm
theorem iL_0 : (0 : Int64) = iL 0 := by decide
theorem iL_1 : (1 : Int64) = iL 1 := by decide
theorem neg32 {x : Int32} (h1 : -999 ≤ x.toInt) (h2 : x.toInt ≤ 999) : (-x).toInt = - x.toInt := by
  rw [Int32.toInt_neg]
  apply Int.bmod_eq_of_le
  · omega
  · omega
theorem zer_X : ∀ (m k fuel : Nat) (w : Wd), k + m = 272 → m < fuel → (∀ j, j < k → w.2.2 11 j = 0) → ∃ w', (∀ J, fx (fun _ _ => none) (bX_layOut_L68 J) fuel (nI k) w = J w') ∧ LG [11] w w' ∧ ∀ j, j < 272 → w'.2.2 11 j = 0 := by
  intro m
  induction m with
  | zero =>
    intro k fuel w hk hf hv
    obtain ⟨f, rfl⟩ : ∃ f, fuel = f + 1 := ⟨fuel - 1, by omega⟩
    obtain rfl : k = 272 := by omega
    refine ⟨w, fun J => ?_, LG.rfl, hv⟩
    rw [fx_s]
    unfold bX_layOut_L68
    exact if_pos (Int32.le_refl _)
  | succ m ih =>
    intro k fuel w hk hf hv
    obtain ⟨f, rfl⟩ : ∃ f, fuel = f + 1 := ⟨fuel - 1, by omega⟩
    obtain ⟨w', h1, h2, h3⟩ := ih (k + 1) f (stL w 11 k 0) (by omega) (by omega) (fun j hj => by
      by_cases h : j = k
      · rw [h, stL_s]
      · rw [stL_n h]; exact hv j (by omega))
    refine ⟨w', fun J => ?_, (LG.st (by decide)).trans h2, h3⟩
    have h1s := h1 J
    rw [fx_s]
    generalize fx _ _ f = s1 at h1s ⊢
    unfold bX_layOut_L68
    rw [show (272 : Int32) = nI 272 from rfl, if_neg (fun z => absurd ((nIle (by decide) (by omega)).mp z) (by omega)), inb_nI (show k < 272 by omega) (by decide), clN (show k < 1073741824 by omega), rd_t, nm_d, nI_1]
    exact h1s
theorem zer_T : ∀ (m k fuel : Nat) (w : Wd), k + m = 49 → m < fuel → (∀ j, j < k → w.2.2 18 j = 0) → ∃ w', (∀ J, fx (fun _ _ => none) (bM_solves_L90 J) fuel (nI k) w = J w') ∧ LG [18] w w' ∧ ∀ j, j < 49 → w'.2.2 18 j = 0 := by
  intro m
  induction m with
  | zero =>
    intro k fuel w hk hf hv
    obtain ⟨f, rfl⟩ : ∃ f, fuel = f + 1 := ⟨fuel - 1, by omega⟩
    obtain rfl : k = 49 := by omega
    refine ⟨w, fun J => ?_, LG.rfl, hv⟩
    rw [fx_s]
    unfold bM_solves_L90
    exact if_pos (Int32.le_refl _)
  | succ m ih =>
    intro k fuel w hk hf hv
    obtain ⟨f, rfl⟩ : ∃ f, fuel = f + 1 := ⟨fuel - 1, by omega⟩
    obtain ⟨w', h1, h2, h3⟩ := ih (k + 1) f (stL w 18 k 0) (by omega) (by omega) (fun j hj => by
      by_cases h : j = k
      · rw [h, stL_s]
      · rw [stL_n h]; exact hv j (by omega))
    refine ⟨w', fun J => ?_, (LG.st (by decide)).trans h2, h3⟩
    have h1s := h1 J
    rw [fx_s]
    generalize fx _ _ f = s1 at h1s ⊢
    unfold bM_solves_L90
    rw [show (49 : Int32) = nI 49 from rfl, if_neg (fun z => absurd ((nIle (by decide) (by omega)).mp z) (by omega)), inb_nI (show k < 49 by omega) (by decide), clN (show k < 1073741824 by omega), rd_t, nm_d, nI_1]
    exact h1s
theorem zer_R : ∀ (m k fuel : Nat) (w : Wd), k + m = 7 → m < fuel → (∀ j, j < k → w.2.2 19 j = 0) → ∃ w', (∀ J, fx (fun _ _ => none) (bM_solves_L111 J) fuel (nI k) w = J w') ∧ LG [19] w w' ∧ ∀ j, j < 7 → w'.2.2 19 j = 0 := by
  intro m
  induction m with
  | zero =>
    intro k fuel w hk hf hv
    obtain ⟨f, rfl⟩ : ∃ f, fuel = f + 1 := ⟨fuel - 1, by omega⟩
    obtain rfl : k = 7 := by omega
    refine ⟨w, fun J => ?_, LG.rfl, hv⟩
    rw [fx_s]
    unfold bM_solves_L111
    exact if_pos (Int32.le_refl _)
  | succ m ih =>
    intro k fuel w hk hf hv
    obtain ⟨f, rfl⟩ : ∃ f, fuel = f + 1 := ⟨fuel - 1, by omega⟩
    obtain ⟨w', h1, h2, h3⟩ := ih (k + 1) f (stL w 19 k 0) (by omega) (by omega) (fun j hj => by
      by_cases h : j = k
      · rw [h, stL_s]
      · rw [stL_n h]; exact hv j (by omega))
    refine ⟨w', fun J => ?_, (LG.st (by decide)).trans h2, h3⟩
    have h1s := h1 J
    rw [fx_s]
    generalize fx _ _ f = s1 at h1s ⊢
    unfold bM_solves_L111
    rw [show (7 : Int32) = nI 7 from rfl, if_neg (fun z => absurd ((nIle (by decide) (by omega)).mp z) (by omega)), inb_nI (show k < 7 by omega) (by decide), clN (show k < 1073741824 by omega), rd_t, nm_d, nI_1]
    exact h1s
/-- 1 at the place i -/
def dD (i : Int32) (t : Nat) : Int := if i = nI t then 1 else 0
theorem dD_m {t : Nat} (h : t < 1073741824) : dD (-1) t = 0 := by
  unfold dD
  rw [if_neg (fun z => ?_)]
  have : (-1 : Int32).toInt = (nI t).toInt := by rw [z]
  rw [nTi (by omega), show (-1 : Int32).toInt = -1 from rfl] at this
  omega
theorem dD_n {a t : Nat} (ha : a < 1073741824) (h : t < 1073741824) : dD (nI a) t = if a = t then 1 else 0 := by
  unfold dD
  by_cases e : a = t
  · rw [if_pos e, if_pos (by rw [e])]
  · rw [if_neg e, if_neg (fun z => e ((nIeq ha h).mp z))]
def MX (w : Wd) (n : Nat) (B : Nat → Nat → Int) : Prop := ∀ r, r < n → ∀ c, c ≤ n → w.2.2 11 (17 * r + c) = iL (B c r)
def MT (v : Wd) (n : Nat) (B : Nat → Nat → Int) : Prop := (∀ r, r < n → ∀ c, c < n → v.2.2 18 (7 * r + c) = iL (B c r)) ∧ ∀ r, r < n → v.2.2 19 r = iL (B n r)
def dAdd (n : Nat) (B : Nat → Nat → Int) (i j : Int32) (by' : Int) : Nat → Nat → Int := fun c r => B c r + dD i r * (if c < n then dD i c - dD j c else by')
theorem ixX (a c : Nat) : (17 : Int32) * nI a + nI c = nI (17 * a + c) := by rw [show (17 : Int32) = nI 17 from rfl, pk_mul, nI_add]
theorem ixM (a c : Nat) : (7 : Int32) * nI a + nI c = nI (7 * a + c) := by rw [show (7 : Int32) = nI 7 from rfl, pk_mul, nI_add]
theorem m1N {a : Nat} (h : a < 1073741824) : ¬ nI a = -1 := fun z => by
  have : (nI a).toInt = (-1 : Int32).toInt := by rw [z]
  rw [nTi (by omega), show (-1 : Int32).toInt = -1 from rfl] at this
  omega
theorem addX {w : Wd} {n : Nat} {B : Nat → Nat → Int} {i j : Int32} (x : Int32) (hn : n ≤ 6) (x12 : w.2.1 90 12 = nI n) (hB : MX w n B) (hi : i = -1 ∨ ∃ a, a < n ∧ i = nI a) (hj : j = -1 ∨ ∃ a, a < n ∧ j = nI a) (hij : i = -1 ∨ i ≠ j) : ∃ w', sX_add w i j x = some w' ∧ LG [11] w w' ∧ MX w' n (dAdd n B i j x.toInt) := by
  unfold sX_add sX_at
  rcases hi with rfl | ⟨a, ha, rfl⟩
  · rw [if_pos rfl]
    refine ⟨w, rfl, LG.rfl, fun r hr c hc => ?_⟩
    unfold dAdd
    rw [dD_m (by omega), Int.zero_mul, Int.add_zero]
    exact hB r hr c hc
  rw [if_neg (m1N (by omega)), bd_s, ixX, inb_nI (show 17 * a + a < 272 by omega) (by decide), clN (show 17 * a + a < 1073741824 by omega), rd_t, rd_t, jn_d]
  have hij' : ¬ nI a = j := fun z => hij.elim (m1N (by omega)) (fun q => q z)
  rcases hj with rfl | ⟨b, hb, rfl⟩
  · rw [if_pos rfl]
    simp only [stL_1, bd_s, x12]
    rw [ixX, inb_nI (show 17 * a + n < 272 by omega) (by decide), clN (show 17 * a + n < 1073741824 by omega), rd_t, rd_t]
    refine ⟨_, rfl, (LG.st (by decide)).trans (LG.st (by decide)), fun r hr c hc => ?_⟩
    unfold dAdd
    rw [dD_n (by omega) (by omega)]
    by_cases e : a = r
    · subst e
      rw [if_pos rfl, Int.one_mul]
      by_cases ec : c = n
      · subst ec
        rw [stL_s, stL_n (by omega), if_neg (Nat.lt_irrefl c), hB a hr c hc, iL_32, iL_add]
      · rw [stL_n (by omega), if_pos (by omega), dD_n (by omega) (by omega), dD_m (by omega)]
        by_cases e2 : a = c
        · subst e2
          rw [stL_s, if_pos rfl, hB a hr a hc, iL_1, iL_add]; rfl
        · rw [stL_n (by omega), if_neg e2, hB a hr c hc]
          rw [show (0 : Int) - 0 = 0 from rfl, Int.add_zero]
    · rw [if_neg e, Int.zero_mul, Int.add_zero, stL_n (by omega), stL_n (by omega)]
      exact hB r hr c hc
  · have hab : a ≠ b := fun z => hij' (by rw [z])
    rw [if_neg (m1N (by omega))]
    simp only [bd_s]
    rw [ixX, inb_nI (show 17 * a + b < 272 by omega) (by decide), clN (show 17 * a + b < 1073741824 by omega), rd_t, rd_t]
    simp only [stL_1, x12]
    rw [ixX, inb_nI (show 17 * a + n < 272 by omega) (by decide), clN (show 17 * a + n < 1073741824 by omega), rd_t, rd_t]
    refine ⟨_, rfl, ((LG.st (by decide)).trans (LG.st (by decide))).trans (LG.st (by decide)), fun r hr c hc => ?_⟩
    unfold dAdd
    rw [dD_n (by omega) (by omega)]
    by_cases e : a = r
    · subst e
      rw [if_pos rfl, Int.one_mul]
      by_cases ec : c = n
      · subst ec
        rw [stL_s, stL_n (by omega), stL_n (by omega), if_neg (Nat.lt_irrefl c), hB a hr c hc, iL_32, iL_add]
      · rw [stL_n (by omega), if_pos (by omega), dD_n (by omega) (by omega), dD_n (by omega) (by omega)]
        by_cases e2 : a = c
        · subst e2
          rw [stL_n (by omega), stL_s, if_pos rfl, if_neg (fun z => hab z.symm), hB a hr a hc, iL_1, iL_add]; rfl
        · by_cases e3 : b = c
          · subst e3
            rw [stL_s, stL_n (by omega), if_neg e2, if_pos rfl, hB a hr b hc, iL_1, iL_sub]; rfl
          · rw [stL_n (by omega), stL_n (by omega), if_neg e2, if_neg e3, hB a hr c hc]
            rw [show (0 : Int) - 0 = 0 from rfl, Int.add_zero]
    · rw [if_neg e, Int.zero_mul, Int.add_zero, stL_n (by omega), stL_n (by omega), stL_n (by omega)]
      exact hB r hr c hc
theorem addM {w : Wd} {n : Nat} {B : Nat → Nat → Int} {i j : Int32} (x : Int32) (hn : n ≤ 6) (hB : MT w n B) (hi : i = -1 ∨ ∃ a, a < n ∧ i = nI a) (hj : j = -1 ∨ ∃ a, a < n ∧ j = nI a) (hij : i = -1 ∨ i ≠ j) : ∃ w', sM_tells w i j x = some w' ∧ LG [18, 19] w w' ∧ MT w' n (dAdd n B i j x.toInt) := by
  unfold sM_tells
  obtain ⟨hB1, hB2⟩ := hB
  rcases hi with rfl | ⟨a, ha, rfl⟩
  · rw [if_neg (by decide)]
    refine ⟨w, rfl, LG.rfl, fun r hr c hc => ?_, fun r hr => ?_⟩
    · unfold dAdd
      rw [dD_m (by omega), Int.zero_mul, Int.add_zero]
      exact hB1 r hr c hc
    · unfold dAdd
      rw [dD_m (by omega), Int.zero_mul, Int.add_zero]
      exact hB2 r hr
  rw [if_pos (show (0 : Int32) ≤ nI a from nI_pos' (by omega)), ixM, inb_nI (show 7 * a + a < 49 by omega) (by decide), clN (show 7 * a + a < 1073741824 by omega), rd_t, rd_t, jn_d]
  have hij' : ¬ nI a = j := fun z => hij.elim (m1N (by omega)) (fun q => q z)
  rcases hj with rfl | ⟨b, hb, rfl⟩
  · rw [if_pos (by decide)]
    simp only []
    rw [inb_nI (show a < 7 by omega) (by decide), clN (show a < 1073741824 by omega), rd_t, rd_t]
    refine ⟨_, rfl, (LG.st (by decide)).trans (LG.st (by decide)), fun r hr c hc => ?_, fun r hr => ?_⟩
    · unfold dAdd
      rw [dD_n (by omega) (by omega), stL_ne (by decide)]
      by_cases e : a = r
      · subst e
        rw [if_pos rfl, Int.one_mul, if_pos hc, dD_n (by omega) (by omega), dD_m (by omega)]
        by_cases e2 : a = c
        · subst e2
          rw [stL_s, if_pos rfl, hB1 a hr a hc, iL_1, iL_add]; rfl
        · rw [stL_n (by omega), if_neg e2, hB1 a hr c hc]
          rw [show (0 : Int) - 0 = 0 from rfl, Int.add_zero]
      · rw [if_neg e, Int.zero_mul, Int.add_zero, stL_n (by omega)]
        exact hB1 r hr c hc
    · unfold dAdd
      rw [dD_n (by omega) (by omega), if_neg (Nat.lt_irrefl n)]
      by_cases e : a = r
      · subst e
        rw [if_pos rfl, Int.one_mul, stL_s, stL_ne (by decide), hB2 a hr, iL_32, iL_add]
      · rw [if_neg e, Int.zero_mul, Int.add_zero, stL_n (by omega), stL_ne (by decide)]
        exact hB2 r hr
  · have hab : a ≠ b := fun z => hij' (by rw [z])
    rw [if_neg (nI_pos (by omega)), ixM, inb_nI (show 7 * a + b < 49 by omega) (by decide), clN (show 7 * a + b < 1073741824 by omega), rd_t, rd_t]
    simp only []
    rw [inb_nI (show a < 7 by omega) (by decide), clN (show a < 1073741824 by omega), rd_t, rd_t]
    refine ⟨_, rfl, ((LG.st (by decide)).trans (LG.st (by decide))).trans (LG.st (by decide)), fun r hr c hc => ?_, fun r hr => ?_⟩
    · unfold dAdd
      rw [dD_n (by omega) (by omega), stL_ne (by decide)]
      by_cases e : a = r
      · subst e
        rw [if_pos rfl, Int.one_mul, if_pos hc, dD_n (by omega) (by omega), dD_n (by omega) (by omega)]
        by_cases e2 : a = c
        · subst e2
          rw [stL_n (by omega), stL_s, if_pos rfl, if_neg (fun z => hab z.symm), hB1 a hr a hc, iL_1, iL_add]; rfl
        · by_cases e3 : b = c
          · subst e3
            rw [stL_s, stL_n (by omega), if_neg e2, if_pos rfl, hB1 a hr b hc, iL_1, iL_sub]; rfl
          · rw [stL_n (by omega), stL_n (by omega), if_neg e2, if_neg e3, hB1 a hr c hc]
            rw [show (0 : Int) - 0 = 0 from rfl, Int.add_zero]
      · rw [if_neg e, Int.zero_mul, Int.add_zero, stL_n (by omega), stL_n (by omega)]
        exact hB1 r hr c hc
    · unfold dAdd
      rw [dD_n (by omega) (by omega), if_neg (Nat.lt_irrefl n)]
      by_cases e : a = r
      · subst e
        rw [if_pos rfl, Int.one_mul, stL_s, stL_ne (by decide), stL_ne (by decide), hB2 a hr, iL_32, iL_add]
      · rw [if_neg e, Int.zero_mul, Int.add_zero, stL_n (by omega), stL_ne (by decide), stL_ne (by decide)]
        exact hB2 r hr
