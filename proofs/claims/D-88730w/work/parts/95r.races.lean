set_option maxRecDepth 100000
theorem pl_c {P : Nat → Nat} {g x nO : Nat} (hx : x < nO) : pl P g x = -1 ∨ ∃ a, a < cn P g nO ∧ pl P g x = nI a := by
  unfold pl
  by_cases h : P x = g ∧ x ≠ g
  · rw [if_pos h]; exact Or.inr ⟨_, cn_lt P g hx h, rfl⟩
  · rw [if_neg h]; exact Or.inl rfl
theorem pl_d {P : Nat → Nat} {g x y : Nat} (hx : x < 16) (hy : y < 16) (hn : x ≠ y) : pl P g x = -1 ∨ pl P g x ≠ pl P g y := by
  unfold pl
  have hlx := cn_le P g x
  have hly := cn_le P g y
  by_cases h : P x = g ∧ x ≠ g
  · rw [if_pos h]
    right
    by_cases h2 : P y = g ∧ y ≠ g
    · rw [if_pos h2]
      exact fun z => hn (cn_inj P g h h2 ((nIeq (by omega) (by omega)).mp z))
    · rw [if_neg h2]; exact m1N (by omega)
  · rw [if_neg h]; exact Or.inl rfl
def eR (P : Nat → Nat) (g : Nat) (X Y : Nat → Nat) : Nat → Nat → Int := fun q t => dD (pl P g (X q)) t - dD (pl P g (Y q)) t
theorem mA_s {n q c r : Nat} {e : Nat → Nat → Int} {b : Nat → Int} : mA n (q + 1) e b c r = mA n q e b c r + (if c < n then e q r * e q c else e q r * b q) := by
  unfold mA
  by_cases h : c < n
  · rw [if_pos h, if_pos h, if_pos h]; rfl
  · rw [if_neg h, if_neg h, if_neg h]; rfl
theorem mA_step {n q c r g : Nat} {P X Y : Nat → Nat} {b : Nat → Int} : dAdd n (dAdd n (mA n q (eR P g X Y) b) (pl P g (X q)) (pl P g (Y q)) (b q)) (pl P g (Y q)) (pl P g (X q)) (-b q) c r = mA n (q + 1) (eR P g X Y) b c r := by
  rw [mA_s]
  unfold dAdd eR
  by_cases h : c < n
  · rw [if_pos h, if_pos h, if_pos h]; grind
  · rw [if_neg h, if_neg h, if_neg h]; grind
theorem mA_out {n q c r g : Nat} {P X Y : Nat → Nat} {b : Nat → Int} (hr : r < 1073741824) (h1 : P (X q) ≠ g) (h2 : P (Y q) ≠ g) : mA n (q + 1) (eR P g X Y) b c r = mA n q (eR P g X Y) b c r := by
  rw [mA_s]
  have : eR P g X Y q r = 0 := by
    unfold eR pl
    rw [if_neg (fun z => h1 z.1), if_neg (fun z => h2 z.1)]
    omega
  rw [this]
  by_cases h : c < n
  · rw [if_pos h, Int.zero_mul, Int.add_zero]
  · rw [if_neg h, Int.zero_mul, Int.add_zero]
theorem racesX {w0 : Wd} {nO nC g : Nat} {P X Y : Nat → Nat} {by' : Nat → Int32} (bO : nO ≤ 16) (bC : nC ≤ 40) (hg : g < nO) (h6 : cn P g nO ≤ 6) (xC : w0.2.1 90 10 = nI nC) (x12 : w0.2.1 90 12 = nI (cn P g nO)) (hP : ∀ o, P o ≤ o) (p8 : ∀ o, o < nO → w0.2.1 8 o = nI (P o)) (p9 : ∀ o, o < nO → w0.2.1 9 o = pl P g o) (hr' : ∀ q, q < nC → X q < nO ∧ Y q < nO ∧ X q ≠ Y q ∧ w0.2.1 5 q = nI (X q) ∧ w0.2.1 6 q = nI (Y q) ∧ w0.2.1 7 q = by' q ∧ P (X q) = P (Y q)) (hb : ∀ q, q < nC → -999 ≤ (by' q).toInt ∧ (by' q).toInt ≤ 999) : ∀ (m q fuel : Nat) (w : Wd), q + m = nC → m < fuel → LG [11] w0 w → MX w (cn P g nO) (mA (cn P g nO) q (eR P g X Y) (fun q => (by' q).toInt)) → ∃ w', (fx (fun _ _ => none) (bX_layOut_L92 (nI g)) fuel (nI q) w = some w') ∧ LG [11] w0 w' ∧ MX w' (cn P g nO) (mA (cn P g nO) nC (eR P g X Y) (fun q => (by' q).toInt)) := by
  intro m
  induction m with
  | zero =>
    intro q fuel w hk hf hA hB
    obtain ⟨f, rfl⟩ : ∃ f, fuel = f + 1 := ⟨fuel - 1, by omega⟩
    obtain rfl : q = nC := by omega
    refine ⟨w, ?_, hA, hB⟩
    rw [fx_s]
    unfold bX_layOut_L92
    rw [hA.2.1, xC, if_pos (Int32.le_refl _)]
  | succ m ih =>
    intro q fuel w hk hf hA hB
    obtain ⟨f, rfl⟩ : ∃ f, fuel = f + 1 := ⟨fuel - 1, by omega⟩
    obtain ⟨hx, hy, hxy, e5, e6, e7, hpp⟩ := hr' q (by omega)
    have hPx : P (X q) < 16 := by have := hP (X q); omega
    by_cases hp : P (X q) = g
    · obtain ⟨w1, s1, l1, b1'⟩ := addX (by' q) h6 (by rw [hA.2.1]; exact x12) hB (pl_c hx) (pl_c hy) (pl_d (by omega) (by omega) hxy)
      obtain ⟨w2, s2, l2, b2⟩ := addX (-by' q) h6 (by rw [l1.2.1, hA.2.1]; exact x12) b1' (pl_c hy) (pl_c hx) (pl_d (by omega) (by omega) (Ne.symm hxy))
      rw [neg32 (hb q (by omega)).1 (hb q (by omega)).2] at b2
      obtain ⟨w', h1, h2, h3⟩ := ih (q + 1) f w2 (by omega) (by omega) ((hA.trans l1).trans l2) (fun r hr c hc => by rw [← mA_step]; exact b2 r hr c hc)
      refine ⟨w', ?_, h2, h3⟩
      have h1s := h1 
      rw [fx_s]
      generalize fx _ _ f = sf at h1s ⊢
      unfold bX_layOut_L92
      simp only [hA.2.1]
      rw [xC, if_neg (fun z => absurd ((nIle (by omega) (by omega)).mp z) (by omega)), inb_nI (show q < 40 by omega) (by decide), clN (show q < 1073741824 by omega), rd_t, e5, inb_nI (show X q < 16 by omega) (by decide), clN (show X q < 1073741824 by omega), rd_t, p8 _ hx, if_pos (by rw [hp]), rd_t, inb_nI (show X q < 16 by omega) (by decide), clN (show X q < 1073741824 by omega), rd_t, rd_t, e6, inb_nI (show Y q < 16 by omega) (by decide), clN (show Y q < 1073741824 by omega), rd_t, rd_t, p9 _ hx, p9 _ hy, e7, s1, bd_s]
      simp only [l1.2.1, hA.2.1]
      rw [rd_t, e6, inb_nI (show Y q < 16 by omega) (by decide), clN (show Y q < 1073741824 by omega), rd_t, rd_t, e5, inb_nI (show X q < 16 by omega) (by decide), clN (show X q < 1073741824 by omega), rd_t, rd_t, p9 _ hx, p9 _ hy, e7, s2, bd_s, nm_d, nI_1]
      exact h1s
    · obtain ⟨w', h1, h2, h3⟩ := ih (q + 1) f w (by omega) (by omega) hA (fun r hr c hc => by rw [mA_out (by omega) hp (by rw [← (hr' q (by omega)).2.2.2.2.2.2]; exact hp)]; exact hB r hr c hc)
      refine ⟨w', ?_, h2, h3⟩
      have h1s := h1 
      rw [fx_s]
      generalize fx _ _ f = sf at h1s ⊢
      unfold bX_layOut_L92
      simp only [hA.2.1]
      rw [xC, if_neg (fun z => absurd ((nIle (by omega) (by omega)).mp z) (by omega)), inb_nI (show q < 40 by omega) (by decide), clN (show q < 1073741824 by omega), rd_t, e5, inb_nI (show X q < 16 by omega) (by decide), clN (show X q < 1073741824 by omega), rd_t, p8 _ hx, if_neg (fun z => hp ((nIeq (by omega) (by omega)).mp z)), nm_d, nI_1]
      exact h1s
theorem racesM {w0 : Wd} {nO nC g : Nat} {P X Y : Nat → Nat} {by' : Nat → Int32} (bO : nO ≤ 16) (bC : nC ≤ 40) (hg : g < nO) (h6 : cn P g nO ≤ 6) (xC : w0.2.1 90 16 = nI nC) (hP : ∀ o, P o ≤ o) (p8 : ∀ o, o < nO → w0.2.1 15 o = nI (P o)) (p9 : ∀ o, o < nO → w0.2.1 17 o = pl P g o) (hr' : ∀ q, q < nC → X q < nO ∧ Y q < nO ∧ X q ≠ Y q ∧ w0.2.1 12 q = nI (X q) ∧ w0.2.1 13 q = nI (Y q) ∧ w0.2.1 14 q = by' q ∧ P (X q) = P (Y q)) (hb : ∀ q, q < nC → -999 ≤ (by' q).toInt ∧ (by' q).toInt ≤ 999) : ∀ (m q fuel : Nat) (w : Wd), q + m = nC → m < fuel → LG [18, 19] w0 w → MT w (cn P g nO) (mA (cn P g nO) q (eR P g X Y) (fun q => (by' q).toInt)) → ∃ w', (∀ J, fx (fun _ _ => none) (bM_solves_L132 (nI g) J) fuel (nI q) w = J w') ∧ LG [18, 19] w0 w' ∧ MT w' (cn P g nO) (mA (cn P g nO) nC (eR P g X Y) (fun q => (by' q).toInt)) := by
  intro m
  induction m with
  | zero =>
    intro q fuel w hk hf hA hB
    obtain ⟨f, rfl⟩ : ∃ f, fuel = f + 1 := ⟨fuel - 1, by omega⟩
    obtain rfl : q = nC := by omega
    refine ⟨w, fun J => ?_, hA, hB⟩
    rw [fx_s]
    unfold bM_solves_L132
    rw [hA.2.1, xC, if_pos (Int32.le_refl _)]
  | succ m ih =>
    intro q fuel w hk hf hA hB
    obtain ⟨f, rfl⟩ : ∃ f, fuel = f + 1 := ⟨fuel - 1, by omega⟩
    obtain ⟨hx, hy, hxy, e5, e6, e7, hpp⟩ := hr' q (by omega)
    have hPx : P (X q) < 16 := by have := hP (X q); omega
    by_cases hp : P (X q) = g
    · obtain ⟨w1, s1, l1, b1'⟩ := addM (by' q) h6 hB (pl_c hx) (pl_c hy) (pl_d (by omega) (by omega) hxy)
      obtain ⟨w2, s2, l2, b2⟩ := addM (-by' q) h6 b1' (pl_c hy) (pl_c hx) (pl_d (by omega) (by omega) (Ne.symm hxy))
      rw [neg32 (hb q (by omega)).1 (hb q (by omega)).2] at b2
      obtain ⟨w', h1, h2, h3⟩ := ih (q + 1) f w2 (by omega) (by omega) ((hA.trans l1).trans l2) (⟨fun r hr c hc => by rw [← mA_step]; exact b2.1 r hr c hc, fun r hr => by rw [← mA_step]; exact b2.2 r hr⟩)
      refine ⟨w', fun J => ?_, h2, h3⟩
      have h1s := h1 J
      rw [fx_s]
      generalize fx _ _ f = sf at h1s ⊢
      unfold bM_solves_L132
      simp only [hA.2.1]
      rw [xC, if_neg (fun z => absurd ((nIle (by omega) (by omega)).mp z) (by omega)), inb_nI (show q < 40 by omega) (by decide), clN (show q < 1073741824 by omega), rd_t, e5, inb_nI (show X q < 16 by omega) (by decide), clN (show X q < 1073741824 by omega), rd_t, p8 _ hx, if_pos (by rw [hp]), rd_t, inb_nI (show X q < 16 by omega) (by decide), clN (show X q < 1073741824 by omega), rd_t, rd_t, e6, inb_nI (show Y q < 16 by omega) (by decide), clN (show Y q < 1073741824 by omega), rd_t, rd_t, p9 _ hx, p9 _ hy, e7, s1, bd_s]
      simp only [l1.2.1, hA.2.1]
      rw [rd_t, e6, inb_nI (show Y q < 16 by omega) (by decide), clN (show Y q < 1073741824 by omega), rd_t, rd_t, e5, inb_nI (show X q < 16 by omega) (by decide), clN (show X q < 1073741824 by omega), rd_t, rd_t, p9 _ hx, p9 _ hy, e7, s2, bd_s, nm_d, nI_1]
      exact h1s
    · obtain ⟨w', h1, h2, h3⟩ := ih (q + 1) f w (by omega) (by omega) hA (⟨fun r hr c hc => by rw [mA_out (by omega) hp (by rw [← (hr' q (by omega)).2.2.2.2.2.2]; exact hp)]; exact hB.1 r hr c hc, fun r hr => by rw [mA_out (by omega) hp (by rw [← (hr' q (by omega)).2.2.2.2.2.2]; exact hp)]; exact hB.2 r hr⟩)
      refine ⟨w', fun J => ?_, h2, h3⟩
      have h1s := h1 J
      rw [fx_s]
      generalize fx _ _ f = sf at h1s ⊢
      unfold bM_solves_L132
      simp only [hA.2.1]
      rw [xC, if_neg (fun z => absurd ((nIle (by omega) (by omega)).mp z) (by omega)), inb_nI (show q < 40 by omega) (by decide), clN (show q < 1073741824 by omega), rd_t, e5, inb_nI (show X q < 16 by omega) (by decide), clN (show X q < 1073741824 by omega), rd_t, p8 _ hx, if_neg (fun z => hp ((nIeq (by omega) (by omega)).mp z)), nm_d, nI_1]
      exact h1s
