set_option maxRecDepth 100000
theorem Ag.none {w w' : Wd} {S : List Nat} {j : Nat} (h : Ag S [j] w w') (e : w'.2.1 90 j = w.2.1 90 j) : Ag S [] w w' := ⟨h.1, h.2.1, fun k _ => by
  by_cases hk : k = j
  · rw [hk]; exact e
  · exact h.2.2 k (by simpa using hk)⟩
/-- how long a rack is -/
def lenR (L : Nat → Nat) (R i : Nat) : Nat → Nat → Nat
  | 0, _ => 0
  | k + 1, W => if R.testBit k then (if W % 3 = i then L k else 0) + lenR L R i k (W / 3) else lenR L R i k W
theorem lenR_b (L : Nat → Nat) (R i : Nat) (hL : ∀ b, L b ≤ 99) : ∀ k W, lenR L R i k W ≤ 99 * k := by
  intro k
  induction k with
  | zero => intro W; exact Nat.le_refl _
  | succ k ih =>
    intro W
    unfold lenR
    have h1 := ih (W / 3)
    have h2 := ih W
    have h3 := hL k
    split
    · split <;> omega
    · omega
theorem lenR_hi (L : Nat → Nat) (R i n : Nat) (hR : R < 2 ^ n) : ∀ m W, lenR L R i (n + m) W = lenR L R i n W := by
  intro m
  induction m with
  | zero => intro W; rfl
  | succ m ih =>
    intro W
    rw [← Nat.add_assoc]
    conv => lhs; unfold lenR
    rw [if_neg, ih]
    have : R.testBit (n + m) = false := Nat.testBit_lt_two_pow (Nat.lt_of_lt_of_le hR (Nat.pow_le_pow_right (by decide) (by omega)))
    rw [this]; decide
theorem mod3 {w : Wd} (r : Nat) {W : Nat} (hW : W < 6561) : inb (irm (nI W) 3) 3 = true ∧ (irm (nI W) 3).toNatClampNeg = W % 3 := by
  rw [irm3 (by omega)]
  exact ⟨inb_nI (by omega) (by decide), clN (by omega)⟩
theorem bitz {R k : Nat} (hR : R < 1073741824) (hk : k < 32) : ((nI R >>> (nI k &&& 31)) &&& 1 = (0 : Int32)) ↔ ¬ R.testBit k = true := by
  rw [bit_v hR hk]
  by_cases h : R.testBit k = true
  · rw [if_pos h]; simp [h]
  · rw [if_neg h]; simp [h]
theorem bito {R k : Nat} (hR : R < 1073741824) (hk : k < 32) : ((nI R >>> (nI k &&& 31)) &&& 1 = (1 : Int32)) ↔ R.testBit k = true := by
  rw [bit_v hR hk]
  by_cases h : R.testBit k = true
  · rw [if_pos h]; simp [h]
  · rw [if_neg h]; simp [h]
theorem racksX {w0 : Wd} {L : Nat → Nat} {R nB : Nat} (hR : R < 256) (bB : nB ≤ 8) (k0 : w0.1 0 = nB) (k3 : w0.1 3 = nB) (hL : ∀ b, b < nB → w0.2.1 (100 + 10 * b) 3 = nI (L b)) : ∀ (k fuel W : Nat) (A : Nat → Nat) (w : Wd), k ≤ nB → k < fuel → W < 6561 → Ag [39] [] w0 w → (∀ i, i < 3 → w.2.1 39 i = nI (A i)) → ∃ w', (∀ J, fx (fun _ _ _ => none) (bX_trailer_L112 (nI R) J) fuel (nI W) (nI k + (-1)) w = J w') ∧ Ag [39] [] w0 w' ∧ ∀ i, i < 3 → w'.2.1 39 i = nI (A i + lenR L R i k W) := by
  intro k
  induction k with
  | zero =>
    intro fuel W A w hk hf hW hA hv
    obtain ⟨g, rfl⟩ : ∃ g, fuel = g + 1 := ⟨fuel - 1, by omega⟩
    refine ⟨w, fun J => by rw [fx_s]; unfold bX_trailer_L112; rw [if_pos (show nI 0 + (-1) < (0 : Int32) by decide)], hA, hv⟩
  | succ k ih =>
    intro fuel W A w hk hf hW hA hv
    obtain ⟨g, rfl⟩ : ∃ g, fuel = g + 1 := ⟨fuel - 1, by omega⟩
    by_cases ht : R.testBit k = true
    · obtain ⟨w', e, h1, h2⟩ := ih g (W / 3) (fun i => if W % 3 = i then A i + L k else A i) (stG w 39 (W % 3) (nI (A (W % 3) + L k))) (by omega) (by omega) (by omega) (hA.trans (Ag.st (by decide) (by decide))) (fun i hi => by
        rw [stG_eq]
        by_cases h : i = W % 3
        · subst h
          rw [pk_us, if_pos rfl]
        · rw [pk_un h, if_neg (fun z => h z.symm), hv i hi])
      refine ⟨w', fun J => ?_, h1, fun i hi => ?_⟩
      · have ej := e J
        rw [fx_s, pk_m1]
        generalize fx _ _ g = s1 at ej ⊢
        unfold bX_trailer_L112
        rw [if_neg (show ¬ nI k < 0 from nI_pos (by omega))]
        rw [if_neg (fun z => (bitz (by omega) (by omega)).mp z ht), (mod3 (w := w0) 0 hW).1, (mod3 (w := w0) 0 hW).2, inb_nI (show k < 8 by omega) (by decide), clN (show k < 1073741824 by omega), hA.1, k3, k0, decide_eq_true (show k < nB by omega)]
        simp only [Bool.and_self, rd_t]
        rw [hA.2.1 (100 + 10 * k) (by omega) (by simp; omega), hL k (by omega), hv (W % 3) (by omega)]
        simp only [rd_t, nm_d, Bool.and_self, nI_add]
        rw [decide_eq_true (show k < nB by omega)]
        simp only [rd_t, nm_d, nI_add, div3 (show W < 1073741824 by omega)]
        exact ej
      · rw [h2 i hi]
        conv => rhs; unfold lenR
        rw [if_pos ht]
        congr 1
        split <;> omega
    · obtain ⟨w', e, h1, h2⟩ := ih g W A w (by omega) (by omega) hW hA hv
      refine ⟨w', fun J => ?_, h1, fun i hi => ?_⟩
      · have ej := e J
        rw [fx_s, pk_m1]
        generalize fx _ _ g = s1 at ej ⊢
        unfold bX_trailer_L112
        rw [if_neg (show ¬ nI k < 0 from nI_pos (by omega))]
        rw [if_pos ((bitz (by omega) (by omega)).mpr ht)]
        simp only [nm_d, pk_m1]
        exact ej
      · rw [h2 i hi]
        conv => rhs; unfold lenR
        rw [if_neg ht]
theorem zeroX : ∀ (m k fuel : Nat) (w0 w : Wd), k + m = 3 → m < fuel → Ag [39] [] w0 w → (∀ i, i < k → w.2.1 39 i = nI 0) → ∃ w', (∀ J, fx (fun _ _ => none) (bX_trailer_L80 J) fuel (nI k) w = J w') ∧ Ag [39] [] w0 w' ∧ ∀ i, i < 3 → w'.2.1 39 i = nI 0 := by
  intro m
  induction m with
  | zero =>
    intro k fuel w0 w hk hf hA hv
    obtain ⟨g, rfl⟩ : ∃ g, fuel = g + 1 := ⟨fuel - 1, by omega⟩
    obtain rfl : k = 3 := by omega
    exact ⟨w, fun J => by rw [fx_s]; unfold bX_trailer_L80; rw [if_pos (show (3 : Int32) ≤ nI 3 from Int32.le_refl _)], hA, hv⟩
  | succ m ih =>
    intro k fuel w0 w hk hf hA hv
    obtain ⟨g, rfl⟩ : ∃ g, fuel = g + 1 := ⟨fuel - 1, by omega⟩
    obtain ⟨w', e, h1, h2⟩ := ih (k + 1) g w0 (stG w 39 k 0) (by omega) (by omega) (hA.trans (Ag.st (by decide) (by decide))) (fun i hi => by
      rw [stG_eq]
      by_cases h : i = k
      · rw [h, pk_us]; rfl
      · rw [pk_un h, hv i (by omega)])
    refine ⟨w', fun J => ?_, h1, h2⟩
    have ej := e J
    rw [fx_s]
    generalize fx _ _ g = s1 at ej ⊢
    unfold bX_trailer_L80
    rw [if_neg (show ¬ (3 : Int32) ≤ nI k from fun z => absurd ((nIle (a := 3) (by decide) (by omega)).mp z) (by omega)), inb_nI (show k < 3 by omega) (by decide), clN (show k < 1073741824 by omega), rd_t, nm_d, nI_1]
    exact ej
theorem zeroM : ∀ (m k fuel : Nat) (w0 w : Wd), k + m = 3 → m < fuel → Ag [52] [] w0 w → (∀ i, i < k → w.2.1 52 i = nI 0) → ∃ w', (∀ J, fx (fun _ _ => none) (bM_longest_L5 J) fuel (nI k) w = J w') ∧ Ag [52] [] w0 w' ∧ ∀ i, i < 3 → w'.2.1 52 i = nI 0 := by
  intro m
  induction m with
  | zero =>
    intro k fuel w0 w hk hf hA hv
    obtain ⟨g, rfl⟩ : ∃ g, fuel = g + 1 := ⟨fuel - 1, by omega⟩
    obtain rfl : k = 3 := by omega
    exact ⟨w, fun J => by rw [fx_s]; unfold bM_longest_L5; rw [if_pos (show (3 : Int32) ≤ nI 3 from Int32.le_refl _)], hA, hv⟩
  | succ m ih =>
    intro k fuel w0 w hk hf hA hv
    obtain ⟨g, rfl⟩ : ∃ g, fuel = g + 1 := ⟨fuel - 1, by omega⟩
    obtain ⟨w', e, h1, h2⟩ := ih (k + 1) g w0 (stG w 52 k 0) (by omega) (by omega) (hA.trans (Ag.st (by decide) (by decide))) (fun i hi => by
      rw [stG_eq]
      by_cases h : i = k
      · rw [h, pk_us]; rfl
      · rw [pk_un h, hv i (by omega)])
    refine ⟨w', fun J => ?_, h1, h2⟩
    have ej := e J
    rw [fx_s]
    generalize fx _ _ g = s1 at ej ⊢
    unfold bM_longest_L5
    rw [if_neg (show ¬ (3 : Int32) ≤ nI k from fun z => absurd ((nIle (a := 3) (by decide) (by omega)).mp z) (by omega)), inb_nI (show k < 3 by omega) (by decide), clN (show k < 1073741824 by omega), rd_t, nm_d, nI_1]
    exact ej
/-- what is struck off W by boats of R from k-1 down to above b -/
def dg (R b : Nat) : Nat → Nat → Nat
  | 0, W => W
  | k + 1, W => if b < k then dg R b k (if R.testBit k then W / 3 else W) else W
theorem dg_s (R b : Nat) : ∀ k W, dg R b (k + 1) W = strike R b k W := by
  intro k
  induction k with
  | zero => intro W; unfold dg strike; rw [if_neg (by omega)]
  | succ k ih => intro W; unfold dg strike; rw [ih]
theorem racksM {v0 : Wd} {L : Nat → Nat} {R nB : Nat} (hR : R < 256) (hRn : R < 2 ^ nB) (bB : nB ≤ 8) (hL : ∀ b, b < nB → v0.2.1 9 b = nI (L b)) : ∀ (k fuel W : Nat) (A : Nat → Nat) (w : Wd), k ≤ 8 → k < fuel → W < 6561 → Ag [51, 52] [] v0 w → (∀ i, i < 3 → w.2.1 52 i = nI (A i)) → ∃ w', (∀ J, fx (fun _ _ _ => none) (bM_longest_L29 (nI R) J) fuel (nI W) (nI k + (-1)) w = J w') ∧ Ag [51, 52] [] v0 w' ∧ (∀ i, i < 3 → w'.2.1 52 i = nI (A i + lenR L R i k W)) ∧ (∀ b, k ≤ b → w'.2.1 51 b = w.2.1 51 b) ∧ ∀ b, b < k → R.testBit b = true → w'.2.1 51 b = nI (dg R b k W % 3) := by
  intro k
  induction k with
  | zero =>
    intro fuel W A w hk hf hW hA hv
    obtain ⟨g, rfl⟩ : ∃ g, fuel = g + 1 := ⟨fuel - 1, by omega⟩
    refine ⟨w, fun J => by rw [fx_s]; unfold bM_longest_L29; rw [if_pos (show nI 0 + (-1) < (0 : Int32) by decide)], hA, hv, fun b _ => rfl, fun b hb => by omega⟩
  | succ k ih =>
    intro fuel W A w hk hf hW hA hv
    obtain ⟨g, rfl⟩ : ∃ g, fuel = g + 1 := ⟨fuel - 1, by omega⟩
    by_cases ht : R.testBit k = true
    · have hkn : k < nB := by
        rcases Nat.lt_or_ge k nB with h | h
        · exact h
        · have : R.testBit k = false := Nat.testBit_lt_two_pow (Nat.lt_of_lt_of_le hRn (Nat.pow_le_pow_right (by decide) h))
          rw [this] at ht; exact absurd ht (by decide)
      obtain ⟨w', e, h1, h2, h3, h4⟩ := ih g (W / 3) (fun i => if W % 3 = i then A i + L k else A i) (stG (stG w 51 k (nI (W % 3))) 52 (W % 3) (nI (A (W % 3) + L k))) (by omega) (by omega) (by omega) ((hA.trans (Ag.st (by decide) (by decide))).trans (Ag.st (by decide) (by decide))) (fun i hi => by
        rw [stG_eq, stG_ne (show (52 : Nat) ≠ 51 by decide)]
        by_cases h : i = W % 3
        · subst h
          rw [pk_us, if_pos rfl]
        · rw [pk_un h, if_neg (fun z => h z.symm), hv i hi])
      refine ⟨w', fun J => ?_, h1, fun i hi => ?_, fun b hb => ?_, fun b hb hbt => ?_⟩
      · have ej := e J
        rw [fx_s, pk_m1]
        generalize fx _ _ g = s1 at ej ⊢
        unfold bM_longest_L29
        rw [if_neg (show ¬ nI k < 0 from nI_pos (by omega))]
        rw [if_neg (fun z => (bitz (by omega) (by omega)).mp z ht), (mod3 (w := v0) 0 hW).1, (mod3 (w := v0) 0 hW).2, inb_nI (show k < 8 by omega) (by decide), clN (show k < 1073741824 by omega), rd_t, rd_t, rd_t, rd_t, stG_ne (show (52 : Nat) ≠ 51 by decide), stG_ne (show (9 : Nat) ≠ 51 by decide), hA.2.1 9 (by decide) (by decide), hL k hkn, hv (W % 3) (by omega), irm3 (show W < 1073741824 by omega)]
        simp only [nm_d, nI_add, pk_m1, div3 (show W < 1073741824 by omega)]
        exact ej
      · rw [h2 i hi]
        conv => rhs; unfold lenR
        rw [if_pos ht]
        congr 1
        split <;> omega
      · rw [h3 b (by omega), stG_ne (show (51 : Nat) ≠ 52 by decide), stG_eq, pk_un (by omega)]
      · unfold dg
        by_cases hbk : b = k
        · rw [if_neg (by omega), h3 b (by omega), stG_ne (show (51 : Nat) ≠ 52 by decide), stG_eq, hbk, pk_us]
        · rw [if_pos (by omega), if_pos ht, h4 b (by omega) hbt]
    · obtain ⟨w', e, h1, h2, h3, h4⟩ := ih g W A w (by omega) (by omega) hW hA hv
      refine ⟨w', fun J => ?_, h1, fun i hi => ?_, fun b hb => h3 b (by omega), fun b hb hbt => ?_⟩
      · have ej := e J
        rw [fx_s, pk_m1]
        generalize fx _ _ g = s1 at ej ⊢
        unfold bM_longest_L29
        rw [if_neg (show ¬ nI k < 0 from nI_pos (by omega))]
        rw [if_pos ((bitz (by omega) (by omega)).mpr ht)]
        simp only [nm_d, pk_m1]
        exact ej
      · rw [h2 i hi]
        conv => rhs; unfold lenR
        rw [if_neg ht]
      · unfold dg
        have hbk : b ≠ k := fun z => ht (z ▸ hbt)
        rw [if_pos (by omega), if_neg ht, h4 b (by omega) hbt]
def lng (L : Nat → Nat) (R n W : Nat) : Nat := max (lenR L R 0 n W) (max (lenR L R 1 n W) (lenR L R 2 n W))
theorem lng_b (L : Nat → Nat) (R n W : Nat) (hL : ∀ b, L b ≤ 99) (hn : n ≤ 8) : lng L R n W ≤ 792 := by
  unfold lng
  have h0 := lenR_b L R 0 hL n W
  have h1 := lenR_b L R 1 hL n W
  have h2 := lenR_b L R 2 hL n W
  omega
theorem maxJ {a b : Nat} (ha : a < 1073741824) (hb : b < 1073741824) : sJ0_max (nI a) (nI b) = some (nI (max a b)) := by
  unfold sJ0_max
  by_cases h : a < b
  · rw [if_pos ((nIlt ha hb).mpr h), Nat.max_eq_right (by omega)]
  · rw [if_neg (fun z => h ((nIlt ha hb).mp z)), Nat.max_eq_left (by omega)]
theorem longestM {v0 : Wd} {L : Nat → Nat} {R nB W : Nat} (hR : R < 256) (hRn : R < 2 ^ nB) (bB : nB ≤ 8) (hL : ∀ b, b < nB → v0.2.1 9 b = nI (L b)) (hL9 : ∀ b, L b ≤ 99) (hW : W < 6561) : ∃ v', sM_longest v0 (nI R) (nI W) = some (nI (lng L R nB W), v') ∧ Ag [51, 52] [] v0 v' ∧ ∀ b, b < 8 → R.testBit b = true → v'.2.1 51 b = nI (strike R b 7 W % 3) := by
  unfold sM_longest
  simp only [nm_d, jn_d]
  rw [eM_longest_L5]
  obtain ⟨v1, e1, a1, z1⟩ := zeroM 3 0 FU v0 v0 (by omega) (by rw [FU_v]; omega) Ag.rfl (fun i hi => by omega)
  have e1' : ∀ J, fx (fun _ _ => none) (bM_longest_L5 J) FU 0 v0 = J v1 := e1
  rw [e1', eM_longest_L29]
  obtain ⟨v2, e2, a2, z2, -, d2⟩ := racksM (L := L) hR hRn bB hL 8 FU W (fun _ => 0) v1 (by omega) (by rw [FU_v]; omega) hW (a1.mono (by simp) (by simp)) z1
  have e2' : ∀ J, fx (fun _ _ _ => none) (bM_longest_L29 (nI R) J) FU (nI W) 7 v1 = J v2 := e2
  rw [e2']
  refine ⟨v2, ?_, a2, fun b hb ht => by rw [d2 b hb ht, dg_s]⟩
  have hl : ∀ i, lenR L R i 8 W = lenR L R i nB W := fun i => by
    have := lenR_hi L R i nB hRn (8 - nB) W
    rw [show nB + (8 - nB) = 8 by omega] at this
    exact this
  have y0 := z2 0 (by omega)
  have y1 := z2 1 (by omega)
  have y2 := z2 2 (by omega)
  rw [hl, Nat.zero_add] at y0 y1 y2
  rw [show inb (0 : Int32) 3 = true from rfl, show inb (1 : Int32) 3 = true from rfl, show inb (2 : Int32) 3 = true from rfl, show (0 : Int32).toNatClampNeg = 0 from rfl, show (1 : Int32).toNatClampNeg = 1 from rfl, show (2 : Int32).toNatClampNeg = 2 from rfl, y0, y1, y2]
  simp only [rd_t, jn_d, nm_d]
  have b0 := lenR_b L R 0 hL9 nB W
  have b1 := lenR_b L R 1 hL9 nB W
  have b2 := lenR_b L R 2 hL9 nB W
  have fin : ∀ z : Nat, z ≤ 792 → max z (lenR L R 2 nB W) = lng L R nB W → (if nI z ≤ nI (lenR L R 2 nB W) then some (nI (lenR L R 2 nB W), v2) else some (nI z, v2)) = some (nI (lng L R nB W), v2) := by
    intro z hz hm
    rw [← hm]
    by_cases h : z ≤ lenR L R 2 nB W
    · rw [if_pos ((nIle (by omega) (by omega)).mpr h), Nat.max_eq_right h]
    · rw [if_neg (fun q => h ((nIle (by omega) (by omega)).mp q)), Nat.max_eq_left (by omega)]
  unfold lng at fin ⊢
  by_cases h : lenR L R 0 nB W ≤ lenR L R 1 nB W
  · rw [if_pos ((nIle (by omega) (by omega)).mpr h)]
    exact fin _ (by omega) (by omega)
  · rw [if_neg (fun q => h ((nIle (by omega) (by omega)).mp q))]
    exact fin _ (by omega) (by omega)
/-- the best way so far, how long it is -/
def bv (f : Nat → Nat) (M : Nat) : Nat → Nat
  | 0 => M + 1
  | t + 1 => if f t < bv f M t then f t else bv f M t
def wq (f : Nat → Nat) (M : Nat) : Nat → Nat
  | 0 => 0
  | t + 1 => if f t < bv f M t then t else wq f M t
theorem bv_r (f : Nat → Nat) (M : Nat) : ∀ t, bv f M t ≤ M + 1 ∧ wq f M t ≤ t ∧ (bv f M t ≤ M → wq f M t < t ∧ f (wq f M t) = bv f M t) := by
  intro t
  induction t with
  | zero => exact ⟨Nat.le_refl _, Nat.le_refl _, fun h => by unfold bv at h; omega⟩
  | succ t ih =>
    unfold bv wq
    by_cases h : f t < bv f M t
    · rw [if_pos h, if_pos h]; exact ⟨by omega, by omega, fun _ => ⟨by omega, rfl⟩⟩
    · rw [if_neg h, if_neg h]; exact ⟨ih.1, by omega, fun z => ⟨by have := (ih.2.2 z).1; omega, (ih.2.2 z).2⟩⟩
theorem wayX {w0 : Wd} {L : Nat → Nat} {R nB M N : Nat} (hR : R < 256) (bB : nB ≤ 8) (k0 : w0.1 0 = nB) (k3 : w0.1 3 = nB) (xB : w0.2.1 90 3 = nI nB) (hL : ∀ b, b < nB → w0.2.1 (100 + 10 * b) 3 = nI (L b)) (hL9 : ∀ b, L b ≤ 99) (hM : M ≤ 999) (hN : N ≤ 6561) : ∀ (m t fuel : Nat) (w : Wd), t + m = N → m < fuel → Ag [39] [40] w0 w → w.2.1 90 40 = (if bv (lng L R nB) M t ≤ M then nI (wq (lng L R nB) M t) else w0.2.1 90 40) → ∃ w', (∀ J, fx (fun _ _ _ => none) (bX_trailer_L70 (nI R) (nI M) (nI N) J) fuel (if bv (lng L R nB) M t ≤ M then nI (bv (lng L R nB) M t) else -1) (nI t) w = J (if bv (lng L R nB) M N ≤ M then nI (bv (lng L R nB) M N) else -1) w') ∧ Ag [39] [40] w0 w' ∧ w'.2.1 90 40 = (if bv (lng L R nB) M N ≤ M then nI (wq (lng L R nB) M N) else w0.2.1 90 40) := by
  intro m
  induction m with
  | zero =>
    intro t fuel w ht hf hA h40
    obtain ⟨g, rfl⟩ : ∃ g, fuel = g + 1 := ⟨fuel - 1, by omega⟩
    obtain rfl : t = N := by omega
    exact ⟨w, fun J => by rw [fx_s]; unfold bX_trailer_L70; rw [if_pos (Int32.le_refl _)], hA, h40⟩
  | succ m ih =>
    intro t fuel w ht hf hA h40
    obtain ⟨g, rfl⟩ : ∃ g, fuel = g + 1 := ⟨fuel - 1, by omega⟩
    obtain ⟨w1, e1, a1, z1⟩ := zeroX 3 0 FU w w (by omega) (by rw [FU_v]; omega) Ag.rfl (fun i hi => by omega)
    have e1' : ∀ J, fx (fun _ _ => none) (bX_trailer_L80 J) FU 0 w = J w1 := e1
    have k0' : w1.1 0 = nB := by rw [a1.1, hA.1]; exact k0
    have k3' : w1.1 3 = nB := by rw [a1.1, hA.1]; exact k3
    have xB' : w1.2.1 90 3 = nI nB := (a1.2.2 3 (by simp)).trans ((hA.2.2 3 (by decide)).trans xB)
    obtain ⟨w2, e2, a2, z2⟩ := racksX (L := L) hR bB k0' k3' (fun b hb => by rw [a1.2.1 _ (by omega) (by simp; omega), hA.2.1 _ (by omega) (by simp; omega)]; exact hL b hb) nB FU t (fun _ => 0) w1 (by omega) (by rw [FU_v]; omega) (by omega) Ag.rfl z1
    have y0 := z2 0 (by omega)
    have y1 := z2 1 (by omega)
    have y2 := z2 2 (by omega)
    rw [Nat.zero_add] at y0 y1 y2
    have b0 := lenR_b L R 0 hL9 nB t
    have b1 := lenR_b L R 1 hL9 nB t
    have b2 := lenR_b L R 2 hL9 nB t
    have bl := lng_b L R nB t hL9 bB
    have hA2 : Ag [39] [40] w0 w2 := hA.trans ((a1.trans a2).mono (by simp) (by simp))
    have h402 : w2.2.1 90 40 = (if bv (lng L R nB) M t ≤ M then nI (wq (lng L R nB) M t) else w0.2.1 90 40) := ((a1.trans a2).2.2 40 (by simp)).trans h40
    have hb := bv_r (lng L R nB) M t
    have eb : bv (lng L R nB) M (t + 1) = if lng L R nB t < bv (lng L R nB) M t then lng L R nB t else bv (lng L R nB) M t := rfl
    have ew : wq (lng L R nB) M (t + 1) = if lng L R nB t < bv (lng L R nB) M t then t else wq (lng L R nB) M t := rfl
    have go : ∀ (J : Int32 → Wd → Option (Int32 × Wd)) (s1 : Int32 → Int32 → Wd → Option (Int32 × Wd)), bX_trailer_L70 (nI R) (nI M) (nI N) J s1 (if bv (lng L R nB) M t ≤ M then nI (bv (lng L R nB) M t) else -1) (nI t) w = if lng L R nB t < bv (lng L R nB) M t then s1 (nI (lng L R nB t)) (nI (t + 1)) (stG w2 90 40 (nI t)) else s1 (if bv (lng L R nB) M t ≤ M then nI (bv (lng L R nB) M t) else -1) (nI (t + 1)) w2 := by
      intro J s1
      unfold bX_trailer_L70
      rw [if_neg (fun z => absurd ((nIle (by omega) (by omega)).mp z) (by omega))]
      simp only [nm_d, jn_d, nI_1]
      rw [eX_trailer_L80, e1', xB', nIsub1, eX_trailer_L112, e2]
      rw [show inb (0 : Int32) 3 = true from rfl, show inb (1 : Int32) 3 = true from rfl, show inb (2 : Int32) 3 = true from rfl, show (0 : Int32).toNatClampNeg = 0 from rfl, show (1 : Int32).toNatClampNeg = 1 from rfl, show (2 : Int32).toNatClampNeg = 2 from rfl, y0, y1, y2, rd_t, rd_t, rd_t, maxJ (by omega) (by omega), bd_s, maxJ (by omega) (by omega), bd_s]
      rw [show max (lenR L R 0 nB t) (max (lenR L R 1 nB t) (lenR L R 2 nB t)) = lng L R nB t from rfl]
      generalize lng L R nB t = q at bl ⊢
      generalize bv (lng L R nB) M t = p at hb ⊢
      by_cases h1 : M < q
      · rw [if_pos ((nIlt (by omega) (by omega)).mpr h1), if_neg (show ¬ q < p by omega)]
      · rw [if_neg (fun z => h1 ((nIlt (by omega) (by omega)).mp z))]
        by_cases h2 : p ≤ M
        · rw [if_pos h2, if_neg (nI_nm1 (by omega))]
          by_cases h3 : q < p
          · rw [if_pos ((nIlt (by omega) (by omega)).mpr h3), if_pos h3]
          · rw [if_neg (fun z => h3 ((nIlt (by omega) (by omega)).mp z)), if_neg h3]
        · rw [if_neg h2, if_pos rfl, if_pos (show q < p by omega)]
    by_cases h3 : lng L R nB t < bv (lng L R nB) M t
    · have ihx := ih (t + 1) g (stG w2 90 40 (nI t)) (by omega) (by omega) (hA2.trans (Ag.sf (by decide)))
      rw [eb, ew, if_pos h3, if_pos h3, if_pos (by omega), if_pos (by omega), f90s] at ihx
      obtain ⟨w', e, h1, h2⟩ := ihx rfl
      refine ⟨w', fun J => ?_, h1, h2⟩
      rw [fx_s, go, if_pos h3]
      exact e J
    · have ihx := ih (t + 1) g w2 (by omega) (by omega) hA2
      rw [eb, ew, if_neg h3, if_neg h3] at ihx
      obtain ⟨w', e, h1, h2⟩ := ihx h402
      refine ⟨w', fun J => ?_, h1, h2⟩
      rw [fx_s, go, if_neg h3]
      exact e J
theorem wayM {v0 : Wd} {L : Nat → Nat} {R nB M N : Nat} (hR : R < 256) (hRn : R < 2 ^ nB) (bB : nB ≤ 8) (hL : ∀ b, b < nB → v0.2.1 9 b = nI (L b)) (hL9 : ∀ b, L b ≤ 99) (hM : M ≤ 999) (hN : N ≤ 6561) : ∀ (m t fuel : Nat) (w : Wd), t + m = N → m < fuel → Ag [51, 52] [] v0 w → ∃ w', (∀ J, fx (fun _ _ _ _ => none) (bM_trailer_L67 (nI R) (nI N) J) fuel (if bv (lng L R nB) M t ≤ M then nI (wq (lng L R nB) M t) else -1) (nI (bv (lng L R nB) M t)) (nI t) w = J (if bv (lng L R nB) M N ≤ M then nI (wq (lng L R nB) M N) else -1) w') ∧ Ag [51, 52] [] v0 w' := by
  intro m
  induction m with
  | zero =>
    intro t fuel w ht hf hA
    obtain ⟨g, rfl⟩ : ∃ g, fuel = g + 1 := ⟨fuel - 1, by omega⟩
    obtain rfl : t = N := by omega
    exact ⟨w, fun J => by rw [fx_s]; unfold bM_trailer_L67; rw [if_pos (Int32.le_refl _)], hA⟩
  | succ m ih =>
    intro t fuel w ht hf hA
    obtain ⟨g, rfl⟩ : ∃ g, fuel = g + 1 := ⟨fuel - 1, by omega⟩
    obtain ⟨w2, e2, a2, -⟩ := longestM (v0 := w) (L := L) (W := t) hR hRn bB (fun b hb => by rw [hA.2.1 9 (by decide) (by decide)]; exact hL b hb) hL9 (by omega)
    have hb := bv_r (lng L R nB) M t
    have bl := lng_b L R nB t hL9 bB
    have eb : bv (lng L R nB) M (t + 1) = if lng L R nB t < bv (lng L R nB) M t then lng L R nB t else bv (lng L R nB) M t := rfl
    have ew : wq (lng L R nB) M (t + 1) = if lng L R nB t < bv (lng L R nB) M t then t else wq (lng L R nB) M t := rfl
    have ihx := ih (t + 1) g w2 (by omega) (by omega) (hA.trans a2)
    obtain ⟨w', e, h1⟩ := ihx
    refine ⟨w', fun J => ?_, h1⟩
    have ej := e J
    rw [fx_s]
    generalize fx _ _ g = s1 at ej ⊢
    unfold bM_trailer_L67
    rw [if_neg (fun z => absurd ((nIle (by omega) (by omega)).mp z) (by omega)), e2, bd2_s]
    simp only [nm_d, nI_1]
    rw [eb, ew] at ej
    by_cases h3 : lng L R nB t < bv (lng L R nB) M t
    · rw [if_pos h3, if_pos h3, if_pos (by omega)] at ej
      rw [if_pos ((nIlt (by omega) (by omega)).mpr h3)]
      exact ej
    · rw [if_neg h3, if_neg h3] at ej
      rw [if_neg (fun z => h3 ((nIlt (by omega) (by omega)).mp z))]
      exact ej
theorem rackM {R : Nat} (hR : R < 256) (x : Int32) (v0 : Wd) : ∀ (m k fuel : Nat) (w : Wd), k + m = 8 → m < fuel → Ag [50] [] v0 w → (∀ b, b < k → w.2.1 50 b = if R.testBit b then v0.2.1 51 b else -1) → ∃ w', fx (fun _ _ => none) (bM_trailer_L126 (nI R) x) fuel (nI k) w = some (x, w') ∧ Ag [50] [] v0 w' ∧ ∀ b, b < 8 → w'.2.1 50 b = if R.testBit b then v0.2.1 51 b else -1 := by
  intro m
  induction m with
  | zero =>
    intro k fuel w hk hf hA hv
    obtain ⟨g, rfl⟩ : ∃ g, fuel = g + 1 := ⟨fuel - 1, by omega⟩
    obtain rfl : k = 8 := by omega
    exact ⟨w, by rw [fx_s]; unfold bM_trailer_L126; rw [if_pos (show (8 : Int32) ≤ nI 8 from Int32.le_refl _)], hA, hv⟩
  | succ m ih =>
    intro k fuel w hk hf hA hv
    obtain ⟨g, rfl⟩ : ∃ g, fuel = g + 1 := ⟨fuel - 1, by omega⟩
    have ihx := fun w => ih (k + 1) g w (by omega) (by omega)
    rw [fx_s]
    generalize fx _ _ g = s1 at ihx ⊢
    unfold bM_trailer_L126
    rw [if_neg (show ¬ (8 : Int32) ≤ nI k from fun z => absurd ((nIle (a := 8) (by decide) (by omega)).mp z) (by omega)), inb_nI (show k < 8 by omega) (by decide), clN (show k < 1073741824 by omega)]
    simp only [rd_t, nm_d, nI_1, jn_d]
    have fin : ∀ z, z = (if R.testBit k then v0.2.1 51 k else -1) → ∃ w', s1 (nI (k + 1)) (stG w 50 k z) = some (x, w') ∧ Ag [50] [] v0 w' ∧ ∀ b, b < 8 → w'.2.1 50 b = if R.testBit b then v0.2.1 51 b else -1 := by
      intro z hz
      refine ihx _ (hA.trans (Ag.st (by decide) (by decide))) (fun b hb => ?_)
      rw [stG_eq]
      by_cases h : b = k
      · rw [h, pk_us, hz]
      · rw [pk_un h, hv b (by omega)]
    by_cases ht : R.testBit k = true
    · rw [if_pos ((bito (by omega) (by omega)).mpr ht)]
      exact fin _ (by rw [if_pos ht, hA.2.1 51 (by decide) (by decide)])
    · rw [if_neg (fun z => ht ((bito (by omega) (by omega)).mp z))]
      exact fin _ (by rw [if_neg ht])
/-- how many of R are below n -/
def pcn (R : Nat) : Nat → Nat
  | 0 => 0
  | k + 1 => pcn R k + if R.testBit k then 1 else 0
theorem pcn_b (R : Nat) : ∀ k, pcn R k ≤ k := by
  intro k
  induction k with
  | zero => exact Nat.le_refl _
  | succ k ih => unfold pcn; split <;> omega
theorem pcn_hi (R n : Nat) (hR : R < 2 ^ n) : ∀ m, pcn R (n + m) = pcn R n := by
  intro m
  induction m with
  | zero => rfl
  | succ m ih =>
    rw [← Nat.add_assoc]
    conv => lhs; unfold pcn
    have : R.testBit (n + m) = false := Nat.testBit_lt_two_pow (Nat.lt_of_lt_of_le hR (Nat.pow_le_pow_right (by decide) (by omega)))
    rw [this, ih]; rfl
theorem threeX {w : Wd} {R nB : Nat} (hR : R < 256) (bB : nB ≤ 8) (xB : w.2.1 90 3 = nI nB) (J : Int32 → Option (Int32 × Wd)) : ∀ m k fuel, k + m = nB → m < fuel → fx (fun _ _ => none) (bX_trailer_L36 w (nI R) J) fuel (nI (3 ^ pcn R k)) (nI k) = J (nI (3 ^ pcn R nB)) := by
  intro m
  induction m with
  | zero =>
    intro k fuel hk hf
    obtain ⟨g, rfl⟩ : ∃ g, fuel = g + 1 := ⟨fuel - 1, by omega⟩
    obtain rfl : k = nB := by omega
    rw [fx_s]
    unfold bX_trailer_L36
    rw [xB, if_pos (Int32.le_refl _)]
  | succ m ih =>
    intro k fuel hk hf
    obtain ⟨g, rfl⟩ : ∃ g, fuel = g + 1 := ⟨fuel - 1, by omega⟩
    have ihx := ih (k + 1) g (by omega) (by omega)
    rw [fx_s]
    generalize fx _ _ g = s1 at ihx ⊢
    rw [← ihx]
    unfold bX_trailer_L36
    rw [xB, if_neg (fun z => absurd ((nIle (by omega) (by omega)).mp z) (by omega))]
    simp only [nm_d, nI_1]
    conv => rhs; unfold pcn
    by_cases ht : R.testBit k = true
    · rw [if_pos ((bito (by omega) (by omega)).mpr ht), if_pos ht, show (3 : Int32) = nI 3 from rfl, pk_mul, Nat.pow_succ]
    · rw [if_neg (fun z => ht ((bito (by omega) (by omega)).mp z)), if_neg ht]; rfl
theorem bitsM {R : Nat} (hR : R < 256) : ∀ m k fuel, k + m = 16 → m < fuel → fx (fun _ _ => none) (bM_bits_L4 (nI R)) fuel (nI (pcn R k)) (nI k) = some (nI (pcn R 16)) := by
  intro m
  induction m with
  | zero =>
    intro k fuel hk hf
    obtain ⟨g, rfl⟩ : ∃ g, fuel = g + 1 := ⟨fuel - 1, by omega⟩
    obtain rfl : k = 16 := by omega
    rw [fx_s]
    unfold bM_bits_L4
    rw [if_pos (show (16 : Int32) ≤ nI 16 from Int32.le_refl _)]
  | succ m ih =>
    intro k fuel hk hf
    obtain ⟨g, rfl⟩ : ∃ g, fuel = g + 1 := ⟨fuel - 1, by omega⟩
    have ihx := ih (k + 1) g (by omega) (by omega)
    rw [fx_s]
    generalize fx _ _ g = s1 at ihx ⊢
    rw [← ihx]
    unfold bM_bits_L4
    rw [if_neg (show ¬ (16 : Int32) ≤ nI k from fun z => absurd ((nIle (a := 16) (by decide) (by omega)).mp z) (by omega)), bit_v (by omega) (by omega)]
    simp only [nm_d, nI_1]
    conv => rhs; unfold pcn
    by_cases ht : R.testBit k = true
    · rw [if_pos ht, if_pos ht, nI_1]
    · rw [if_neg ht, if_neg ht, Int32.add_zero]; rfl
theorem threeM (J : Int32 → Option (Int32 × Wd)) : ∀ k a fuel, k ≤ 16 → k < fuel → fx (fun _ _ => none) (bM_trailer_L41 J) fuel (nI a) (nI k) = J (nI (a * 3 ^ k)) := by
  intro k
  induction k with
  | zero =>
    intro a fuel hk hf
    obtain ⟨g, rfl⟩ : ∃ g, fuel = g + 1 := ⟨fuel - 1, by omega⟩
    rw [fx_s]
    unfold bM_trailer_L41
    rw [if_pos (show nI 0 ≤ (0 : Int32) from Int32.le_refl _), Nat.pow_zero, Nat.mul_one]
  | succ k ih =>
    intro a fuel hk hf
    obtain ⟨g, rfl⟩ : ∃ g, fuel = g + 1 := ⟨fuel - 1, by omega⟩
    have ihx := ih (a * 3) g (by omega) (by omega)
    rw [fx_s]
    generalize fx _ _ g = s1 at ihx ⊢
    unfold bM_trailer_L41
    rw [if_neg (show ¬ nI (k + 1) ≤ (0 : Int32) from fun z => absurd ((nIle (b := 0) (by omega) (by decide)).mp z) (by omega))]
    simp only [nm_d, pk_m1]
    rw [show (3 : Int32) = nI 3 from rfl, pk_mul, ihx, Nat.mul_assoc, Nat.pow_succ, Nat.mul_comm 3]
theorem setOk (a : Int32) {n : Nat} (hn : n ≤ 8) : (∃ R, R < 2 ^ n ∧ a = nI R ∧ (¬ a < 0) ∧ a >>> (nI n &&& 31) = 0 ∧ (0 : Int64).toInt ≤ a.toInt ∧ a.toInt ≤ (Int32.toInt64 (((1 : Int32) <<< (nI n &&& 31)) - 1)).toInt) ∨ ((a < 0 ∨ ¬ a >>> (nI n &&& 31) = 0) ∧ ¬ ((0 : Int64).toInt ≤ a.toInt ∧ a.toInt ≤ (Int32.toInt64 (((1 : Int32) <<< (nI n &&& 31)) - 1)).toInt)) := by
  have hp : ∀ n, n < 9 → (((1 : Int32) <<< (nI n &&& 31)) - 1).toInt = 2 ^ n - 1 := by decide
  have h8 : (2 : Nat) ^ n ≤ 2 ^ 8 := Nat.pow_le_pow_right (by decide) hn
  have hc : (2 : Int) ^ n = ((2 ^ n : Nat) : Int) := by rw [Int.natCast_pow]; rfl
  have h1 : 1 ≤ 2 ^ n := Nat.one_le_two_pow
  have h00 : (0 : Int64).toInt = 0 := by decide
  have h0 : (0 : Int32).toInt = 0 := by decide
  rw [toI64, hp n (by omega), hc, h00]
  by_cases hneg : a < 0
  · refine Or.inr ⟨Or.inl hneg, fun z => ?_⟩
    have := Int32.lt_iff_toInt_lt.mp hneg
    omega
  · have hge : 0 ≤ a.toInt := by
      rcases Int.lt_or_le a.toInt 0 with z | z
      · exact absurd (Int32.lt_iff_toInt_lt.mpr (by rw [h0]; exact z)) hneg
      · exact z
    have hlt : a.toInt < (2147483648 : Nat) := by
      have := Int32.toInt_lt a
      omega
    obtain ⟨R, hR, rfl⟩ := ix_of ⟨hge, hlt⟩
    have hsh : nI R >>> (nI n &&& 31) = nI (R / 2 ^ n) := pk_shrN (by omega) _ n (sh_k (by omega))
    have hdv : R / 2 ^ n < 2147483648 := Nat.lt_of_le_of_lt (Nat.div_le_self _ _) hR
    have hTi : (nI R).toInt = R := by
      have := nI_toInt (n := R) (by omega)
      exact this
    rw [hsh, hTi]
    by_cases h : R < 2 ^ n
    · refine Or.inl ⟨R, h, rfl, hneg, ?_, by omega, by omega⟩
      rw [Nat.div_eq_of_lt h]; rfl
    · refine Or.inr ⟨Or.inr (fun z => ?_), fun z => by omega⟩
      have hq : 1 ≤ R / 2 ^ n := (Nat.le_div_iff_mul_le (by omega)).mpr (by omega)
      have := congrArg Int32.toInt z
      rw [nI_toInt (by omega), h0] at this
      omega
theorem op_trailer : Op_trailer Rel := by
  intro w v a1 a2 hR
  have hR0 := hR
  obtain ⟨nO, nB, nC, nU, nT, nL, nH, nP, d, hC, hO, hB, hS, hRc, hV, hT, hU, hG, hL, hH, hK⟩ := hR
  have C := hC
  obtain ⟨⟨bO, bB, bC, bU, bT, bL, bH, bP, bD⟩, ⟨k0, k1, k2, k3, k4, k5⟩, ⟨xO, xB, xD, xC, xU, xP, xT, xL, xH⟩, ⟨yO, yB, yD, yC, yU, yP, yT, yL, yH⟩, hnr, hn0, hn9⟩ := C
  unfold sX_trailer sM_trailer
  rw [xB, yB, sX_in_v, sM_isIn_v, sM_isIn_v]
  simp only [bd_s]
  rcases setOk a1 bB with ⟨R, hRn, rfl, q1, q2, q3⟩ | ⟨q1, q2⟩
  rotate_left
  · rw [b1_f q2, if_pos z00]
    rcases q1 with q | q
    · rw [if_pos q]; exact fin3 rfl rfl hR0
    · by_cases q' : a1 < 0
      · rw [if_pos q']; exact fin3 rfl rfl hR0
      · rw [if_neg q', if_neg q]; exact fin3 rfl rfl hR0
  rw [b1_t q3, if_neg n10, if_neg q1, if_pos q2]
  by_cases h2 : (1 : Int64).toInt ≤ a2.toInt ∧ a2.toInt ≤ (999 : Int64).toInt
  rotate_left
  · rw [b1_f h2, if_pos z00, if_pos z00]; exact fin3 rfl rfl hR0
  rw [b1_t h2, if_neg n10, if_neg n10]
  have h9 : (999 : Int64).toInt = 999 := by decide
  have h8 : (1 : Int64).toInt = 1 := by decide
  obtain ⟨M, hM, rfl⟩ := ix_of (x := a2) (n := 1000) (by omega)
  have hR256 : R < 256 := Nat.lt_of_lt_of_le hRn (Nat.pow_le_pow_right (by decide) bB)
  have hp8 : pcn R nB ≤ 8 := Nat.le_trans (pcn_b R nB) bB
  have hN : 3 ^ pcn R nB ≤ 6561 := Nat.pow_le_pow_right (n := 3) (j := 8) (by decide) hp8
  have hp16 : pcn R 16 = pcn R nB := by
    have := pcn_hi R nB hRn (16 - nB)
    rw [show nB + (16 - nB) = 16 by omega] at this
    exact this
  simp only [nm_d, jn_d]
  let L := fun b => if b < nB then (v.2.1 9 b).toNatClampNeg else 0
  have hLx : ∀ b, b < nB → w.2.1 (100 + 10 * b) 3 = nI (L b) ∧ v.2.1 9 b = nI (L b) ∧ L b ≤ 99 := by
    intro b hb
    obtain ⟨k, ls, ms, ln, -, -, -, -, -, g1, -, -, -, -, -, -, g2, g3, -⟩ := hB.1 b hb
    have : L b = ln := by
      show (if b < nB then (v.2.1 9 b).toNatClampNeg else 0) = ln
      rw [if_pos hb, g3, clN (by omega)]
    rw [this]
    exact ⟨g2, g3, g1⟩
  have hL9 : ∀ b, L b ≤ 99 := by
    intro b
    by_cases hb : b < nB
    · exact (hLx b hb).2.2
    · show (if b < nB then (v.2.1 9 b).toNatClampNeg else 0) ≤ 99
      rw [if_neg hb]; omega
  have eb : sM_bits (nI R) = some (nI (pcn R nB)) := by
    unfold sM_bits
    rw [nm_d, nm_d, eM_bits_L4, ← hp16]
    exact bitsM hR256 16 0 FU (by omega) (by rw [FU_v]; omega)
  have e3 : ∀ J, sX_trailer_L36 w (nI R) J 1 0 = J (nI (3 ^ pcn R nB)) := by
    intro J
    rw [eX_trailer_L36]
    exact threeX hR256 bB xB J nB 0 FU (by omega) (by rw [FU_v]; omega)
  have e4 : ∀ J, sM_trailer_L41 J 1 (nI (pcn R nB)) = J (nI (3 ^ pcn R nB)) := by
    intro J
    rw [eM_trailer_L41]
    have := threeM J (pcn R nB) 1 FU (by omega) (by rw [FU_v]; omega)
    rw [Nat.one_mul] at this
    exact this
  rw [e3, eb, bd_s, e4]
  generalize 3 ^ pcn R nB = N at hN ⊢
  obtain ⟨w1, ex, ax, x40⟩ := wayX (L := L) (R := R) (M := M) (N := N) hR256 bB k0 k3 xB (fun b hb => (hLx b hb).1) hL9 (by omega) hN N 0 FU w (by omega) (by rw [FU_v]; omega) Ag.rfl (by rw [if_neg]; unfold bv; omega)
  obtain ⟨v1, em, am⟩ := wayM (v0 := v) (L := L) (R := R) (M := M) (N := N) hR256 hRn bB (fun b hb => (hLx b hb).2.1) hL9 (by omega) hN N 0 FU v (by omega) (by rw [FU_v]; omega) Ag.rfl
  have hb0 : ¬ bv (lng L R nB) M 0 ≤ M := by unfold bv; omega
  rw [if_neg hb0] at ex em
  have ex' : ∀ J, sX_trailer_L70 (nI R) (nI M) (nI N) J (-1) 0 w = J (if bv (lng L R nB) M N ≤ M then nI (bv (lng L R nB) M N) else -1) w1 := fun J => by rw [eX_trailer_L70]; exact ex J
  have em' : ∀ J, sM_trailer_L67 (nI R) (nI N) J (-1) (nI M + 1) 0 v = J (if bv (lng L R nB) M N ≤ M then nI (wq (lng L R nB) M N) else -1) v1 := fun J => by
    rw [eM_trailer_L67, nI_1]; exact em J
  rw [ex', em']
  have hb := bv_r (lng L R nB) M N
  by_cases hf : bv (lng L R nB) M N ≤ M
  rotate_left
  · rw [if_neg hf, if_neg hf, if_pos rfl, if_neg (show ¬ (0 : Int32) ≤ -1 by decide)]
    rw [if_neg hf] at x40
    exact fin3 rfl rfl (hR0.keep ((ax.none x40).mono (by simp) (by simp)) (am.mono (by simp) (by simp)))
  have hq := hb.2.2 hf
  rw [if_pos hf] at x40
  rw [if_pos hf, if_pos hf, if_neg (nI_nm1 (by omega)), if_pos (show (0 : Int32) ≤ nI (wq (lng L R nB) M N) from (nIle (a := 0) (by decide) (by omega)).mpr (by omega))]
  obtain ⟨v2, e2, a2, s2⟩ := longestM (v0 := v1) (L := L) (W := wq (lng L R nB) M N) hR256 hRn bB (fun b hb => by rw [am.2.1 9 (by decide) (by decide)]; exact (hLx b hb).2.1) hL9 (by omega)
  rw [e2, bd2_s, hq.2, eM_trailer_L126]
  obtain ⟨v3, e5, a3, s3⟩ := rackM (R := R) hR256 (nI (bv (lng L R nB) M N)) v2 8 0 FU v2 (by omega) (by rw [FU_v]; omega) Ag.rfl (fun b hb => by omega)
  generalize hw' : stG w1 90 41 (nI R) = w'
  have hw : Ag [39] [40, 41] w w' := by
    rw [← hw']
    exact (ax.mono (by simp) (by simp)).trans (Ag.sf (by decide))
  have hv : Ag [50, 51, 52] [] v v3 := ((am.mono (by simp) (by simp)).trans (a2.mono (by simp) (by simp))).trans (a3.mono (by simp) (by simp))
  refine fin3 rfl e5 ?_
  refine ⟨nO, nB, nC, nU, nT, nL, nH, nP, d, hC.a hw hv (by decide) (by decide), hO.a hw hv (by decide) (by decide), hB.a hw hv (by decide) (by decide), hS.a hw hv (by decide) (by decide), hRc.a hw hv (by decide) (by decide), hV.a hw hv (by decide) (by decide), hT.a hw hv (by decide) (by decide), hU.a hw hv (by decide) (by decide), hG.a hw hv (by decide) (by decide), hL.a hw hv (by decide) (by decide), hH.a hw hv (by decide) (by decide), ?_⟩
  refine ⟨R, wq (lng L R nB) M N, hRn, by omega, ?_, ?_, fun b hb => ?_⟩
  · rw [← hw', f90s]
  · rw [← hw', f90n (by decide)]; exact x40
  · rw [s3 b hb]
    by_cases ht : R.testBit b = true
    · rw [if_pos ht, if_pos ht]; exact s2 b hb ht
    · rw [if_neg ht, if_neg ht]
