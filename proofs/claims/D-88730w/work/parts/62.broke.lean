set_option maxRecDepth 100000
theorem stG_stG {w : Wd} {a j : Nat} {x y : Int32} : stG (stG w a j x) a j y = stG w a j y := by
  unfold stG
  refine congrArg (fun z => (w.1, z, w.2.2)) ?_
  funext b
  by_cases h : b = a
  · rw [if_pos h, if_pos h]
    dsimp only
    rw [if_pos rfl, upd_upd]
  · rw [if_neg h, if_neg h]
    dsimp only
    rw [if_neg h]
/-- the last place below k where f is b -/
def lastB (f : Nat → Int32) (b : Int32) : Nat → Int32
  | 0 => -1
  | k + 1 => if f k = b then nI k else lastB f b k
theorem lastB_c (f f' : Nat → Int32) (b : Int32) : ∀ k, (∀ i, i < k → f i = f' i) → lastB f b k = lastB f' b k := by
  intro k
  induction k with
  | zero => intro _; rfl
  | succ k ih => intro h; unfold lastB; rw [h k (by omega), ih (fun i hi => h i (by omega))]
theorem lastB_r (f : Nat → Int32) (b : Int32) : ∀ k, lastB f b k = -1 ∨ ∃ i, i < k ∧ lastB f b k = nI i := by
  intro k
  induction k with
  | zero => exact Or.inl rfl
  | succ k ih =>
    unfold lastB
    by_cases h : f k = b
    · rw [if_pos h]; exact Or.inr ⟨k, by omega, rfl⟩
    · rw [if_neg h]
      rcases ih with e | ⟨i, hi, e⟩
      · exact Or.inl e
      · exact Or.inr ⟨i, by omega, e⟩
theorem lastX (w : Wd) (n : Nat) (hn : n < 60) (J : Int32 → Option (Int32 × Wd)) : ∀ m k fuel, k + m = n → m < fuel → fx (fun _ _ => none) (bX_broke_L35 w (nI n) J) fuel (lastB (w.2.1 29) (w.2.1 29 n) k) (nI k) = J (lastB (w.2.1 29) (w.2.1 29 n) n) := by
  intro m
  induction m with
  | zero =>
    intro k fuel hk hf
    obtain ⟨g, rfl⟩ : ∃ g, fuel = g + 1 := ⟨fuel - 1, by omega⟩
    obtain rfl : k = n := by omega
    rw [fx_s]
    unfold bX_broke_L35
    rw [if_pos (Int32.le_refl _)]
  | succ m ih =>
    intro k fuel hk hf
    obtain ⟨g, rfl⟩ : ∃ g, fuel = g + 1 := ⟨fuel - 1, by omega⟩
    have ihx := ih (k + 1) g (by omega) (by omega)
    rw [fx_s]
    generalize fx _ _ g = s1 at ihx ⊢
    rw [← ihx]
    unfold bX_broke_L35
    rw [if_neg (fun z => absurd ((nIle (by omega) (by omega)).mp z) (by omega)), inb_nI (show k < 60 by omega) (by decide), inb_nI hn (by decide), clN (show k < 1073741824 by omega), clN (show n < 1073741824 by omega), rd_t, rd_t]
    simp only [nm_d, nI_1]
    conv => rhs; unfold lastB
    by_cases h : w.2.1 29 k = w.2.1 29 n
    · rw [if_pos h, if_pos h]
    · rw [if_neg h, if_neg h]
theorem lastM (v : Wd) (b : Int32) (J : Int32 → Option Int32) : ∀ k fuel, k ≤ 60 → k < fuel → fx (fun _ => none) (bM_broke_L42 v b J) fuel (nI k + (-1)) = J (lastB (v.2.1 41) b k) := by
  intro k
  induction k with
  | zero =>
    intro fuel hk hf
    obtain ⟨g, rfl⟩ : ∃ g, fuel = g + 1 := ⟨fuel - 1, by omega⟩
    rw [fx_s]
    unfold bM_broke_L42
    rw [if_pos (show nI 0 + (-1) < (0 : Int32) by decide)]
    rfl
  | succ k ih =>
    intro fuel hk hf
    obtain ⟨g, rfl⟩ : ∃ g, fuel = g + 1 := ⟨fuel - 1, by omega⟩
    have ihx := ih g (by omega) (by omega)
    rw [fx_s, pk_m1]
    generalize fx _ _ g = s1 at ihx ⊢
    unfold bM_broke_L42
    have hneg : ¬ nI k < 0 := nI_pos (by omega)
    rw [if_neg hneg, inb_nI (show k < 60 by omega) (by decide), clN (show k < 1073741824 by omega), rd_t, nm_d]
    conv => rhs; unfold lastB
    by_cases h : v.2.1 41 k = b
    · rw [if_pos h, if_pos h]
    · rw [if_neg h, if_neg h]
      exact ihx
def cntF (f : Nat → Int32) (b : Int32) : Nat → Nat → Nat
  | 0, _ => 0
  | n + 1, s => (if f s = b then 1 else 0) + cntF f b n (s + 1)
def fstF (f : Nat → Int32) (b : Int32) : Nat → Nat → Int32
  | 0, _ => -1
  | n + 1, s => if f s = b then nI s else fstF f b n (s + 1)
theorem cntF_b (f : Nat → Int32) (b : Int32) : ∀ n s, cntF f b n s ≤ n := by
  intro n
  induction n with
  | zero => intro s; exact Nat.le_refl _
  | succ n ih => intro s; unfold cntF; have := ih (s + 1); split <;> omega
theorem fstF_r (f : Nat → Int32) (b : Int32) : ∀ n s, (cntF f b n s = 0 ∧ fstF f b n s = -1) ∨ (cntF f b n s ≠ 0 ∧ ∃ i, i < s + n ∧ fstF f b n s = nI i) := by
  intro n
  induction n with
  | zero => intro s; exact Or.inl ⟨rfl, rfl⟩
  | succ n ih =>
    intro s
    unfold cntF fstF
    by_cases h : f s = b
    · rw [if_pos h, if_pos h]; exact Or.inr ⟨by omega, s, by omega, rfl⟩
    · rw [if_neg h, if_neg h, Nat.zero_add]
      rcases ih (s + 1) with e | ⟨e, i, hi, e2⟩
      · exact Or.inl e
      · exact Or.inr ⟨e, i, by omega, e2⟩
theorem cntF_c (f f' : Nat → Int32) (b : Int32) : ∀ n s, (∀ i, i < s + n → f i = f' i) → cntF f b n s = cntF f' b n s ∧ fstF f b n s = fstF f' b n s := by
  intro n
  induction n with
  | zero => intro s _; exact ⟨rfl, rfl⟩
  | succ n ih => intro s h; unfold cntF fstF; have := ih (s + 1) (fun i hi => h i (by omega)); rw [h s (by omega), this.1, this.2]; exact ⟨rfl, rfl⟩
theorem outsX (w : Wd) (b : Int32) (a t : Nat) (ht : t ≤ 30) : ∀ k n fuel, a + k + n = t → k < fuel → fx (fun _ _ _ => none) (bX_outsBetween_L13 b (nI a)) fuel (nI (cntF (w.2.1 25) b n (a + k))) (nI (a + k) + (-1)) (stG w 90 34 (fstF (w.2.1 25) b n (a + k))) = some (nI (cntF (w.2.1 25) b (n + k) a), stG w 90 34 (fstF (w.2.1 25) b (n + k) a)) := by
  intro k
  induction k with
  | zero =>
    intro n fuel hk hf
    obtain ⟨g, rfl⟩ : ∃ g, fuel = g + 1 := ⟨fuel - 1, by omega⟩
    rw [fx_s]
    unfold bX_outsBetween_L13
    have hlt : nI (a + 0) + (-1) < nI a := by
      rcases Nat.eq_zero_or_pos a with h0 | h0
      · subst h0; decide
      · obtain ⟨c, rfl⟩ : ∃ c, a = c + 1 := ⟨a - 1, by omega⟩
        rw [Nat.add_zero, pk_m1]
        exact (nIlt (by omega) (by omega)).mpr (by omega)
    rw [if_pos hlt]
    rfl
  | succ k ih =>
    intro n fuel hk hf
    obtain ⟨g, rfl⟩ : ∃ g, fuel = g + 1 := ⟨fuel - 1, by omega⟩
    have ihx := ih (n + 1) g (by omega) (by omega)
    rw [show n + 1 + k = n + (k + 1) by omega] at ihx
    rw [fx_s]
    generalize fx _ _ g = s1 at ihx ⊢
    rw [← ihx, show a + (k + 1) = a + k + 1 by omega, pk_m1]
    unfold bX_outsBetween_L13
    rw [if_neg (fun z => absurd ((nIlt (by omega) (by omega)).mp z) (by omega)), inb_nI (show a + k < 30 by omega) (by decide), clN (show a + k < 1073741824 by omega), rd_t]
    conv => rhs; unfold cntF fstF
    rw [stG_ne (show (25 : Nat) ≠ 90 by decide)]
    simp only [nm_d]
    by_cases h : w.2.1 25 (a + k) = b
    · rw [if_pos h, if_pos h, if_pos h, nI_1, Nat.add_comm 1, stG_stG]
    · rw [if_neg h, if_neg h, if_neg h, Nat.zero_add]
theorem outsM (v : Wd) (b : Int32) (l t : Nat) (hl : l < 60) (ht : t ≤ 30) (e : v.2.1 42 l = nI t) (J : Int32 → Int32 → Option Int32) : ∀ n s c fuel (f : Int32), s + n = t ∨ (n = 0 ∧ t ≤ s ∧ s ≤ 30) → c ≤ s → n < fuel → (c = 0 → f = -1) → fx (fun _ _ _ => none) (bM_broke_L115 (nI l) v b J) fuel (nI c) f (nI s) = J (nI (c + cntF (v.2.1 37) b n s)) (if c = 0 then fstF (v.2.1 37) b n s else f) := by
  intro n
  induction n with
  | zero =>
    intro s c fuel f hk hc hf h0
    obtain ⟨g, rfl⟩ : ∃ g, fuel = g + 1 := ⟨fuel - 1, by omega⟩
    rw [fx_s]
    unfold bM_broke_L115
    rw [inb_nI hl (by decide), clN (show l < 1073741824 by omega), rd_t, e, if_pos ((nIle (by omega) (by omega)).mpr (by omega))]
    unfold cntF fstF
    by_cases hc0 : c = 0
    · rw [if_pos hc0, h0 hc0]; rfl
    · rw [if_neg hc0]; rfl
  | succ n ih =>
    intro s c fuel f hk hc hf h0
    obtain ⟨g, rfl⟩ : ∃ g, fuel = g + 1 := ⟨fuel - 1, by omega⟩
    have ihx := fun c f h1 h2 => ih (s + 1) c g f (by omega) h1 (by omega) h2
    rw [fx_s]
    generalize fx _ _ g = s1 at ihx ⊢
    unfold bM_broke_L115
    rw [inb_nI hl (by decide), clN (show l < 1073741824 by omega), rd_t, e, if_neg (fun z => absurd ((nIle (by omega) (by omega)).mp z) (by omega)), inb_nI (show s < 30 by omega) (by decide), clN (show s < 1073741824 by omega), rd_t]
    conv => rhs; unfold cntF fstF
    simp only [nm_d, nI_1]
    by_cases h : v.2.1 37 s = b
    · rw [if_pos h, if_pos h, if_pos h]
      by_cases hc0 : c = 0
      · subst hc0
        rw [if_pos (show nI 0 = (0 : Int32) from rfl), if_pos rfl, ihx _ _ (by omega) (by omega), if_neg (by omega), Nat.zero_add, Nat.zero_add]
      · rw [if_neg (nI_ne0 (by omega) (by omega)), if_neg hc0, ihx _ _ (by omega) (by omega), if_neg (by omega), Nat.add_assoc]
    · rw [if_neg h, if_neg h, if_neg h, Nat.zero_add, ihx _ _ (by omega) h0]
theorem rel34 {w v : Wd} {x : Int32} (h : Rel w v) : Rel (stG w 90 34 x) v := h.keep (Ag.sf (by decide)) Ag.rfl
theorem fin2 {ρ : Type} {R : Wd → Wd → Prop} {x : Option (ρ × Wd)} {m : Option ρ} {v : Wd} {r : ρ} {w1 : Wd} (h1 : x = some (r, w1)) (h2 : m = some r) (h3 : R w1 v) : ∃ (r : ρ) (w1 : Wd), x = some (r, w1) ∧ m = some r ∧ R w1 v := ⟨r, w1, h1, h2, h3⟩
theorem lastX0 (w : Wd) (n : Nat) (hn : n < 60) (J : Int32 → Option (Int32 × Wd)) : sX_broke_L35 w (nI n) J (-1) 0 = J (lastB (w.2.1 29) (w.2.1 29 n) n) := by
  rw [eX_broke_L35]
  exact lastX w n hn J n 0 FU (by omega) (by rw [FU_v]; omega)
theorem nIsub1 (n : Nat) : nI n - 1 = nI n + (-1) := by rw [Int32.sub_eq_add_neg]
theorem outsX0 (w : Wd) (b : Int32) (a t : Nat) (ha : a ≤ 30) (ht : t ≤ 30) : ∃ n, (a + n = t ∨ (n = 0 ∧ t ≤ a)) ∧ sX_outsBetween w b (nI a) (nI t) = some (nI (cntF (w.2.1 25) b n a), stG w 90 34 (fstF (w.2.1 25) b n a)) := by
  unfold sX_outsBetween
  simp only [nm_d]
  rw [eX_outsBetween_L13, nIsub1]
  by_cases h : a ≤ t
  · refine ⟨t - a, by omega, ?_⟩
    have := outsX w b a t ht (t - a) 0 FU (by omega) (by rw [FU_v]; omega)
    rw [Nat.zero_add, show a + (t - a) = t by omega] at this
    exact this
  · refine ⟨0, by omega, ?_⟩
    obtain ⟨g, hg⟩ : ∃ g, FU = g + 1 := ⟨99999, by rw [FU_v]⟩
    rw [hg, fx_s]
    unfold bX_outsBetween_L13
    have hlt : nI t + (-1) < nI a := by
      rcases Nat.eq_zero_or_pos t with h0 | h0
      · subst h0
        have : nI 0 + (-1) < nI 0 := by decide
        exact Int32.lt_of_lt_of_le this ((nIle (by omega) (by omega)).mpr (by omega))
      · obtain ⟨c, rfl⟩ : ∃ c, t = c + 1 := ⟨t - 1, by omega⟩
        rw [pk_m1]
        exact (nIlt (by omega) (by omega)).mpr (by omega)
    rw [if_pos hlt]
    rfl
theorem broke_tail {w v : Wd} (hR : Rel w v) {a2 : Int32} {l b s t nB nT : Nat} (hl : l < 60) (hs : s ≤ nT) (ht : t ≤ nT) (hT : nT ≤ 30) (e : v.2.1 42 l = nI t) (hG : Outs nB nT w v) : ∃ (r : Int32) (w' : Wd), (bd2 (sX_outsBetween w (nI b) (nI s) (nI t)) fun v13 w14 => if a2 = 0 then (some (v13, w14)) else (if v13 = 0 then (some ((-1), w14)) else (if a2 = (1) then (some ((w14.2.1 90 34), w14)) else (rd (inb (w14.2.1 90 34) 30) (w14.2.1 28 ((w14.2.1 90 34).toNatClampNeg)) fun v16 => some (v16, w14))))) = some (r, w') ∧ sM_broke_L115 (nI l) v (nI b) (fun x15 x16 => if a2 = 0 then (some x15) else (if a2 = (1) then (some x16) else (if 0 ≤ x16 then (rd (inb x16 30) (v.2.1 40 (x16.toNatClampNeg)) fun v18 => some v18) else (some (-1))))) 0 (-1) (nI s) = some r ∧ Rel w' v := by
  obtain ⟨n, hn, ex⟩ := outsX0 w (nI b) s t (by omega) (by omega)
  have em := outsM v (nI b) l t hl (by omega) e (fun x15 x16 => if a2 = 0 then (some x15) else (if a2 = (1) then (some x16) else (if 0 ≤ x16 then (rd (inb x16 30) (v.2.1 40 (x16.toNatClampNeg)) fun v18 => some v18) else (some (-1))))) n s 0 FU (-1) (by omega) (by omega) (by rw [FU_v]; omega) (fun _ => rfl)
  rw [ex, bd2_s, eM_broke_L115]
  have hc := cntF_c (w.2.1 25) (v.2.1 37) (nI b) n s (fun i hi => by
    obtain ⟨⟨b', -, q1, q2⟩, -⟩ := hG i (by omega)
    rw [q1, q2])
  rw [if_pos rfl, ← hc.1, ← hc.2, Nat.zero_add] at em
  have hb := cntF_b (w.2.1 25) (nI b) n s
  rw [f90s]
  have hR' := rel34 (x := fstF (w.2.1 25) (nI b) n s) hR
  rcases fstF_r (w.2.1 25) (nI b) n s with ⟨e1, e2⟩ | ⟨e1, i, hi, e2⟩
  · rw [e1, e2] at em
    rw [e2] at hR'
    rw [e1, e2]
    by_cases h0 : a2 = 0
    · rw [if_pos h0]
      refine fin2 rfl (em.trans ?_) hR'
      rw [if_pos h0]
    · rw [if_neg h0, if_pos (show nI 0 = (0 : Int32) from rfl)]
      refine fin2 rfl (em.trans ?_) hR'
      rw [if_neg h0]
      by_cases h1 : a2 = 1
      · rw [if_pos h1]
      · rw [if_neg h1, if_neg (show ¬ (0 : Int32) ≤ -1 by decide)]
  · rw [e2] at em
    rw [e2] at hR'
    rw [e2]
    by_cases h0 : a2 = 0
    · rw [if_pos h0]
      refine fin2 rfl (em.trans ?_) hR'
      rw [if_pos h0]
    · rw [if_neg h0, if_neg (nI_ne0 (by omega) (by omega))]
      rw [if_neg h0] at em
      by_cases h1 : a2 = 1
      · rw [if_pos h1]
        refine fin2 rfl (em.trans ?_) hR'
        rw [if_pos h1]
      · obtain ⟨-, -, -, q⟩ := hG i (by omega)
        rw [if_neg h1, inb_nI (show i < 30 by omega) (by decide), clN (show i < 1073741824 by omega), rd_t, stG_ne (show (28 : Nat) ≠ 90 by decide)]
        refine fin2 rfl (em.trans ?_) hR'
        rw [if_neg h1, if_pos (show (0 : Int32) ≤ nI i from (nIle (a := 0) (by decide) (by omega)).mpr (by omega)), inb_nI (show i < 30 by omega) (by decide), clN (show i < 1073741824 by omega), rd_t, q]
theorem op_broke : Op_broke Rel := by
  intro w v a1 a2 hR
  have hR0 := hR
  obtain ⟨nO, nB, nC, nU, nT, nL, nH, nP, d, hC, hO, hB, hS, hRc, hV, hT, hU, hG, hL, hH, hK⟩ := hR
  have C := hC
  obtain ⟨⟨bO, bB, bC, bU, bT, bL, bH, bP, bD⟩, ⟨k0, k1, k2, k3, k4, k5⟩, ⟨xO, xB, xD, xC, xU, xP, xT, xL, xH⟩, ⟨yO, yB, yD, yC, yU, yP, yT, yL, yH⟩, hnr, hn0, hn9⟩ := C
  unfold sX_broke sM_broke
  rw [xL, yL, in_below a1 (by omega), isIn_below a1 (by omega), sX_in_v, sM_isIn_v]
  simp only [bd_s]
  by_cases h1 : 0 ≤ a1.toInt ∧ a1.toInt < nL
  rotate_left
  · rw [b1_f h1, if_pos z00, if_pos z00]
    exact fin2 rfl rfl hR0
  rw [b1_t h1, if_neg n10, if_neg n10]
  by_cases h2 : (0 : Int64).toInt ≤ a2.toInt ∧ a2.toInt ≤ (2 : Int64).toInt
  rotate_left
  · rw [b1_f h2, if_pos z00, if_pos z00]
    exact fin2 rfl rfl hR0
  rw [b1_t h2, if_neg n10, if_neg n10]
  obtain ⟨l, hl, rfl⟩ := ix_of h1
  have hll : ∀ i, i < 60 → (inb (nI i) 60 = true ∧ (nI i).toNatClampNeg = i) := fun i hi => ⟨inb_nI hi (by decide), clN (by omega)⟩
  obtain ⟨b, t, hb, ht, g1, g2, g3, g4, g5, g6⟩ := hL l hl
  simp only [nm_d, jn_d, (hll l (by omega)).1, (hll l (by omega)).2, rd_t]
  rw [lastX0 w l (by omega), nIsub1, eM_broke_L42, lastM v _ _ l FU (by omega) (by rw [FU_v]; omega)]
  have hp : lastB (v.2.1 41) (v.2.1 41 l) l = lastB (w.2.1 29) (w.2.1 29 l) l := by
    rw [g2, g1]
    refine lastB_c _ _ _ _ (fun i hi => ?_)
    obtain ⟨_, _, _, _, q1, q2, _⟩ := hL i (by omega)
    rw [q1, q2]
  rw [hp]
  by_cases hz : v.2.1 43 l = 0
  rotate_left
  · rw [g5, if_neg hz, if_neg hz]
    exact fin2 rfl rfl hR0
  rw [g5, if_pos hz, if_pos hz]
  rcases lastB_r (w.2.1 29) (w.2.1 29 l) l with ep | ⟨i, hi, ep⟩
  · rw [ep, if_pos rfl, if_pos rfl, if_pos (show (-1 : Int32) < 0 by decide), if_neg (show ¬ (0 : Int32) ≤ -1 by decide), g1, g2, g3]
    exact broke_tail (s := 0) hR0 (by omega) (by omega) ht bT g4 hG
  · have e1 : ¬ nI i = (-1 : Int32) := nI_nm1 (by omega)
    obtain ⟨b', t', hb', ht', q1, q2, q3, q4, q5, q6⟩ := hL i (by omega)
    rw [ep, if_neg e1, if_neg (nI_pos (by omega)), (hll i (by omega)).1, (hll i (by omega)).2]
    simp only [rd_t]
    by_cases hy : v.2.1 43 i = 0
    · rw [q5, if_pos hy, if_pos hy]
      exact fin2 rfl rfl hR0
    · rw [q5, if_neg hy, if_neg hy, if_neg e1, if_pos (show (0 : Int32) ≤ nI i from (nIle (a := 0) (by decide) (by omega)).mpr (by omega)), q3, q4, g1, g2, g3]
      exact broke_tail hR0 (by omega) ht' ht bT g4 hG
