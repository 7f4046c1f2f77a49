set_option maxRecDepth 100000
def flq (q : Nat → Int32) (f0 : Int32) : Nat → Int32
  | 0 => f0
  | k + 1 => if flq q f0 k = 0 then 0 else if q k = 0 then 0 else 1
theorem flq_0 (q : Nat → Int32) (f0 : Int32) (k : Nat) (h : flq q f0 k = 0) : ∀ m, flq q f0 (k + m) = 0 := by
  intro m
  induction m with
  | zero => exact h
  | succ m ih => rw [← Nat.add_assoc]; unfold flq; rw [if_pos ih]
theorem flq_b (q : Nat → Int32) (f0 : Int32) (h : f0 = 0 ∨ f0 = 1) : ∀ k, flq q f0 k = 0 ∨ flq q f0 k = 1 := by
  intro k
  induction k with
  | zero => exact h
  | succ k ih => unfold flq; split; exact Or.inl rfl; split; exact Or.inl rfl; exact Or.inr rfl
theorem holdsX {w : Wd} {r b z : Nat} {hour : Int32} (q : Nat → Int32) (hq : ∀ j, j < z → ∀ self, bU_holds_L23 w r b hour self (nI j) = if q j = 0 then some 0 else self (nI (j + 1))) (he : ∀ self, bU_holds_L23 w r b hour self (nI z) = some 1) : ∀ m j fuel, j + m = z → m < fuel → flq q 1 j = 1 → fx (fun _ => none) (bU_holds_L23 w r b hour) fuel (nI j) = some (flq q 1 z) := by
  intro m
  induction m with
  | zero =>
    intro j fuel hj hf hl
    obtain ⟨g, rfl⟩ : ∃ g, fuel = g + 1 := ⟨fuel - 1, by omega⟩
    obtain rfl : j = z := by omega
    rw [fx_s, he, hl]
  | succ m ih =>
    intro j fuel hj hf hl
    obtain ⟨g, rfl⟩ : ∃ g, fuel = g + 1 := ⟨fuel - 1, by omega⟩
    rw [fx_s, hq j (by omega)]
    have e : flq q 1 (j + 1) = if flq q 1 j = 0 then 0 else if q j = 0 then 0 else 1 := rfl
    rw [hl, if_neg n10] at e
    by_cases h : q j = 0
    · rw [if_pos h] at e
      rw [if_pos h]
      have := flq_0 q 1 (j + 1) e m
      rw [show j + 1 + m = z by omega] at this
      rw [this]
    · rw [if_neg h] at e
      rw [if_neg h]
      exact ih (j + 1) g (by omega) (by omega) e
theorem holdsM {v : Wd} {r b z : Nat} {hour f0 : Int32} (hr : r < 10) (hz : z ≤ 3) (e : v.2.1 34 r = nI z) (q : Nat → Int32) (hq : ∀ j, j < z → sM_isSo v (nI (12 * r + 4 * j)) (nI b) hour = some (q j)) (J : Int32 → Option Int32) : ∀ m j fuel, j + m = z → m < fuel → fx (fun _ _ => none) (bM_asked_L51 (nI b) hour v (nI r) J) fuel (flq q f0 j) (nI j) = J (flq q f0 z) := by
  intro m
  induction m with
  | zero =>
    intro j fuel hj hf
    obtain ⟨g, rfl⟩ : ∃ g, fuel = g + 1 := ⟨fuel - 1, by omega⟩
    obtain rfl : j = z := by omega
    rw [fx_s]
    unfold bM_asked_L51
    rw [inb_nI hr (by decide), clN (show r < 1073741824 by omega), rd_t, e, if_pos (Int32.le_refl _)]
  | succ m ih =>
    intro j fuel hj hf
    obtain ⟨g, rfl⟩ : ∃ g, fuel = g + 1 := ⟨fuel - 1, by omega⟩
    have ihx := ih (j + 1) g (by omega) (by omega)
    rw [fx_s]
    generalize fx _ _ g = s1 at ihx ⊢
    rw [← ihx]
    unfold bM_asked_L51
    rw [inb_nI hr (by decide), clN (show r < 1073741824 by omega), rd_t, e, if_neg (fun z => absurd ((nIle (by omega) (by omega)).mp z) (by omega))]
    simp only [jn_d, nm_d, nI_1]
    rw [show (12 : Int32) * nI r + 4 * nI j = nI (12 * r + 4 * j) by rw [show (12 : Int32) = nI 12 from rfl, show (4 : Int32) = nI 4 from rfl, pk_mul, pk_mul, nI_add], hq j (by omega), bd_s]
    conv => rhs; unfold flq
    by_cases h : flq q f0 j = 0
    · rw [if_pos h, if_pos h]
    · rw [if_neg h, if_neg h]
      by_cases h2 : q j = 0
      · rw [if_pos h2, if_pos h2]
      · rw [if_neg h2, if_neg h2]
theorem holds_v {w v : Wd} {nO nB nU d b r : Nat} (E : Env nO nB nU d w v) (hb : b < nB) (hr : r < nU) (hour : Int32) : ∃ h : Int32, sU_holds w r b hour = some h ∧ ∀ self x3, bM_asked_L5 (nI b) hour v self x3 (nI r) = self (if h = 0 then x3 else nI r) (nI (r + 1)) := by
  have bU := E.bU
  have bB := E.bB
  obtain ⟨k, z, hk, hz, g1, g2, g3, g4, g5, g6, g7⟩ := E.hU r hr
  obtain ⟨kb, ls, ms, ln, hkb, -, -, -, -, -, q1, q2, -⟩ := E.hB.1 b hb
  let q : Nat → Int32 := fun j => (sM_isSo v (nI (12 * r + 4 * j)) (nI b) hour).getD 0
  have hq : ∀ j, j < z → sM_isSo v (nI (12 * r + 4 * j)) (nI b) hour = some (q j) ∧ ∀ self, bU_holds_L23 w r b hour self (nI j) = if q j = 0 then some 0 else self (nI (j + 1)) := by
    intro j hj
    obtain ⟨x, x1, x2⟩ := test_v E hb hr hz g5 hj hour (g7 j hj)
    have : q j = x := by
      show (sM_isSo v (nI (12 * r + 4 * j)) (nI b) hour).getD 0 = x
      rw [x1]; rfl
    rw [this]
    exact ⟨x1, x2⟩
  have he : ∀ self, bU_holds_L23 w r b hour self (nI z) = some 1 := by
    intro self
    unfold bU_holds_L23
    rw [E.k2, decide_eq_true hr, rd_t, g5, if_pos (Int32.le_refl _)]
  have eX : sU_holds_L23 w r b hour 0 = some (flq q 1 z) := by
    rw [eU_holds_L23]
    exact holdsX q (fun j hj => (hq j hj).2) he z 0 FU (by omega) (by rw [FU_v]; omega) rfl
  have eM : ∀ f0 J, sM_asked_L51 (nI b) hour v (nI r) J f0 0 = J (flq q f0 z) := by
    intro f0 J
    rw [eM_asked_L51]
    exact holdsM (by omega) hz g6 q (fun j hj => (hq j hj).1) J z 0 FU (by omega) (by rw [FU_v]; omega)
  have hf0 : flq q 0 z = 0 := by
    have := flq_0 q 0 0 rfl z
    rw [Nat.zero_add] at this; exact this
  have key : ∀ f0 : Int32, (f0 = 0 ∨ f0 = 1) → (∀ (self : Int32 → Int32 → Option Int32) x3, bM_asked_L5 (nI b) hour v self x3 (nI r) = (if flq q f0 z = 0 then self x3 (nI (r + 1)) else self (nI r) (nI (r + 1)))) → sU_holds w r b hour = some (flq q f0 z) → ∃ h : Int32, sU_holds w r b hour = some h ∧ ∀ self x3, bM_asked_L5 (nI b) hour v self x3 (nI r) = self (if h = 0 then x3 else nI r) (nI (r + 1)) := by
    intro f0 h01 h1 h2
    refine ⟨flq q f0 z, h2, fun self x3 => ?_⟩
    rw [h1]
    by_cases h : flq q f0 z = 0
    · rw [if_pos h, if_pos h]
    · rw [if_neg h, if_neg h]
  have bodyM : ∀ (self : Int32 → Int32 → Option Int32) x3, bM_asked_L5 (nI b) hour v self x3 (nI r) = (if nI k = 5 then (if flq q 1 z = 0 then self x3 (nI (r + 1)) else self (nI r) (nI (r + 1))) else if nI k = nI kb then (if flq q 1 z = 0 then self x3 (nI (r + 1)) else self (nI r) (nI (r + 1))) else (if flq q 0 z = 0 then self x3 (nI (r + 1)) else self (nI r) (nI (r + 1)))) := by
    intro self x3
    unfold bM_asked_L5
    rw [E.yU, if_neg (fun z => absurd ((nIle (by omega) (by omega)).mp z) (by omega)), inb_nI (show r < 10 by omega) (by decide), clN (show r < 1073741824 by omega), inb_nI (show b < 8 by omega) (by decide), clN (show b < 1073741824 by omega)]
    simp only [rd_t, nm_d, jn_d, nI_1]
    rw [eM, eM, g3, q2]
  have bodyX : sU_holds w r b hour = (if (if k = 5 then (-1 : Int32) else nI k) = -1 then some (flq q 1 z) else if (if k = 5 then (-1 : Int32) else nI k) = nI kb then some (flq q 1 z) else some 0) := by
    unfold sU_holds
    rw [E.k2, decide_eq_true hr, E.k0, decide_eq_true hb, g4, q1]
    simp only [rd_t, nm_d, jn_d]
    rw [eX]
  by_cases h5 : k = 5
  · refine key 1 (Or.inr rfl) (fun self x3 => ?_) ?_
    · rw [bodyM, h5, if_pos (show nI 5 = (5 : Int32) from rfl)]
    · rw [bodyX, if_pos h5, if_pos rfl]
  · have n5 : ¬ nI k = (5 : Int32) := fun z => h5 ((nIeq (b := 5) (by omega) (by decide)).mp z)
    rw [if_neg h5, if_neg (nI_nm1 (by omega))] at bodyX
    by_cases hkk : nI k = nI kb
    · refine key 1 (Or.inr rfl) (fun self x3 => ?_) ?_
      · rw [bodyM, if_neg n5, if_pos hkk]
      · rw [bodyX, if_pos hkk]
    · refine key 0 (Or.inl rfl) (fun self x3 => ?_) ?_
      · rw [bodyM, if_neg n5, if_neg hkk]
      · rw [bodyX, if_neg hkk, hf0]
def lastH (h : Nat → Int32) : Nat → Int32
  | 0 => -1
  | k + 1 => if h k = 0 then lastH h k else nI k
theorem lastH_r (h : Nat → Int32) : ∀ k, lastH h k = -1 ∨ ∃ r, r < k ∧ lastH h k = nI r := by
  intro k
  induction k with
  | zero => exact Or.inl rfl
  | succ k ih =>
    unfold lastH
    by_cases hk : h k = 0
    · rw [if_pos hk]
      rcases ih with e | ⟨i, hi, e⟩
      · exact Or.inl e
      · exact Or.inr ⟨i, by omega, e⟩
    · rw [if_neg hk]; exact Or.inr ⟨k, by omega, rfl⟩
theorem ruling_v {w v : Wd} {nO nB nU d b : Nat} (E : Env nO nB nU d w v) (hb : b < nB) (hour : Int32) : ∃ x, sX_ruling w b hour = some x ∧ sM_asked v (nI b) hour = some x ∧ (x = -1 ∨ ∃ r, r < nU ∧ x = nI r) := by
  have bU := E.bU
  let h : Nat → Int32 := fun r => (sU_holds w r b hour).getD 0
  have hh : ∀ r, r < nU → sU_holds w r b hour = some (h r) ∧ ∀ self x3, bM_asked_L5 (nI b) hour v self x3 (nI r) = self (if h r = 0 then x3 else nI r) (nI (r + 1)) := by
    intro r hr
    obtain ⟨x, x1, x2⟩ := holds_v E hb hr hour
    have : h r = x := by
      show (sU_holds w r b hour).getD 0 = x
      rw [x1]; rfl
    rw [this]
    exact ⟨x1, x2⟩
  have hX : ∀ k fuel, k ≤ nU → k < fuel → fx (fun _ => none) (bX_ruling_L7 w b hour) fuel (nI k + (-1)) = some (lastH h k) := by
    intro k
    induction k with
    | zero =>
      intro fuel hk hf
      obtain ⟨g, rfl⟩ : ∃ g, fuel = g + 1 := ⟨fuel - 1, by omega⟩
      rw [fx_s]
      unfold bX_ruling_L7
      rw [if_pos (show nI 0 + (-1) < (0 : Int32) by decide)]
      rfl
    | succ k ih =>
      intro fuel hk hf
      obtain ⟨g, rfl⟩ : ∃ g, fuel = g + 1 := ⟨fuel - 1, by omega⟩
      have ihx := ih g (by omega) (by omega)
      rw [fx_s, pk_m1]
      generalize fx _ _ g = s1 at ihx ⊢
      unfold bX_ruling_L7
      rw [if_neg (show ¬ nI k < 0 from nI_pos (by omega)), inb_nI (show k < 10 by omega) (by decide), clN (show k < 1073741824 by omega), E.k5, decide_eq_true (show k < nU by omega)]
      simp only [Bool.and_self, rd_t]
      rw [E.k2, decide_eq_true (show k < nU by omega), gd_t, (hh k (by omega)).1, bd_s, nm_d, ihx]
      conv => rhs; unfold lastH
      by_cases hk0 : h k = 0
      · rw [if_pos hk0, if_pos hk0]
      · rw [if_neg hk0, if_neg hk0]
  have hM : ∀ m k fuel, k + m = nU → m < fuel → fx (fun _ _ => none) (bM_asked_L5 (nI b) hour v) fuel (lastH h k) (nI k) = some (lastH h nU) := by
    intro m
    induction m with
    | zero =>
      intro k fuel hk hf
      obtain ⟨g, rfl⟩ : ∃ g, fuel = g + 1 := ⟨fuel - 1, by omega⟩
      obtain rfl : k = nU := by omega
      rw [fx_s]
      unfold bM_asked_L5
      rw [E.yU, if_pos (Int32.le_refl _)]
    | succ m ih =>
      intro k fuel hk hf
      obtain ⟨g, rfl⟩ : ∃ g, fuel = g + 1 := ⟨fuel - 1, by omega⟩
      have ihx := ih (k + 1) g (by omega) (by omega)
      rw [fx_s, (hh k (by omega)).2]
      exact ihx
  refine ⟨lastH h nU, ?_, ?_, lastH_r h nU⟩
  · unfold sX_ruling
    rw [E.xU, nm_d, nIsub1, eX_ruling_L7]
    exact hX nU FU (by omega) (by rw [FU_v]; omega)
  · unfold sM_asked
    rw [nm_d, nm_d, eM_asked_L5]
    exact hM nU 0 FU (by omega) (by rw [FU_v]; omega)
theorem Rel.env {w v : Wd} (hR : Rel w v) : ∃ nO nB nU d, Env nO nB nU d w v ∧ w.2.1 90 3 = nI nB ∧ v.2.1 90 11 = nI nB := by
  have hR0 := hR
  obtain ⟨nO, nB, nC, nU, nT, nL, nH, nP, d, hC, hO, hB, hS, hRc, hV, hT, hU, hG, hL, hH, hK⟩ := hR
  have C := hC
  obtain ⟨⟨bO, bB, bC, bU, bT, bL, bH, bP, bD⟩, ⟨k0, k1, k2, k3, k4, k5⟩, ⟨xO, xB, xD, xC, xU, xP, xT, xL, xH⟩, ⟨yO, yB, yD, yC, yU, yP, yT, yL, yH⟩, hnr, hn0, hn9⟩ := C
  exact ⟨nO, nB, nU, d, ⟨hO, hB, hS, hV, hU, k0, k1, k2, k3, k4, k5, bO, bB, bU, bD, xD, yD, xU, yU, yO⟩, xB, yB⟩
theorem op_ruled : Op_ruled Rel := by
  intro w v a1 a2 hR
  obtain ⟨nO, nB, nU, d, E, xB, yB⟩ := hR.env
  have bB := E.bB
  unfold sX_ruled sM_ruled
  rw [sX_isBoat_v a1 xB (by omega), sM_isBoat_v a1 yB (by omega), sX_in_v, sM_isIn_v]
  simp only [bd_s]
  by_cases h1 : 0 ≤ a1.toInt ∧ a1.toInt < nB
  rotate_left
  · rw [b1_f h1, if_pos z00, if_pos z00]
    exact fin1 rfl rfl
  rw [b1_t h1, if_neg n10, if_neg n10]
  by_cases h2 : (0 : Int64).toInt ≤ a2.toInt ∧ a2.toInt ≤ (23 : Int64).toInt
  rotate_left
  · rw [b1_f h2, if_pos z00, if_pos z00]
    exact fin1 rfl rfl
  rw [b1_t h2, if_neg n10, if_neg n10]
  obtain ⟨b, hb, rfl⟩ := ix_of h1
  obtain ⟨x, e1, e2, -⟩ := ruling_v E hb a2
  rw [inb_nI (show b < 8 by omega) (by decide), clN (show b < 1073741824 by omega), E.k3, decide_eq_true hb]
  simp only [Bool.and_self, rd_t]
  rw [e1, e2]
  exact fin1 rfl rfl
theorem sN_b {k : Nat} (hk : k ≤ 4) : 1 ≤ sN k ∧ sN k ≤ 8 := kcase (P := fun k => 1 ≤ sN k ∧ sN k ≤ 8) hk (by decide) (by decide) (by decide) (by decide) (by decide)
theorem mean_v {w v : Wd} {nO nB nU d b k : Nat} (E : Env nO nB nU d w v) (hb : b < nB) (hk : k ≤ 4) (g1 : w.2.1 (100 + 10 * b) 0 = nI k) (g2 : v.2.1 6 b = nI k) : (∃ S, S ≤ 150 * sN k ∧ (∀ J, sX_mean_L4 w b J 0 0 = J (nI S)) ∧ (∀ J, sM_ashore_L16 (nI b) v J 0 0 = J (nI S))) ∨ ((∀ J, sX_mean_L4 w b J 0 0 = some (-1)) ∧ ∀ J, sM_ashore_L16 (nI b) v J 0 0 = some 2) := by
  have bO := E.bO
  have bB := E.bB
  have hs8 := sN_b hk
  have key : ∀ (m s S fuel : Nat), s + m = sN k → m < fuel → S ≤ 150 * s → (∃ S', S' ≤ 150 * sN k ∧ (∀ J, fx (fun _ _ => none) (bX_mean_L4 w b J) fuel (nI S) (nI s) = J (nI S')) ∧ (∀ J, fx (fun _ _ => none) (bM_ashore_L16 (nI b) v J) fuel (nI S) (nI s) = J (nI S'))) ∨ ((∀ J, fx (fun _ _ => none) (bX_mean_L4 w b J) fuel (nI S) (nI s) = some (-1)) ∧ ∀ J, fx (fun _ _ => none) (bM_ashore_L16 (nI b) v J) fuel (nI S) (nI s) = some 2) := by
    intro m
    induction m with
    | zero =>
      intro s S fuel hs hf hS
      obtain ⟨g, rfl⟩ : ∃ g, fuel = g + 1 := ⟨fuel - 1, by omega⟩
      obtain rfl : s = sN k := by omega
      refine Or.inl ⟨S, hS, fun J => ?_, fun J => ?_⟩
      · rw [fx_s]
        unfold bX_mean_L4
        rw [E.k0, decide_eq_true hb, gd_t, sB_seats_v (by rw [E.k0]; exact hb) g1 hk, bd_s, if_pos (Int32.le_refl _)]
      · rw [fx_s]
        unfold bM_ashore_L16
        rw [sM_seatsOf_v (by omega) g2 hk, bd_s, if_pos (Int32.le_refl _)]
    | succ m ih =>
      intro s S fuel hs hf hS
      obtain ⟨g, rfl⟩ : ∃ g, fuel = g + 1 := ⟨fuel - 1, by omega⟩
      have hle : ¬ nI (sN k) ≤ nI s := fun z => absurd ((nIle (by omega) (by omega)).mp z) (by omega)
      have stX : ∀ J s1, bX_mean_L4 w b J s1 (nI S) (nI s) = if w.2.1 (101 + 10 * b) s = -1 then some (-1) else rd (inb (w.2.1 (101 + 10 * b) s) 16 && decide ((w.2.1 (101 + 10 * b) s).toNatClampNeg < nO)) ((w.2.1 (101 + 10 * b) s).toNatClampNeg) fun k16 => rd (oOk w k16) (w.2.1 (102 + 10 * k16) 1) fun v17 => s1 (nI S + v17) (nI (s + 1)) := by
        intro J s1
        unfold bX_mean_L4
        rw [E.k0, decide_eq_true hb, sB_seats_v (by rw [E.k0]; exact hb) g1 hk, inb_nI (show s < 9 by omega) (by decide), clN (show s < 1073741824 by omega), E.k4]
        simp only [gd_t, bd_s, Bool.and_self, rd_t, nm_d, nI_1]
        rw [if_neg hle]
      have stM : ∀ J s1, bM_ashore_L16 (nI b) v J s1 (nI S) (nI s) = if 0 ≤ w.2.1 (101 + 10 * b) s then rd (inb (w.2.1 (101 + 10 * b) s) 16) (v.2.1 1 (w.2.1 (101 + 10 * b) s).toNatClampNeg) fun v31 => s1 (nI S + v31) (nI (s + 1)) else some 2 := by
        intro J s1
        unfold bM_ashore_L16
        rw [sM_seatsOf_v (by omega) g2 hk, sitter_crew E.hS bO bB E.yO hb (show s < 9 by omega)]
        simp only [bd_s, nm_d, nI_1]
        rw [if_neg hle]
      rcases E.hS.1 b hb s (by omega) with e | ⟨p, hp, e, -, -⟩
      · refine Or.inr ⟨fun J => ?_, fun J => ?_⟩
        · rw [fx_s, stX, e, if_pos rfl]
        · rw [fx_s, stM, e, if_neg (show ¬ (0 : Int32) ≤ -1 by decide)]
      · obtain ⟨k', wt, -, -, hwt, -, q1, -, -, q2, -⟩ := E.hO.1 p hp
        have fX : ∀ J s1, bX_mean_L4 w b J s1 (nI S) (nI s) = s1 (nI (S + wt)) (nI (s + 1)) := by
          intro J s1
          rw [stX, e, if_neg (nI_nm1 (by omega)), inb_nI (show p < 16 by omega) (by decide), clN (show p < 1073741824 by omega), decide_eq_true hp, show (true && true) = true from rfl, rd_t, oOk_t E.hO E.k1 hp, rd_t, q1, nI_add]
        have fM : ∀ J s1, bM_ashore_L16 (nI b) v J s1 (nI S) (nI s) = s1 (nI (S + wt)) (nI (s + 1)) := by
          intro J s1
          rw [stM, e, if_pos (show (0 : Int32) ≤ nI p from nI_pos' (by omega)), inb_nI (show p < 16 by omega) (by decide), clN (show p < 1073741824 by omega), rd_t, q2, nI_add]
        rcases ih (s + 1) (S + wt) g (by omega) (by omega) (by omega) with ⟨S', h1, h2, h3⟩ | ⟨h2, h3⟩
        · exact Or.inl ⟨S', h1, fun J => by rw [fx_s, fX]; exact h2 J, fun J => by rw [fx_s, fM]; exact h3 J⟩
        · exact Or.inr ⟨fun J => by rw [fx_s, fX]; exact h2 J, fun J => by rw [fx_s, fM]; exact h3 J⟩
  rcases key (sN k) 0 0 FU (by omega) (by rw [FU_v]; omega) (by omega) with ⟨S, h1, h2, h3⟩ | ⟨h2, h3⟩
  · exact Or.inl ⟨S, h1, fun J => by rw [eX_mean_L4]; exact h2 J, fun J => by rw [eM_ashore_L16]; exact h3 J⟩
  · exact Or.inr ⟨fun J => by rw [eX_mean_L4]; exact h2 J, fun J => by rw [eM_ashore_L16]; exact h3 J⟩
theorem mbo_v {w v : Wd} {nO nB nU d p : Nat} (E : Env nO nB nU d w v) (hp : p < nO) (hour : Int32) : ∃ r, sO_mayBeOut w p hour = some r ∧ sM_mayBeOut v (nI p) hour = some r := by
  have bO := E.bO
  obtain ⟨k, wt, hk, -, -, hc, -, -, q0, -, q4, q5⟩ := E.hO.1 p hp
  refine ⟨_, sO_mayBeOut_v E.k1 hp (oOk_t E.hO E.k1 hp) hk hc q4, ?_⟩
  unfold sM_mayBeOut
  rw [inb_nI (show p < 16 by omega) (by decide), clN (show p < 1073741824 by omega), rd_t, rd_t, q0]
  have h7 : (hour < (7 : Int32)) ↔ hour.toInt < 7 := lt32
  by_cases h0 : v.2.1 4 p = 0
  · rw [if_pos h0]
    by_cases h4 : k = 4
    · subst h4
      rw [if_pos (show nI 4 = (4 : Int32) from rfl)]
      by_cases hh : hour < 7
      · rw [if_pos hh, b1_f (fun z => by have := h7.mp hh; have := z.2 rfl; omega)]
      · have hge : ¬ hour.toInt < 7 := fun z => hh (h7.mpr z)
        rw [if_neg hh, b1_t ⟨h0, fun _ => by omega⟩]
    · rw [if_neg (show ¬ nI k = (4 : Int32) from fun z => h4 ((nIeq (b := 4) (by omega) (by decide)).mp z)), b1_t ⟨h0, fun z => absurd z h4⟩]
  · rw [if_neg h0, b1_f (fun z => h0 z.1)]
def badO (v : Wd) (hour : Int32) (n b : Nat) : Prop := ∃ p, p < n ∧ v.2.1 2 p = nI b ∧ sM_mayBeOut v (nI p) hour = some 0
theorem badX {w v : Wd} {nO nB nU d b : Nat} (E : Env nO nB nU d w v) (hb : b < nB) (hour : Int32) : (sX_ashore_L45 w b hour 0 = some 4 ∧ badO v hour nO b) ∨ (sX_ashore_L45 w b hour 0 = some 0 ∧ ¬ badO v hour nO b) := by
  have bO := E.bO
  have bB := E.bB
  have key : ∀ (m s fuel : Nat), s + m = 9 → m < fuel → (∀ s', s' < s → ∀ p, p < nO → w.2.1 (101 + 10 * b) s' = nI p → ¬ sM_mayBeOut v (nI p) hour = some 0) → (fx (fun _ => none) (bX_ashore_L45 w b hour) fuel (nI s) = some 4 ∧ badO v hour nO b) ∨ (fx (fun _ => none) (bX_ashore_L45 w b hour) fuel (nI s) = some 0 ∧ ∀ s', s' < 9 → ∀ p, p < nO → w.2.1 (101 + 10 * b) s' = nI p → ¬ sM_mayBeOut v (nI p) hour = some 0) := by
    intro m
    induction m with
    | zero =>
      intro s fuel hs hf hn
      obtain ⟨g, rfl⟩ : ∃ g, fuel = g + 1 := ⟨fuel - 1, by omega⟩
      obtain rfl : s = 9 := by omega
      refine Or.inr ⟨?_, hn⟩
      rw [fx_s]
      unfold bX_ashore_L45
      rw [if_pos (show (8 : Int32) < nI 9 by decide)]
    | succ m ih =>
      intro s fuel hs hf hn
      obtain ⟨g, rfl⟩ : ∃ g, fuel = g + 1 := ⟨fuel - 1, by omega⟩
      have ihx := ih (s + 1) g (by omega) (by omega)
      rw [fx_s]
      generalize fx _ _ g = s1 at ihx ⊢
      unfold bX_ashore_L45
      rw [if_neg (show ¬ (8 : Int32) < nI s from fun z => absurd ((nIlt (a := 8) (by decide) (by omega)).mp z) (by omega)), E.k0, decide_eq_true hb, inb_nI (show s < 9 by omega) (by decide), clN (show s < 1073741824 by omega), E.k4]
      simp only [gd_t, Bool.and_self, rd_t, nm_d, nI_1]
      rcases E.hS.1 b hb s (by omega) with e | ⟨p, hp, e, e2, e3⟩
      · rw [e, if_pos rfl]
        refine ihx (fun s' hs' p hp he => ?_)
        rcases Nat.lt_or_ge s' s with h | h
        · exact hn s' h p hp he
        · obtain rfl : s' = s := by omega
          rw [e] at he
          exact absurd he.symm (nI_nm1 (by omega))
      · obtain ⟨r, r1, r2⟩ := mbo_v E hp hour
        rw [e, if_neg (nI_nm1 (by omega)), inb_nI (show p < 16 by omega) (by decide), clN (show p < 1073741824 by omega), decide_eq_true hp, show (true && true) = true from rfl, rd_t, oOk_t E.hO E.k1 hp, gd_t, r1, bd_s]
        by_cases hr : r = 0
        · rw [if_pos hr]
          exact Or.inl ⟨rfl, p, hp, e2, by rw [r2, hr]⟩
        · rw [if_neg hr]
          refine ihx (fun s' hs' p' hp' he => ?_)
          rcases Nat.lt_or_ge s' s with h | h
          · exact hn s' h p' hp' he
          · obtain rfl : s' = s := by omega
            rw [e] at he
            have := (nIeq (by omega) (by omega)).mp he
            subst this
            rw [r2]
            exact fun z => hr (Option.some.inj z)
  rw [eX_ashore_L45]
  rcases key 9 0 FU (by omega) (by rw [FU_v]; omega) (fun s' h => by omega) with h | ⟨h1, h2⟩
  · exact Or.inl h
  · refine Or.inr ⟨h1, ?_⟩
    rintro ⟨p, hp, g1, g2⟩
    rcases E.hS.2 p hp with z | ⟨b', s, k, hb', hs, -, -, -, q1, q2, q3⟩
    · rw [g1] at z; exact nI_nm1 (by omega) z
    · rw [g1] at q1
      have := (nIeq (by omega) (by omega)).mp q1
      subst this
      exact h2 s hs p hp q3 g2
theorem badM {w v : Wd} {nO nB nU d b : Nat} (E : Env nO nB nU d w v) (hour : Int32) : ((∀ J, sM_ashore_L114 (nI b) hour v J 0 = some 4) ∧ badO v hour nO b) ∨ ((∀ J, sM_ashore_L114 (nI b) hour v J 0 = J) ∧ ¬ badO v hour nO b) := by
  have bO := E.bO
  have key : ∀ (m k fuel : Nat), k + m = nO → m < fuel → ¬ badO v hour k b → ((∀ J, fx (fun _ => none) (bM_ashore_L114 (nI b) hour v J) fuel (nI k) = some 4) ∧ badO v hour nO b) ∨ ((∀ J, fx (fun _ => none) (bM_ashore_L114 (nI b) hour v J) fuel (nI k) = J) ∧ ¬ badO v hour nO b) := by
    intro m
    induction m with
    | zero =>
      intro k fuel hk hf hn
      obtain ⟨g, rfl⟩ : ∃ g, fuel = g + 1 := ⟨fuel - 1, by omega⟩
      obtain rfl : k = nO := by omega
      refine Or.inr ⟨fun J => ?_, hn⟩
      rw [fx_s]
      unfold bM_ashore_L114
      rw [E.yO, if_pos (Int32.le_refl _)]
    | succ m ih =>
      intro k fuel hk hf hn
      obtain ⟨g, rfl⟩ : ∃ g, fuel = g + 1 := ⟨fuel - 1, by omega⟩
      obtain ⟨r, -, r2⟩ := mbo_v E (show k < nO by omega) hour
      have st : ∀ J s1, bM_ashore_L114 (nI b) hour v J s1 (nI k) = if v.2.1 2 k = nI b then (if r = 0 then some 4 else s1 (nI (k + 1))) else s1 (nI (k + 1)) := by
        intro J s1
        unfold bM_ashore_L114
        rw [E.yO, if_neg (fun z => absurd ((nIle (by omega) (by omega)).mp z) (by omega)), inb_nI (show k < 16 by omega) (by decide), clN (show k < 1073741824 by omega), rd_t, r2]
        simp only [bd_s, nm_d, nI_1]
      have nx : ¬ (v.2.1 2 k = nI b ∧ r = 0) → ((∀ J, fx (fun _ => none) (bM_ashore_L114 (nI b) hour v J) (g + 1) (nI k) = some 4) ∧ badO v hour nO b) ∨ ((∀ J, fx (fun _ => none) (bM_ashore_L114 (nI b) hour v J) (g + 1) (nI k) = J) ∧ ¬ badO v hour nO b) := by
        intro hno
        have hst : ∀ J s1, bM_ashore_L114 (nI b) hour v J s1 (nI k) = s1 (nI (k + 1)) := by
          intro J s1
          rw [st]
          by_cases h1 : v.2.1 2 k = nI b
          · rw [if_pos h1, if_neg (fun z => hno ⟨h1, z⟩)]
          · rw [if_neg h1]
        rcases ih (k + 1) g (by omega) (by omega) (fun ⟨p, hp, g1, g2⟩ => by
          rcases Nat.lt_or_ge p k with h | h
          · exact hn ⟨p, h, g1, g2⟩
          · obtain rfl : p = k := by omega
            rw [r2] at g2
            exact hno ⟨g1, Option.some.inj g2⟩) with ⟨h1, h2⟩ | ⟨h1, h2⟩
        · exact Or.inl ⟨fun J => by rw [fx_s, hst]; exact h1 J, h2⟩
        · exact Or.inr ⟨fun J => by rw [fx_s, hst]; exact h1 J, h2⟩
      by_cases h1 : v.2.1 2 k = nI b
      · by_cases h2 : r = 0
        · exact Or.inl ⟨fun J => by rw [fx_s, st, if_pos h1, if_pos h2], k, by omega, h1, by rw [r2, h2]⟩
        · exact nx (fun z => h2 z.2)
      · exact nx (fun z => h1 z.1)
  rcases key nO 0 FU (by omega) (by rw [FU_v]; omega) (fun ⟨p, hp, _⟩ => by omega) with ⟨h1, h2⟩ | ⟨h1, h2⟩
  · exact Or.inl ⟨fun J => by rw [eM_ashore_L114]; exact h1 J, h2⟩
  · exact Or.inr ⟨fun J => by rw [eM_ashore_L114]; exact h1 J, h2⟩
theorem mayGo_v {w v : Wd} {nO nB nU d b : Nat} (E : Env nO nB nU d w v) (hb : b < nB) (hour : Int32) : ∃ r, sX_mayGo w (nI b) hour = some r ∧ sM_ashore v (nI b) hour = some r ∧ (r ≤ 0 ↔ r = 0) := by
  have bO := E.bO
  have bB := E.bB
  have bU := E.bU
  obtain ⟨k, ls, ms, ln, hk, hl1, hl2, hm, -, -, g1, g2, g3, g4, g5, g6, -, -, g7, g8⟩ := E.hB.1 b hb
  have hs := sN_b hk
  have c1 : ∀ n : Nat, 0 < n → n < 10 → ((nI n ≤ 0) ↔ nI n = (0 : Int32)) := fun n h0 hn => ⟨fun z => absurd ((nIle (b := 0) (by omega) (by decide)).mp z) (by omega), fun z => absurd z (nI_ne0 h0 (by omega))⟩
  have p1 : ∀ n : Nat, 0 < n → n < 10 → ¬ nI n ≤ (0 : Int32) := fun n h0 hn z => absurd ((nIle (b := 0) (by omega) (by decide)).mp z) (by omega)
  unfold sX_mayGo sX_ashore sX_mean sM_ashore
  rw [inb_nI (show b < 8 by omega) (by decide), clN (show b < 1073741824 by omega), E.k3, decide_eq_true hb]
  simp only [Bool.and_self, rd_t, nm_d, jn_d]
  rw [E.k0, decide_eq_true hb]
  simp only [rd_t, gd_t, Bool.true_and]
  rw [sB_seats_v (by rw [E.k0]; exact hb) g1 hk, sM_seatsOf_v (by omega) g2 hk, sB_hasCox_v (by rw [E.k0]; exact hb) g1 hk, sM_hasCox_v (by omega) g2 hk, g7]
  by_cases hbr : v.2.1 5 b = 0
  rotate_left
  · rw [if_neg hbr, if_neg hbr, bd_s]
    rw [if_neg (show ¬ (1 : Int32) ≤ 0 by decide)]
    exact ⟨1, rfl, rfl, c1 1 (by decide) (by decide)⟩
  rw [if_pos hbr, if_pos hbr]
  rcases mean_v E hb hk g1 g2 with ⟨S, hS, m1, m2⟩ | ⟨m1, m2⟩
  rotate_left
  · rw [m1, m2, bd_s, if_pos rfl, bd_s, if_neg (show ¬ (2 : Int32) ≤ 0 by decide)]
    exact ⟨2, rfl, rfl, c1 2 (by decide) (by decide)⟩
  rw [m1, m2]
  simp only [bd_s]
  have hz : (!decide (nI (sN k) = 0)) = true := by rw [decide_eq_false (nI_ne0 (by omega) (by omega))]; rfl
  have hdv : nI S / nI (sN k) = nI (S / sN k) := pk_div (by omega) (by omega) (by omega)
  have hSb : S / sN k < 1073741824 := Nat.lt_of_le_of_lt (Nat.div_le_self _ _) (by omega)
  have hsit : sM_sitter v (nI b) 8 = some (w.2.1 (101 + 10 * b) 8) := sitter_crew E.hS bO bB E.yO hb (show 8 < 9 by omega)
  rw [hz, hdv, hsit, show inb (8 : Int32) 9 = true from rfl, show (8 : Int32).toNatClampNeg = 8 from rfl]
  simp only [rd_t, bd_s]
  generalize hm' : S / sN k = m at hSb ⊢
  have hmiss : (¬ b1 (k = 1 ∨ k = 2) = 0 ∧ w.2.1 (101 + 10 * b) 8 = -1) ∨ (b1 (k = 1 ∨ k = 2) = 0 ∨ ∃ p, p < nO ∧ w.2.1 (101 + 10 * b) 8 = nI p) := by
    by_cases h : b1 (k = 1 ∨ k = 2) = 0
    · exact Or.inr (Or.inl h)
    · rcases E.hS.1 b hb 8 (by omega) with e | ⟨p, hp, e, -, -⟩
      · exact Or.inl ⟨h, e⟩
      · exact Or.inr (Or.inr ⟨p, hp, e⟩)
  rcases hmiss with ⟨h1, h2⟩ | hok
  · rw [if_neg h1, if_neg h1, h2, if_pos rfl, bd_s, if_pos rfl, bd_s, if_neg (show ¬ (2 : Int32) ≤ 0 by decide), if_neg (show ¬ (0 : Int32) ≤ -1 by decide)]
    exact ⟨2, rfl, rfl, c1 2 (by decide) (by decide)⟩
  have hx : (if b1 (k = 1 ∨ k = 2) = 0 then some (nI m) else if w.2.1 (101 + 10 * b) 8 = -1 then some (-1) else some (nI m)) = some (nI m) := by
    rcases hok with h | ⟨p, hp, e⟩
    · rw [if_pos h]
    · rw [e, if_neg (nI_nm1 (by omega))]
      split <;> rfl
  have hmm : ∀ A : Option Int32, (if b1 (k = 1 ∨ k = 2) = 0 then A else if 0 ≤ w.2.1 (101 + 10 * b) 8 then A else some 2) = A := by
    intro A
    rcases hok with h | ⟨p, hp, e⟩
    · rw [if_pos h]
    · rw [e, if_pos (show (0 : Int32) ≤ nI p from nI_pos' (by omega))]
      split <;> rfl
  rw [hx, hmm, bd_s, if_neg (nI_nm1 (by omega)), g3, g4, g5, g6, sX_in_v, bd_s, toI64, toI64, nTi (by omega), nTi (by omega), nTi (by omega)]
  by_cases hlo : m < ls
  · rw [b1_f (by omega), if_pos z00, bd_s, if_neg (show ¬ (3 : Int32) ≤ 0 by decide), if_pos ((nIlt (by omega) (by omega)).mpr hlo)]
    exact ⟨3, rfl, rfl, c1 3 (by decide) (by decide)⟩
  rw [if_neg (fun z => hlo ((nIlt (by omega) (by omega)).mp z))]
  by_cases hhi : m ≤ ms
  rotate_left
  · rw [b1_f (by omega), if_pos z00, bd_s, if_neg (show ¬ (3 : Int32) ≤ 0 by decide), if_neg (fun z => hhi ((nIle (by omega) (by omega)).mp z))]
    exact ⟨3, rfl, rfl, c1 3 (by decide) (by decide)⟩
  rw [b1_t (by omega), if_neg n10, if_pos ((nIle (by omega) (by omega)).mpr hhi)]
  rcases badX E hb hour with ⟨x1, x2⟩ | ⟨x1, x2⟩ <;> rcases badM (b := b) E hour with ⟨y1, y2⟩ | ⟨y1, y2⟩
  · rw [x1, y1, bd_s, if_neg (show ¬ (4 : Int32) ≤ 0 by decide)]
    exact ⟨4, rfl, rfl, c1 4 (by decide) (by decide)⟩
  · exact absurd x2 y2
  · exact absurd y2 x2
  · obtain ⟨x, e1, e2, hxr⟩ := ruling_v E hb hour
    rw [x1, y1, bd_s, if_pos (Int32.le_refl _), e1, e2, bd_s, bd_s]
    have d0 : ((0 : Int32) ≤ 0) ↔ (0 : Int32) = 0 := ⟨fun _ => rfl, fun _ => Int32.le_refl _⟩
    rcases hxr with rfl | ⟨r, hr, rfl⟩
    · rw [if_pos rfl, if_pos (show (-1 : Int32) < 0 by decide)]
      exact ⟨0, rfl, rfl, d0⟩
    · obtain ⟨-, -, -, -, q1, -⟩ := E.hU r hr
      rw [if_neg (nI_nm1 (by omega)), if_neg (nI_pos (by omega)), inb_nI (show r < 10 by omega) (by decide), clN (show r < 1073741824 by omega), E.k5, decide_eq_true hr, show (true && true) = true from rfl, rd_t, E.k2, decide_eq_true hr, rd_t, rd_t, q1]
      by_cases hbar : v.2.1 32 r = 0
      · rw [if_pos hbar]
        exact ⟨0, rfl, rfl, d0⟩
      · rw [if_neg hbar]
        exact ⟨5, rfl, rfl, c1 5 (by decide) (by decide)⟩
theorem op_may : Op_may Rel := by
  intro w v a1 a2 hR
  obtain ⟨nO, nB, nU, d, E, xB, yB⟩ := hR.env
  have bB := E.bB
  unfold sX_may sM_may
  rw [sX_isBoat_v a1 xB (by omega), sM_isBoat_v a1 yB (by omega), sX_in_v, sM_isIn_v]
  simp only [bd_s]
  by_cases h1 : 0 ≤ a1.toInt ∧ a1.toInt < nB
  rotate_left
  · rw [b1_f h1, if_pos z00, if_pos z00]
    exact fin1 rfl rfl
  rw [b1_t h1, if_neg n10, if_neg n10]
  by_cases h2 : (0 : Int64).toInt ≤ a2.toInt ∧ a2.toInt ≤ (23 : Int64).toInt
  rotate_left
  · rw [b1_f h2, if_pos z00, if_pos z00]
    exact fin1 rfl rfl
  rw [b1_t h2, if_neg n10, if_neg n10]
  obtain ⟨b, hb, rfl⟩ := ix_of h1
  obtain ⟨r, e1, e2, -⟩ := mayGo_v E hb a2
  rw [e1, e2, bd_s]
  exact fin1 rfl rfl
