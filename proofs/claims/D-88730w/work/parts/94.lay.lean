set_option maxRecDepth 100000
/-! the others of a group: their places, in both -/
def cn (P : Nat → Nat) (g : Nat) : Nat → Nat
  | 0 => 0
  | k + 1 => cn P g k + (if P k = g ∧ k ≠ g then 1 else 0)
theorem cn_s (P : Nat → Nat) (g k : Nat) : cn P g (k + 1) = cn P g k + (if P k = g ∧ k ≠ g then 1 else 0) := rfl
def pl (P : Nat → Nat) (g k : Nat) : Int32 := if P k = g ∧ k ≠ g then nI (cn P g k) else -1
theorem cn_le (P : Nat → Nat) (g : Nat) : ∀ k, cn P g k ≤ k := by
  intro k
  induction k with
  | zero => exact Nat.le_refl _
  | succ k ih =>
    rw [cn_s]
    by_cases h : P k = g ∧ k ≠ g
    · rw [if_pos h]; omega
    · rw [if_neg h]; omega
theorem cn_mono (P : Nat → Nat) (g : Nat) {a : Nat} : ∀ b, a ≤ b → cn P g a ≤ cn P g b := by
  intro b
  induction b with
  | zero => intro h; rw [Nat.le_zero.mp h]; exact Nat.le_refl _
  | succ b ih =>
    intro h
    by_cases e : a = b + 1
    · rw [e]; exact Nat.le_refl _
    · rw [cn_s]; have := ih (by omega); omega
theorem cn_lt (P : Nat → Nat) (g : Nat) {a b : Nat} (h : a < b) (hm : P a = g ∧ a ≠ g) : cn P g a < cn P g b := by
  have := cn_mono P g b (show a + 1 ≤ b from h)
  rw [cn_s, if_pos hm] at this
  omega
theorem cn_inj (P : Nat → Nat) (g : Nat) {a b : Nat} (ha : P a = g ∧ a ≠ g) (hb : P b = g ∧ b ≠ g) (h : cn P g a = cn P g b) : a = b := by
  rcases Nat.lt_trichotomy a b with q | q | q
  · have := cn_lt P g q ha; omega
  · exact q
  · have := cn_lt P g q hb; omega
theorem cn_sur (P : Nat → Nat) (g : Nat) {j : Nat} : ∀ m, j < cn P g m → ∃ k, k < m ∧ (P k = g ∧ k ≠ g) ∧ cn P g k = j := by
  intro m
  induction m with
  | zero => intro h; exact absurd h (Nat.not_lt_zero _)
  | succ m ih =>
    intro h
    by_cases hm : P m = g ∧ m ≠ g
    · rw [cn_s, if_pos hm] at h
      by_cases e : j = cn P g m
      · exact ⟨m, by omega, hm, e.symm⟩
      · obtain ⟨k, h1, h2⟩ := ih (by omega)
        exact ⟨k, by omega, h2⟩
    · rw [cn_s, if_neg hm] at h
      obtain ⟨k, h1, h2⟩ := ih (by omega)
      exact ⟨k, by omega, h2⟩
theorem layA {w0 : Wd} {nO g : Nat} {P : Nat → Nat} (bO : nO ≤ 16) (hg : g < nO) (xO : w0.2.1 90 2 = nI nO) (hP : ∀ o, P o ≤ o) (p8 : ∀ o, o < nO → w0.2.1 8 o = nI (P o)) : ∀ (m k fuel : Nat) (w : Wd), k + m = nO → m < fuel → Ag [9] [12] w0 w → w.2.1 90 12 = nI (cn P g k) → (∀ o, o < k → w.2.1 9 o = pl P g o) → ∃ w', (∀ J, fx (fun _ _ => none) (bX_layOut_L7 (nI g) J) fuel (nI k) w = J w') ∧ Ag [9] [12] w0 w' ∧ w'.2.1 90 12 = nI (cn P g nO) ∧ ∀ o, o < nO → w'.2.1 9 o = pl P g o := by
  intro m
  induction m with
  | zero =>
    intro k fuel w hk hf hA h12 hv
    obtain ⟨f, rfl⟩ : ∃ f, fuel = f + 1 := ⟨fuel - 1, by omega⟩
    obtain rfl : k = nO := by omega
    refine ⟨w, fun J => ?_, hA, h12, hv⟩
    rw [fx_s]
    unfold bX_layOut_L7
    rw [hA.2.2 2 (by simp), xO, if_pos (Int32.le_refl _)]
  | succ m ih =>
    intro k fuel w hk hf hA h12 hv
    obtain ⟨f, rfl⟩ : ∃ f, fuel = f + 1 := ⟨fuel - 1, by omega⟩
    have c8 : ∀ x, (stG w 9 k x).2.1 8 k = nI (P k) := fun x => by rw [stG_ne (by decide), hA.2.1 8 (by decide) (by decide)]; exact p8 k (by omega)
    have hPk : P k < 16 := by have := hP k; omega
    have A1 : Ag [9] [12] w0 (stG w 9 k (-1)) := hA.trans (Ag.st (by decide) (by decide))
    by_cases hm : P k = g ∧ k ≠ g
    · have e12 : (stG (stG w 9 k (-1)) 9 k (nI (cn P g k))).2.1 90 12 = nI (cn P g k) := by rw [stG_ne (by decide), stG_ne (by decide)]; exact h12
      obtain ⟨w', h1, h2⟩ := ih (k + 1) f (stG (stG (stG w 9 k (-1)) 9 k (nI (cn P g k))) 90 12 (nI (cn P g k + 1))) (by omega) (by omega) ((A1.trans (Ag.st (by decide) (by decide))).trans (Ag.sf (by decide))) (by rw [f90s, cn_s, if_pos hm]) (fun o ho => by
        rw [stG_ne (by decide), stG_eq]
        by_cases h : o = k
        · rw [h, pk_us]; unfold pl; rw [if_pos hm]
        · rw [pk_un h, stG_eq, pk_un h]; exact hv o (by omega))
      refine ⟨w', fun J => ?_, h2⟩
      have h1s := h1 J
      rw [fx_s]
      generalize fx _ _ f = s1 at h1s ⊢
      unfold bX_layOut_L7
      rw [hA.2.2 2 (by simp), xO, if_neg (fun z => absurd ((nIle (by omega) (by omega)).mp z) (by omega)), inb_nI (show k < 16 by omega) (by decide), clN (show k < 1073741824 by omega), rd_t, rd_t, c8, if_pos (by rw [hm.1]), if_neg (fun z => hm.2 ((nIeq (by omega) (by omega)).mp z)), rd_t, nm_d, nm_d, stG_ne (by decide), h12, e12, nI_1, nI_1]
      exact h1s
    · obtain ⟨w', h1, h2⟩ := ih (k + 1) f (stG w 9 k (-1)) (by omega) (by omega) A1 (by rw [stG_ne (by decide), cn_s, if_neg hm]; exact h12) (fun o ho => by
        rw [stG_eq]
        by_cases h : o = k
        · rw [h, pk_us]; unfold pl; rw [if_neg hm]
        · rw [pk_un h]; exact hv o (by omega))
      refine ⟨w', fun J => ?_, h2⟩
      have h1s := h1 J
      rw [fx_s]
      generalize fx _ _ f = s1 at h1s ⊢
      unfold bX_layOut_L7
      rw [hA.2.2 2 (by simp), xO, if_neg (fun z => absurd ((nIle (by omega) (by omega)).mp z) (by omega)), inb_nI (show k < 16 by omega) (by decide), clN (show k < 1073741824 by omega), rd_t, rd_t, c8]
      by_cases hp : P k = g
      · have hk' : k = g := Classical.byContradiction (fun e => hm ⟨hp, e⟩)
        rw [if_pos (by rw [hp]), if_pos (by rw [hk']), nm_d, nI_1]
        exact h1s
      · rw [if_neg (fun z => hp ((nIeq (by omega) (by omega)).mp z)), nm_d, nI_1]
        exact h1s
theorem bigA {w0 : Wd} {nO g : Nat} {P : Nat → Nat} (bO : nO ≤ 16) (hg : g < nO) (hgg : P g = g) (xO : w0.2.1 90 2 = nI nO) (hP : ∀ o, P o ≤ o) (p8 : ∀ o, o < nO → w0.2.1 8 o = nI (P o)) : ∀ (m k fuel : Nat), k + m = nO → m < fuel → ∀ J, fx (fun _ _ => none) (bX_isBig_L4 w0 (nI g) J) fuel (nI (cn P g k + if g < k then 1 else 0)) (nI k) = J (nI (cn P g nO + 1)) := by
  intro m
  induction m with
  | zero =>
    intro k fuel hk hf J
    obtain ⟨f, rfl⟩ : ∃ f, fuel = f + 1 := ⟨fuel - 1, by omega⟩
    obtain rfl : k = nO := by omega
    rw [fx_s]
    unfold bX_isBig_L4
    rw [xO, if_pos (Int32.le_refl _), if_pos hg]
  | succ m ih =>
    intro k fuel hk hf J
    obtain ⟨f, rfl⟩ : ∃ f, fuel = f + 1 := ⟨fuel - 1, by omega⟩
    have h1s := ih (k + 1) f (by omega) (by omega) J
    rw [fx_s]
    generalize fx _ _ f = s1 at h1s ⊢
    unfold bX_isBig_L4
    have hPk : P k < 16 := by have := hP k; omega
    rw [xO, if_neg (fun z => absurd ((nIle (by omega) (by omega)).mp z) (by omega)), inb_nI (show k < 16 by omega) (by decide), clN (show k < 1073741824 by omega), rd_t, p8 k (by omega)]
    by_cases hp : P k = g
    · rw [if_pos (by rw [hp]), nm_d, nm_d, nI_1, nI_1]
      have e : cn P g k + (if g < k then 1 else 0) + 1 = cn P g (k + 1) + (if g < k + 1 then 1 else 0) := by
        rw [cn_s]
        by_cases hk' : k = g
        · subst hk'
          rw [if_neg (Nat.lt_irrefl k), if_neg (show ¬ (P k = k ∧ k ≠ k) from fun z => z.2 rfl), if_pos (Nat.lt_succ_self k)]
        · rw [if_pos (show P k = g ∧ k ≠ g from ⟨hp, hk'⟩)]
          by_cases q : g < k
          · rw [if_pos q, if_pos (by omega)]
          · rw [if_neg q, if_neg (by omega)]
      rw [e]
      exact h1s
    · rw [if_neg (fun z => hp ((nIeq (by omega) (by omega)).mp z)), nm_d, nI_1]
      have e : cn P g k + (if g < k then 1 else 0) = cn P g (k + 1) + (if g < k + 1 then 1 else 0) := by
        rw [cn_s, if_neg (show ¬ (P k = g ∧ k ≠ g) from fun z => hp z.1)]
        have hk' : k ≠ g := fun z => hp (by rw [z]; exact hgg)
        by_cases q : g < k
        · rw [if_pos q, if_pos (by omega)]
        · rw [if_neg q, if_neg (by omega)]
      rw [e]
      exact h1s
theorem big_v {w0 : Wd} {nO g : Nat} {P : Nat → Nat} (bO : nO ≤ 16) (hg : g < nO) (hgg : P g = g) (xO : w0.2.1 90 2 = nI nO) (hP : ∀ o, P o ≤ o) (p8 : ∀ o, o < nO → w0.2.1 8 o = nI (P o)) : sX_isBig w0 (nI g) = some (b1 (6 < cn P g nO)) := by
  unfold sX_isBig
  have h := bigA bO hg hgg xO hP p8 nO 0 FU (by omega) (by rw [FU_v]; omega)
  rw [nm_d, nm_d, jn_d, eX_isBig_L4]
  have h' := h (fun x3 => if x3 ≤ (7 : Int32) then (some (0 : Int32)) else (some (1 : Int32)))
  rw [if_neg (Nat.not_lt_zero g)] at h'
  refine Eq.trans h' ?_
  have hl := cn_le P g nO
  show (if nI (cn P g nO + 1) ≤ nI 7 then _ else _) = _
  by_cases q : 6 < cn P g nO
  · rw [b1_t q, if_neg (fun z => absurd ((nIle (by omega) (by omega)).mp z) (by omega))]
  · rw [b1_f q, if_pos ((nIle (by omega) (by omega)).mpr (by omega))]
/-- the same in the model: no more than six others -/
theorem layM {v0 : Wd} {nO g : Nat} {P : Nat → Nat} (bO : nO ≤ 16) (hg : g < nO) (yO : v0.2.1 90 10 = nI nO) (hP : ∀ o, P o ≤ o) (p15 : ∀ o, o < 16 → v0.2.1 15 o = nI (P o)) (h6 : cn P g nO ≤ 6) : ∀ (m k fuel : Nat) (v : Wd), k + m = nO → m < fuel → Ag [17] [22] v0 v → v.2.1 90 22 = nI (cn P g k) → (∀ o, o < k → v.2.1 17 o = pl P g o) → ∃ v', (∀ J, fx (fun _ _ => none) (bM_solves_L18 (nI g) J) fuel (nI k) v = J v') ∧ Ag [17] [22] v0 v' ∧ v'.2.1 90 22 = nI (cn P g nO) ∧ ∀ o, o < nO → v'.2.1 17 o = pl P g o := by
  intro m
  induction m with
  | zero =>
    intro k fuel w hk hf hA h12 hv
    obtain ⟨f, rfl⟩ : ∃ f, fuel = f + 1 := ⟨fuel - 1, by omega⟩
    obtain rfl : k = nO := by omega
    refine ⟨w, fun J => ?_, hA, h12, hv⟩
    rw [fx_s]
    unfold bM_solves_L18
    rw [hA.2.2 10 (by simp), yO, if_pos (Int32.le_refl _)]
  | succ m ih =>
    intro k fuel w hk hf hA h12 hv
    obtain ⟨f, rfl⟩ : ∃ f, fuel = f + 1 := ⟨fuel - 1, by omega⟩
    have c8 : ∀ x, (stG w 17 k x).2.1 15 k = nI (P k) := fun x => by rw [stG_ne (by decide), hA.2.1 15 (by decide) (by decide)]; exact p15 k (by omega)
    have hPk : P k < 16 := by have := hP k; omega
    have A1 : Ag [17] [22] v0 (stG w 17 k (-1)) := hA.trans (Ag.st (by decide) (by decide))
    by_cases hm : P k = g ∧ k ≠ g
    · have e12 : (stG (stG w 17 k (-1)) 17 k (nI (cn P g k))).2.1 90 22 = nI (cn P g k) := by rw [stG_ne (by decide), stG_ne (by decide)]; exact h12
      have e11 : (stG w 17 k (-1)).2.1 90 22 = nI (cn P g k) := by rw [stG_ne (by decide)]; exact h12
      have hlt : cn P g k < 6 := by have := cn_lt P g (show k < nO by omega) hm; omega
      obtain ⟨w', h1, h2⟩ := ih (k + 1) f (stG (stG (stG w 17 k (-1)) 17 k (nI (cn P g k))) 90 22 (nI (cn P g k + 1))) (by omega) (by omega) ((A1.trans (Ag.st (by decide) (by decide))).trans (Ag.sf (by decide))) (by rw [f90s, cn_s, if_pos hm]) (fun o ho => by
        rw [stG_ne (by decide), stG_eq]
        by_cases h : o = k
        · rw [h, pk_us]; unfold pl; rw [if_pos hm]
        · rw [pk_un h, stG_eq, pk_un h]; exact hv o (by omega))
      refine ⟨w', fun J => ?_, h2⟩
      have h1s := h1 J
      rw [fx_s]
      generalize fx _ _ f = s1 at h1s ⊢
      unfold bM_solves_L18
      rw [hA.2.2 10 (by simp), yO, if_neg (fun z => absurd ((nIle (by omega) (by omega)).mp z) (by omega)), inb_nI (show k < 16 by omega) (by decide), clN (show k < 1073741824 by omega), rd_t, rd_t, c8, if_pos (by rw [hm.1]), if_neg (fun z => hm.2 ((nIeq (by omega) (by omega)).mp z)), e11, if_neg (show ¬ nI (cn P g k) = (6 : Int32) from fun z => absurd ((nIeq (b := 6) (by omega) (by decide)).mp z) (by omega)), rd_t, nm_d, nm_d, e12, nI_1, nI_1]
      exact h1s
    · obtain ⟨w', h1, h2⟩ := ih (k + 1) f (stG w 17 k (-1)) (by omega) (by omega) A1 (by rw [stG_ne (by decide), cn_s, if_neg hm]; exact h12) (fun o ho => by
        rw [stG_eq]
        by_cases h : o = k
        · rw [h, pk_us]; unfold pl; rw [if_neg hm]
        · rw [pk_un h]; exact hv o (by omega))
      refine ⟨w', fun J => ?_, h2⟩
      have h1s := h1 J
      rw [fx_s]
      generalize fx _ _ f = s1 at h1s ⊢
      unfold bM_solves_L18
      rw [hA.2.2 10 (by simp), yO, if_neg (fun z => absurd ((nIle (by omega) (by omega)).mp z) (by omega)), inb_nI (show k < 16 by omega) (by decide), clN (show k < 1073741824 by omega), rd_t, rd_t, c8]
      by_cases hp : P k = g
      · have hk' : k = g := Classical.byContradiction (fun e => hm ⟨hp, e⟩)
        rw [if_pos (by rw [hp]), if_pos (by rw [hk']), nm_d, nI_1]
        exact h1s
      · rw [if_neg (fun z => hp ((nIeq (by omega) (by omega)).mp z)), nm_d, nI_1]
        exact h1s
theorem layB {v0 : Wd} {nO g : Nat} {P : Nat → Nat} (bO : nO ≤ 16) (hg : g < nO) (yO : v0.2.1 90 10 = nI nO) (hP : ∀ o, P o ≤ o) (p15 : ∀ o, o < 16 → v0.2.1 15 o = nI (P o)) (h6 : 6 < cn P g nO) : ∀ (m k fuel : Nat) (v : Wd), k + m = nO → m < fuel → cn P g k ≤ 6 → Ag [17] [22] v0 v → v.2.1 90 22 = nI (cn P g k) → ∃ v', (∀ J, fx (fun _ _ => none) (bM_solves_L18 (nI g) J) fuel (nI k) v = some (0, v')) ∧ Ag [17] [22] v0 v' := by
  intro m
  induction m with
  | zero =>
    intro k fuel w hk hf hc
    obtain rfl : k = nO := by omega
    omega
  | succ m ih =>
    intro k fuel w hk hf hc hA h12
    obtain ⟨f, rfl⟩ : ∃ f, fuel = f + 1 := ⟨fuel - 1, by omega⟩
    have c8 : ∀ x, (stG w 17 k x).2.1 15 k = nI (P k) := fun x => by rw [stG_ne (by decide), hA.2.1 15 (by decide) (by decide)]; exact p15 k (by omega)
    have hPk : P k < 16 := by have := hP k; omega
    have A1 : Ag [17] [22] v0 (stG w 17 k (-1)) := hA.trans (Ag.st (by decide) (by decide))
    have e11 : (stG w 17 k (-1)).2.1 90 22 = nI (cn P g k) := by rw [stG_ne (by decide)]; exact h12
    by_cases hm : P k = g ∧ k ≠ g
    · have e12 : (stG (stG w 17 k (-1)) 17 k (nI (cn P g k))).2.1 90 22 = nI (cn P g k) := by rw [stG_ne (by decide), stG_ne (by decide)]; exact h12
      by_cases hlt : cn P g k = 6
      · refine ⟨stG w 17 k (-1), fun J => ?_, A1⟩
        rw [fx_s]
        unfold bM_solves_L18
        rw [hA.2.2 10 (by simp), yO, if_neg (fun z => absurd ((nIle (by omega) (by omega)).mp z) (by omega)), inb_nI (show k < 16 by omega) (by decide), clN (show k < 1073741824 by omega), rd_t, rd_t, c8, if_pos (by rw [hm.1]), if_neg (fun z => hm.2 ((nIeq (by omega) (by omega)).mp z)), e11, if_pos (by rw [hlt]; rfl)]
      · obtain ⟨w', h1, h2⟩ := ih (k + 1) f (stG (stG (stG w 17 k (-1)) 17 k (nI (cn P g k))) 90 22 (nI (cn P g k + 1))) (by omega) (by omega) (by rw [cn_s, if_pos hm]; omega) ((A1.trans (Ag.st (by decide) (by decide))).trans (Ag.sf (by decide))) (by rw [f90s, cn_s, if_pos hm])
        refine ⟨w', fun J => ?_, h2⟩
        have h1s := h1 J
        rw [fx_s]
        generalize fx _ _ f = s1 at h1s ⊢
        unfold bM_solves_L18
        rw [hA.2.2 10 (by simp), yO, if_neg (fun z => absurd ((nIle (by omega) (by omega)).mp z) (by omega)), inb_nI (show k < 16 by omega) (by decide), clN (show k < 1073741824 by omega), rd_t, rd_t, c8, if_pos (by rw [hm.1]), if_neg (fun z => hm.2 ((nIeq (by omega) (by omega)).mp z)), e11, if_neg (show ¬ nI (cn P g k) = (6 : Int32) from fun z => absurd ((nIeq (b := 6) (by omega) (by decide)).mp z) (by omega)), rd_t, nm_d, nm_d, e12, nI_1, nI_1]
        exact h1s
    · obtain ⟨w', h1, h2⟩ := ih (k + 1) f (stG w 17 k (-1)) (by omega) (by omega) (by rw [cn_s, if_neg hm]; exact hc) A1 (by rw [stG_ne (by decide), cn_s, if_neg hm]; exact h12)
      refine ⟨w', fun J => ?_, h2⟩
      have h1s := h1 J
      rw [fx_s]
      generalize fx _ _ f = s1 at h1s ⊢
      unfold bM_solves_L18
      rw [hA.2.2 10 (by simp), yO, if_neg (fun z => absurd ((nIle (by omega) (by omega)).mp z) (by omega)), inb_nI (show k < 16 by omega) (by decide), clN (show k < 1073741824 by omega), rd_t, rd_t, c8]
      by_cases hp : P k = g
      · have hk' : k = g := Classical.byContradiction (fun e => hm ⟨hp, e⟩)
        rw [if_pos (by rw [hp]), if_pos (by rw [hk']), nm_d, nI_1]
        exact h1s
      · rw [if_neg (fun z => hp ((nIeq (by omega) (by omega)).mp z)), nm_d, nI_1]
        exact h1s
