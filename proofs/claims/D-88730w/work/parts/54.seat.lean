set_option maxRecDepth 100000
/-! loops; boats, seats, who sits where -/
theorem fx1_run {α ρ : Type} {F : (α → Option ρ) → α → Option ρ} (P : α → Prop) (μ : α → Nat) (Post : ρ → Prop) (h : ∀ (self : α → Option ρ) (a : α), P a → (∀ a', P a' → μ a' < μ a → ∃ r, self a' = some r ∧ Post r) → ∃ r, F self a = some r ∧ Post r) : ∀ (n : Nat) (a : α), P a → μ a < n → ∃ r, fx (fun _ => none) F n a = some r ∧ Post r := by
  intro n
  induction n with
  | zero => intro a _ h0; omega
  | succ n ih => intro a hP hm; exact h _ a hP (fun a' hP' hm' => ih a' hP' (by omega))
theorem fx2_run {α β ρ : Type} {F : (α → β → Option ρ) → α → β → Option ρ} (P : α → β → Prop) (μ : α → β → Nat) (Post : ρ → Prop) (h : ∀ (self : α → β → Option ρ) (a : α) (b : β), P a b → (∀ a' b', P a' b' → μ a' b' < μ a b → ∃ r, self a' b' = some r ∧ Post r) → ∃ r, F self a b = some r ∧ Post r) : ∀ (n : Nat) (a : α) (b : β), P a b → μ a b < n → ∃ r, fx (fun _ _ => none) F n a b = some r ∧ Post r := by
  intro n
  induction n with
  | zero => intro a b _ h0; omega
  | succ n ih => intro a b hP hm; exact h _ a b hP (fun a' b' hP' hm' => ih a' b' hP' (by omega))
theorem fx3_run {α β γ ρ : Type} {F : (α → β → γ → Option ρ) → α → β → γ → Option ρ} (P : α → β → γ → Prop) (μ : α → β → γ → Nat) (Post : ρ → Prop) (h : ∀ (self : α → β → γ → Option ρ) (a : α) (b : β) (c : γ), P a b c → (∀ a' b' c', P a' b' c' → μ a' b' c' < μ a b c → ∃ r, self a' b' c' = some r ∧ Post r) → ∃ r, F self a b c = some r ∧ Post r) : ∀ (n : Nat) (a : α) (b : β) (c : γ), P a b c → μ a b c < n → ∃ r, fx (fun _ _ _ => none) F n a b c = some r ∧ Post r := by
  intro n
  induction n with
  | zero => intro a b c _ h0; omega
  | succ n ih => intro a b c hP hm; exact h _ a b c hP (fun a' b' c' hP' hm' => ih a' b' c' hP' (by omega))
theorem fx4_run {α β γ δ ρ : Type} {F : (α → β → γ → δ → Option ρ) → α → β → γ → δ → Option ρ} (P : α → β → γ → δ → Prop) (μ : α → β → γ → δ → Nat) (Post : ρ → Prop) (h : ∀ (self : α → β → γ → δ → Option ρ) (a : α) (b : β) (c : γ) (d : δ), P a b c d → (∀ a' b' c' d', P a' b' c' d' → μ a' b' c' d' < μ a b c d → ∃ r, self a' b' c' d' = some r ∧ Post r) → ∃ r, F self a b c d = some r ∧ Post r) : ∀ (n : Nat) (a : α) (b : β) (c : γ) (d : δ), P a b c d → μ a b c d < n → ∃ r, fx (fun _ _ _ _ => none) F n a b c d = some r ∧ Post r := by
  intro n
  induction n with
  | zero => intro a b c d _ h0; omega
  | succ n ih => intro a b c d hP hm; exact h _ a b c d hP (fun a' b' c' d' hP' hm' => ih a' b' c' d' hP' (by omega))
theorem fx5_run {α β γ δ ε ρ : Type} {F : (α → β → γ → δ → ε → Option ρ) → α → β → γ → δ → ε → Option ρ} (P : α → β → γ → δ → ε → Prop) (μ : α → β → γ → δ → ε → Nat) (Post : ρ → Prop) (h : ∀ (self : α → β → γ → δ → ε → Option ρ) (a : α) (b : β) (c : γ) (d : δ) (e : ε), P a b c d e → (∀ a' b' c' d' e', P a' b' c' d' e' → μ a' b' c' d' e' < μ a b c d e → ∃ r, self a' b' c' d' e' = some r ∧ Post r) → ∃ r, F self a b c d e = some r ∧ Post r) : ∀ (n : Nat) (a : α) (b : β) (c : γ) (d : δ) (e : ε), P a b c d e → μ a b c d e < n → ∃ r, fx (fun _ _ _ _ _ => none) F n a b c d e = some r ∧ Post r := by
  intro n
  induction n with
  | zero => intro a b c d e _ h0; omega
  | succ n ih => intro a b c d e hP hm; exact h _ a b c d e hP (fun a' b' c' d' e' hP' hm' => ih a' b' c' d' e' hP' (by omega))
theorem FU_v : FU = 100000 := rfl
theorem k5 {k : Nat} {P : Nat → Prop} (hk : k ≤ 4) (h0 : P 0) (h1 : P 1) (h2 : P 2) (h3 : P 3) (h4 : P 4) : P k := by
  have : k = 0 ∨ k = 1 ∨ k = 2 ∨ k = 3 ∨ k = 4 := by omega
  rcases this with rfl | rfl | rfl | rfl | rfl <;> assumption
theorem sN_le {k : Nat} : sN k ≤ 8 := by unfold sN; split <;> (try split) <;> (try split) <;> omega
theorem sN_pos {k : Nat} : 1 ≤ sN k := by unfold sN; split <;> (try split) <;> (try split) <;> omega
theorem sB_seats_v {w : Wd} {b k : Nat} (hb : b < w.1 0) (hk : w.2.1 (100 + 10 * b) 0 = nI k) (h4 : k ≤ 4) : sB_seats w b = some (nI (sN k)) := by
  unfold sB_seats
  simp only [decide_eq_true hb, rd_t, hk]
  exact k5 (P := fun k => (if nI k = 0 then some 2 else if nI k = 1 then some 4 else if nI k = 4 then some 4 else if nI k = 2 then some 8 else some 1) = some (nI (sN k))) h4 rfl rfl rfl rfl rfl
theorem sB_hasCox_v {w : Wd} {b k : Nat} (hb : b < w.1 0) (hk : w.2.1 (100 + 10 * b) 0 = nI k) (h4 : k ≤ 4) : sB_hasCox w b = some (b1 (k = 1 ∨ k = 2)) := by
  unfold sB_hasCox
  simp only [decide_eq_true hb, rd_t, hk]
  exact k5 (P := fun k => (if nI k = 1 then some 1 else if nI k = 2 then some 1 else some 0) = some (b1 (k = 1 ∨ k = 2))) h4 rfl rfl rfl rfl rfl
theorem sM_seatsOf_v {v : Wd} {b k : Nat} (hb : b < 8) (hk : v.2.1 6 b = nI k) (h4 : k ≤ 4) : sM_seatsOf v (nI b) = some (nI (sN k)) := by
  unfold sM_seatsOf
  simp only [inb_nI hb (by decide), clN (show b < 1073741824 by omega), rd_t, nm_d, hk]
  exact k5 (P := fun k => (if nI k = 0 then some 2 else if nI k = 2 then some 8 else if nI k = 3 then some 1 else some 4) = some (nI (sN k))) h4 rfl rfl rfl rfl rfl
theorem sM_hasCox_v {v : Wd} {b k : Nat} (hb : b < 8) (hk : v.2.1 6 b = nI k) (h4 : k ≤ 4) : sM_hasCox v (nI b) = some (b1 (k = 1 ∨ k = 2)) := by
  unfold sM_hasCox
  simp only [inb_nI hb (by decide), clN (show b < 1073741824 by omega), rd_t, hk]
  exact k5 (P := fun k => (if nI k = 1 then some 1 else if nI k = 2 then some 1 else some 0) = some (b1 (k = 1 ∨ k = 2))) h4 rfl rfl rfl rfl rfl
/-- a boat's seat, as both ask it -/
theorem isSeat_v {w v : Wd} {nB : Nat} (hB : Boats nB w v) (h8 : nB ≤ 8) (xB : w.2.1 90 3 = nI nB) (yB : v.2.1 90 11 = nI nB) (k0 : w.1 0 = nB) (k3 : w.1 3 = nB) (a1 a2 : Int32) :
    (sX_isSeat w a1 a2 = some 0 ∧ sM_isSeat v a1 a2 = some 0) ∨ ∃ b s k, b < nB ∧ s < 9 ∧ k ≤ 4 ∧ v.2.1 6 b = nI k ∧ okS k s ∧ a1 = nI b ∧ a2 = nI s ∧ sX_isSeat w a1 a2 = some 1 ∧ sM_isSeat v a1 a2 = some 1 := by
  unfold sX_isSeat sM_isSeat
  rw [sX_isBoat_v a1 xB (by omega), sM_isBoat_v a1 yB (by omega), bd_s, bd_s]
  by_cases h : 0 ≤ a1.toInt ∧ a1.toInt < nB
  · rw [b1_t h, if_neg n10, if_neg n10]
    obtain ⟨b, hb, rfl⟩ := ix_of h
    obtain ⟨k, ls, ms, ln, hk4, -, -, -, -, -, hkx, hkm, -⟩ := hB.1 b hb
    rw [inb_nI (show b < 8 by omega) (by decide), clN (by omega), k3, k0, decide_eq_true hb]
    simp only [Bool.and_self, rd_t, decide_eq_true hb, sB_seats_v (show b < w.1 0 by omega) hkx hk4, sB_hasCox_v (show b < w.1 0 by omega) hkx hk4, sM_seatsOf_v (show b < 8 by omega) hkm hk4, sM_hasCox_v (show b < 8 by omega) hkm hk4, gd_t, bd_s, jn_d]
    have hN := @sN_le k
    have hP := @sN_pos k
    rw [in_below a2 (by omega), bd_s]
    by_cases h2 : 0 ≤ a2.toInt ∧ a2.toInt < sN k
    · obtain ⟨s, hs, rfl⟩ := ix_of h2
      right
      refine ⟨b, s, k, hb, by omega, hk4, hkm, Or.inl hs, rfl, rfl, ?_, ?_⟩
      · rw [b1_t h2, if_neg n10]
      · rw [if_neg (nI_pos (by omega)), if_pos ((nIlt (by omega) (by omega)).mpr hs)]
    · rw [b1_f h2, if_pos z00]
      have hlt : ¬ a2 < 0 → ¬ a2 < nI (sN k) := by
        intro h0 h1
        rw [lt32] at h0 h1
        rw [nTi (by omega)] at h1
        simp at h0
        exact h2 ⟨h0, h1⟩
      by_cases h8 : a2 = 8
      · rw [if_pos h8]
        have h80 : ¬ a2 < 0 := by subst h8; decide
        rw [if_neg h80, if_neg (hlt h80)]
        by_cases hc : k = 1 ∨ k = 2
        · right
          refine ⟨b, 8, k, hb, by omega, hk4, hkm, Or.inr ⟨rfl, hc⟩, rfl, h8, ?_, ?_⟩
          · rw [b1_t hc, if_neg n10]
          · rw [b1_t hc, if_neg n10]
        · left
          rw [b1_f hc, if_pos z00]
          exact ⟨rfl, rfl⟩
      · rw [if_neg h8]
        left
        refine ⟨rfl, ?_⟩
        by_cases h0 : a2 < 0
        · rw [if_pos h0]
        · rw [if_neg h0, if_neg (hlt h0)]
  · left
    rw [b1_f h, if_pos z00, if_pos z00]
    exact ⟨rfl, rfl⟩
theorem sB_place_v {w : Wd} {b : Nat} (hb : b < w.1 0) (x : Int32) : ∃ r, sB_place w b x = some r ∧ ((r = -1 ∧ ∀ s, s < 9 → w.2.1 (101 + 10 * b) s ≠ x) ∨ ∃ s, s < 9 ∧ r = nI s ∧ w.2.1 (101 + 10 * b) s = x ∧ ∀ s', s' < s → w.2.1 (101 + 10 * b) s' ≠ x) := by
  unfold sB_place sB_place_L2
  rw [nm_d]
  refine fx1_run (fun a => ∃ i, i ≤ 9 ∧ a = nI i ∧ ∀ s, s < i → w.2.1 (101 + 10 * b) s ≠ x) (fun a => 9 - a.toNatClampNeg) _ ?_ FU 0 ⟨0, by omega, rfl, fun s h => by omega⟩ (by rw [FU_v]; omega)
  rintro self a ⟨i, hi, rfl, hn⟩ ih
  by_cases h9 : i = 9
  · subst h9
    exact ⟨-1, rfl, Or.inl ⟨rfl, hn⟩⟩
  · have h8 : ¬ (8 : Int32) < nI i := fun z => by have := (nIlt (a := 8) (b := i) (by decide) (by omega)).mp z; omega
    rw [if_neg h8, decide_eq_true hb, inb_nI (show i < 9 by omega) (by decide), clN (by omega)]
    simp only [Bool.and_self, gd_t, rd_t, nm_d]
    by_cases hx : w.2.1 (101 + 10 * b) i = x
    · rw [if_pos hx]
      exact ⟨nI i, rfl, Or.inr ⟨i, by omega, rfl, hx, hn⟩⟩
    · rw [if_neg hx, nI_1]
      refine ih (nI (i + 1)) ⟨i + 1, by omega, rfl, fun s hs => ?_⟩ ?_
      · by_cases hsi : s = i
        · subst hsi; exact hx
        · exact hn s (by omega)
      · rw [clN (by omega), clN (by omega)]; omega
theorem sM_sitter_v {v : Wd} {nO : Nat} (hO : nO ≤ 16) (yO : v.2.1 90 10 = nI nO) (a b : Int32) : ∃ r, sM_sitter v a b = some r ∧ ((r = -1 ∧ ∀ o, o < nO → ¬ (v.2.1 2 o = a ∧ v.2.1 3 o = b)) ∨ ∃ o, o < nO ∧ r = nI o ∧ v.2.1 2 o = a ∧ v.2.1 3 o = b) := by
  unfold sM_sitter sM_sitter_L5
  rw [nm_d, nm_d]
  refine fx2_run (fun f a4 => ∃ i, i ≤ nO ∧ a4 = nI i ∧ ((f = -1 ∧ ∀ o, o < i → ¬ (v.2.1 2 o = a ∧ v.2.1 3 o = b)) ∨ ∃ o, o < i ∧ f = nI o ∧ v.2.1 2 o = a ∧ v.2.1 3 o = b)) (fun _ a4 => nO - a4.toNatClampNeg) _ ?_ FU (-1) 0 ⟨0, by omega, rfl, Or.inl ⟨rfl, fun o h => by omega⟩⟩ (by rw [FU_v]; omega)
  rintro self f a4 ⟨i, hi, rfl, hf⟩ ih
  rw [yO]
  by_cases hin : i = nO
  · subst hin
    rw [if_pos (show nI i ≤ nI i by rw [nIle (by omega) (by omega)]; omega)]
    exact ⟨f, rfl, hf⟩
  · have hlt : ¬ nI nO ≤ nI i := fun z => by have := (nIle (by omega) (by omega)).mp z; omega
    rw [if_neg hlt, inb_nI (show i < 16 by omega) (by decide), clN (by omega)]
    simp only [rd_t, jn_d, nm_d]
    rw [nI_1]
    have next : ∀ f', ((f' = -1 ∧ ∀ o, o < i + 1 → ¬ (v.2.1 2 o = a ∧ v.2.1 3 o = b)) ∨ ∃ o, o < i + 1 ∧ f' = nI o ∧ v.2.1 2 o = a ∧ v.2.1 3 o = b) → ∃ r, self f' (nI (i + 1)) = some r ∧ ((r = -1 ∧ ∀ o, o < nO → ¬ (v.2.1 2 o = a ∧ v.2.1 3 o = b)) ∨ ∃ o, o < nO ∧ r = nI o ∧ v.2.1 2 o = a ∧ v.2.1 3 o = b) := fun f' hf' => ih f' (nI (i + 1)) ⟨i + 1, by omega, rfl, hf'⟩ (by rw [clN (by omega), clN (by omega)]; omega)
    have keep : ¬ (v.2.1 2 i = a ∧ v.2.1 3 i = b) → ((f = -1 ∧ ∀ o, o < i + 1 → ¬ (v.2.1 2 o = a ∧ v.2.1 3 o = b)) ∨ ∃ o, o < i + 1 ∧ f = nI o ∧ v.2.1 2 o = a ∧ v.2.1 3 o = b) := by
      intro hno
      rcases hf with ⟨h1, h2⟩ | ⟨o, h1, h2⟩
      · refine Or.inl ⟨h1, fun o ho => ?_⟩
        by_cases hoi : o = i
        · subst hoi; exact hno
        · exact h2 o (by omega)
      · exact Or.inr ⟨o, by omega, h2⟩
    by_cases h2 : v.2.1 2 i = a
    · rw [if_pos h2]
      by_cases h3 : v.2.1 3 i = b
      · rw [if_pos h3]
        exact next _ (Or.inr ⟨i, by omega, rfl, h2, h3⟩)
      · rw [if_neg h3]
        exact next _ (keep (fun z => h3 z.2))
    · rw [if_neg h2]
      exact next _ (keep (fun z => h2 z.1))
/-- who sits there: the crew's own row says it -/
theorem sitter_crew {w v : Wd} {nO nB b s : Nat} (hS : Seats nO nB w v) (hO : nO ≤ 16) (hB8 : nB ≤ 8) (yO : v.2.1 90 10 = nI nO) (hb : b < nB) (hs : s < 9) : sM_sitter v (nI b) (nI s) = some (w.2.1 (101 + 10 * b) s) := by
  obtain ⟨r, hr, h⟩ := sM_sitter_v hO yO (nI b) (nI s)
  rw [hr]
  congr 1
  rcases h with ⟨rfl, hn⟩ | ⟨o, ho, rfl, h2, h3⟩
  · rcases hS.1 b hb s hs with h | ⟨o, ho, -, g1, g2⟩
    · exact h.symm
    · exact absurd ⟨g1, g2⟩ (hn o ho)
  · rcases hS.2 o ho with h | ⟨b', s', k, hb', hs', -, -, -, g1, g2, g3⟩
    · rw [h] at h2
      exact absurd h2.symm (nI_nm1 (by omega))
    · have e1 : b' = b := (nIeq (by omega) (by omega)).mp (g1.symm.trans h2)
      have e2 : s' = s := (nIeq (by omega) (by omega)).mp (g2.symm.trans h3)
      subst e1; subst e2
      exact g3.symm
theorem op_seat : Op_seat Rel := by
  intro w v a1 a2 hR
  obtain ⟨nO, nB, nC, nU, nT, nL, nH, nP, d, hC, hO, hB, hS, hRc, hV, hT, hU, hG, hL, hH, hK⟩ := hR
  obtain ⟨⟨bO, bB, bC, bU, bT, bL, bH, bP, bD⟩, ⟨k0, k1, k2, k3, k4, k5⟩, ⟨xO, xB, xD, xC, xU, xP, xT, xL, xH⟩, ⟨yO, yB, yD, yC, yU, yP, yT, yL, yH⟩, hnr, hn0, hn9⟩ := hC
  unfold sX_seat sM_seat
  rcases isSeat_v hB bB xB yB k0 k3 a1 a2 with ⟨e1, e2⟩ | ⟨b, s, k, hb, hs, hk4, hk, hok, rfl, rfl, e1, e2⟩
  · rw [e1, e2, bd_s, bd_s, if_pos z00, if_pos z00]
    exact fin1 rfl rfl
  · rw [e1, e2, bd_s, bd_s, if_neg n10, if_neg n10, sitter_crew hS bO bB yO hb hs, bd_s, inb_nI (show b < 8 by omega) (by decide), clN (by omega), k3, k0, decide_eq_true hb, inb_nI hs (by decide), clN (by omega)]
    simp only [Bool.and_self, rd_t, decide_eq_true hb, gd_t]
    exact fin1 rfl rfl
