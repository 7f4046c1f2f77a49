set_option maxRecDepth 100000
def Env (nO nB nU d : Nat) (w v : Wd) : Prop := Oars nO w v ∧ Boats nB w v ∧ Seats nO nB w v ∧ River w v ∧ Rules nU w v ∧ w.1 0 = nB ∧ w.1 1 = nO ∧ w.1 2 = nU ∧ w.1 3 = nB ∧ w.1 4 = nO ∧ w.1 5 = nU ∧ nO ≤ 16 ∧ nB ≤ 8 ∧ nU ≤ 10 ∧ d ≤ 999 ∧ w.2.1 90 4 = nI d ∧ v.2.1 90 31 = nI d ∧ w.2.1 90 20 = nI nU ∧ v.2.1 90 30 = nI nU ∧ v.2.1 90 10 = nI nO
theorem Env.hO {nO nB nU d : Nat} {w v : Wd} (E : Env nO nB nU d w v) : Oars nO w v := E.1
theorem Env.hB {nO nB nU d : Nat} {w v : Wd} (E : Env nO nB nU d w v) : Boats nB w v := E.2.1
theorem Env.hS {nO nB nU d : Nat} {w v : Wd} (E : Env nO nB nU d w v) : Seats nO nB w v := E.2.2.1
theorem Env.hV {nO nB nU d : Nat} {w v : Wd} (E : Env nO nB nU d w v) : River w v := E.2.2.2.1
theorem Env.hU {nO nB nU d : Nat} {w v : Wd} (E : Env nO nB nU d w v) : Rules nU w v := E.2.2.2.2.1
theorem Env.k0 {nO nB nU d : Nat} {w v : Wd} (E : Env nO nB nU d w v) : w.1 0 = nB := E.2.2.2.2.2.1
theorem Env.k1 {nO nB nU d : Nat} {w v : Wd} (E : Env nO nB nU d w v) : w.1 1 = nO := E.2.2.2.2.2.2.1
theorem Env.k2 {nO nB nU d : Nat} {w v : Wd} (E : Env nO nB nU d w v) : w.1 2 = nU := E.2.2.2.2.2.2.2.1
theorem Env.k3 {nO nB nU d : Nat} {w v : Wd} (E : Env nO nB nU d w v) : w.1 3 = nB := E.2.2.2.2.2.2.2.2.1
theorem Env.k4 {nO nB nU d : Nat} {w v : Wd} (E : Env nO nB nU d w v) : w.1 4 = nO := E.2.2.2.2.2.2.2.2.2.1
theorem Env.k5 {nO nB nU d : Nat} {w v : Wd} (E : Env nO nB nU d w v) : w.1 5 = nU := E.2.2.2.2.2.2.2.2.2.2.1
theorem Env.bO {nO nB nU d : Nat} {w v : Wd} (E : Env nO nB nU d w v) : nO ≤ 16 := E.2.2.2.2.2.2.2.2.2.2.2.1
theorem Env.bB {nO nB nU d : Nat} {w v : Wd} (E : Env nO nB nU d w v) : nB ≤ 8 := E.2.2.2.2.2.2.2.2.2.2.2.2.1
theorem Env.bU {nO nB nU d : Nat} {w v : Wd} (E : Env nO nB nU d w v) : nU ≤ 10 := E.2.2.2.2.2.2.2.2.2.2.2.2.2.1
theorem Env.bD {nO nB nU d : Nat} {w v : Wd} (E : Env nO nB nU d w v) : d ≤ 999 := E.2.2.2.2.2.2.2.2.2.2.2.2.2.2.1
theorem Env.xD {nO nB nU d : Nat} {w v : Wd} (E : Env nO nB nU d w v) : w.2.1 90 4 = nI d := E.2.2.2.2.2.2.2.2.2.2.2.2.2.2.2.1
theorem Env.yD {nO nB nU d : Nat} {w v : Wd} (E : Env nO nB nU d w v) : v.2.1 90 31 = nI d := E.2.2.2.2.2.2.2.2.2.2.2.2.2.2.2.2.1
theorem Env.xU {nO nB nU d : Nat} {w v : Wd} (E : Env nO nB nU d w v) : w.2.1 90 20 = nI nU := E.2.2.2.2.2.2.2.2.2.2.2.2.2.2.2.2.2.1
theorem Env.yU {nO nB nU d : Nat} {w v : Wd} (E : Env nO nB nU d w v) : v.2.1 90 30 = nI nU := E.2.2.2.2.2.2.2.2.2.2.2.2.2.2.2.2.2.2.1
theorem Env.yO {nO nB nU d : Nat} {w v : Wd} (E : Env nO nB nU d w v) : v.2.1 90 10 = nI nO := E.2.2.2.2.2.2.2.2.2.2.2.2.2.2.2.2.2.2.2
def yg (v : Wd) (nO b : Nat) : Prop := ∃ o, o < nO ∧ v.2.1 2 o = nI b ∧ v.2.1 0 o = nI 4
theorem isYoung_v {w v : Wd} {nO o : Nat} (hO : Oars nO w v) (ho : o < nO) : (sO_isYoung w o = some 1 ∧ v.2.1 0 o = nI 4) ∨ (sO_isYoung w o = some 0 ∧ ¬ v.2.1 0 o = nI 4) := by
  obtain ⟨k, wt, hk, -, -, hc, -, -, e, -⟩ := hO.1 o ho
  unfold sO_isYoung sX2_isYoung sX5_isYoung
  rw [hc, e]
  by_cases h4 : k = 4
  · subst h4; exact Or.inl ⟨rfl, rfl⟩
  · refine Or.inr ⟨?_, fun z => h4 ((nIeq (by omega) (by decide)).mp z)⟩
    have h : k = 0 ∨ k = 1 ∨ k = 2 ∨ k = 3 := by omega
    rcases h with rfl | rfl | rfl | rfl <;> rfl
theorem youngX {w v : Wd} {nO nB nU d b : Nat} (E : Env nO nB nU d w v) (hb : b < nB) : ∃ r, sX_hasYoung w b = some r ∧ ((r = 0 ∧ ¬ yg v nO b) ∨ (r = 1 ∧ yg v nO b)) := by
  unfold sX_hasYoung
  rw [nm_d, nm_d, eX_hasYoung_L4]
  have key : ∀ (m k fuel : Nat) (r : Int32), k + m = 9 → m < fuel → ((r = 0 ∧ ∀ s, s < k → ∀ o, o < nO → w.2.1 (101 + 10 * b) s = nI o → ¬ v.2.1 0 o = nI 4) ∨ (r = 1 ∧ yg v nO b)) → ∃ r', fx (fun _ _ => none) (bX_hasYoung_L4 w b) fuel r (nI k) = some r' ∧ ((r' = 0 ∧ ∀ s, s < 9 → ∀ o, o < nO → w.2.1 (101 + 10 * b) s = nI o → ¬ v.2.1 0 o = nI 4) ∨ (r' = 1 ∧ yg v nO b)) := by
    intro m
    induction m with
    | zero =>
      intro k fuel r hk hf hr
      obtain ⟨g, rfl⟩ : ∃ g, fuel = g + 1 := ⟨fuel - 1, by omega⟩
      obtain rfl : k = 9 := by omega
      refine ⟨r, ?_, hr⟩
      rw [fx_s]
      unfold bX_hasYoung_L4
      rw [if_pos (show (8 : Int32) < nI 9 by decide)]
      rcases hr with ⟨rfl, -⟩ | ⟨rfl, -⟩ <;> rfl
    | succ m ih =>
      intro k fuel r hk hf hr
      obtain ⟨g, rfl⟩ : ∃ g, fuel = g + 1 := ⟨fuel - 1, by omega⟩
      have ihx := fun r => ih (k + 1) g r (by omega) (by omega)
      rw [fx_s]
      generalize fx _ _ g = s1 at ihx ⊢
      unfold bX_hasYoung_L4
      rw [if_neg (show ¬ (8 : Int32) < nI k from fun z => absurd ((nIlt (a := 8) (by decide) (by omega)).mp z) (by omega)), E.k0, decide_eq_true hb, inb_nI (show k < 9 by omega) (by decide), clN (show k < 1073741824 by omega)]
      simp only [Bool.and_self, rd_t, gd_t, nm_d, nI_1, jn_d]
      have bO := E.bO
      rcases E.hS.1 b hb k (by omega) with e | ⟨p, hp, e, e2, e3⟩
      · rw [e, if_pos rfl, Int32.or_zero]
        refine ihx r ?_
        rcases hr with ⟨h1, h2⟩ | h
        · refine Or.inl ⟨h1, fun s hs o ho he => ?_⟩
          rcases Nat.lt_or_ge s k with h | h
          · exact h2 s h o ho he
          · obtain rfl : s = k := by omega
            rw [e] at he
            exact absurd he.symm (nI_nm1 (by omega))
        · exact Or.inr h
      · rw [e, if_neg (nI_nm1 (by omega)), inb_nI (show p < 16 by omega) (by decide), clN (show p < 1073741824 by omega), E.k4, decide_eq_true hp]
        simp only [Bool.and_self, rd_t]
        rw [oOk_t E.hO E.k1 hp, gd_t]
        rcases isYoung_v E.hO hp with ⟨y1, y2⟩ | ⟨y1, y2⟩
        · rw [y1, bd_s, if_neg n10]
          refine ihx _ (Or.inr ⟨?_, p, hp, e2, y2⟩)
          rcases hr with ⟨rfl, -⟩ | ⟨rfl, -⟩ <;> rfl
        · rw [y1, bd_s, if_pos z00, Int32.or_zero]
          refine ihx r ?_
          rcases hr with ⟨h1, h2⟩ | h
          · refine Or.inl ⟨h1, fun s hs o ho he => ?_⟩
            rcases Nat.lt_or_ge s k with h | h
            · exact h2 s h o ho he
            · obtain rfl : s = k := by omega
              rw [e] at he
              have := (nIeq (by omega) (by omega)).mp he
              subst this
              exact y2
          · exact Or.inr h
  obtain ⟨r, e, h⟩ := key 9 0 FU 0 (by omega) (by rw [FU_v]; omega) (Or.inl ⟨rfl, fun s hs => by omega⟩)
  refine ⟨r, e, ?_⟩
  rcases h with ⟨h1, h2⟩ | h
  · refine Or.inl ⟨h1, ?_⟩
    rintro ⟨p, hp, g1, g2⟩
    rcases E.hS.2 p hp with z | ⟨b', s, k, hb', hs, -, -, -, q1, q2, q3⟩
    · rw [g1] at z; exact nI_nm1 (by have := E.bB; omega) z
    · rw [g1] at q1
      have := (nIeq (by have := E.bB; omega) (by have := E.bB; omega)).mp q1
      subst this
      exact h2 s hs p hp q3 g2
  · exact Or.inr h
theorem youngM {w v : Wd} {nO nB nU d b : Nat} (E : Env nO nB nU d w v) : ∃ r, (∀ J, sM_field_L27 (nI b) v J 0 0 = J r) ∧ ((r = 0 ∧ ¬ yg v nO b) ∨ (r = 1 ∧ yg v nO b)) := by
  have bO := E.bO
  have key : ∀ (m k fuel : Nat) (r : Int32), k + m = nO → m < fuel → ((r = 0 ∧ ¬ yg v k b) ∨ (r = 1 ∧ yg v k b)) → ∃ r', (∀ J, fx (fun _ _ => none) (bM_field_L27 (nI b) v J) fuel r (nI k) = J r') ∧ ((r' = 0 ∧ ¬ yg v nO b) ∨ (r' = 1 ∧ yg v nO b)) := by
    intro m
    induction m with
    | zero =>
      intro k fuel r hk hf hr
      obtain ⟨g, rfl⟩ : ∃ g, fuel = g + 1 := ⟨fuel - 1, by omega⟩
      obtain rfl : k = nO := by omega
      refine ⟨r, fun J => ?_, hr⟩
      rw [fx_s]
      unfold bM_field_L27
      rw [E.yO, if_pos (Int32.le_refl _)]
    | succ m ih =>
      intro k fuel r hk hf hr
      obtain ⟨g, rfl⟩ : ∃ g, fuel = g + 1 := ⟨fuel - 1, by omega⟩
      have hs : yg v (k + 1) b ↔ yg v k b ∨ (v.2.1 2 k = nI b ∧ v.2.1 0 k = nI 4) := by
        refine ⟨fun ⟨o, ho, h1, h2⟩ => ?_, fun h => ?_⟩
        · rcases Nat.lt_or_ge o k with h | h
          · exact Or.inl ⟨o, h, h1, h2⟩
          · obtain rfl : o = k := by omega
            exact Or.inr ⟨h1, h2⟩
        · rcases h with ⟨o, ho, h1, h2⟩ | ⟨h1, h2⟩
          · exact ⟨o, by omega, h1, h2⟩
          · exact ⟨k, by omega, h1, h2⟩
      have go : ∀ r', ((r' = 0 ∧ ¬ yg v (k + 1) b) ∨ (r' = 1 ∧ yg v (k + 1) b)) → (∀ (J : Int32 → Option Int32) s1, bM_field_L27 (nI b) v J s1 r (nI k) = s1 r' (nI (k + 1))) → ∃ r', (∀ J, fx (fun _ _ => none) (bM_field_L27 (nI b) v J) (g + 1) r (nI k) = J r') ∧ ((r' = 0 ∧ ¬ yg v nO b) ∨ (r' = 1 ∧ yg v nO b)) := by
        intro r' h1 h2
        obtain ⟨q, e, h⟩ := ih (k + 1) g r' (by omega) (by omega) h1
        refine ⟨q, fun J => ?_, h⟩
        rw [fx_s, h2]
        exact e J
      have step : ∀ (J : Int32 → Option Int32) s1, bM_field_L27 (nI b) v J s1 r (nI k) = s1 (if v.2.1 2 k = nI b then (if v.2.1 0 k = 4 then 1 else r) else r) (nI (k + 1)) := by
        intro J s1
        unfold bM_field_L27
        rw [E.yO, if_neg (fun z => absurd ((nIle (by omega) (by omega)).mp z) (by omega)), inb_nI (show k < 16 by omega) (by decide), clN (show k < 1073741824 by omega)]
        simp only [rd_t, nm_d, jn_d, nI_1]
        split
        · split <;> rfl
        · rfl
      refine go _ ?_ step
      by_cases h1 : v.2.1 2 k = nI b
      · rw [if_pos h1]
        by_cases h2 : v.2.1 0 k = 4
        · rw [if_pos h2]; exact Or.inr ⟨rfl, hs.mpr (Or.inr ⟨h1, h2⟩)⟩
        · rw [if_neg h2]
          rcases hr with ⟨q1, q2⟩ | ⟨q1, q2⟩
          · exact Or.inl ⟨q1, fun z => by rcases hs.mp z with z | z; exact q2 z; exact h2 z.2⟩
          · exact Or.inr ⟨q1, hs.mpr (Or.inl q2)⟩
      · rw [if_neg h1]
        rcases hr with ⟨q1, q2⟩ | ⟨q1, q2⟩
        · exact Or.inl ⟨q1, fun z => by rcases hs.mp z with z | z; exact q2 z; exact h1 z.1⟩
        · exact Or.inr ⟨q1, hs.mpr (Or.inl q2)⟩
  obtain ⟨r, e, h⟩ := key nO 0 FU 0 (by omega) (by rw [FU_v]; omega) (Or.inl ⟨rfl, fun ⟨o, ho, _⟩ => by omega⟩)
  refine ⟨r, fun J => ?_, h⟩
  rw [eM_field_L27]
  exact e J
theorem remN {n d : Nat} (hn : n < 1073741824) (h0 : 0 < d) (hd : d < 1000) : irm (nI n) (nI d) = nI (n % d) := pk_rem (by omega) h0 (by omega)
theorem divN {n d : Nat} (hn : n < 1073741824) (h0 : 0 < d) (hd : d < 1000) : nI n / nI d = nI (n / d) := pk_div (by omega) h0 (by omega)
theorem value_v {w v : Wd} {nO nB nU d b r f : Nat} (E : Env nO nB nU d w v) (hb : b < nB) (hr : r < nU) (hf : f ≤ 6) (hour : Int32) : ∃ x, sU_value w r (nI f) b hour = some x ∧ sM_field v (nI f) (nI b) hour = some x := by
  obtain ⟨y, ey, hy⟩ := youngX E hb
  obtain ⟨y', em, hy'⟩ := youngM (b := b) E
  have hyy : y' = y := by
    rcases hy with ⟨rfl, p⟩ | ⟨rfl, p⟩ <;> rcases hy' with ⟨rfl, q⟩ | ⟨rfl, q⟩
    · rfl
    · exact absurd q p
    · exact absurd p q
    · rfl
  have hy01 : y = 0 ∨ y = 1 := by rcases hy with ⟨h, -⟩ | ⟨h, -⟩; exact Or.inl h; exact Or.inr h
  have bD := E.bD
  have bB := E.bB
  have q1 : irm (nI d) 30 = nI (d % 30) := remN (d := 30) (by omega) (by decide) (by decide)
  have q2 : nI d / 30 = nI (d / 30) := divN (d := 30) (by omega) (by decide) (by decide)
  have q3 : irm (nI (d / 30)) 12 = nI (d / 30 % 12) := remN (d := 12) (by omega) (by decide) (by decide)
  have hv := E.hV (d % 30) (by omega)
  obtain ⟨k, ls, ms, ln, hk, -, -, -, -, -, g1, g2, -⟩ := E.hB.1 b hb
  unfold sU_value sM_field
  simp only [nm_d, jn_d]
  rw [em, hyy, E.xD, E.yD, q1, q2, q3, E.k2, decide_eq_true hr, E.k0, decide_eq_true hb, inb_nI (show d % 30 < 30 by omega) (by decide), clN (show d % 30 < 1073741824 by omega), sB_seats_v (by rw [E.k0]; exact hb) g1 hk, sM_seatsOf_v (by omega) g2 hk, ey, hv.1, hv.2]
  simp only [rd_t, gd_t, bd_s]
  have h : f = 0 ∨ f = 1 ∨ f = 2 ∨ f = 3 ∨ f = 4 ∨ f = 5 ∨ f = 6 := by omega
  rcases h with rfl | rfl | rfl | rfl | rfl | rfl | rfl
  · simp only [if_pos (show nI 0 = (0 : Int32) from rfl)]
    exact ⟨_, Eq.refl _, Eq.refl _⟩
  · simp only [if_neg (show ¬ nI 1 = (0 : Int32) by decide), if_pos (show nI 1 = (1 : Int32) from rfl)]
    exact ⟨_, Eq.refl _, Eq.refl _⟩
  · simp only [if_neg (show ¬ nI 2 = (0 : Int32) by decide), if_neg (show ¬ nI 2 = (1 : Int32) by decide), if_pos (show nI 2 = (2 : Int32) from rfl)]
    exact ⟨_, Eq.refl _, Eq.refl _⟩
  · simp only [if_neg (show ¬ nI 3 = (0 : Int32) by decide), if_neg (show ¬ nI 3 = (1 : Int32) by decide), if_neg (show ¬ nI 3 = (2 : Int32) by decide), if_pos (show nI 3 = (3 : Int32) from rfl)]
    exact ⟨_, Eq.refl _, Eq.refl _⟩
  · simp only [if_neg (show ¬ nI 4 = (0 : Int32) by decide), if_neg (show ¬ nI 4 = (1 : Int32) by decide), if_neg (show ¬ nI 4 = (2 : Int32) by decide), if_neg (show ¬ nI 4 = (3 : Int32) by decide), if_pos (show nI 4 = (4 : Int32) from rfl)]
    exact ⟨_, Eq.refl _, Eq.refl _⟩
  · simp only [if_neg (show ¬ nI 5 = (0 : Int32) by decide), if_neg (show ¬ nI 5 = (1 : Int32) by decide), if_neg (show ¬ nI 5 = (2 : Int32) by decide), if_neg (show ¬ nI 5 = (3 : Int32) by decide), if_neg (show ¬ nI 5 = (4 : Int32) by decide), if_pos (show nI 5 = (5 : Int32) from rfl)]
    refine ⟨y, ?_, Eq.refl _⟩
    rcases hy01 with h | h
    · rw [h, if_pos z00]
    · rw [h, if_neg n10]
  · simp only [if_neg (show ¬ nI 6 = (0 : Int32) by decide), if_neg (show ¬ nI 6 = (1 : Int32) by decide), if_neg (show ¬ nI 6 = (2 : Int32) by decide), if_neg (show ¬ nI 6 = (3 : Int32) by decide), if_neg (show ¬ nI 6 = (4 : Int32) by decide), if_neg (show ¬ nI 6 = (5 : Int32) by decide)]
    split
    · exact ⟨_, Eq.refl _, Eq.refl _⟩
    · split
      · exact ⟨_, Eq.refl _, Eq.refl _⟩
      · exact ⟨_, Eq.refl _, Eq.refl _⟩
def cmpI (x sg nb : Int32) : Int32 := if sg = 61 then (if x = nb then 1 else 0) else if sg = 60 then (if nb ≤ x then 0 else 1) else (if x ≤ nb then 0 else 1)
theorem test_v {w v : Wd} {nO nB nU d b r j z : Nat} (E : Env nO nB nU d w v) (hb : b < nB) (hr : r < nU) (hz : z ≤ 3) (e2 : w.2.1 (103 + 10 * r) 2 = nI z) (hj : j < z) (hour : Int32) (ht : w.2.1 (107 + 10 * r) j = v.2.1 35 (12 * r + 4 * j) ∧ (v.2.1 35 (12 * r + 4 * j) = 0 ∨ v.2.1 35 (12 * r + 4 * j) = 1) ∧ (∃ f : Nat, f ≤ 6 ∧ v.2.1 35 (12 * r + 4 * j + 1) = nI f ∧ w.2.1 (104 + 10 * r) j = nI f) ∧ w.2.1 (105 + 10 * r) j = v.2.1 35 (12 * r + 4 * j + 2) ∧ w.2.1 (106 + 10 * r) j = v.2.1 35 (12 * r + 4 * j + 3)) : ∃ q : Int32, sM_isSo v (nI (12 * r + 4 * j)) (nI b) hour = some q ∧ ∀ self, bU_holds_L23 w r b hour self (nI j) = if q = 0 then some 0 else self (nI (j + 1)) := by
  have bU := E.bU
  obtain ⟨t1, t2, ⟨f, hf, t3, t4⟩, t5, t6⟩ := ht
  obtain ⟨x, x1, x2⟩ := value_v E hb hr hf hour
  unfold sM_isSo bU_holds_L23
  rw [nI_1, show nI (12 * r + 4 * j) + 2 = nI (12 * r + 4 * j + 2) from nI_add _ 2, show nI (12 * r + 4 * j) + 3 = nI (12 * r + 4 * j + 3) from nI_add _ 3, inb_nI (show 12 * r + 4 * j + 1 < 120 by omega) (by decide), clN (show 12 * r + 4 * j + 1 < 1073741824 by omega), inb_nI (show 12 * r + 4 * j + 2 < 120 by omega) (by decide), clN (show 12 * r + 4 * j + 2 < 1073741824 by omega), inb_nI (show 12 * r + 4 * j + 3 < 120 by omega) (by decide), clN (show 12 * r + 4 * j + 3 < 1073741824 by omega), inb_nI (show 12 * r + 4 * j < 120 by omega) (by decide), clN (show 12 * r + 4 * j < 1073741824 by omega), E.k2, decide_eq_true hr, inb_nI (show j < 3 by omega) (by decide), clN (show j < 1073741824 by omega), e2]
  simp only [Bool.and_self, rd_t, gd_t, nm_d, jn_d, nI_1]
  rw [t3, x2, t4, x1, t5, t6, t1]
  simp only [bd_s]
  have hle : ¬ nI z ≤ nI j := fun q => absurd ((nIle (by omega) (by omega)).mp q) (by omega)
  simp only [if_neg hle]
  generalize v.2.1 35 (12 * r + 4 * j) = c at t2 ⊢
  generalize v.2.1 35 (12 * r + 4 * j + 2) = sg
  generalize v.2.1 35 (12 * r + 4 * j + 3) = nb
  refine ⟨if cmpI x sg nb = c then 0 else 1, ?_, fun self => ?_⟩
  · unfold cmpI
    by_cases h1 : sg = 61
    · by_cases h2 : x = nb <;> rcases t2 with rfl | rfl <;> simp [h1, h2]
    · by_cases h2 : sg = 60
      · by_cases h3 : nb ≤ x <;> rcases t2 with rfl | rfl <;> simp [h2, h3]
      · by_cases h3 : x ≤ nb <;> rcases t2 with rfl | rfl <;> simp [h1, h2, h3]
  · unfold cmpI
    by_cases h1 : sg = 61
    · by_cases h2 : x = nb <;> rcases t2 with rfl | rfl <;> simp [h1, h2]
    · by_cases h2 : sg = 60
      · by_cases h3 : nb ≤ x <;> rcases t2 with rfl | rfl <;> simp [h2, h3]
      · by_cases h3 : x ≤ nb <;> rcases t2 with rfl | rfl <;> simp [h1, h2, h3]
