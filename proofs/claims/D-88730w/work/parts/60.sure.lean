set_option maxRecDepth 100000
def sby (f s y : Nat → Int32) (a1 a2 : Int32) (r : Nat) : Int32 := if f r = a1 ∧ s r = a2 then y r else if f r = a2 ∧ s r = a1 then -(y r) else 0
theorem c_le {i n : Nat} (h : i < n) (hn : n < 1073741824) : ¬ nI n ≤ nI i := fun z => by have := (nIle (by omega) (by omega)).mp z; omega
theorem c_ge {i : Nat} (hn : i < 1073741824) : nI i ≤ nI i := (nIle hn hn).mpr (Nat.le_refl _)
def SureX (w : Wd) (nC : Nat) (a1 a2 : Int32) (J : Int32 → Int32 → Option Int32) (OO : Option Int32) : Prop := ∃ c1 c2 : Nat, OO = J (nI c1) (nI c2) ∧ c1 ≤ 40 ∧ c2 ≤ 40 ∧ (c1 = 0 ↔ ∀ r, r < nC → ¬ 0 < sby (w.2.1 5) (w.2.1 6) (w.2.1 7) a1 a2 r) ∧ (c2 = 0 ↔ ∀ r, r < nC → ¬ sby (w.2.1 5) (w.2.1 6) (w.2.1 7) a1 a2 r < 0)
def SureM (v : Wd) (nC : Nat) (a1 a2 : Int32) (J : Int32 → Int32 → Option Int32) (OO : Option Int32) : Prop := ∃ x y : Int32, OO = J x y ∧ ((x = 0 ∧ ∀ r, r < nC → ¬ 0 < sby (v.2.1 12) (v.2.1 13) (v.2.1 14) a1 a2 r) ∨ (x = 1 ∧ ∃ r, r < nC ∧ 0 < sby (v.2.1 12) (v.2.1 13) (v.2.1 14) a1 a2 r)) ∧ ((y = 0 ∧ ∀ r, r < nC → ¬ sby (v.2.1 12) (v.2.1 13) (v.2.1 14) a1 a2 r < 0) ∨ (y = 1 ∧ ∃ r, r < nC ∧ sby (v.2.1 12) (v.2.1 13) (v.2.1 14) a1 a2 r < 0))
theorem sureX {w : Wd} {nC : Nat} (hn : nC ≤ 40) (xC : w.2.1 90 10 = nI nC) (a1 a2 : Int32) (J : Int32 → Int32 → Option Int32) : SureX w nC a1 a2 J (sX_sure_L34 w a1 a2 J 0 0 0) := by
  rw [eX_sure_L34]
  refine fx3_q (fun x y z => ∃ i c1 c2 : Nat, i ≤ nC ∧ x = nI c1 ∧ y = nI c2 ∧ z = nI i ∧ c1 ≤ i ∧ c2 ≤ i ∧ (c1 = 0 ↔ ∀ r, r < i → ¬ 0 < sby (w.2.1 5) (w.2.1 6) (w.2.1 7) a1 a2 r) ∧ (c2 = 0 ↔ ∀ r, r < i → ¬ sby (w.2.1 5) (w.2.1 6) (w.2.1 7) a1 a2 r < 0)) (fun _ _ z => nC - z.toNatClampNeg) (SureX w nC a1 a2 J) ?_ FU 0 0 0 ⟨0, 0, 0, by omega, rfl, rfl, rfl, by omega, by omega, ⟨fun _ r h => by omega, fun _ => rfl⟩, ⟨fun _ r h => by omega, fun _ => rfl⟩⟩ (by rw [FU_v]; omega)
  rintro self x y z ⟨i, c1, c2, hi, rfl, rfl, rfl, hc1, hc2, h1, h2⟩ ih
  unfold bX_sure_L34
  rw [xC]
  by_cases hin : i = nC
  · subst hin
    rw [if_pos (c_ge (by omega))]
    exact ⟨c1, c2, rfl, by omega, by omega, h1, h2⟩
  · rw [if_neg (c_le (by omega) (by omega)), inb_nI (show i < 40 by omega) (by decide), clN (by omega)]
    simp only [rd_t, jn_d, nm_d, nI_1]
    have step : (if w.2.1 5 i = a1 then (if w.2.1 6 i = a2 then (1 : Int32) else 0) else 0) = (1 : Int32) ∨ True := Or.inr trivial
    generalize hz : sby (w.2.1 5) (w.2.1 6) (w.2.1 7) a1 a2 i = zz
    have mono : ∀ d1 d2 : Nat, d1 ≤ i + 1 → d2 ≤ i + 1 → (d1 = 0 ↔ (c1 = 0 ∧ ¬ 0 < zz)) → (d2 = 0 ↔ (c2 = 0 ∧ ¬ zz < 0)) → ∃ c1 c2 : Nat, self (nI d1) (nI d2) (nI (i + 1)) = J (nI c1) (nI c2) ∧ c1 ≤ 40 ∧ c2 ≤ 40 ∧ (c1 = 0 ↔ ∀ r, r < nC → ¬ 0 < sby (w.2.1 5) (w.2.1 6) (w.2.1 7) a1 a2 r) ∧ (c2 = 0 ↔ ∀ r, r < nC → ¬ sby (w.2.1 5) (w.2.1 6) (w.2.1 7) a1 a2 r < 0) := by
      intro d1 d2 g1 g2 g3 g4
      refine ih _ _ _ ⟨i + 1, d1, d2, by omega, rfl, rfl, rfl, g1, g2, ?_, ?_⟩ (by rw [clN (by omega), clN (by omega)]; omega)
      · rw [g3, h1]
        constructor
        · rintro ⟨p, q⟩ r hr
          by_cases hri : r = i
          · rw [hri, hz]; exact q
          · exact p r (by omega)
        · intro p
          exact ⟨fun r hr => p r (by omega), by have := p i (by omega); rw [hz] at this; exact this⟩
      · rw [g4, h2]
        constructor
        · rintro ⟨p, q⟩ r hr
          by_cases hri : r = i
          · rw [hri, hz]; exact q
          · exact p r (by omega)
        · intro p
          exact ⟨fun r hr => p r (by omega), by have := p i (by omega); rw [hz] at this; exact this⟩
    have fin : ∀ zz' : Int32, zz' = zz → ∃ c1_1 c2_1 : Nat, (if zz' ≤ 0 then (if 0 ≤ zz' then self (nI c1) (nI c2) (nI (i + 1)) else self (nI c1) (nI (c2 + 1)) (nI (i + 1))) else (if 0 ≤ zz' then self (nI (c1 + 1)) (nI c2) (nI (i + 1)) else self (nI (c1 + 1)) (nI (c2 + 1)) (nI (i + 1)))) = J (nI c1_1) (nI c2_1) ∧ c1_1 ≤ 40 ∧ c2_1 ≤ 40 ∧ (c1_1 = 0 ↔ ∀ r, r < nC → ¬ 0 < sby (w.2.1 5) (w.2.1 6) (w.2.1 7) a1 a2 r) ∧ (c2_1 = 0 ↔ ∀ r, r < nC → ¬ sby (w.2.1 5) (w.2.1 6) (w.2.1 7) a1 a2 r < 0) := by
      intro zz' e
      subst e
      have i0 : (0 : Int32).toInt = 0 := rfl
      by_cases g1 : zz' ≤ 0
      · rw [if_pos g1]
        have g1' : ¬ 0 < zz' := by rw [lt32]; rw [le32] at g1; omega
        by_cases g2 : 0 ≤ zz'
        · rw [if_pos g2]
          have g2' : ¬ zz' < 0 := by rw [lt32]; rw [le32] at g2; omega
          exact mono c1 c2 (by omega) (by omega) ⟨fun q => ⟨q, g1'⟩, fun q => q.1⟩ ⟨fun q => ⟨q, g2'⟩, fun q => q.1⟩
        · rw [if_neg g2]
          have g2' : zz' < 0 := by rw [lt32]; rw [le32] at g2; omega
          exact mono c1 (c2 + 1) (by omega) (by omega) ⟨fun q => ⟨q, g1'⟩, fun q => q.1⟩ ⟨fun q => by omega, fun q => absurd g2' q.2⟩
      · rw [if_neg g1]
        have g1' : 0 < zz' := by rw [lt32]; rw [le32] at g1; omega
        have g2 : 0 ≤ zz' := by rw [le32]; rw [le32] at g1; omega
        have g2' : ¬ zz' < 0 := by rw [lt32]; rw [le32] at g2; omega
        rw [if_pos g2]
        exact mono (c1 + 1) c2 (by omega) (by omega) ⟨fun q => by omega, fun q => absurd g1' q.2⟩ ⟨fun q => ⟨q, g2'⟩, fun q => q.1⟩
    have sb : ∀ u, (if w.2.1 5 i = a1 ∧ w.2.1 6 i = a2 then w.2.1 7 i else if w.2.1 5 i = a2 ∧ w.2.1 6 i = a1 then -(w.2.1 7 i) else 0) = u → u = zz := fun u e => by rw [← hz, ← e]; rfl
    by_cases e1 : w.2.1 5 i = a1
    · by_cases e2 : w.2.1 6 i = a2
      · have hzz := sb (w.2.1 7 i) (by rw [if_pos ⟨e1, e2⟩])
        simp only [if_pos e1, if_pos e2, if_neg n10]
        split
        · split <;> exact fin _ hzz
        · exact fin _ hzz
      · simp only [if_pos e1, if_neg e2, if_pos z00]
        by_cases e3 : w.2.1 5 i = a2
        · by_cases e4 : w.2.1 6 i = a1
          · simp only [if_pos e3, if_pos e4, if_neg n10]
            exact fin _ (sb _ (by rw [if_neg (fun z => e2 z.2), if_pos ⟨e3, e4⟩]))
          · simp only [if_pos e3, if_neg e4, if_pos z00]
            exact fin _ (sb _ (by rw [if_neg (fun z => e2 z.2), if_neg (fun z => e4 z.2)]))
        · simp only [if_neg e3, if_pos z00]
          exact fin _ (sb _ (by rw [if_neg (fun z => e2 z.2), if_neg (fun z => e3 z.1)]))
    · simp only [if_neg e1, if_pos z00]
      by_cases e3 : w.2.1 5 i = a2
      · by_cases e4 : w.2.1 6 i = a1
        · simp only [if_pos e3, if_pos e4, if_neg n10]
          exact fin _ (sb _ (by rw [if_neg (fun z => e1 z.1), if_pos ⟨e3, e4⟩]))
        · simp only [if_pos e3, if_neg e4, if_pos z00]
          exact fin _ (sb _ (by rw [if_neg (fun z => e1 z.1), if_neg (fun z => e4 z.2)]))
      · simp only [if_neg e3, if_pos z00]
        exact fin _ (sb _ (by rw [if_neg (fun z => e1 z.1), if_neg (fun z => e3 z.1)]))
theorem sureM {v : Wd} {nC : Nat} (hn : nC ≤ 40) (yC : v.2.1 90 16 = nI nC) (a1 a2 : Int32) (J : Int32 → Int32 → Option Int32) : SureM v nC a1 a2 J (sM_sure_L34 a1 a2 v J 0 0 0) := by
  rw [eM_sure_L34]
  refine fx3_q (fun x y z => ∃ i : Nat, i ≤ nC ∧ z = nI i ∧ ((x = 0 ∧ ∀ r, r < i → ¬ 0 < sby (v.2.1 12) (v.2.1 13) (v.2.1 14) a1 a2 r) ∨ (x = 1 ∧ ∃ r, r < i ∧ 0 < sby (v.2.1 12) (v.2.1 13) (v.2.1 14) a1 a2 r)) ∧ ((y = 0 ∧ ∀ r, r < i → ¬ sby (v.2.1 12) (v.2.1 13) (v.2.1 14) a1 a2 r < 0) ∨ (y = 1 ∧ ∃ r, r < i ∧ sby (v.2.1 12) (v.2.1 13) (v.2.1 14) a1 a2 r < 0))) (fun _ _ z => nC - z.toNatClampNeg) (SureM v nC a1 a2 J) ?_ FU 0 0 0 ⟨0, by omega, rfl, Or.inl ⟨rfl, fun r h => by omega⟩, Or.inl ⟨rfl, fun r h => by omega⟩⟩ (by rw [FU_v]; omega)
  rintro self x y z ⟨i, hi, rfl, h1, h2⟩ ih
  unfold bM_sure_L34
  rw [yC]
  by_cases hin : i = nC
  · subst hin
    rw [if_pos (c_ge (by omega))]
    exact ⟨x, y, rfl, h1, h2⟩
  · rw [if_neg (c_le (by omega) (by omega)), inb_nI (show i < 40 by omega) (by decide), clN (by omega)]
    simp only [rd_t, jn_d, nm_d, nI_1]
    generalize hz : sby (v.2.1 12) (v.2.1 13) (v.2.1 14) a1 a2 i = zz
    have upP : ∀ x' : Int32, x' = (if x = 0 then (if zz ≤ 0 then 0 else 1) else 1) → ((x' = 0 ∧ ∀ r, r < i + 1 → ¬ 0 < sby (v.2.1 12) (v.2.1 13) (v.2.1 14) a1 a2 r) ∨ (x' = 1 ∧ ∃ r, r < i + 1 ∧ 0 < sby (v.2.1 12) (v.2.1 13) (v.2.1 14) a1 a2 r)) := by
      intro x' e
      have i0 : (0 : Int32).toInt = 0 := rfl
      rcases h1 with ⟨rfl, p⟩ | ⟨rfl, r, hr, p⟩
      · rw [if_pos z00] at e
        by_cases g : zz ≤ 0
        · rw [if_pos g] at e
          refine Or.inl ⟨e, fun r hr => ?_⟩
          by_cases hri : r = i
          · rw [hri, hz, lt32]; rw [le32] at g; omega
          · exact p r (by omega)
        · rw [if_neg g] at e
          refine Or.inr ⟨e, i, by omega, ?_⟩
          rw [hz, lt32]; rw [le32] at g; omega
      · rw [if_neg n10] at e
        exact Or.inr ⟨e, r, by omega, p⟩
    have upN : ∀ y' : Int32, y' = (if y = 0 then (if 0 ≤ zz then 0 else 1) else 1) → ((y' = 0 ∧ ∀ r, r < i + 1 → ¬ sby (v.2.1 12) (v.2.1 13) (v.2.1 14) a1 a2 r < 0) ∨ (y' = 1 ∧ ∃ r, r < i + 1 ∧ sby (v.2.1 12) (v.2.1 13) (v.2.1 14) a1 a2 r < 0)) := by
      intro y' e
      have i0 : (0 : Int32).toInt = 0 := rfl
      rcases h2 with ⟨rfl, p⟩ | ⟨rfl, r, hr, p⟩
      · rw [if_pos z00] at e
        by_cases g : 0 ≤ zz
        · rw [if_pos g] at e
          refine Or.inl ⟨e, fun r hr => ?_⟩
          by_cases hri : r = i
          · rw [hri, hz, lt32]; rw [le32] at g; omega
          · exact p r (by omega)
        · rw [if_neg g] at e
          refine Or.inr ⟨e, i, by omega, ?_⟩
          rw [hz, lt32]; rw [le32] at g; omega
      · rw [if_neg n10] at e
        exact Or.inr ⟨e, r, by omega, p⟩
    have go : ∀ x' y' : Int32, x' = (if x = 0 then (if zz ≤ 0 then 0 else 1) else 1) → y' = (if y = 0 then (if 0 ≤ zz then 0 else 1) else 1) → ∃ x y : Int32, self x' y' (nI (i + 1)) = J x y ∧ ((x = 0 ∧ ∀ r, r < nC → ¬ 0 < sby (v.2.1 12) (v.2.1 13) (v.2.1 14) a1 a2 r) ∨ (x = 1 ∧ ∃ r, r < nC ∧ 0 < sby (v.2.1 12) (v.2.1 13) (v.2.1 14) a1 a2 r)) ∧ ((y = 0 ∧ ∀ r, r < nC → ¬ sby (v.2.1 12) (v.2.1 13) (v.2.1 14) a1 a2 r < 0) ∨ (y = 1 ∧ ∃ r, r < nC ∧ sby (v.2.1 12) (v.2.1 13) (v.2.1 14) a1 a2 r < 0)) := fun x' y' e1 e2 => ih _ _ _ ⟨i + 1, by omega, rfl, upP x' e1, upN y' e2⟩ (by rw [clN (by omega), clN (by omega)]; omega)
    have fin : ∀ zz' : Int32, zz' = zz → ∃ x_1 y_1 : Int32, (if x = 0 then (if zz' ≤ 0 then (if y = 0 then (if 0 ≤ zz' then self 0 0 (nI (i + 1)) else self 0 1 (nI (i + 1))) else self 0 1 (nI (i + 1))) else (if y = 0 then (if 0 ≤ zz' then self 1 0 (nI (i + 1)) else self 1 1 (nI (i + 1))) else self 1 1 (nI (i + 1)))) else (if y = 0 then (if 0 ≤ zz' then self 1 0 (nI (i + 1)) else self 1 1 (nI (i + 1))) else self 1 1 (nI (i + 1)))) = J x_1 y_1 ∧ ((x_1 = 0 ∧ ∀ r, r < nC → ¬ 0 < sby (v.2.1 12) (v.2.1 13) (v.2.1 14) a1 a2 r) ∨ (x_1 = 1 ∧ ∃ r, r < nC ∧ 0 < sby (v.2.1 12) (v.2.1 13) (v.2.1 14) a1 a2 r)) ∧ ((y_1 = 0 ∧ ∀ r, r < nC → ¬ sby (v.2.1 12) (v.2.1 13) (v.2.1 14) a1 a2 r < 0) ∨ (y_1 = 1 ∧ ∃ r, r < nC ∧ sby (v.2.1 12) (v.2.1 13) (v.2.1 14) a1 a2 r < 0)) := by
      intro zz' e
      subst e
      by_cases gx : x = 0
      · rw [if_pos gx]
        rw [if_pos gx] at go
        by_cases gz : zz' ≤ 0
        · rw [if_pos gz]
          rw [if_pos gz] at go
          by_cases gy : y = 0
          · rw [if_pos gy]
            rw [if_pos gy] at go
            by_cases gw : 0 ≤ zz'
            · rw [if_pos gw]; rw [if_pos gw] at go; exact go _ _ rfl rfl
            · rw [if_neg gw]; rw [if_neg gw] at go; exact go _ _ rfl rfl
          · rw [if_neg gy]; rw [if_neg gy] at go; exact go _ _ rfl rfl
        · rw [if_neg gz]
          rw [if_neg gz] at go
          by_cases gy : y = 0
          · rw [if_pos gy]
            rw [if_pos gy] at go
            by_cases gw : 0 ≤ zz'
            · rw [if_pos gw]; rw [if_pos gw] at go; exact go _ _ rfl rfl
            · rw [if_neg gw]; rw [if_neg gw] at go; exact go _ _ rfl rfl
          · rw [if_neg gy]; rw [if_neg gy] at go; exact go _ _ rfl rfl
      · rw [if_neg gx]
        rw [if_neg gx] at go
        by_cases gy : y = 0
        · rw [if_pos gy]
          rw [if_pos gy] at go
          by_cases gw : 0 ≤ zz'
          · rw [if_pos gw]; rw [if_pos gw] at go; exact go _ _ rfl rfl
          · rw [if_neg gw]; rw [if_neg gw] at go; exact go _ _ rfl rfl
        · rw [if_neg gy]; rw [if_neg gy] at go; exact go _ _ rfl rfl
    have sb : ∀ u, (if v.2.1 12 i = a1 ∧ v.2.1 13 i = a2 then v.2.1 14 i else if v.2.1 12 i = a2 ∧ v.2.1 13 i = a1 then -(v.2.1 14 i) else 0) = u → u = zz := fun u e => by rw [← hz, ← e]; rfl
    by_cases e1 : v.2.1 12 i = a1
    · by_cases e2 : v.2.1 13 i = a2
      · rw [if_pos e1, if_pos e2]
        exact fin _ (sb _ (by rw [if_pos ⟨e1, e2⟩]))
      · rw [if_pos e1, if_neg e2]
        by_cases e3 : v.2.1 12 i = a2
        · by_cases e4 : v.2.1 13 i = a1
          · rw [if_pos e3, if_pos e4]
            exact fin _ (sb _ (by rw [if_neg (fun z => e2 z.2), if_pos ⟨e3, e4⟩]))
          · rw [if_pos e3, if_neg e4]
            exact fin _ (sb _ (by rw [if_neg (fun z => e2 z.2), if_neg (fun z => e4 z.2)]))
        · rw [if_neg e3]
          exact fin _ (sb _ (by rw [if_neg (fun z => e2 z.2), if_neg (fun z => e3 z.1)]))
    · rw [if_neg e1]
      by_cases e3 : v.2.1 12 i = a2
      · by_cases e4 : v.2.1 13 i = a1
        · rw [if_pos e3, if_pos e4]
          exact fin _ (sb _ (by rw [if_neg (fun z => e1 z.1), if_pos ⟨e3, e4⟩]))
        · rw [if_pos e3, if_neg e4]
          exact fin _ (sb _ (by rw [if_neg (fun z => e1 z.1), if_neg (fun z => e4 z.2)]))
      · rw [if_neg e3]
        exact fin _ (sb _ (by rw [if_neg (fun z => e1 z.1), if_neg (fun z => e3 z.1)]))
theorem sure_fin {w v : Wd} {nC : Nat} {a1 a2 : Int32} {J J' : Int32 → Int32 → Option Int32} {ox om : Option Int32} (hX : SureX w nC a1 a2 J ox) (hM : SureM v nC a1 a2 J' om) (hsb : ∀ r, r < nC → sby (w.2.1 5) (w.2.1 6) (w.2.1 7) a1 a2 r = sby (v.2.1 12) (v.2.1 13) (v.2.1 14) a1 a2 r) (hJ : ∀ (c1 c2 : Nat) (x y : Int32), c1 ≤ 40 → c2 ≤ 40 → ((c1 = 0 ∧ x = 0) ∨ (c1 ≠ 0 ∧ x = 1)) → ((c2 = 0 ∧ y = 0) ∨ (c2 ≠ 0 ∧ y = 1)) → ∃ r, J (nI c1) (nI c2) = some r ∧ J' x y = some r) : ∃ r, ox = some r ∧ om = some r := by
  obtain ⟨c1, c2, rfl, b1_, b2_, p1, p2⟩ := hX
  obtain ⟨x, y, rfl, q1, q2⟩ := hM
  refine hJ c1 c2 x y b1_ b2_ ?_ ?_
  · rcases q1 with ⟨rfl, p⟩ | ⟨rfl, r, hr, p⟩
    · exact Or.inl ⟨p1.mpr (fun r hr => by rw [hsb r hr]; exact p r hr), rfl⟩
    · refine Or.inr ⟨fun z => ?_, rfl⟩
      have := p1.mp z r hr
      rw [hsb r hr] at this
      exact this p
  · rcases q2 with ⟨rfl, p⟩ | ⟨rfl, r, hr, p⟩
    · exact Or.inl ⟨p2.mpr (fun r hr => by rw [hsb r hr]; exact p r hr), rfl⟩
    · refine Or.inr ⟨fun z => ?_, rfl⟩
      have := p2.mp z r hr
      rw [hsb r hr] at this
      exact this p
theorem op_sure : Op_sure Rel := by
  intro w v a1 a2 hR
  have hR0 := hR
  obtain ⟨nO, nB, nC, nU, nT, nL, nH, nP, d, hC, hO, hB, hS, hRc, hV, hT, hU, hG, hL, hH, hK⟩ := hR
  have C := hC
  obtain ⟨⟨bO, bB, bC, bU, bT, bL, bH, bP, bD⟩, ⟨k0, k1, k2, k3, k4, k5⟩, ⟨xO, xB, xD, xC, xU, xP, xT, xL, xH⟩, ⟨yO, yB, yD, yC, yU, yP, yT, yL, yH⟩, hnr, hn0, hn9⟩ := C
  unfold sX_sure sM_sure
  rw [sX_isOar_v a1 xO (by omega), sX_isOar_v a2 xO (by omega), sM_isOar_v a1 yO (by omega), sM_isOar_v a2 yO (by omega)]
  simp only [bd_s]
  by_cases h1 : 0 ≤ a1.toInt ∧ a1.toInt < nO
  rotate_left
  · rw [b1_f h1, if_pos z00, if_pos z00]
    exact fin1 rfl rfl
  rw [b1_t h1, if_neg n10, if_neg n10]
  by_cases h2 : 0 ≤ a2.toInt ∧ a2.toInt < nO
  rotate_left
  · rw [b1_f h2, if_pos z00, if_pos z00]
    exact fin1 rfl rfl
  rw [b1_t h2, if_neg n10, if_neg n10]
  by_cases h12 : a1 = a2
  · rw [if_pos h12, if_pos h12]
    exact fin1 rfl rfl
  rw [if_neg h12, if_neg h12]
  simp only [nm_d, jn_d]
  have hsb : ∀ r, r < nC → sby (w.2.1 5) (w.2.1 6) (w.2.1 7) a1 a2 r = sby (v.2.1 12) (v.2.1 13) (v.2.1 14) a1 a2 r := by
    intro r hr
    obtain ⟨x, y, hx, hy, hxy, g1, g2, g3, g4, g5, -⟩ := hRc r hr
    unfold sby
    rw [g1, g2, g3, g4, g5]
  refine sure_fin (sureX bC xC a1 a2 _) (sureM bC yC a1 a2 _) hsb (fun c1 c2 x y b1_ b2_ r1 r2 => ?_)
  have l0 : ∀ c : Nat, c ≤ 40 → (nI c ≤ 0 ↔ c = 0) := fun c hc => by
    have := nIle (a := c) (b := 0) (by omega) (by decide)
    exact this.trans (by omega)
  have l1 : ∀ c : Nat, c ≤ 40 → (nI c = 0 ↔ c = 0) := fun c hc => nIeq (a := c) (b := 0) (by omega) (by decide)
  simp only [l0 c1 b1_, l0 c2 b2_, l1 c1 b1_, l1 c2 b2_]
  rcases r1 with ⟨g1, rfl⟩ | ⟨g1, rfl⟩ <;> rcases r2 with ⟨g2, rfl⟩ | ⟨g2, rfl⟩ <;> simp [g1, g2]
