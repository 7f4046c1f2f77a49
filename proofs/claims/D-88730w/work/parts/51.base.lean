set_option maxRecDepth 100000
/-! small evaluations; what each part of the relation reads -/
theorem rd_t {α ρ : Type} {v : α} {k : α → Option ρ} : rd true v k = k v := Eq.trans rfl rfl
theorem gd_t {ρ : Type} {k : Option ρ} : gd true k = k := Eq.trans rfl rfl
theorem nm_d {α ρ : Type} {v : α} {k : α → Option ρ} : nm v k = k v := Eq.trans rfl rfl
theorem jn_d {τ ρ : Type} {J : τ} {k : τ → Option ρ} : jn J k = k J := Eq.trans rfl rfl
theorem bd_s {α ρ : Type} {a : α} {k : α → Option ρ} : bd (some a) k = k a := Eq.trans rfl rfl
theorem bd2_s {α β ρ : Type} {a : α} {b : β} {k : α → β → Option ρ} : bd2 (some (a, b)) k = k a b := Eq.trans rfl rfl
theorem lt32 {x y : Int32} : x < y ↔ x.toInt < y.toInt := Int32.lt_iff_toInt_lt
theorem le32 {x y : Int32} : x ≤ y ↔ x.toInt ≤ y.toInt := Int32.le_iff_toInt_le
theorem lt64 {x y : Int64} : x < y ↔ x.toInt < y.toInt := Int64.lt_iff_toInt_lt
theorem le64 {x y : Int64} : x ≤ y ↔ x.toInt ≤ y.toInt := Int64.le_iff_toInt_le
theorem eq32 {x y : Int32} : x = y ↔ x.toInt = y.toInt := ⟨fun h => by rw [h], fun h => Int32.toInt_inj.mp h⟩
theorem toI64 (x : Int32) : x.toInt64.toInt = x.toInt := Int32.toInt_toInt64 x
theorem nTi {n : Nat} (h : n < 2147483648) : (nI n).toInt = n := nI_toInt h
theorem isB_b1 {b : Prop} [Decidable b] : isB (b1 b) = true := by
  unfold b1
  by_cases h : b
  · rw [if_pos h]; rfl
  · rw [if_neg h]; rfl
theorem sX_in_v (x : Int32) (lo hi : Int64) : sX_in x.toInt64 lo hi = some (b1 (lo.toInt ≤ x.toInt ∧ x.toInt ≤ hi.toInt)) := by
  unfold sX_in b1
  simp only [lt64, toI64]
  by_cases h1 : x.toInt < lo.toInt
  · rw [if_pos h1, if_neg (by omega)]
  · rw [if_neg h1]
    by_cases h2 : hi.toInt < x.toInt
    · rw [if_pos h2, if_neg (by omega)]
    · rw [if_neg h2, if_pos (by omega)]
theorem sM_isIn_v (x : Int32) (lo hi : Int64) : sM_isIn x.toInt64 lo hi = some (b1 (lo.toInt ≤ x.toInt ∧ x.toInt ≤ hi.toInt)) := by
  unfold sM_isIn b1
  simp only [lt64, toI64]
  by_cases h1 : x.toInt < lo.toInt
  · rw [if_pos h1, if_neg (by omega)]
  · rw [if_neg h1]
    by_cases h2 : hi.toInt < x.toInt
    · rw [if_pos h2, if_neg (by omega)]
    · rw [if_neg h2, if_pos (by omega)]
theorem nI_m1 {n : Nat} (h : n < 1073741824) : (nI n - 1).toInt = (n : Int) - 1 := by
  have h1 := pk_sub_toInt (a := n) (b := 1) h (by decide)
  rw [show (1 : Int32) = nI 1 from rfl, h1]
  rfl
theorem b1_congr {a b : Prop} [Decidable a] [Decidable b] (h : a ↔ b) : b1 a = b1 b := by
  unfold b1
  by_cases ha : a
  · rw [if_pos ha, if_pos (h.mp ha)]
  · rw [if_neg ha, if_neg (fun z => ha (h.mpr z))]
/-- a number below n, as the code asks it -/
theorem in_below (x : Int32) {n : Nat} (h : n < 1073741824) : sX_in x.toInt64 0 (nI n - 1).toInt64 = some (b1 (0 ≤ x.toInt ∧ x.toInt < n)) := by
  rw [sX_in_v, toI64, nI_m1 h]
  congr 1
  apply b1_congr
  simp only [Int64.toInt_zero]
  omega
theorem isIn_below (x : Int32) {n : Nat} (h : n < 1073741824) : sM_isIn x.toInt64 0 (nI n - 1).toInt64 = some (b1 (0 ≤ x.toInt ∧ x.toInt < n)) := by
  rw [sM_isIn_v, toI64, nI_m1 h]
  congr 1
  apply b1_congr
  simp only [Int64.toInt_zero]
  omega
theorem below_v (x : Int32) {n : Nat} (h : n < 1073741824) : (if x < 0 then (some (0 : Int32)) else (if nI n ≤ x then (some (0 : Int32)) else (some (1 : Int32)))) = some (b1 (0 ≤ x.toInt ∧ x.toInt < n)) := by
  unfold b1
  simp only [lt32, le32, nTi (show n < 2147483648 by omega)]
  by_cases h1 : x.toInt < (0 : Int32).toInt
  · rw [if_pos h1, if_neg (by simp at h1; omega)]
  · rw [if_neg h1]
    simp at h1
    by_cases h2 : (n : Int) ≤ x.toInt
    · rw [if_pos h2, if_neg (by omega)]
    · rw [if_neg h2, if_pos (by omega)]
theorem ix_of {x : Int32} {n : Nat} (h : 0 ≤ x.toInt ∧ x.toInt < n) : ∃ j, j < n ∧ x = nI j := by
  refine ⟨x.toInt.toNat, by omega, ?_⟩
  rw [eq32]
  have hx := x.toInt_lt
  rw [nTi (by omega)]
  omega
theorem inb_nI {j n : Nat} (h : j < n) (hn : n < 1073741824) : inb (nI j) n = true := by
  have h1 : ¬ nI j < 0 := nI_pos (by omega)
  simp [inb, h1, nI_clamp (show j < 2 ^ 31 by omega), h]
theorem clN {j : Nat} (h : j < 1073741824) : (nI j).toNatClampNeg = j := nI_clamp (by omega)
theorem nIeq {a b : Nat} (ha : a < 1073741824) (hb : b < 1073741824) : (nI a = nI b) ↔ a = b := nI_eq (by omega) (by omega)
theorem nIle {a b : Nat} (ha : a < 1073741824) (hb : b < 1073741824) : (nI a ≤ nI b) ↔ a ≤ b := nI_leI (by omega) (by omega)
theorem nIlt {a b : Nat} (ha : a < 1073741824) (hb : b < 1073741824) : (nI a < nI b) ↔ a < b := nI_ltI (by omega) (by omega)
theorem nI_nm1 {a : Nat} (ha : a < 1073741824) : nI a ≠ -1 := by
  intro h
  have := congrArg Int32.toInt h
  rw [nTi (by omega)] at this
  have h2 : (-1 : Int32).toInt = -1 := by decide
  omega
theorem dyn_nin {S : List Nat} {r : Nat} (hS : S.all (fun x => decide (x < 100)) = true) (h : 100 ≤ r) : r ∉ S := by
  intro hr
  have := List.all_eq_true.mp hS r hr
  simp at this
  omega
theorem Ag.r {S F : List Nat} {w w' : Wd} (h : Ag S F w w') (r : Nat) (h1 : r ≠ 90) (h2 : r ∉ S) : w'.2.1 r = w.2.1 r := h.2.1 r h1 h2
theorem Ag.d {S F : List Nat} {w w' : Wd} (h : Ag S F w w') (hS : S.all (fun x => decide (x < 100)) = true) (t i : Nat) (ht : 100 ≤ t) : w'.2.1 (t + 10 * i) = w.2.1 (t + 10 * i) := h.2.1 _ (by omega) (dyn_nin hS (by omega))
theorem Cnt.c {nO nB nC nU nT nL nH nP d : Nat} {w v w' v' : Wd} (h : Cnt nO nB nC nU nT nL nH nP d w v) (e1 : w'.1 = w.1) (e2 : ∀ j, j ∈ [2, 3, 4, 10, 20, 22, 32, 33, 37, 38] → w'.2.1 90 j = w.2.1 90 j) (e3 : ∀ j, j ∈ [10, 11, 31, 16, 30, 29, 44, 45, 48, 49] → v'.2.1 90 j = v.2.1 90 j) : Cnt nO nB nC nU nT nL nH nP d w' v' := by
  unfold Cnt at h ⊢
  rw [e1, e2 2 (by decide), e2 3 (by decide), e2 4 (by decide), e2 10 (by decide), e2 20 (by decide), e2 22 (by decide), e2 32 (by decide), e2 33 (by decide), e2 37 (by decide), e2 38 (by decide), e3 10 (by decide), e3 11 (by decide), e3 31 (by decide), e3 16 (by decide), e3 30 (by decide), e3 29 (by decide), e3 44 (by decide), e3 45 (by decide), e3 48 (by decide), e3 49 (by decide)]
  exact h
theorem Oars.c {nO : Nat} {w v w' v' : Wd} (h : Oars nO w v) (e1 : ∀ o, w'.1 (108 + 10 * o) = w.1 (108 + 10 * o)) (e2 : ∀ o, w'.2.1 (102 + 10 * o) = w.2.1 (102 + 10 * o)) (e3 : v'.2.1 0 = v.2.1 0) (e4 : v'.2.1 1 = v.2.1 1) (e5 : v'.2.1 4 = v.2.1 4) : Oars nO w' v' := by
  unfold Oars at h ⊢
  simp only [e1, e2, e3, e4, e5]
  exact h
theorem Boats.c {nB : Nat} {w v w' v' : Wd} (h : Boats nB w v) (e2 : ∀ o, w'.2.1 (100 + 10 * o) = w.2.1 (100 + 10 * o)) (e3 : v'.2.1 5 = v.2.1 5) (e4 : v'.2.1 6 = v.2.1 6) (e5 : v'.2.1 7 = v.2.1 7) (e6 : v'.2.1 8 = v.2.1 8) (e7 : v'.2.1 9 = v.2.1 9) : Boats nB w' v' := by
  unfold Boats at h ⊢
  simp only [e2, e3, e4, e5, e6, e7]
  exact h
theorem Seats.c {nO nB : Nat} {w v w' v' : Wd} (h : Seats nO nB w v) (e2 : ∀ o, w'.2.1 (101 + 10 * o) = w.2.1 (101 + 10 * o)) (e3 : v'.2.1 2 = v.2.1 2) (e4 : v'.2.1 3 = v.2.1 3) (e5 : v'.2.1 6 = v.2.1 6) : Seats nO nB w' v' := by
  unfold Seats at h ⊢
  simp only [e2, e3, e4, e5]
  exact h
theorem Races.c {nO nC : Nat} {w v w' v' : Wd} (h : Races nO nC w v) (e1 : w'.2.1 5 = w.2.1 5) (e2 : w'.2.1 6 = w.2.1 6) (e3 : w'.2.1 7 = w.2.1 7) (e4 : v'.2.1 12 = v.2.1 12) (e5 : v'.2.1 13 = v.2.1 13) (e6 : v'.2.1 14 = v.2.1 14) : Races nO nC w' v' := by
  unfold Races at h ⊢
  rw [e1, e2, e3, e4, e5, e6]
  exact h
theorem River.c {w v w' v' : Wd} (h : River w v) (e1 : w'.2.1 17 = w.2.1 17) (e2 : w'.2.1 18 = w.2.1 18) (e3 : v'.2.1 26 = v.2.1 26) (e4 : v'.2.1 27 = v.2.1 27) : River w' v' := by
  unfold River at h ⊢
  rw [e1, e2, e3, e4]
  exact h
theorem Tape.c {nP : Nat} {w v w' v' : Wd} (h : Tape nP w v) (e1 : w'.2.1 21 = w.2.1 21) (e2 : v'.2.1 28 = v.2.1 28) : Tape nP w' v' := by
  unfold Tape at h ⊢
  rw [e1, e2]
  exact h
theorem Rules.c {nU : Nat} {w v w' v' : Wd} (h : Rules nU w v) (e1 : ∀ t i, 103 ≤ t → t ≤ 107 → w'.2.1 (t + 10 * i) = w.2.1 (t + 10 * i)) (e2 : v'.2.1 32 = v.2.1 32) (e3 : v'.2.1 33 = v.2.1 33) (e4 : v'.2.1 34 = v.2.1 34) (e5 : v'.2.1 35 = v.2.1 35) : Rules nU w' v' := by
  unfold Rules at h ⊢
  simp only [e1 103 _ (by decide) (by decide), e1 104 _ (by decide) (by decide), e1 105 _ (by decide) (by decide), e1 106 _ (by decide) (by decide), e1 107 _ (by decide) (by decide), e2, e3, e4, e5]
  exact h
theorem Outs.c {nB nT : Nat} {w v w' v' : Wd} (h : Outs nB nT w v) (e1 : w'.2.1 25 = w.2.1 25) (e2 : w'.2.1 26 = w.2.1 26) (e3 : w'.2.1 27 = w.2.1 27) (e4 : w'.2.1 28 = w.2.1 28) (f1 : v'.2.1 37 = v.2.1 37) (f2 : v'.2.1 38 = v.2.1 38) (f3 : v'.2.1 39 = v.2.1 39) (f4 : v'.2.1 40 = v.2.1 40) : Outs nB nT w' v' := by
  unfold Outs at h ⊢
  rw [e1, e2, e3, e4, f1, f2, f3, f4]
  exact h
theorem Looks.c {nB nT nL : Nat} {w v w' v' : Wd} (h : Looks nB nT nL w v) (e1 : w'.2.1 29 = w.2.1 29) (e2 : w'.2.1 30 = w.2.1 30) (e3 : w'.2.1 31 = w.2.1 31) (f1 : v'.2.1 41 = v.2.1 41) (f2 : v'.2.1 42 = v.2.1 42) (f3 : v'.2.1 43 = v.2.1 43) : Looks nB nT nL w' v' := by
  unfold Looks at h ⊢
  rw [e1, e2, e3, f1, f2, f3]
  exact h
theorem Heats.c {nB nH : Nat} {w v w' v' : Wd} (h : Heats nB nH w v) (e1 : w'.2.1 35 = w.2.1 35) (e2 : w'.2.1 36 = w.2.1 36) (f1 : v'.2.1 46 = v.2.1 46) (f2 : v'.2.1 47 = v.2.1 47) : Heats nB nH w' v' := by
  unfold Heats at h ⊢
  rw [e1, e2, f1, f2]
  exact h
theorem Racks.c {nB : Nat} {w v w' v' : Wd} (h : Racks nB w v) (e1 : w'.2.1 90 40 = w.2.1 90 40) (e2 : w'.2.1 90 41 = w.2.1 90 41) (f1 : v'.2.1 50 = v.2.1 50) : Racks nB w' v' := by
  unfold Racks at h ⊢
  rw [e1, e2, f1]
  exact h
theorem Rel.keep {w v w' v' : Wd} (h : Rel w v) (hw : Ag [8, 9, 11, 14, 16, 39] [12, 15, 23, 24, 34] w w') (hv : Ag [15, 17, 24, 25, 51, 52] [22, 36] v v') : Rel w' v' := by
  obtain ⟨nO, nB, nC, nU, nT, nL, nH, nP, d, hC, hO, hB, hS, hR, hV, hT, hU, hG, hL, hH, hK⟩ := h
  have a : ∀ r, r ≠ 90 → r ∉ [8, 9, 11, 14, 16, 39] → w'.2.1 r = w.2.1 r := hw.2.1
  have b : ∀ r, r ≠ 90 → r ∉ [15, 17, 24, 25, 51, 52] → v'.2.1 r = v.2.1 r := hv.2.1
  have dd : ∀ t i, 100 ≤ t → w'.2.1 (t + 10 * i) = w.2.1 (t + 10 * i) := fun t i ht => hw.d (by decide) t i ht
  refine ⟨nO, nB, nC, nU, nT, nL, nH, nP, d, hC.c hw.1 (fun j hj => hw.2.2 j (fun z => by simp only [List.mem_cons, List.not_mem_nil, or_false] at hj z; omega)) (fun j hj => hv.2.2 j (fun z => by simp only [List.mem_cons, List.not_mem_nil, or_false] at hj z; omega)), hO.c (fun o => by rw [hw.1]) (fun o => dd 102 o (by decide)) (b 0 (by decide) (by decide)) (b 1 (by decide) (by decide)) (b 4 (by decide) (by decide)), hB.c (fun o => dd 100 o (by decide)) (b 5 (by decide) (by decide)) (b 6 (by decide) (by decide)) (b 7 (by decide) (by decide)) (b 8 (by decide) (by decide)) (b 9 (by decide) (by decide)), hS.c (fun o => dd 101 o (by decide)) (b 2 (by decide) (by decide)) (b 3 (by decide) (by decide)) (b 6 (by decide) (by decide)), hR.c (a 5 (by decide) (by decide)) (a 6 (by decide) (by decide)) (a 7 (by decide) (by decide)) (b 12 (by decide) (by decide)) (b 13 (by decide) (by decide)) (b 14 (by decide) (by decide)), hV.c (a 17 (by decide) (by decide)) (a 18 (by decide) (by decide)) (b 26 (by decide) (by decide)) (b 27 (by decide) (by decide)), hT.c (a 21 (by decide) (by decide)) (b 28 (by decide) (by decide)), hU.c (fun t i h1 h2 => dd t i (by omega)) (b 32 (by decide) (by decide)) (b 33 (by decide) (by decide)) (b 34 (by decide) (by decide)) (b 35 (by decide) (by decide)), hG.c (a 25 (by decide) (by decide)) (a 26 (by decide) (by decide)) (a 27 (by decide) (by decide)) (a 28 (by decide) (by decide)) (b 37 (by decide) (by decide)) (b 38 (by decide) (by decide)) (b 39 (by decide) (by decide)) (b 40 (by decide) (by decide)), hL.c (a 29 (by decide) (by decide)) (a 30 (by decide) (by decide)) (a 31 (by decide) (by decide)) (b 41 (by decide) (by decide)) (b 42 (by decide) (by decide)) (b 43 (by decide) (by decide)), hH.c (a 35 (by decide) (by decide)) (a 36 (by decide) (by decide)) (b 46 (by decide) (by decide)) (b 47 (by decide) (by decide)), hK.c (hw.2.2 40 (by decide)) (hw.2.2 41 (by decide)) (b 50 (by decide) (by decide))⟩
theorem sX_isOar_v {w : Wd} (x : Int32) {n : Nat} (hw : w.2.1 90 2 = nI n) (h : n < 1073741824) : sX_isOar w x = some (b1 (0 ≤ x.toInt ∧ x.toInt < n)) := by
  unfold sX_isOar
  rw [hw, in_below x h, bd_s, isB_b1, gd_t]
theorem sX_isBoat_v {w : Wd} (x : Int32) {n : Nat} (hw : w.2.1 90 3 = nI n) (h : n < 1073741824) : sX_isBoat w x = some (b1 (0 ≤ x.toInt ∧ x.toInt < n)) := by
  unfold sX_isBoat
  rw [hw, in_below x h, bd_s, isB_b1, gd_t]
theorem sM_isOar_v {v : Wd} (x : Int32) {n : Nat} (hv : v.2.1 90 10 = nI n) (h : n < 1073741824) : sM_isOar v x = some (b1 (0 ≤ x.toInt ∧ x.toInt < n)) := by
  unfold sM_isOar
  rw [hv, below_v x h]
theorem sM_isBoat_v {v : Wd} (x : Int32) {n : Nat} (hv : v.2.1 90 11 = nI n) (h : n < 1073741824) : sM_isBoat v x = some (b1 (0 ≤ x.toInt ∧ x.toInt < n)) := by
  unfold sM_isBoat
  rw [hv, below_v x h]
