set_option maxRecDepth 100000
theorem upd_upd (f : Nat → Int32) (k : Nat) (x y : Int32) : upd (upd f k x) k y = upd f k y := by
  funext j
  unfold upd
  by_cases h : j = k
  · rw [if_pos h, if_pos h]
  · rw [if_neg h, if_neg h, if_neg h]
theorem upd_same {f : Nat → Int32} {k : Nat} {x : Int32} (h : f k = x) : upd f k x = f := by
  funext j
  unfold upd
  by_cases hj : j = k
  · rw [if_pos hj, hj, h]
  · rw [if_neg hj]
theorem oOk_t {w v : Wd} {nO o : Nat} (hO : Oars nO w v) (k1 : w.1 1 = nO) (ho : o < nO) : oOk w o = true := by
  obtain ⟨k, wt, hk, -, -, hc, -⟩ := hO.1 o ho
  unfold oOk
  rw [k1, decide_eq_true ho, hc]
  exact k5 (P := fun k => (true && decide ((if k = 2 then 1 else if k = 3 then 2 else if k = 4 then 3 else 0) < 4)) = true) hk rfl rfl rfl rfl rfl
theorem sO_kind_v {w : Wd} {o k nO : Nat} (k1 : w.1 1 = nO) (ho : o < nO) (hk : k ≤ 4) (hc : w.1 (108 + 10 * o) = (if k = 2 then 1 else if k = 3 then 2 else if k = 4 then 3 else 0)) (hs : k < 2 → w.2.1 (102 + 10 * o) 3 = nI k) : sO_kind w o = some (nI k) := by
  unfold sO_kind sX6_kind sX4_kind sX5_kind sX3_kind
  rw [k1, decide_eq_true ho, hc]
  have h : k = 0 ∨ k = 1 ∨ k = 2 ∨ k = 3 ∨ k = 4 := by omega
  rcases h with rfl | rfl | rfl | rfl | rfl
  · rw [hs (by decide)]; rfl
  · rw [hs (by decide)]; rfl
  · rfl
  · rfl
  · rfl
theorem sO_mayCox_v {w : Wd} {o wt : Nat} (hok : oOk w o = true) (hw : w.2.1 (102 + 10 * o) 1 = nI wt) (hb : wt ≤ 150) : sO_mayCox w o = some (b1 (wt ≤ 70)) := by
  have h : sX2_mayCox w o = some (b1 (wt ≤ 70)) := by
    unfold sX2_mayCox
    rw [hok, rd_t, hw]
    by_cases h7 : wt ≤ 70
    · rw [b1_t h7, if_neg (fun z => by have := (nIlt (a := 70) (b := wt) (by decide) (by omega)).mp z; omega)]
    · rw [b1_f h7, if_pos (show (70 : Int32) < nI wt from (nIlt (a := 70) (b := wt) (by decide) (by omega)).mpr (by omega))]
  unfold sO_mayCox
  rw [h]
  split
  · rfl
  · split
    · rfl
    · split <;> rfl
theorem sO_mayBeOut_v {w : Wd} {o k nO : Nat} {hr il : Int32} (k1 : w.1 1 = nO) (ho : o < nO) (hok : oOk w o = true) (hk : k ≤ 4) (hc : w.1 (108 + 10 * o) = (if k = 2 then 1 else if k = 3 then 2 else if k = 4 then 3 else 0)) (hw : w.2.1 (102 + 10 * o) 2 = il) : sO_mayBeOut w o hr = some (b1 (il = 0 ∧ (k = 4 → 7 ≤ hr.toInt))) := by
  have h : sX2_mayBeOut w o hr = some (b1 (il = 0)) := by
    unfold sX2_mayBeOut
    rw [hok, rd_t, hw]
    by_cases h0 : il = 0
    · rw [b1_t h0, if_pos h0]
    · rw [b1_f h0, if_neg h0]
  by_cases h4 : k = 4
  · subst h4
    have hc' : w.1 (108 + 10 * o) = 3 := hc
    unfold sO_mayBeOut sX5_mayBeOut
    rw [hc', if_neg (by decide), if_neg (by decide), if_neg (by decide), h, k1, decide_eq_true ho]
    have h7 : (hr < (7 : Int32)) ↔ hr.toInt < 7 := lt32
    by_cases hh : hr < (7 : Int32)
    · rw [if_pos hh, b1_f (fun z => by have := h7.mp hh; have := z.2 rfl; omega)]
    · have hge : ¬ hr.toInt < 7 := fun z => hh (h7.mpr z)
      rw [if_neg hh]
      simp only [bd_s]
      by_cases h0 : il = 0
      · rw [b1_t h0, b1_t ⟨h0, fun _ => by omega⟩]
        rfl
      · rw [b1_f h0, b1_f (fun z => h0 z.1)]
        rfl
  · have hc' : w.1 (108 + 10 * o) = 0 ∨ w.1 (108 + 10 * o) = 1 ∨ w.1 (108 + 10 * o) = 2 := by
      rw [hc]
      split
      · exact Or.inr (Or.inl rfl)
      · split
        · exact Or.inr (Or.inr rfl)
        · exact Or.inl rfl
    unfold sO_mayBeOut
    rw [h]
    have e : b1 (il = 0 ∧ (k = 4 → 7 ≤ hr.toInt)) = b1 (il = 0) := b1_congr ⟨fun z => z.1, fun z => ⟨z, fun y => absurd y h4⟩⟩
    rw [e]
    rcases hc' with hc' | hc' | hc'
    · rw [if_pos hc']
    · rw [if_neg (by rw [hc']; decide), if_pos hc']
    · rw [if_neg (by rw [hc']; decide), if_neg (by rw [hc']; decide), if_pos hc']
theorem place_v {w v : Wd} {nO nB b o : Nat} (hS : Seats nO nB w v) (k0 : w.1 0 = nB) (bB : nB ≤ 8) (bO : nO ≤ 16) (hb : b < nB) (ho : o < nO) : sB_place w b (nI o) = some (if v.2.1 2 o = nI b then v.2.1 3 o else -1) := by
  obtain ⟨r, hr, h⟩ := sB_place_v (w := w) (b := b) (by omega) (nI o)
  rw [hr]
  congr 1
  rcases h with ⟨rfl, hn⟩ | ⟨s, hs, rfl, hc, -⟩
  · by_cases hq : v.2.1 2 o = nI b
    · rcases hS.2 o ho with h | ⟨b', s', k, hb', hs', -, -, -, g1, g2, g3⟩
      · rw [h] at hq; exact absurd hq.symm (nI_nm1 (by omega))
      · have e1 : b' = b := (nIeq (by omega) (by omega)).mp (g1.symm.trans hq)
        subst e1
        exact absurd g3 (hn s' hs')
    · rw [if_neg hq]
  · rcases hS.1 b hb s hs with h | ⟨o', ho', g1, g2, g3⟩
    · rw [h] at hc; exact absurd hc.symm (nI_nm1 (by omega))
    · have e1 : o' = o := (nIeq (by omega) (by omega)).mp (g1.symm.trans hc)
      subst e1
      rw [if_pos g2, g3]
/-- o leaves its place -/
theorem Seats.rm {w v : Wd} {nO nB b s o : Nat} (hS : Seats nO nB w v) (bB : nB ≤ 8) (bO : nO ≤ 16) (hb : b < nB) (hs : s < 9) (ho : o < nO) (hc : w.2.1 (101 + 10 * b) s = nI o) : Seats nO nB (stG w (101 + 10 * b) s (-1)) (stG v 2 o (-1)) := by
  have v2 : (stG v 2 o (-1)).2.1 2 = upd (v.2.1 2) o (-1) := stG_eq ..
  have v3 : (stG v 2 o (-1)).2.1 3 = v.2.1 3 := stG_ne (by decide)
  have v6 : (stG v 2 o (-1)).2.1 6 = v.2.1 6 := stG_ne (by decide)
  have wb : (stG w (101 + 10 * b) s (-1)).2.1 (101 + 10 * b) = upd (w.2.1 (101 + 10 * b)) s (-1) := stG_eq ..
  have wn : ∀ b', b' ≠ b → (stG w (101 + 10 * b) s (-1)).2.1 (101 + 10 * b') = w.2.1 (101 + 10 * b') := fun b' h => stG_ne (by omega)
  -- the place of o is (b, s) alone
  have hpl : ∀ b' s', b' < nB → s' < 9 → w.2.1 (101 + 10 * b') s' = nI o → b' = b ∧ s' = s := by
    intro b' s' hb' hs' hc'
    rcases hS.1 b hb s hs with h | ⟨o1, ho1, g1, g2, g3⟩
    · rw [h] at hc; exact absurd hc.symm (nI_nm1 (by omega))
    · have e1 : o1 = o := (nIeq (by omega) (by omega)).mp (g1.symm.trans hc)
      subst e1
      rcases hS.1 b' hb' s' hs' with h | ⟨o2, ho2, f1, f2, f3⟩
      · rw [h] at hc'; exact absurd hc'.symm (nI_nm1 (by omega))
      · have e2 : o2 = o1 := (nIeq (by omega) (by omega)).mp (f1.symm.trans hc')
        subst e2
        exact ⟨(nIeq (by omega) (by omega)).mp (f2.symm.trans g2), (nIeq (by omega) (by omega)).mp (f3.symm.trans g3)⟩
  constructor
  · intro b' hb' s' hs'
    by_cases hq : b' = b ∧ s' = s
    · obtain ⟨rfl, rfl⟩ := hq
      left
      rw [wb, pk_us]
    · have hrow : (stG w (101 + 10 * b) s (-1)).2.1 (101 + 10 * b') s' = w.2.1 (101 + 10 * b') s' := by
        by_cases hbb : b' = b
        · subst hbb
          rw [wb, pk_un (fun z => hq ⟨rfl, z⟩)]
        · rw [wn b' hbb]
      rw [hrow]
      rcases hS.1 b' hb' s' hs' with h | ⟨o2, ho2, f1, f2, f3⟩
      · exact Or.inl h
      · right
        have hne : o2 ≠ o := by
          intro z
          subst z
          exact hq (hpl b' s' hb' hs' f1)
        refine ⟨o2, ho2, f1, ?_, ?_⟩
        · rw [v2, pk_un hne]; exact f2
        · rw [v3]; exact f3
  · intro o2 ho2
    by_cases hq : o2 = o
    · left
      rw [v2, hq, pk_us]
    · rw [v2, pk_un hq, v3, v6]
      rcases hS.2 o2 ho2 with h | ⟨b', s', k, hb', hs', g0, g1, g2, g3, g4, g5⟩
      · exact Or.inl h
      · right
        refine ⟨b', s', k, hb', hs', g0, g1, g2, g3, g4, ?_⟩
        by_cases hbb : b' = b
        · subst hbb
          rw [wb]
          by_cases hss : s' = s
          · subst hss
            rw [hc] at g5
            exact absurd ((nIeq (by omega) (by omega)).mp g5).symm hq
          · rw [pk_un hss]; exact g5
        · rw [wn b' hbb]; exact g5
/-- o, who sat nowhere, takes an empty place -/
theorem Seats.put {w v : Wd} {nO nB b s o k : Nat} (hS : Seats nO nB w v) (bB : nB ≤ 8) (bO : nO ≤ 16) (hb : b < nB) (hs : s < 9) (ho : o < nO) (hc : w.2.1 (101 + 10 * b) s = -1) (hv : v.2.1 2 o = -1) (hk : v.2.1 6 b = nI k) (h4 : k ≤ 4) (hok : okS k s) : Seats nO nB (stG w (101 + 10 * b) s (nI o)) (stG (stG v 2 o (nI b)) 3 o (nI s)) := by
  have v2 : (stG (stG v 2 o (nI b)) 3 o (nI s)).2.1 2 = upd (v.2.1 2) o (nI b) := by rw [stG_ne (by decide), stG_eq]
  have v3 : (stG (stG v 2 o (nI b)) 3 o (nI s)).2.1 3 = upd (v.2.1 3) o (nI s) := by rw [stG_eq, stG_ne (by decide)]
  have v6 : (stG (stG v 2 o (nI b)) 3 o (nI s)).2.1 6 = v.2.1 6 := by rw [stG_ne (by decide), stG_ne (by decide)]
  have wb : (stG w (101 + 10 * b) s (nI o)).2.1 (101 + 10 * b) = upd (w.2.1 (101 + 10 * b)) s (nI o) := stG_eq ..
  have wn : ∀ b', b' ≠ b → (stG w (101 + 10 * b) s (nI o)).2.1 (101 + 10 * b') = w.2.1 (101 + 10 * b') := fun b' h => stG_ne (by omega)
  constructor
  · intro b' hb' s' hs'
    by_cases hq : b' = b ∧ s' = s
    · obtain ⟨rfl, rfl⟩ := hq
      right
      exact ⟨o, ho, by rw [wb, pk_us], by rw [v2, pk_us], by rw [v3, pk_us]⟩
    · have hrow : (stG w (101 + 10 * b) s (nI o)).2.1 (101 + 10 * b') s' = w.2.1 (101 + 10 * b') s' := by
        by_cases hbb : b' = b
        · subst hbb
          rw [wb, pk_un (fun z => hq ⟨rfl, z⟩)]
        · rw [wn b' hbb]
      rw [hrow]
      rcases hS.1 b' hb' s' hs' with h | ⟨o2, ho2, f1, f2, f3⟩
      · exact Or.inl h
      · right
        have hne : o2 ≠ o := by
          intro z
          subst z
          rw [hv] at f2
          exact absurd f2.symm (nI_nm1 (by omega))
        refine ⟨o2, ho2, f1, ?_, ?_⟩
        · rw [v2, pk_un hne]; exact f2
        · rw [v3, pk_un hne]; exact f3
  · intro o2 ho2
    by_cases hq : o2 = o
    · subst hq
      right
      exact ⟨b, s, k, hb, hs, by rw [v6]; exact hk, h4, hok, by rw [v2, pk_us], by rw [v3, pk_us], by rw [wb, pk_us]⟩
    · rw [v2, pk_un hq, v3, pk_un hq, v6]
      rcases hS.2 o2 ho2 with h | ⟨b', s', k', hb', hs', g0, g1, g2, g3, g4, g5⟩
      · exact Or.inl h
      · right
        refine ⟨b', s', k', hb', hs', g0, g1, g2, g3, g4, ?_⟩
        by_cases hbb : b' = b
        · subst hbb
          rw [wb]
          by_cases hss : s' = s
          · subst hss
            rw [hc] at g5
            exact absurd g5.symm (nI_nm1 (by omega))
          · rw [pk_un hss]; exact g5
        · rw [wn b' hbb]; exact g5
theorem leaves_v {w v : Wd} {nO nB o : Nat} (hS : Seats nO nB w v) (k0 : w.1 0 = nB) (k3 : w.1 3 = nB) (xB : w.2.1 90 3 = nI nB) (bB : nB ≤ 8) (bO : nO ≤ 16) (ho : o < nO) : ∃ w1, sX_leaves w (nI o) = some w1 ∧ ((v.2.1 2 o = -1 ∧ w1 = w) ∨ ∃ b s, b < nB ∧ s < 9 ∧ v.2.1 2 o = nI b ∧ v.2.1 3 o = nI s ∧ w.2.1 (101 + 10 * b) s = nI o ∧ w1 = stG w (101 + 10 * b) s (-1)) := by
  unfold sX_leaves sX_leaves_L2
  rw [nm_d]
  rcases hS.2 o ho with hn | ⟨b, s, k, hb, hs, g0, g1, g2, g3, g4, g5⟩
  · obtain ⟨w1, h1, h2⟩ := fx2_run (F := fun self4 x2 w3 => if (w3.2.1 90 3) ≤ x2 then (some w3) else (rd (inb x2 8 && decide (Int32.toNatClampNeg x2 < w3.1 3)) (Int32.toNatClampNeg x2) fun k5 => gd (decide (k5 < w3.1 0)) (bd (sB_place w3 k5 (nI o)) fun v6 => if v6 = (-1 : Int32) then (nm (x2 + (1 : Int32)) fun x7 => self4 x7 w3) else (rd (inb x2 8 && decide (Int32.toNatClampNeg x2 < w3.1 3)) (Int32.toNatClampNeg x2) fun k8 => gd (decide (k8 < w3.1 0)) (rd (inb x2 8 && decide (Int32.toNatClampNeg x2 < w3.1 3)) (Int32.toNatClampNeg x2) fun k9 => gd (decide (k9 < w3.1 0)) (bd (sB_place w3 k9 (nI o)) fun v10 => rd (decide (k8 < w3.1 0) && inb v10 9) (stG w3 (101 + 10 * k8) (Int32.toNatClampNeg v10) (-1 : Int32)) fun w11 => nm (x2 + (1 : Int32)) fun x12 => self4 x12 w11)))))) (fun a w3 => w3 = w ∧ ∃ i, i ≤ nB ∧ a = nI i) (fun a _ => nB - a.toNatClampNeg) (fun r => r = w) (by
      rintro self a w3 ⟨rfl, i, hi, rfl⟩ ih
      rw [xB]
      by_cases hin : i = nB
      · subst hin
        rw [if_pos (show nI i ≤ nI i by rw [nIle (by omega) (by omega)]; omega)]
        exact ⟨_, rfl, rfl⟩
      · rw [if_neg (fun z => by have := (nIle (by omega) (by omega)).mp z; omega), inb_nI (show i < 8 by omega) (by decide), clN (by omega), k3, decide_eq_true (show i < nB by omega)]
        simp only [Bool.and_self, rd_t]
        rw [k0, decide_eq_true (show i < nB by omega), gd_t, place_v hS k0 bB bO (by omega) ho, bd_s, if_neg (show ¬ v.2.1 2 o = nI i by rw [hn]; exact fun z => nI_nm1 (by omega) z.symm), if_pos rfl, nm_d, nI_1]
        exact ih _ _ ⟨rfl, i + 1, by omega, rfl⟩ (by rw [clN (by omega), clN (by omega)]; omega)) FU 0 w ⟨rfl, 0, by omega, rfl⟩ (by rw [FU_v]; omega)
    exact ⟨w1, h1, Or.inl ⟨hn, h2⟩⟩
  · obtain ⟨w1, h1, h2⟩ := fx2_run (F := fun self4 x2 w3 => if (w3.2.1 90 3) ≤ x2 then (some w3) else (rd (inb x2 8 && decide (Int32.toNatClampNeg x2 < w3.1 3)) (Int32.toNatClampNeg x2) fun k5 => gd (decide (k5 < w3.1 0)) (bd (sB_place w3 k5 (nI o)) fun v6 => if v6 = (-1 : Int32) then (nm (x2 + (1 : Int32)) fun x7 => self4 x7 w3) else (rd (inb x2 8 && decide (Int32.toNatClampNeg x2 < w3.1 3)) (Int32.toNatClampNeg x2) fun k8 => gd (decide (k8 < w3.1 0)) (rd (inb x2 8 && decide (Int32.toNatClampNeg x2 < w3.1 3)) (Int32.toNatClampNeg x2) fun k9 => gd (decide (k9 < w3.1 0)) (bd (sB_place w3 k9 (nI o)) fun v10 => rd (decide (k8 < w3.1 0) && inb v10 9) (stG w3 (101 + 10 * k8) (Int32.toNatClampNeg v10) (-1 : Int32)) fun w11 => nm (x2 + (1 : Int32)) fun x12 => self4 x12 w11)))))) (fun a w3 => ∃ i, i ≤ nB ∧ a = nI i ∧ w3 = if b < i then stG w (101 + 10 * b) s (-1) else w) (fun a _ => nB - a.toNatClampNeg) (fun r => r = stG w (101 + 10 * b) s (-1)) (by
      rintro self a w3 ⟨i, hi, rfl, hw3⟩ ih
      have hS1 := hS.rm bB bO hb hs ho g5
      have x3 : w3.2.1 90 3 = nI nB := by
        rw [hw3]; split
        · rw [stG_ne (by omega)]; exact xB
        · exact xB
      have x1 : w3.1 = w.1 := by rw [hw3]; split <;> rfl
      rw [x3]
      by_cases hin : i = nB
      · subst hin
        rw [if_pos (show nI i ≤ nI i by rw [nIle (by omega) (by omega)]; omega)]
        exact ⟨_, rfl, by rw [hw3, if_pos hb]⟩
      · rw [if_neg (fun z => by have := (nIle (by omega) (by omega)).mp z; omega), inb_nI (show i < 8 by omega) (by decide), clN (by omega), x1, k3, decide_eq_true (show i < nB by omega)]
        simp only [Bool.and_self, rd_t]
        rw [k0, decide_eq_true (show i < nB by omega), gd_t]
        by_cases hib : i = b
        · subst hib
          rw [if_neg (by omega)] at hw3
          subst hw3
          rw [place_v hS k0 bB bO (by omega) ho, bd_s, if_pos g3, g4, if_neg (nI_nm1 (by omega))]
          simp only [gd_t, bd_s]
          rw [inb_nI hs (by decide), clN (show s < 1073741824 by omega)]
          simp only [Bool.and_self, rd_t, nm_d]
          rw [nI_1]
          exact ih _ _ ⟨i + 1, by omega, rfl, by rw [if_pos (by omega)]⟩ (by rw [clN (by omega), clN (by omega)]; omega)
        · have hp : sB_place w3 i (nI o) = some (-1) := by
            rw [hw3]
            split
            · rw [place_v hS1 (show (stG w (101 + 10 * b) s (-1)).1 0 = nB from k0) bB bO (by omega) ho, stG_eq, pk_us, if_neg (fun z => nI_nm1 (by omega) z.symm)]
            · rw [place_v hS k0 bB bO (by omega) ho, if_neg (by rw [g3]; exact fun z => hib ((nIeq (by omega) (by omega)).mp z).symm)]
          rw [hp, bd_s, if_pos rfl, nm_d, nI_1]
          refine ih _ _ ⟨i + 1, by omega, rfl, ?_⟩ (by rw [clN (by omega), clN (by omega)]; omega)
          rw [hw3]
          by_cases hbi : b < i
          · rw [if_pos hbi, if_pos (by omega)]
          · rw [if_neg hbi, if_neg (by omega)]) FU 0 w ⟨0, by omega, rfl, by rw [if_neg (by omega)]⟩ (by rw [FU_v]; omega)
    exact ⟨w1, h1, Or.inr ⟨b, s, hb, hs, g3, g4, g5, h2⟩⟩
theorem op_ill : Op_ill Rel := by
  intro w v a1 a2 hR
  have hR0 := hR
  obtain ⟨nO, nB, nC, nU, nT, nL, nH, nP, d, hC, hO, hB, hS, hRc, hV, hT, hU, hG, hL, hH, hK⟩ := hR
  have C := hC
  obtain ⟨⟨bO, bB, bC, bU, bT, bL, bH, bP, bD⟩, ⟨k0, k1, k2, k3, k4, k5⟩, ⟨xO, xB, xD, xC, xU, xP, xT, xL, xH⟩, ⟨yO, yB, yD, yC, yU, yP, yT, yL, yH⟩, hnr, hn0, hn9⟩ := C
  unfold sX_ill sM_ill
  rw [sX_isOar_v a1 xO (by omega), sM_isOar_v a1 yO (by omega), sX_in_v, sM_isIn_v]
  simp only [bd_s]
  by_cases h1 : 0 ≤ a1.toInt ∧ a1.toInt < nO
  · rw [b1_t h1, if_neg n10, if_neg n10]
    by_cases h2 : (0 : Int64).toInt ≤ a2.toInt ∧ a2.toInt ≤ (1 : Int64).toInt
    · rw [b1_t h2, if_neg n10, if_neg n10]
      obtain ⟨j, hj, rfl⟩ := ix_of h1
      have hok := oOk_t hO k1 hj
      rw [inb_nI (show j < 16 by omega) (by decide), clN (by omega), k4, decide_eq_true hj]
      simp only [Bool.and_self, rd_t, hok, Bool.true_and, jn_d, nm_d]
      obtain ⟨k, wt, q1, q2, q3, q4, q5, q6, q7, q8, q9, q10⟩ := hO.1 j hj
      rw [q9]
      have key : ∀ x : Int32, (x = 0 ∨ x = 1) → Rel (stG w (102 + 10 * j) 2 x) (stG v 4 j x) := by
        intro x hx
        have hw : AgD 102 w (stG w (102 + 10 * j) 2 x) := AgD.st (by decide) (by decide)
        have hv : Ag [4] [] v (stG v 4 j x) := Ag.st (by decide) (by decide)
        refine ⟨nO, nB, nC, nU, nT, nL, nH, nP, d, hC.b hw hv (by decide), ?_, hB.b hw hv (by decide) (by decide), hS.b hw hv (by decide) (by decide), hRc.b hw hv (by decide), hV.b hw hv (by decide), hT.b hw hv (by decide), hU.b hw hv (by decide) (by decide), hG.b hw hv (by decide), hL.b hw hv (by decide), hH.b hw hv (by decide), hK.b hw hv (by decide)⟩
        have v0 : (stG v 4 j x).2.1 0 = v.2.1 0 := stG_ne (by decide)
        have v1 : (stG v 4 j x).2.1 1 = v.2.1 1 := stG_ne (by decide)
        have v4 : (stG v 4 j x).2.1 4 = upd (v.2.1 4) j x := stG_eq ..
        constructor
        · intro o ho
          by_cases hoj : o = j
          · subst hoj
            refine ⟨k, wt, q1, q2, q3, q4, ?_, ?_, by rw [v0]; exact q7, by rw [v1]; exact q8, ?_, ?_⟩
            · rw [stG_eq, pk_un (by decide)]; exact q5
            · rw [stG_eq, pk_un (by decide)]; exact q6
            · rw [stG_eq, pk_us, v4, pk_us]
            · rw [v4, pk_us]; exact hx
          · rw [v0, v1, v4, pk_un hoj, stG_ne (by omega)]
            exact hO.1 o ho
        · intro o ho
          rw [v4, pk_un (by omega)]
          exact hO.2 o ho
      rcases q10 with q | q
      · rw [q, if_pos z00, if_pos z00]
        by_cases h21 : a2 = 1
        · rw [if_pos h21, if_pos h21, isB1, rd_t, nar1]
          exact fin3 rfl rfl (key 1 (Or.inr rfl))
        · rw [if_neg h21, if_neg h21, isB0, rd_t, nar0]
          exact fin3 rfl rfl (key 0 (Or.inl rfl))
      · rw [q, if_neg n10, if_neg n10]
        by_cases h21 : a2 = 1
        · rw [if_pos h21, if_pos h21, isB1, rd_t, nar1]
          exact fin3 rfl rfl (key 1 (Or.inr rfl))
        · rw [if_neg h21, if_neg h21, isB0, rd_t, nar0]
          exact fin3 rfl rfl (key 0 (Or.inl rfl))
    · rw [b1_f h2, if_pos z00, if_pos z00]
      exact fin3 rfl rfl hR0
  · rw [b1_f h1, if_pos z00, if_pos z00]
    exact fin3 rfl rfl hR0
