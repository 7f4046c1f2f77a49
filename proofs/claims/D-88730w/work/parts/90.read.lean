set_option maxRecDepth 100000
theorem mlen_nP {T : Nat → Int32} {nP S i : Nat} (hT : ∀ q, nP ≤ q → T q = -1) (hS : S < 17) (hi : i ≤ nP) : i + mlen T (sbyts.getD S []) i ≤ nP := by
  have h : ∀ S, S < 17 → ∀ s, s < 7 → (sbyts.getD S []).getD s 0 ≠ -1 := by decide
  have hl := mlen_le T (sbyts.getD S []) i
  have hl2 := (slen_v hS)
  rcases Nat.lt_or_ge nP (i + mlen T (sbyts.getD S []) i) with hc | hc
  · have := ((mlen_iff T (sbyts.getD S []) i (mlen T (sbyts.getD S []) i)).mp (Nat.le_refl _)).2 (nP - i) (by omega)
    rw [hT _ (by omega)] at this
    exact absurd this (h S hS (nP - i) (by omega))
  · exact hc
theorem tail_v {T : Nat → Int32} {nP R j : Nat} {w v : Wd} (bP : nP ≤ 120) (hT : ∀ q, nP ≤ q → T q = -1) (hR10 : R < 10) (hX : TX T nP w) (hM : TM T nP v) (hj : j ≤ nP) (hR : R < w.1 2) (yU : v.2.1 90 30 = nI R) (es : w.2.1 (103 + 10 * R) 2 = nI 0) (ys : v.2.1 34 R = nI 0) (hn : ∀ j, j < 3 → w.2.1 (107 + 10 * R) j = 0) (e1 : w.2.1 90 23 = nI j) (e2 : w.2.1 90 24 = 0) (e3 : v.2.1 90 36 = nI j) : ∃ (s : Int32) (j' : Nat) (w' v' : Wd), (if w.2.1 90 23 = w.2.1 90 22 then some w else bd (sX_signs w 15) fun w14 => jn (fun z15 => nm z15 fun x17 => sX_read_L134 R x17 w14) fun J16 => if w14.2.1 90 24 = 0 then J16 (1 : Int32) else J16 (0 : Int32)) = some w' ∧ (if v.2.1 90 36 = v.2.1 90 29 then some ((1 : Int32), v) else bd2 (sM_takes v 32) fun v15 w16 => if v15 = 0 then some (0, w16) else bd2 (sM_word w16 15 15) fun v17 w18 => if v17 < 0 then some (0, w18) else bd2 (sM_takes w18 32) fun v19 w20 => if v19 = 0 then some (0, w20) else sM_parses_L126 w20) = some (s, v') ∧ XR R w w' ∧ MR R v v' ∧ j' ≤ nP ∧ w'.2.1 90 23 = nI j' ∧ v'.2.1 90 36 = nI j' ∧ ((s = 1 ∧ w'.2.1 90 24 = 0 ∧ ∃ z', z' ≤ 3 ∧ w'.2.1 (103 + 10 * R) 2 = nI z' ∧ v'.2.1 34 R = nI z' ∧ ∀ j, j < z' → TestAt R j (12 * R + 4 * j) w' v') ∨ (s = 0 ∧ w'.2.1 90 24 = 1)) := by
  rw [e1, hX.1, e3, hM.1]
  by_cases hend : j = nP
  · rw [if_pos (show nI j = nI nP by rw [hend]), if_pos (show nI j = nI nP by rw [hend])]
    exact ⟨1, j, w, v, rfl, rfl, (XF.ag (z := 0) Ag.rfl).r, ⟨Ag.rfl, fun _ _ => rfl, fun _ _ => rfl⟩, hj, e1, e3, Or.inl ⟨rfl, e2, 0, by omega, es, ys, fun q hq => absurd hq (by omega)⟩⟩
  have hne : ¬ nI j = nI nP := fun q => hend ((nIeq (by omega) (by omega)).mp q)
  rw [if_neg hne, if_neg hne]
  obtain ⟨w2, s1, s2, -, s3, s4⟩ := signs0 (S := 15) (i := j) bP hT (by decide) (by omega) hX e1 e2
  obtain ⟨v2, t1, t2, t3⟩ := if_v bP hT hM (show j < 500 by omega) e3
  rw [s1, bd_s, t3 sM_parses_L126]
  have hj2 := mlen_nP (S := 15) hT (by decide) hj
  have xr : XR R w w2 := (XF.ag (z := 0) s2).r
  have mr : MR R v v2 := ⟨t1.mono (by simp) (by simp), fun r _ => by rw [t1.2.1 34 (by decide) (by simp)], fun q _ => by rw [t1.2.1 35 (by decide) (by simp)]⟩
  by_cases hm : mlen T (sbyts.getD 15 []) j = (sbyts.getD 15 []).length
  · rw [if_pos hm] at s4 ⊢
    rw [s4, jn_d, if_pos z00]
    simp only [nm_d]
    have row2 : ∀ q, q ≠ 90 → w2.2.1 q = w.2.1 q := fun q h => s2.2.1 q h (by simp)
    rw [eX_read_L134, eM_parses_L126]
    obtain ⟨s, j', w', v', r1, r2, r3, r4, r5⟩ := tests_v (R := R) bP hT hR10 3 0 (j + mlen T (sbyts.getD 15 []) j) FU FU w2 v2 (by omega) (by omega) (by rw [FU_v]; omega) (by rw [FU_v]; omega) hj2 (hX.ag s2) (hM.ag t1) (by rw [s2.1]; exact hR) (by rw [t1.2.2 30 (by decide)]; exact yU) (by rw [row2 _ (by omega)]; exact es) (by rw [t1.2.1 34 (by decide) (by simp)]; exact ys) (fun q _ h2 => by rw [row2 _ (by omega)]; exact hn q h2) (fun q hq => absurd hq (by omega)) s3 s4 t2
    exact ⟨s, j', w', v', r1, r2, xr.trans r3, mr.trans r4, r5⟩
  · rw [if_neg hm] at s4 ⊢
    rw [s4, jn_d, if_neg n10]
    simp only [nm_d]
    rw [eX_read_L134, stopX (by rw [FU_v]; omega)]
    exact ⟨0, _, w2, v2, rfl, rfl, xr, mr, hj2, s3, t2, Or.inr ⟨rfl, s4⟩⟩
/-- what reading a rule may change -/
def XQu (R : Nat) (w w' : Wd) : Prop := w'.1 = w.1 ∧ (∀ r, r ≠ 90 → (∀ t, 103 ≤ t → t ≤ 107 → r ≠ t + 10 * R) → w'.2.1 r = w.2.1 r) ∧ ∀ j, j ≠ 23 → j ≠ 24 → w'.2.1 90 j = w.2.1 90 j
theorem XQu.trans {R : Nat} {w w' w'' : Wd} (h : XQu R w w') (k : XQu R w' w'') : XQu R w w'' := ⟨k.1.trans h.1, fun r h1 h2 => (k.2.1 r h1 h2).trans (h.2.1 r h1 h2), fun j h1 h2 => (k.2.2 j h1 h2).trans (h.2.2 j h1 h2)⟩
theorem XR.q {R : Nat} {w w' : Wd} (h : XR R w w') : XQu R w w' := ⟨h.1, h.2.1, h.2.2.1⟩
theorem XQu.ag {R : Nat} {w w' : Wd} (h : Ag [] [23, 24] w w') : XQu R w w' := ⟨h.1, fun r h1 _ => h.2.1 r h1 (by simp), fun j h1 h2 => h.2.2 j (by simp [h1, h2])⟩
theorem XQu.st {R t j : Nat} {w : Wd} {x : Int32} (h1 : 103 ≤ t) (h2 : t ≤ 107) : XQu R w (stG w (t + 10 * R) j x) := ⟨rfl, fun r h3 h4 => stG_ne (h4 t h1 h2), fun q _ _ => by rw [stG_ne (by omega)]⟩
def MQu (R : Nat) (v v' : Wd) : Prop := Ag [32, 33, 34, 35] [36] v v' ∧ (∀ t, 32 ≤ t → t ≤ 34 → ∀ r, r ≠ R → v'.2.1 t r = v.2.1 t r) ∧ ∀ j, j < 12 * R → v'.2.1 35 j = v.2.1 35 j
theorem MQu.trans {R : Nat} {w w' w'' : Wd} (h : MQu R w w') (k : MQu R w' w'') : MQu R w w'' := ⟨h.1.trans k.1, fun t h1 h2 r h3 => (k.2.1 t h1 h2 r h3).trans (h.2.1 t h1 h2 r h3), fun j h1 => (k.2.2 j h1).trans (h.2.2 j h1)⟩
theorem MR.q {R : Nat} {v v' : Wd} (h : MR R v v') : MQu R v v' := ⟨h.1.mono (by simp) (by simp), fun t h1 h2 r h3 => by
  by_cases e : t = 34
  · rw [e]; exact h.2.1 r h3
  · rw [h.1.2.1 t (by omega) (by simp; omega)], h.2.2⟩
theorem MQu.ag {R : Nat} {v v' : Wd} (h : Ag [] [36] v v') : MQu R v v' := ⟨h.mono (by simp) (by simp), fun t h1 h2 r _ => by rw [h.2.1 t (by omega) (by simp)], fun j _ => by rw [h.2.1 35 (by decide) (by simp)]⟩
theorem MQu.st {R t : Nat} {v : Wd} {x : Int32} (h1 : 32 ≤ t) (h2 : t ≤ 34) : MQu R v (stG v t R x) := ⟨Ag.st (by omega) (by simp; omega), fun t' _ _ r h3 => by
  by_cases e : t' = t
  · rw [e, stG_eq, pk_un h3]
  · rw [stG_ne e], fun j _ => by rw [stG_ne (by omega)]⟩
/-- rule R is alike in both -/
def RuleAt (R : Nat) (w v : Wd) : Prop := ∃ k z : Nat, k ≤ 5 ∧ z ≤ 3 ∧ w.2.1 (103 + 10 * R) 0 = v.2.1 32 R ∧ (v.2.1 32 R = 0 ∨ v.2.1 32 R = 1) ∧ v.2.1 33 R = nI k ∧ w.2.1 (103 + 10 * R) 1 = (if k = 5 then -1 else nI k) ∧ w.2.1 (103 + 10 * R) 2 = nI z ∧ v.2.1 34 R = nI z ∧ ∀ j, j < z → TestAt R j (12 * R + 4 * j) w v
theorem read_v {T : Nat → Int32} {nP R : Nat} {w v : Wd} (bP : nP ≤ 120) (hT : ∀ q, nP ≤ q → T q = -1) (hR10 : R < 10) (hX : TX T nP w) (hM : TM T nP v) (hR : R < w.1 2) (yU : v.2.1 90 30 = nI R) (es : w.2.1 (103 + 10 * R) 2 = nI 0) (hn : ∀ j, j < 3 → w.2.1 (107 + 10 * R) j = 0) : ∃ (s : Int32) (j' : Nat) (w' v' : Wd), sX_read w R = some w' ∧ sM_parses v = some (s, v') ∧ XQu R w w' ∧ MQu R v v' ∧ j' ≤ nP ∧ w'.2.1 90 23 = nI j' ∧ v'.2.1 90 36 = nI j' ∧ ((s = 1 ∧ w'.2.1 90 24 = 0 ∧ RuleAt R w' v') ∨ (s = 0 ∧ w'.2.1 90 24 = 1)) := by
  unfold sX_read sM_parses
  rw [nm_d, nm_d, nm_d]
  have a2 : Ag [] [23, 24] w (stG (stG w 90 23 0) 90 24 0) := (Ag.sf (by decide)).trans (Ag.sf (by decide))
  have p2 : (stG (stG w 90 23 0) 90 24 0).2.1 90 23 = nI 0 := by rw [f90n (by decide), f90s]; rfl
  have q2 : (stG (stG w 90 23 0) 90 24 0).2.1 90 24 = 0 := f90s
  generalize stG (stG w 90 23 0) 90 24 0 = w2 at a2 p2 q2 ⊢
  have hX2 := hX.ag a2
  rw [now_v bP hT hX2 (show 0 < 1000 by decide) p2, bd_s]
  rw [jn_arg (z := b1 (T 0 = 98)) (fun J => by
    by_cases h : T 0 = 98
    · rw [if_pos h, b1_t h]
    · rw [if_neg h, b1_f h])]
  have hR2 : R < w2.1 2 := by rw [a2.1]; exact hR
  rw [decide_eq_true hR2, isB_b1, Bool.and_self, rd_t]
  have g1 : (stG w2 (103 + 10 * R) 0 (b1 (T 0 = 98))).2.1 (103 + 10 * R) 0 = b1 (T 0 = 98) := by rw [stG_eq, pk_us]
  have g2 : (stG w2 (103 + 10 * R) 0 (b1 (T 0 = 98))).2.1 (103 + 10 * R) 2 = nI 0 := by rw [stG_eq, pk_un (by decide), a2.2.1 _ (by omega) (by simp)]; exact es
  have g3 : ∀ r, r ≠ 103 + 10 * R → (stG w2 (103 + 10 * R) 0 (b1 (T 0 = 98))).2.1 r = w2.2.1 r := fun r h => stG_ne h
  have g4 : (stG w2 (103 + 10 * R) 0 (b1 (T 0 = 98))).1 = w2.1 := rfl
  have g5 : XQu R w2 (stG w2 (103 + 10 * R) 0 (b1 (T 0 = 98))) := XQu.st (by decide) (by decide)
  generalize stG w2 (103 + 10 * R) 0 (b1 (T 0 = 98)) = w6 at g1 g2 g3 g4 g5 ⊢
  have hX6 : TX T nP w6 := ⟨by rw [g3 90 (by omega)]; exact hX2.1, fun q hq => by rw [g3 21 (by omega)]; exact hX2.2 q hq⟩
  have hR6 : R < w6.1 2 := by rw [g4]; exact hR2
  rw [decide_eq_true hR6, rd_t, g1]
  rw [jn_arg (z := if T 0 = 98 then 13 else 14) (fun J => by
    by_cases h : T 0 = 98
    · rw [if_pos h, b1_t h, if_neg n10]
    · rw [if_neg h, b1_f h, if_pos z00])]
  have hS : (if T 0 = 98 then 13 else 14) < 17 := by
    by_cases h : T 0 = 98
    · rw [if_pos h]; decide
    · rw [if_neg h]; decide
  obtain ⟨w10, s1, s2, -, s3, s4⟩ := signs0 (i := 0) bP hT hS (by decide) hX6 (by rw [g3 90 (by omega)]; exact p2) (by rw [g3 90 (by omega)]; exact q2)
  have b1' : Ag [] [36] v (stG v 90 36 0) := Ag.sf (by decide)
  have hM1 := hM.ag b1'
  obtain ⟨v6, t1, t2, t3⟩ := head_v bP hT hM1 (show (stG v 90 36 0).2.1 90 36 = nI 0 from f90s)
  have hlen := mlen_nP (i := 0) hT hS (Nat.zero_le _)
  rw [Nat.zero_add] at s3 hlen
  have xq10 : XQu R w w10 := ((XQu.ag a2).trans g5).trans (XQu.ag s2)
  have mq6 : MQu R v v6 := (MQu.ag b1').trans (MQu.ag t1)
  rw [s1, bd_s]
  simp only [nm_d]
  rw [t3]
  generalize hq : (if T 0 = 98 then 13 else 14) = S at *
  generalize hlen' : mlen T (sbyts.getD S []) 0 = j0 at *
  by_cases hm : j0 = (sbyts.getD S []).length
  rotate_left
  · rw [if_neg hm] at s4 ⊢
    rw [s4, if_neg n10]
    exact ⟨0, j0, w10, v6, rfl, rfl, xq10, mq6, hlen, s3, t2, Or.inr ⟨rfl, s4⟩⟩
  rw [if_pos hm] at s4 ⊢
  rw [s4, if_pos z00]
  have hX10 := hX6.ag s2
  have hM6 := hM1.ag t1
  rw [now_v bP hT hX10 (show j0 < 1000 by omega) s3, bd_s]
  have row10 : ∀ q, q ≠ 90 → q ≠ 103 + 10 * R → w10.2.1 q = w.2.1 q := fun q h h' => by rw [s2.2.1 q h (by simp), g3 q h', a2.2.1 q h (by simp)]
  have c0 : w10.2.1 (103 + 10 * R) 0 = b1 (T 0 = 98) := by rw [s2.2.1 _ (by omega) (by simp)]; exact g1
  have c2 : w10.2.1 (103 + 10 * R) 2 = nI 0 := by rw [s2.2.1 _ (by omega) (by simp)]; exact g2
  have hR10' : R < w10.1 2 := by rw [s2.1]; exact hR6
  have yU6 : v6.2.1 90 30 = nI R := by rw [t1.2.2 30 (by decide), b1'.2.2 30 (by decide)]; exact yU
  obtain ⟨j, v8, hj, k1, k2, hk⟩ := kind_v bP hT hX10 hM6 hlen s3 s4 t2
  have hM8 := hM6.ag k1
  have yU8 : v8.2.1 90 30 = nI R := by rw [k1.2.2 30 (by decide)]; exact yU6
  have mq8 : MQu R v v8 := mq6.trans (MQu.ag k1)
  /- behind the kind -/
  have common : ∀ (k : Nat) (w11 : Wd), k ≤ 5 → Ag [] [23, 24] w10 w11 → w11.2.1 90 23 = nI j → w11.2.1 90 24 = 0 → ∃ (s : Int32) (j' : Nat) (w' v' : Wd), (jn (fun w12 => if (w12.2.1 90 24) = 0 then (if (w12.2.1 90 23) = (w12.2.1 90 22) then (some w12) else (bd (sX_signs w12 15) fun w14 => jn (fun z15 => nm z15 fun x17 => sX_read_L134 R x17 w14) fun J16 => if (w14.2.1 90 24) = 0 then (J16 (1 : Int32)) else (J16 (0 : Int32)))) else (some w12)) fun J13 => rd (decide (R < w11.1 2)) (stG w11 (103 + 10 * R) 1 (if k = 5 then -1 else nI k)) fun w39 => J13 w39) = some w' ∧ (if 0 ≤ nI k then (jn (fun z10 => rd (inb (v8.2.1 90 30) 10) (stG v8 32 (Int32.toNatClampNeg (v8.2.1 90 30)) (vp_nar .boolean z10)) fun w12 => rd (inb (w12.2.1 90 30) 10) (stG w12 33 (Int32.toNatClampNeg (w12.2.1 90 30)) (nI k)) fun w13 => rd (inb (w13.2.1 90 30) 10) (stG w13 34 (Int32.toNatClampNeg (w13.2.1 90 30)) (0 : Int32)) fun w14 => if (w14.2.1 90 36) = (w14.2.1 90 29) then (some ((1 : Int32), w14)) else (bd2 (sM_takes w14 (32 : Int32)) fun v15 w16 => if v15 = 0 then (some ((0 : Int32), w16)) else (bd2 (sM_word w16 (15 : Int32) (15 : Int32)) fun v17 w18 => if v17 < 0 then (some ((0 : Int32), w18)) else (bd2 (sM_takes w18 (32 : Int32)) fun v19 w20 => if v19 = 0 then (some ((0 : Int32), w20)) else (sM_parses_L126 w20))))) fun J11 => if nI (if T 0 = 98 then 7 else 6) = (7 : Int32) then (J11 (1 : Int32)) else (J11 (0 : Int32))) else (some ((0 : Int32), v8))) = some (s, v') ∧ XQu R w w' ∧ MQu R v v' ∧ j' ≤ nP ∧ w'.2.1 90 23 = nI j' ∧ v'.2.1 90 36 = nI j' ∧ ((s = 1 ∧ w'.2.1 90 24 = 0 ∧ RuleAt R w' v') ∨ (s = 0 ∧ w'.2.1 90 24 = 1)) := by
    intro k w11 hk5 a11 p11 q11
    rw [if_pos (show (0 : Int32) ≤ nI k from nI_pos' (by omega)), jn_d, decide_eq_true (show R < w11.1 2 by rw [a11.1]; exact hR10'), rd_t]
    rw [jn_arg (z := b1 (T 0 = 98)) (fun J => by
      by_cases h : T 0 = 98
      · rw [if_pos h, b1_t h, if_pos (show nI 7 = (7 : Int32) from rfl)]
      · rw [if_neg h, b1_f h, if_neg (show ¬ nI 6 = (7 : Int32) by decide)])]
    have vn : vp_nar .boolean (b1 (T 0 = 98)) = b1 (T 0 = 98) := by
      by_cases h : T 0 = 98
      · rw [b1_t h]; rfl
      · rw [b1_f h]; rfl
    rw [vn, yU8, inb_nI hR10 (by decide), clN (show R < 1073741824 by omega), rd_t]
    have y9 : (stG v8 32 R (b1 (T 0 = 98))).2.1 90 30 = nI R := by rw [stG_ne (by decide)]; exact yU8
    rw [y9, inb_nI hR10 (by decide), clN (show R < 1073741824 by omega), rd_t]
    have y10 : (stG (stG v8 32 R (b1 (T 0 = 98))) 33 R (nI k)).2.1 90 30 = nI R := by rw [stG_ne (by decide)]; exact y9
    rw [y10, inb_nI hR10 (by decide), clN (show R < 1073741824 by omega), rd_t]
    have m12 : MQu R v8 (stG (stG (stG v8 32 R (b1 (T 0 = 98))) 33 R (nI k)) 34 R 0) := ((MQu.st (by decide) (by decide)).trans (MQu.st (by decide) (by decide))).trans (MQu.st (by decide) (by decide))
    have r32 : (stG (stG (stG v8 32 R (b1 (T 0 = 98))) 33 R (nI k)) 34 R 0).2.1 32 R = b1 (T 0 = 98) := by rw [stG_ne (by decide), stG_ne (by decide), stG_eq, pk_us]
    have r33 : (stG (stG (stG v8 32 R (b1 (T 0 = 98))) 33 R (nI k)) 34 R 0).2.1 33 R = nI k := by rw [stG_ne (by decide), stG_eq, pk_us]
    have r34 : (stG (stG (stG v8 32 R (b1 (T 0 = 98))) 33 R (nI k)) 34 R 0).2.1 34 R = nI 0 := by rw [stG_eq, pk_us]; rfl
    have r90 : (stG (stG (stG v8 32 R (b1 (T 0 = 98))) 33 R (nI k)) 34 R 0).2.1 90 = v8.2.1 90 := by rw [stG_ne (by decide), stG_ne (by decide), stG_ne (by decide)]
    have r28 : (stG (stG (stG v8 32 R (b1 (T 0 = 98))) 33 R (nI k)) 34 R 0).2.1 28 = v8.2.1 28 := by rw [stG_ne (by decide), stG_ne (by decide), stG_ne (by decide)]
    generalize stG (stG (stG v8 32 R (b1 (T 0 = 98))) 33 R (nI k)) 34 R 0 = v14 at m12 r32 r33 r34 r90 r28 ⊢
    have x12 : XQu R w11 (stG w11 (103 + 10 * R) 1 (if k = 5 then -1 else nI k)) := XQu.st (by decide) (by decide)
    have d0 : (stG w11 (103 + 10 * R) 1 (if k = 5 then -1 else nI k)).2.1 (103 + 10 * R) 0 = b1 (T 0 = 98) := by rw [stG_eq, pk_un (by decide), a11.2.1 _ (by omega) (by simp)]; exact c0
    have d1 : (stG w11 (103 + 10 * R) 1 (if k = 5 then -1 else nI k)).2.1 (103 + 10 * R) 1 = (if k = 5 then -1 else nI k) := by rw [stG_eq, pk_us]
    have d2 : (stG w11 (103 + 10 * R) 1 (if k = 5 then -1 else nI k)).2.1 (103 + 10 * R) 2 = nI 0 := by rw [stG_eq, pk_un (by decide), a11.2.1 _ (by omega) (by simp)]; exact c2
    have dn : ∀ r, r ≠ 103 + 10 * R → (stG w11 (103 + 10 * R) 1 (if k = 5 then -1 else nI k)).2.1 r = w11.2.1 r := fun r h => stG_ne h
    have d7 : (stG w11 (103 + 10 * R) 1 (if k = 5 then -1 else nI k)).1 = w11.1 := rfl
    generalize stG w11 (103 + 10 * R) 1 (if k = 5 then -1 else nI k) = w12 at x12 d0 d1 d2 dn d7 ⊢
    have f90' : w12.2.1 90 = w11.2.1 90 := dn 90 (by omega)
    have hX12 : TX T nP w12 := ⟨by rw [f90']; exact (hX10.ag a11).1, fun q hq => by rw [dn 21 (by omega)]; exact (hX10.ag a11).2 q hq⟩
    have hM14 : TM T nP v14 := ⟨by rw [r90]; exact hM8.1, fun q hq => by rw [r28]; exact hM8.2 q hq⟩
    simp only [if_pos (show w12.2.1 90 24 = 0 by rw [f90']; exact q11)]
    obtain ⟨s, j', w', v', u1, u2, u3, u4, u5, u6, u7, u8⟩ := tail_v (w := w12) (v := v14) (R := R) (j := j) bP hT hR10 hX12 hM14 hj (by rw [d7, a11.1]; exact hR10') (by rw [r90]; exact yU8) d2 r34 (fun q hq => by rw [dn _ (by omega), a11.2.1 _ (by omega) (by simp), row10 _ (by omega) (by omega)]; exact hn q hq) (by rw [f90']; exact p11) (by rw [f90']; exact q11) (by rw [r90]; exact k2)
    refine ⟨s, j', w', v', u1, u2, ((xq10.trans (XQu.ag a11)).trans x12).trans u3.q, (mq8.trans m12).trans u4.q, u5, u6, u7, ?_⟩
    rcases u8 with ⟨h1, h2, z, h3, h4, h5, h6⟩ | h
    · have e32 : v'.2.1 32 R = b1 (T 0 = 98) := by rw [u4.1.2.1 32 (by decide) (by decide)]; exact r32
      refine Or.inl ⟨h1, h2, k, z, hk5, h3, ?_, ?_, ?_, ?_, h4, h5, h6⟩
      · rw [e32, u3.2.2.2 0 (by decide)]; exact d0
      · rw [e32]
        by_cases h : T 0 = 98
        · exact Or.inr (b1_t h)
        · exact Or.inl (b1_f h)
      · rw [u4.1.2.1 33 (by decide) (by decide)]; exact r33
      · rw [u3.2.2.2 1 (by decide)]; exact d1
    · exact Or.inr h
  simp only [nm_d] at common
  rcases hk with ⟨h42, rfl, em⟩ | ⟨h42, r, w', ex, a', p', hr⟩
  · rw [em, bd2_s]
    simp only [if_pos h42]
    rw [s3, nI_1]
    exact common 5 (stG w10 90 23 (nI (j0 + 1))) (by decide) (Ag.sf (by decide)) f90s (by rw [f90n (by decide)]; exact s4)
  · simp only [if_neg h42]
    simp only [ex, bd2_s]
    rcases hr with ⟨f, hf, rfl, q', em⟩ | ⟨q', em⟩
    · simp only [em, bd2_s]
      have := common f w' (by omega) a' p' q'
      rw [if_neg (by omega)] at this
      exact this
    · rw [em, bd2_s, if_neg (show ¬ (0 : Int32) ≤ -1 by decide), jn_d, decide_eq_true (show R < w'.1 2 by rw [a'.1]; exact hR10'), rd_t]
      have q12 : (stG w' (103 + 10 * R) 1 r).2.1 90 24 = 1 := by rw [stG_ne (by omega)]; exact q'
      simp only [q12, n10, if_false]
      exact ⟨0, j, _, v8, rfl, rfl, (xq10.trans (XQu.ag a')).trans (XQu.st (by decide) (by decide)), mq8, hj, by rw [stG_ne (by omega)]; exact p', k2, Or.inr ⟨rfl, q12⟩⟩
