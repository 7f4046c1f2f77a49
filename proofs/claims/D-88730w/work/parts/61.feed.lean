set_option maxRecDepth 100000
theorem fx_s {α : Type} {b : α} {F : α → α} {n : Nat} : fx b F (n + 1) = F (fx b F n) := Eq.trans rfl rfl
theorem feed_byte (y : Int64) : (y &&& 255).toInt32 = vp_nar .byte (Int8.toInt32 (Int32.toInt8 (Int64.toInt32 y))) &&& 255 := by
  rw [pk_vb]
  apply Int32.toBitVec_inj.mp
  apply BitVec.eq_of_getLsbD_eq
  intro i hi
  have h255 : ∀ i, (255 : BitVec 32).getLsbD i = decide (i < 8) := by
    intro i
    by_cases h : i < 32
    · exact co_dec (P := fun i => (255 : BitVec 32).getLsbD i = decide (i < 8)) (N := 32) (by decide) h
    · rw [BitVec.getLsbD_of_ge _ _ (by omega)]; simp; omega
  have h255' : ∀ i, i < 32 → (255 : BitVec 64).getLsbD i = decide (i < 8) := by
    intro i h
    exact co_dec (P := fun i => (255 : BitVec 64).getLsbD i = decide (i < 8)) (N := 32) (by decide) h
  have e1 : ((y &&& 255).toInt32).toBitVec = (y.toBitVec &&& 255).signExtend 32 := rfl
  have e2 : (y.toInt32.toInt8.toInt32 &&& 255).toBitVec = ((y.toBitVec.signExtend 32).signExtend 8).signExtend 32 &&& 255 := rfl
  rw [e1, e2, BitVec.getLsbD_and, h255, BitVec.getLsbD_signExtend, BitVec.getLsbD_signExtend, BitVec.getLsbD_signExtend, BitVec.getLsbD_signExtend]
  by_cases h8 : i < 8
  · have h64 : i < 64 := by omega
    have h2 : (255#64)[i] = decide (i < 8) := by rw [← BitVec.getLsbD_eq_getElem]; exact h255' i hi
    simp [hi, h8, h64, BitVec.getLsbD_and, h255' i hi, h2]
  · have h64 : i < 64 := by omega
    have h2 : (255#64)[i] = decide (i < 8) := by rw [← BitVec.getLsbD_eq_getElem]; exact h255' i hi
    simp [hi, h8, h64, BitVec.getLsbD_and, h255' i hi, h2]
theorem feed_loop (a1 : Int64) : ∀ (m f f' : Nat) (w v : Wd) (nP : Nat), m < f → m < f' → Rel w v → w.2.1 90 22 = nI nP → nP + m ≤ 120 → ∃ (r : Int32) (w' v' : Wd), fx (fun _ _ => none) (bX_feed_L34 a1 (fun w3 => some (w3.2.1 90 22, w3))) f (nI m + (-1)) w = some (r, w') ∧ fx (fun _ _ => none) (bM_feed_L34 a1 (fun w3 => some (w3.2.1 90 29, w3))) f' (nI m + (-1)) v = some (r, v') ∧ Rel w' v' := by
  intro m
  induction m with
  | zero =>
    intro f f' w v nP hf hf' hR xp hm
    obtain ⟨g, rfl⟩ : ∃ g, f = g + 1 := ⟨f - 1, by omega⟩
    obtain ⟨g', rfl⟩ : ∃ g, f' = g + 1 := ⟨f' - 1, by omega⟩
    have hR1 := hR
    obtain ⟨nO, nB, nC, nU, nT, nL, nH, nP', d, hC, -⟩ := hR
    have e1 : w.2.1 90 22 = nI nP' := hC.2.2.1.2.2.2.2.2.1
    have e2 : v.2.1 90 29 = nI nP' := hC.2.2.2.1.2.2.2.2.2.1
    rw [fx_s, fx_s]
    generalize fx _ _ g = s1
    generalize fx _ _ g' = s2
    unfold bX_feed_L34 bM_feed_L34
    rw [if_pos (show nI 0 + (-1) < (0 : Int32) by decide), if_pos (show nI 0 + (-1) < (0 : Int32) by decide)]
    dsimp only
    rw [e1, e2]
    exact fin3 rfl rfl hR1
  | succ m ih =>
    intro f f' w v nP hf hf' hR xp hm
    obtain ⟨g, rfl⟩ : ∃ g, f = g + 1 := ⟨f - 1, by omega⟩
    obtain ⟨g', rfl⟩ : ∃ g, f' = g + 1 := ⟨f' - 1, by omega⟩
    have hR0 := hR
    obtain ⟨nO, nB, nC, nU, nT, nL, nH, nQ, d, hC, hO, hB, hS, hRc, hV, hT, hU, hG, hL, hH, hK⟩ := hR
    have C := hC
    obtain ⟨⟨bO, bB, bC, bU, bT, bL, bH, bP, bD⟩, ⟨k0, k1, k2, k3, k4, k5⟩, ⟨xO, xB, xD, xC, xU, xP, xT, xL, xH⟩, ⟨yO, yB, yD, yC, yU, yP, yT, yL, yH⟩, hnr, hn0, hn9⟩ := C
    have epp : nQ = nP := (nIeq (by omega) (by omega)).mp (xP.symm.trans xp)
    have ihx := ih g g'
    rw [fx_s, fx_s, pk_m1]
    generalize fx _ _ g = s1 at ihx ⊢
    generalize fx _ _ g' = s2 at ihx ⊢
    unfold bX_feed_L34 bM_feed_L34
    have hneg : ¬ nI m < 0 := nI_pos (by omega)
    rw [if_neg hneg, if_neg hneg, xP, yP, epp, inb_nI (show nP < 120 by omega) (by decide), clN (show nP < 1073741824 by omega)]
    simp only [rd_t, nm_d, f90 (show (21 : Nat) ≠ 90 by decide), f90 (show (28 : Nat) ≠ 90 by decide), xP, yP, epp, nI_1]
    rw [feed_byte]
    generalize vp_nar .byte (Int8.toInt32 (Int32.toInt8 (Int64.toInt32 (a1 >>> (Int32.toInt64 (8 * nI m) &&& 63))))) = bx
    subst epp
    generalize hw' : stG (stG w 21 nQ bx) 90 22 (nI (nQ + 1)) = w'
    generalize hv' : stG (stG v 28 nQ (bx &&& 255)) 90 29 (nI (nQ + 1)) = v'
    have hw : Ag [21] [22] w w' := by rw [← hw']; exact (Ag.st (by decide) (by decide)).trans (Ag.sf (by decide))
    have hv : Ag [28] [29] v v' := by rw [← hv']; exact (Ag.st (by decide) (by decide)).trans (Ag.sf (by decide))
    have x22 : w'.2.1 90 22 = nI (nQ + 1) := by rw [← hw', f90s]
    have y29 : v'.2.1 90 29 = nI (nQ + 1) := by rw [← hv', f90s]
    have e21 : w'.2.1 21 = upd (w.2.1 21) nQ bx := by rw [← hw', stG_ne (by decide), stG_eq]
    have e28 : v'.2.1 28 = upd (v.2.1 28) nQ (bx &&& 255) := by rw [← hv', stG_ne (by decide), stG_eq]
    have hR' : Rel w' v' := by
      refine ⟨nO, nB, nC, nU, nT, nL, nH, (nQ + 1), d, hC.u_nP hw.1 (fun j hj => hw.2.2 j (by simpa using hj)) (fun j hj => hv.2.2 j (by simpa using hj)) (by omega) x22 y29, hO.a hw hv (by decide) (by decide), hB.a hw hv (by decide) (by decide), hS.a hw hv (by decide) (by decide), hRc.a hw hv (by decide) (by decide), hV.a hw hv (by decide) (by decide), ?_, hU.a hw hv (by decide) (by decide), hG.a hw hv (by decide) (by decide), hL.a hw hv (by decide) (by decide), hH.a hw hv (by decide) (by decide), hK.a hw hv (by decide) (by decide)⟩
      intro j hj
      rw [e21, e28]
      by_cases hjn : j = nQ
      · subst hjn; rw [pk_us, pk_us]
      · rw [pk_un hjn, pk_un hjn]; exact hT j (by omega)
    exact ihx w' v' (nQ + 1) (by omega) (by omega) hR' x22 (by omega)
theorem op_feed : Op_feed Rel := by
  intro w v a1 a2 hR
  have hR0 := hR
  obtain ⟨nO, nB, nC, nU, nT, nL, nH, nP, d, hC, hO, hB, hS, hRc, hV, hT, hU, hG, hL, hH, hK⟩ := hR
  have C := hC
  obtain ⟨⟨bO, bB, bC, bU, bT, bL, bH, bP, bD⟩, ⟨k0, k1, k2, k3, k4, k5⟩, ⟨xO, xB, xD, xC, xU, xP, xT, xL, xH⟩, ⟨yO, yB, yD, yC, yU, yP, yT, yL, yH⟩, hnr, hn0, hn9⟩ := C
  unfold sX_feed sM_feed
  rw [sX_in_v, sM_isIn_v]
  simp only [bd_s]
  by_cases h : (1 : Int64).toInt ≤ a2.toInt ∧ a2.toInt ≤ (8 : Int64).toInt
  · rw [b1_t h, if_neg n10, if_neg n10, xP, yP]
    have h9 : (8 : Int64).toInt = 8 := by decide
    have h8 : (1 : Int64).toInt = 1 := by decide
    obtain ⟨n, hn, rfl⟩ := ix_of (x := a2) (n := 9) (by omega)
    rw [nI_add]
    by_cases h2 : nP + n ≤ 120
    · have hle : nI (nP + n) ≤ (120 : Int32) := (nIle (a := nP + n) (b := 120) (by omega) (by decide)).mpr h2
      rw [if_pos hle, if_pos hle, nm_d, nm_d, jn_d, jn_d, eX_feed_L34, eM_feed_L34]
      have hsub : nI n - 1 = nI n + (-1) := by
        rw [Int32.sub_eq_add_neg]
      rw [hsub]
      exact feed_loop a1 n FU FU w v nP (by rw [FU_v]; omega) (by rw [FU_v]; omega) hR0 xP h2
    · have hle : ¬ nI (nP + n) ≤ (120 : Int32) := fun z => h2 ((nIle (a := nP + n) (b := 120) (by omega) (by decide)).mp z)
      rw [if_neg hle, if_neg hle]
      exact fin3 rfl rfl hR0
  · rw [b1_f h, if_pos z00, if_pos z00]
    exact fin3 rfl rfl hR0
theorem irm3 {n : Nat} (h : n < 1073741824) : irm (nI n) 3 = nI (n % 3) := pk_rem (d := 3) (by omega) (by decide) (by decide)
theorem div3 {n : Nat} (h : n < 1073741824) : nI n / 3 = nI (n / 3) := pk_div (d := 3) (by omega) (by decide) (by decide)
theorem sh_k {k : Nat} (hk : k < 32) : ((nI k &&& 31).toBitVec.smod 32).toNat = k := co_dec (P := fun k => ((nI k &&& 31).toBitVec.smod 32).toNat = k) (N := 32) (by decide) hk
/-- a bit of a small number, as the code asks it -/
theorem bit_v {R k : Nat} (hR : R < 1073741824) (hk : k < 32) : (nI R >>> (nI k &&& 31)) &&& 1 = if R.testBit k then 1 else 0 := by
  rw [pk_shrN (by omega) (nI k &&& 31) k (sh_k hk)]
  have hd : R / 2 ^ k < 2 ^ 32 := Nat.lt_of_le_of_lt (Nat.div_le_self _ _) (by omega)
  rw [pk_andN hd (m := 1) 1 (by decide)]
  have hb : R.testBit k = decide (R / 2 ^ k % 2 = 1) := by rw [Nat.testBit_eq_decide_div_mod_eq]
  rw [hb]
  have h2 : R / 2 ^ k % 2 ^ 1 = 0 ∨ R / 2 ^ k % 2 ^ 1 = 1 := by omega
  rcases h2 with h | h
  · have h' : R / 2 ^ k % 2 = 0 := h
    rw [h]; rfl
  · have h' : R / 2 ^ k % 2 = 1 := h
    rw [h]; rfl
theorem rack_loop {w : Wd} {R b : Nat} (hb : b < 8) (hR : R < 256) (xr : w.2.1 90 41 = nI R) : ∀ (k W f : Nat), k < 8 → k < f → W < 6561 → fx (fun _ _ => none) (bX_rack_L29 w (nI b)) f (nI W) (nI k) = some (nI (strike R b k W % 3)) := by
  intro k
  induction k with
  | zero =>
    intro W f hk hf hW
    obtain ⟨g, rfl⟩ : ∃ g, f = g + 1 := ⟨f - 1, by omega⟩
    rw [fx_s]
    generalize fx _ _ g = s1
    unfold bX_rack_L29
    rw [if_pos ((nIle (by omega) (by omega)).mpr (by omega)), irm3 (by omega)]
    rfl
  | succ k ih =>
    intro W f hk hf hW
    obtain ⟨g, rfl⟩ : ∃ g, f = g + 1 := ⟨f - 1, by omega⟩
    have ihx := fun W => ih W g
    rw [fx_s]
    generalize fx _ _ g = s1 at ihx ⊢
    unfold bX_rack_L29
    by_cases h : k + 1 ≤ b
    · rw [if_pos ((nIle (by omega) (by omega)).mpr h), irm3 (by omega)]
      unfold strike
      rw [if_neg (show ¬ b < k + 1 by omega)]
    · rw [if_neg (fun z => h ((nIle (by omega) (by omega)).mp z)), xr, bit_v (by omega) (by omega)]
      unfold strike
      rw [if_pos (show b < k + 1 by omega)]
      simp only [nm_d, pk_m1]
      by_cases ht : R.testBit (k + 1) = true
      · rw [if_pos ht, if_pos (show (1 : Int32) = 1 from rfl), if_pos ht, div3 (by omega)]
        exact ihx (W / 3) (by omega) (by omega) (by omega)
      · rw [if_neg ht, if_neg (show ¬ (0 : Int32) = 1 by decide), if_neg ht]
        exact ihx W (by omega) (by omega) hW
theorem op_rack : Op_rack Rel := by
  intro w v a1 hR
  have hR0 := hR
  obtain ⟨nO, nB, nC, nU, nT, nL, nH, nP, d, hC, hO, hB, hS, hRc, hV, hT, hU, hG, hL, hH, hK⟩ := hR
  have C := hC
  obtain ⟨⟨bO, bB, bC, bU, bT, bL, bH, bP, bD⟩, ⟨k0, k1, k2, k3, k4, k5⟩, ⟨xO, xB, xD, xC, xU, xP, xT, xL, xH⟩, ⟨yO, yB, yD, yC, yU, yP, yT, yL, yH⟩, hnr, hn0, hn9⟩ := C
  unfold sX_rack sM_rack
  rw [sX_isBoat_v a1 xB (by omega), sM_isBoat_v a1 yB (by omega), bd_s, bd_s]
  by_cases h1 : 0 ≤ a1.toInt ∧ a1.toInt < nB
  · rw [b1_t h1, if_neg n10, if_neg n10]
    obtain ⟨b, hb, rfl⟩ := ix_of h1
    obtain ⟨R, W, hR2, hW, xr, xw, hv⟩ := hK
    have hR256 : R < 256 := Nat.lt_of_lt_of_le hR2 (Nat.pow_le_pow_right (by decide) bB)
    rw [inb_nI (show b < 8 by omega) (by decide), clN (by omega), rd_t, hv b (by omega), xr, bit_v (by omega) (by omega)]
    by_cases ht : R.testBit b = true
    · rw [if_pos ht, if_neg n10, if_pos ht, nm_d, nm_d, xw, eX_rack_L29, show (7 : Int32) = nI 7 from rfl, rack_loop (by omega) hR256 xr 7 W FU (by decide) (by rw [FU_v]; omega) hW]
      exact fin1 rfl rfl
    · rw [if_neg ht, if_pos z00, if_neg ht]
      exact fin1 rfl rfl
  · rw [b1_f h1, if_pos z00, if_pos z00]
    exact fin1 rfl rfl
