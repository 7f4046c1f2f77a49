set_option maxRecDepth 100000
/-- the bits of those who sit in the seats below s -/
def inS (w : Wd) (b s i : Nat) : Prop := ∃ s', s' < s ∧ w.2.1 (101 + 10 * b) s' = nI i
theorem outX {w0 v : Wd} {nO nB nT b : Nat} (hS : Seats nO nB w0 v) (k0 : w0.1 0 = nB) (k3 : w0.1 3 = nB) (bB : nB ≤ 8) (bO : nO ≤ 16) (hb : b < nB) (hT : nT < 30) (xT : w0.2.1 90 32 = nI nT) : ∀ (m s fuel : Nat) (y : Int32), s + m = 9 → m < fuel → (∀ i, i < 32 → (y.toBitVec.getLsbD i = true ↔ inS w0 b s i)) → ∃ y' : Int32, (∀ J, fx (fun _ _ => none) (bX_out_L94 (nI b) J) fuel (nI s) (stG w0 28 nT y) = J (stG w0 28 nT y')) ∧ ∀ i, i < 32 → (y'.toBitVec.getLsbD i = true ↔ inS w0 b 9 i) := by
  intro m
  induction m with
  | zero =>
    intro s fuel y hs hf hy
    obtain ⟨g, rfl⟩ : ∃ g, fuel = g + 1 := ⟨fuel - 1, by omega⟩
    obtain rfl : s = 9 := by omega
    refine ⟨y, fun J => ?_, hy⟩
    rw [fx_s]
    unfold bX_out_L94
    rw [if_pos (show (8 : Int32) < nI 9 by decide)]
  | succ m ih =>
    intro s fuel y hs hf hy
    obtain ⟨g, rfl⟩ : ∃ g, fuel = g + 1 := ⟨fuel - 1, by omega⟩
    have c101 : ∀ y, (stG w0 28 nT y).2.1 (101 + 10 * b) = w0.2.1 (101 + 10 * b) := fun y => stG_ne (by omega)
    have c90 : ∀ y, (stG w0 28 nT y).2.1 90 32 = nI nT := fun y => by rw [stG_ne (by decide)]; exact xT
    have c1 : ∀ y, (stG w0 28 nT y).1 = w0.1 := fun y => rfl
    have st : ∀ (J : Wd → Option (Int32 × Wd)) (s1 : Int32 → Wd → Option (Int32 × Wd)), bX_out_L94 (nI b) J s1 (nI s) (stG w0 28 nT y) = if w0.2.1 (101 + 10 * b) s = -1 then s1 (nI (s + 1)) (stG w0 28 nT y) else s1 (nI (s + 1)) (stG w0 28 nT (y ||| ((1 : Int32) <<< (w0.2.1 (101 + 10 * b) s &&& 31)))) := by
      intro J s1
      unfold bX_out_L94
      rw [if_neg (show ¬ (8 : Int32) < nI s from fun z => absurd ((nIlt (a := 8) (by decide) (by omega)).mp z) (by omega)), c1, k3, k0, inb_nI (show b < 8 by omega) (by decide), clN (show b < 1073741824 by omega), inb_nI (show s < 9 by omega) (by decide), clN (show s < 1073741824 by omega), c90, inb_nI (show nT < 30 by omega) (by decide), clN (show nT < 1073741824 by omega), decide_eq_true hb]
      simp only [Bool.and_self, rd_t, nm_d, nI_1]
      rw [decide_eq_true hb]
      simp only [Bool.and_self, rd_t, gd_t, nm_d, nI_1, Bool.true_and]
      rw [c101, stG_eq, pk_us, stG_stG]
    have hin : ∀ i, inS w0 b (s + 1) i ↔ inS w0 b s i ∨ w0.2.1 (101 + 10 * b) s = nI i := by
      intro i
      refine ⟨fun ⟨s', h1, h2⟩ => ?_, fun h => ?_⟩
      · rcases Nat.lt_or_ge s' s with h | h
        · exact Or.inl ⟨s', h, h2⟩
        · obtain rfl : s' = s := by omega
          exact Or.inr h2
      · rcases h with ⟨s', h1, h2⟩ | h
        · exact ⟨s', by omega, h2⟩
        · exact ⟨s, by omega, h⟩
    rcases hS.1 b hb s (by omega) with e | ⟨p, hp, e, -, -⟩
    · obtain ⟨y', h1, h2⟩ := ih (s + 1) g y (by omega) (by omega) (fun i hi => by
        rw [hy i hi, hin]
        refine ⟨Or.inl, fun h => ?_⟩
        rcases h with h | h
        · exact h
        · rw [e] at h; exact absurd h.symm (nI_nm1 (by omega)))
      refine ⟨y', fun J => ?_, h2⟩
      rw [fx_s, st, e, if_pos rfl]
      exact h1 J
    · obtain ⟨y', h1, h2⟩ := ih (s + 1) g (y ||| ((1 : Int32) <<< (nI p &&& 31))) (by omega) (by omega) (fun i hi => by
        rw [Int32.toBitVec_or, BitVec.getLsbD_or, bit1 (by omega) hi, hin, Bool.or_eq_true, hy i hi, e, decide_eq_true_eq, nIeq (by omega) (by omega)]
        exact ⟨fun h => h.imp id Eq.symm, fun h => h.imp id Eq.symm⟩)
      refine ⟨y', fun J => ?_, h2⟩
      rw [fx_s, st, e, if_neg (nI_nm1 (by omega))]
      exact h1 J
theorem op_out : Op_out Rel := by
  intro w v a1 a2 hR
  have hR0 := hR
  obtain ⟨nO, nB, nC, nU, nT, nL, nH, nP, d, hC, hO, hB, hS, hRc, hV, hT, hU, hG, hL, hH, hK⟩ := hR
  have C := hC
  obtain ⟨⟨bO, bB, bC, bU, bT, bL, bH, bP, bD⟩, ⟨k0, k1, k2, k3, k4, k5⟩, ⟨xO, xB, xD, xC, xU, xP, xT, xL, xH⟩, ⟨yO, yB, yD, yC, yU, yP, yT, yL, yH⟩, hnr, hn0, hn9⟩ := C
  have E : Env nO nB nU d w v := ⟨hO, hB, hS, hV, hU, k0, k1, k2, k3, k4, k5, bO, bB, bU, bD, xD, yD, xU, yU, yO⟩
  unfold sX_out sM_out
  rw [sX_isBoat_v a1 xB (by omega), sM_isBoat_v a1 yB (by omega), sX_in_v, sM_isIn_v]
  simp only [bd_s]
  by_cases h1 : 0 ≤ a1.toInt ∧ a1.toInt < nB
  rotate_left
  · rw [b1_f h1, if_pos z00, if_pos z00]
    exact fin3 rfl rfl hR0
  rw [b1_t h1, if_neg n10, if_neg n10]
  by_cases h2 : (0 : Int64).toInt ≤ a2.toInt ∧ a2.toInt ≤ (23 : Int64).toInt
  rotate_left
  · rw [b1_f h2, if_pos z00, if_pos z00]
    exact fin3 rfl rfl hR0
  rw [b1_t h2, if_neg n10, if_neg n10]
  obtain ⟨b, hb, rfl⟩ := ix_of h1
  obtain ⟨r, e1, e2, hr0⟩ := mayGo_v E hb a2
  rw [e1, e2, bd_s, bd_s]
  by_cases hr : r = 0
  rotate_left
  · rw [if_neg hr, if_neg (fun z => hr (hr0.mp z))]
    exact fin3 rfl rfl hR0
  rw [if_pos hr, if_pos (hr0.mpr hr), xT, yT]
  by_cases h30 : nT = 30
  · rw [h30, if_pos (show nI 30 = (30 : Int32) from rfl), if_pos (show nI 30 = (30 : Int32) from rfl)]
    exact fin3 rfl rfl hR0
  have h30' : ¬ nI nT = (30 : Int32) := fun z => h30 ((nIeq (b := 30) (by omega) (by decide)).mp z)
  have hT3 : nT < 30 := by omega
  rw [if_neg h30', if_neg h30', inb_nI hT3 (by decide), clN (show nT < 1073741824 by omega)]
  simp only [rd_t, nm_d, jn_d]
  simp only [f90 (show (25 : Nat) ≠ 90 by decide), f90 (show (26 : Nat) ≠ 90 by decide), f90 (show (27 : Nat) ≠ 90 by decide), f90 (show (37 : Nat) ≠ 90 by decide), f90 (show (38 : Nat) ≠ 90 by decide), f90 (show (39 : Nat) ≠ 90 by decide), f90 (show (40 : Nat) ≠ 90 by decide), xT, yT, xD, yD, inb_nI hT3 (show 30 < 1073741824 by decide), clN (show nT < 1073741824 by omega), rd_t]
  generalize hw1 : stG (stG (stG w 25 nT (nI b)) 26 nT (nI d)) 27 nT a2 = w1
  generalize hv1 : stG (stG (stG v 37 nT (nI b)) 38 nT (nI d)) 39 nT a2 = v1
  have aw : Ag [25, 26, 27] [] w w1 := by rw [← hw1]; exact ((Ag.st (by decide) (by decide)).trans (Ag.st (by decide) (by decide))).trans (Ag.st (by decide) (by decide))
  have av : Ag [37, 38, 39] [] v v1 := by rw [← hv1]; exact ((Ag.st (by decide) (by decide)).trans (Ag.st (by decide) (by decide))).trans (Ag.st (by decide) (by decide))
  have hS1 : Seats nO nB w1 v1 := hS.a aw av (by decide) (by decide)
  have xT1 : w1.2.1 90 32 = nI nT := (aw.2.2 32 (by simp)).trans xT
  have yT1 : v1.2.1 90 44 = nI nT := (av.2.2 44 (by simp)).trans yT
  obtain ⟨m, em, hm⟩ := whoIn_v (v := v1) bO ((av.2.2 10 (by simp)).trans yO) (nI b)
  obtain ⟨y, ey, hy⟩ := outX hS1 (by rw [aw.1]; exact k0) (by rw [aw.1]; exact k3) bB bO hb hT3 xT1 9 0 FU 0 (by omega) (by rw [FU_v]; omega) (fun i hi => by
    have : (0 : Int32).toBitVec = 0#32 := rfl
    rw [this, BitVec.getLsbD_zero]
    exact ⟨fun z => absurd z (by decide), fun ⟨s', h, _⟩ => by omega⟩)
  have hmy : m = y := by
    apply Int32.toBitVec_inj.mp
    apply BitVec.eq_of_getLsbD_eq
    intro i hi
    rw [hm i hi, Bool.eq_iff_iff, decide_eq_true_eq, hy i hi]
    constructor
    · rintro ⟨q1, q2⟩
      rcases hS1.2 i q1 with z | ⟨b', s, k, hb', hs, -, -, -, p1, p2, p3⟩
      · rw [q2] at z; exact absurd z (nI_nm1 (by omega))
      · rw [q2] at p1
        have := (nIeq (by omega) (by omega)).mp p1
        subst this
        exact ⟨s, hs, p3⟩
    · rintro ⟨s, hs, p3⟩
      rcases hS1.1 b hb s hs with z | ⟨o, ho, p4, p5, p6⟩
      · rw [z] at p3; exact absurd p3.symm (nI_nm1 (by omega))
      · rw [p4] at p3
        have := (nIeq (by omega) (by omega)).mp p3
        subst this
        exact ⟨ho, p5⟩
  subst hmy
  have ey' : ∀ J, sX_out_L94 (nI b) J 0 (stG w1 28 nT 0) = J (stG w1 28 nT m) := fun J => by rw [eX_out_L94]; exact ey J
  rw [ey', em, bd_s]
  simp only [f90 (show (28 : Nat) ≠ 90 by decide), f90 (show (40 : Nat) ≠ 90 by decide), xT1, yT1, nI_1, f90s]
  generalize hw2 : stG (stG w1 28 nT m) 90 32 (nI (nT + 1)) = w2
  generalize hv2 : stG (stG v1 40 nT m) 90 44 (nI (nT + 1)) = v2
  have hw : Ag [25, 26, 27, 28] [32] w w2 := by
    rw [← hw2]
    exact ((aw.mono (by simp) (by simp)).trans (Ag.st (by decide) (by decide))).trans (Ag.sf (by decide))
  have hv : Ag [37, 38, 39, 40] [44] v v2 := by
    rw [← hv2]
    exact ((av.mono (by simp) (by simp)).trans (Ag.st (by decide) (by decide))).trans (Ag.sf (by decide))
  have x32 : w2.2.1 90 32 = nI (nT + 1) := by rw [← hw2, f90s]
  have y44 : v2.2.1 90 44 = nI (nT + 1) := by rw [← hv2, f90s]
  have c25 : w2.2.1 25 = upd (w.2.1 25) nT (nI b) := by rw [← hw2, stG_ne (by decide), stG_ne (by decide), ← hw1, stG_ne (by decide), stG_ne (by decide), stG_eq]
  have c26 : w2.2.1 26 = upd (w.2.1 26) nT (nI d) := by rw [← hw2, stG_ne (by decide), stG_ne (by decide), ← hw1, stG_ne (by decide), stG_eq, stG_ne (by decide)]
  have c27 : w2.2.1 27 = upd (w.2.1 27) nT a2 := by rw [← hw2, stG_ne (by decide), stG_ne (by decide), ← hw1, stG_eq, stG_ne (by decide), stG_ne (by decide)]
  have c28 : w2.2.1 28 = upd (w.2.1 28) nT m := by rw [← hw2, stG_ne (by decide), stG_eq, aw.2.1 28 (by decide) (by decide)]
  have e37 : v2.2.1 37 = upd (v.2.1 37) nT (nI b) := by rw [← hv2, stG_ne (by decide), stG_ne (by decide), ← hv1, stG_ne (by decide), stG_ne (by decide), stG_eq]
  have e38 : v2.2.1 38 = upd (v.2.1 38) nT (nI d) := by rw [← hv2, stG_ne (by decide), stG_ne (by decide), ← hv1, stG_ne (by decide), stG_eq, stG_ne (by decide)]
  have e39 : v2.2.1 39 = upd (v.2.1 39) nT a2 := by rw [← hv2, stG_ne (by decide), stG_ne (by decide), ← hv1, stG_eq, stG_ne (by decide), stG_ne (by decide)]
  have e40 : v2.2.1 40 = upd (v.2.1 40) nT m := by rw [← hv2, stG_ne (by decide), stG_eq, av.2.1 40 (by decide) (by decide)]
  refine fin3 rfl rfl ?_
  have hL2 : Looks nB nT nL w2 v2 := hL.a hw hv (by decide) (by decide)
  refine ⟨nO, nB, nC, nU, (nT + 1), nL, nH, nP, d, hC.u_nT hw.1 (fun j hj => hw.2.2 j (by simpa using hj)) (fun j hj => hv.2.2 j (by simpa using hj)) (by omega) x32 y44, hO.a hw hv (by decide) (by decide), hB.a hw hv (by decide) (by decide), hS.a hw hv (by decide) (by decide), hRc.a hw hv (by decide) (by decide), hV.a hw hv (by decide) (by decide), hT.a hw hv (by decide) (by decide), hU.a hw hv (by decide) (by decide), ?_, ?_, hH.a hw hv (by decide) (by decide), hK.a hw hv (by decide) (by decide)⟩
  · intro i hi
    rw [c25, c26, c27, c28, e37, e38, e39, e40]
    by_cases h : i = nT
    · subst h
      rw [pk_us, pk_us, pk_us, pk_us, pk_us, pk_us]
      exact ⟨⟨b, hb, rfl, rfl⟩, rfl, rfl, by rw [pk_us, pk_us]⟩
    · simp only [pk_un h]
      exact hG i (by omega)
  · intro i hi
    obtain ⟨b', t', q1, q2, q3⟩ := hL2 i hi
    exact ⟨b', t', q1, by omega, q3⟩
