set_option maxRecDepth 100000
/-- the choice: each to a seat of its own, only who may come -/
def ChOk (cm : Nat → Int32) (N n : Nat) (ch : Nat → Int32) : Prop := (∀ p, p < n → ch p = -1 ∨ ∃ s, s < N ∧ ch p = nI s ∧ ¬ cm p = 0) ∧ ∀ p q, p < n → q < n → p ≠ q → ch p = -1 ∨ ¬ ch p = ch q
theorem choose_v {w0 v0 : Wd} {b nO N : Nat} {cm : Nat → Int32} {ct : Nat → Nat → Nat} {hour : Int32} (hN : N ≤ 8) (h1N : 1 ≤ N) (bO : nO ≤ 16) (xO : w0.2.1 90 2 = nI nO) (yO : v0.2.1 90 10 = nI nO) (hb : b < w0.1 0) (hseatX : ∀ w, Ag [14, 16] [] w0 w → sB_seats w b = some (nI N)) (hcmX : ∀ w, Ag [14, 16] [] w0 w → ∀ p, p < nO → sX_mayCome w b (nI p) = some (cm p)) (hc8 : ∀ p s, ct p s ≤ 8) (hcX : ∀ w, Ag [14, 16] [] w0 w → ∀ p, p < nO → ¬ cm p = 0 → ∀ s, s < N → sX_costOf w b (nI s) (nI p) = some (nI (ct p s))) (hseatM : ∀ v, Ag [24, 25] [] v0 v → sM_seatsOf v (nI b) = some (nI N)) (hcmM : ∀ v, Ag [24, 25] [] v0 v → ∀ p, p < nO → sM_canSit v (nI p) (nI b) hour = some (cm p)) (hcM : ∀ v, Ag [24, 25] [] v0 v → ∀ p, p < nO → ¬ cm p = 0 → ∀ s, s < N → sM_costOf v (nI p) (nI b) (nI s) = some (nI (ct p s))) : ∀ (m p x f f' : Nat) (w v : Wd) (ch : Nat → Int32), p + m = nO → m < f → m < f' → x < 2 ^ N → Ag [14, 16] [] w0 w → Ag [24, 25] [] v0 v → (∀ q, q ≤ nO → ∀ y, y < 2 ^ N → w.2.1 14 (q * 256 + y) = nI (tab cm ct nO N 1048576 (nO - q) y)) → (∀ q, q ≤ nO → ∀ y, y < 2 ^ N → v.2.1 24 (q * 256 + y) = nI (tab cm ct nO N 1000000 (nO - q) y)) → (∀ q, q < p → w.2.1 16 q = ch q ∧ v.2.1 25 q = ch q) → ChOk cm N p ch → (∀ q, q < p → ∀ s, s < 8 → ch q = nI s → x.testBit s = true) → ∃ ch' w' v', (∀ J, fx (fun _ _ _ => none) (bX_crew_L90 b J) f (nI x) (nI p) w = J w') ∧ (∀ J, fx (fun _ _ _ => none) (bM_crew_L72 (nI b) hour J) f' (nI x) (nI p) v = J v') ∧ Ag [14, 16] [] w0 w' ∧ Ag [24, 25] [] v0 v' ∧ (∀ q, q < nO → w'.2.1 16 q = ch' q ∧ v'.2.1 25 q = ch' q) ∧ ChOk cm N nO ch' := by
  have h2 := p2N hN
  intro m
  induction m with
  | zero =>
    intro p x f f' w v ch hp hf hf' hx hA hB hT hU hch hok hbit
    obtain ⟨g, rfl⟩ : ∃ g, f = g + 1 := ⟨f - 1, by omega⟩
    obtain ⟨g', rfl⟩ : ∃ g, f' = g + 1 := ⟨f' - 1, by omega⟩
    obtain rfl : p = nO := by omega
    refine ⟨ch, w, v, fun J => ?_, fun J => ?_, hA, hB, hch, hok⟩
    · rw [fx_s]
      unfold bX_crew_L90
      rw [hA.2.2 2 (by simp), xO, if_pos (Int32.le_refl _)]
    · rw [fx_s]
      unfold bM_crew_L72
      rw [hB.2.2 10 (by simp), yO, if_pos (Int32.le_refl _)]
  | succ m ih =>
    intro p x f f' w v ch hp hf hf' hx hA hB hT hU hch hok hbit
    obtain ⟨g, rfl⟩ : ∃ g, f = g + 1 := ⟨f - 1, by omega⟩
    obtain ⟨g', rfl⟩ : ∃ g, f' = g + 1 := ⟨f' - 1, by omega⟩
    have hpn : p < nO := by omega
    generalize hse : sel cm ct nO N p x = se
    have hse2 : se = -1 ∨ ∃ s, s < N ∧ se = nI s ∧ ¬ cm p = 0 ∧ x.testBit s = false := by
      rw [← hse]
      unfold sel
      by_cases hc0 : cm p = 0
      · rw [if_pos hc0]; exact Or.inl rfl
      · rw [if_neg hc0]
        rcases fu_r (mtb cm ct nO N 1048576 p x) N 0 with e | ⟨t, ht, e, e2⟩
        · exact Or.inl e
        · refine Or.inr ⟨t, by omega, e, hc0, ?_⟩
          unfold mtb at e2
          rw [Bool.and_eq_true] at e2
          simpa using e2.1
    have e0 : nI p * 256 + nI x = nI (p * 256 + x) := by rw [show (256 : Int32) = nI 256 from rfl, pk_mul, nI_add]
    have stX : ∀ (J : Wd → Option (Int32 × Wd)) s1, bX_crew_L90 b J s1 (nI x) (nI p) w = if se = -1 then s1 (nI x) (nI (p + 1)) (stG w 16 p se) else s1 (nI x ||| ((1 : Int32) <<< (se &&& 31))) (nI (p + 1)) (stG w 16 p se) := by
      intro J s1
      unfold bX_crew_L90
      rw [hA.2.2 2 (by simp), xO, if_neg (fun z => absurd ((nIle (by omega) (by omega)).mp z) (by omega)), e0, hA.1, decide_eq_true hb, hseatX w hA]
      simp only [nm_d, jn_d, gd_t, bd_s]
      rw [selX hN h1N bO hpn hx (hcmX w hA p hpn) hc8 (fun h => hcX w hA p hpn h) hT, hse, inb_nI (show p < 16 by omega) (by decide), clN (show p < 1073741824 by omega), rd_t, nI_1]
    have aM : ∀ z, Ag [24, 25] [] v0 (stG v 25 p z) := fun z => hB.trans (Ag.st (by decide) (by decide))
    have stM : ∀ (J : Wd → Option (Int32 × Wd)) s1, bM_crew_L72 (nI b) hour J s1 (nI x) (nI p) v = if se < 0 then s1 (nI x) (nI (p + 1)) (stG v 25 p se) else s1 (nI x ||| ((1 : Int32) <<< (se &&& 31))) (nI (p + 1)) (stG v 25 p se) := by
      intro J s1
      unfold bM_crew_L72
      rw [hB.2.2 10 (by simp), yO, if_neg (fun z => absurd ((nIle (by omega) (by omega)).mp z) (by omega)), inb_nI (show p < 16 by omega) (by decide), clN (show p < 1073741824 by omega)]
      simp only [nm_d, jn_d, rd_t, nI_1]
      rw [selM hN h1N bO hpn hx (fun z => hseatM _ (aM z)) (fun z => hcmM _ (aM z) p hpn) hc8 (fun z h => hcM _ (aM z) p hpn h) hU, hse, stG_eq, pk_us]
    have aX : Ag [14, 16] [] w0 (stG w 16 p se) := hA.trans (Ag.st (by decide) (by decide))
    let ch2 : Nat → Int32 := fun q => if q = p then se else ch q
    have ch2p : ch2 p = se := if_pos rfl
    have ch2q : ∀ q, q ≠ p → ch2 q = ch q := fun q h => if_neg h
    have hch2 : ∀ q, q < p + 1 → (stG w 16 p se).2.1 16 q = ch2 q ∧ (stG v 25 p se).2.1 25 q = ch2 q := by
      intro q hq
      rw [stG_eq, stG_eq]
      by_cases h : q = p
      · rw [h, pk_us, pk_us, ch2p]; exact ⟨rfl, rfl⟩
      · rw [pk_un h, pk_un h, ch2q q h]; exact hch q (by omega)
    have hok2 : ChOk cm N (p + 1) ch2 := by
      have hsp : ∀ q, q < p → ch q = -1 ∨ ¬ ch q = se := by
        intro q hq
        rcases hok.1 q hq with e | ⟨s, hs, e, -⟩
        · exact Or.inl e
        · refine Or.inr (fun z => ?_)
          rcases hse2 with h | ⟨t, ht, h, -, hb0⟩
          · rw [e, h] at z; exact nI_nm1 (by omega) z
          · rw [e, h] at z
            have := (nIeq (by omega) (by omega)).mp z
            subst this
            have := hbit q hq s (by omega) e
            rw [hb0] at this
            exact absurd this (by decide)
      constructor
      · intro q hq
        by_cases h : q = p
        · rw [h, ch2p]
          rcases hse2 with h | ⟨t, ht, h, h3, -⟩
          · exact Or.inl h
          · exact Or.inr ⟨t, ht, h, h3⟩
        · rw [ch2q q h]; exact hok.1 q (by omega)
      · intro q q' hq hq' hne
        by_cases h : q = p
        · have h' : q' ≠ p := fun z => hne (h.trans z.symm)
          rw [h, ch2p, ch2q q' h']
          rcases hsp q' (by omega) with e | e
          · by_cases hs1 : se = -1
            · exact Or.inl hs1
            · exact Or.inr (fun z => hs1 (z.trans e))
          · exact Or.inr (fun z => e z.symm)
        · rw [ch2q q h]
          by_cases h' : q' = p
          · rw [h', ch2p]; exact hsp q (by omega)
          · rw [ch2q q' h']; exact hok.2 q q' (by omega) (by omega) hne
    have hT2 : ∀ q, q ≤ nO → ∀ y, y < 2 ^ N → (stG w 16 p se).2.1 14 (q * 256 + y) = nI (tab cm ct nO N 1048576 (nO - q) y) := by
      intro q h1 y h3
      rw [stG_ne (by decide)]; exact hT q h1 y h3
    have hU2 : ∀ q, q ≤ nO → ∀ y, y < 2 ^ N → (stG v 25 p se).2.1 24 (q * 256 + y) = nI (tab cm ct nO N 1000000 (nO - q) y) := by
      intro q h1 y h3
      rw [stG_ne (by decide)]; exact hU q h1 y h3
    rcases hse2 with h | ⟨s, hs, h, h3, hb0⟩
    · obtain ⟨ch', w', v', r1, r2, r3⟩ := ih (p + 1) x g g' (stG w 16 p se) (stG v 25 p se) ch2 (by omega) (by omega) (by omega) hx aX (aM se) hT2 hU2 hch2 hok2 (fun q hq s hs e => by
        by_cases hqp : q = p
        · rw [hqp, ch2p, h] at e; exact absurd e.symm (nI_nm1 (by omega))
        · rw [ch2q q hqp] at e; exact hbit q (by omega) s hs e)
      refine ⟨ch', w', v', fun J => ?_, fun J => ?_, r3⟩
      · rw [fx_s, stX, if_pos h]; exact r1 J
      · rw [fx_s, stM, if_pos (by rw [h]; decide)]; exact r2 J
    · have hadd := addb hN hx hs hb0
      obtain ⟨ch', w', v', r1, r2, r3⟩ := ih (p + 1) (x + 2 ^ s) g g' (stG w 16 p se) (stG v 25 p se) ch2 (by omega) (by omega) (by omega) hadd aX (aM se) hT2 hU2 hch2 hok2 (fun q hq t ht e => by
        rw [bitadd (by omega) (by omega) ht hb0]
        by_cases hqp : q = p
        · rw [hqp, ch2p, h] at e
          have := (nIeq (by omega) (by omega)).mp e
          subst this
          simp
        · rw [ch2q q hqp] at e
          rw [hbit q (by omega) t ht e]; simp)
      refine ⟨ch', w', v', fun J => ?_, fun J => ?_, r3⟩
      · rw [fx_s, stX, if_neg (by rw [h]; exact nI_nm1 (by omega)), h, orb (by omega) (by omega) hb0]
        have := r1 J
        rw [h] at this
        exact this
      · rw [fx_s, stM, if_neg (by rw [h]; exact nI_pos (by omega)), h, orb (by omega) (by omega) hb0]
        have := r2 J
        rw [h] at this
        exact this
