set_option maxRecDepth 100000
/-- what a word of the model is -/
def MW (T : Nat → Int32) (a b i : Nat) (r : Int32) (m : Nat) : Prop := (∃ x, a ≤ x ∧ x ≤ b ∧ mlen T (mlt x) i = (mlt x).length ∧ m = (mlt x).length ∧ r = nI x) ∨ (r = -1 ∧ (∀ x, a ≤ x → x ≤ b → mlen T (mlt x) i ≤ m) ∧ (∃ x, a ≤ x ∧ x ≤ b ∧ mlen T (mlt x) i = m) ∧ ∀ x, a ≤ x → x ≤ b → ¬ mlen T (mlt x) i = (mlt x).length)
theorem TM.ag {T : Nat → Int32} {nP : Nat} {v v' : Wd} (h : TM T nP v) (hv : Ag [] [36] v v') : TM T nP v' := ⟨(hv.2.2 29 (by decide)).trans h.1, fun j hj => by rw [hv.2.1 28 (by decide) (by decide)]; exact h.2 j hj⟩
theorem wordM {T : Nat → Int32} {nP i a b : Nat} {v : Wd} (bP : nP ≤ 120) (hT : ∀ q, nP ≤ q → T q = -1) (hM : TM T nP v) (hb : b < 16) (hab : a ≤ b) (hi : i < 800) (e : v.2.1 90 36 = nI i) : ∃ (r : Int32) (m : Nat) (v' : Wd), sM_word v (nI a) (nI b) = some (r, v') ∧ Ag [] [36] v v' ∧ v'.2.1 90 36 = nI (i + m) ∧ m ≤ 6 ∧ (∀ t, t < m → i + t < nP) ∧ MW T a b i r m := by
  have key : ∀ (n j fuel : Nat) (u : Wd), j + n = 7 → n < fuel → j ≤ 6 → Ag [] [36] v u → u.2.1 90 36 = nI (i + j) → (∀ t, t < j → i + t < nP) → (∀ x, a ≤ x → x ≤ b → mlen T (mlt x) i = (mlt x).length → j ≤ (mlt x).length) → (∃ x, a ≤ x ∧ x ≤ b ∧ j ≤ mlen T (mlt x) i) → ∃ (r : Int32) (m : Nat) (v' : Wd), fx (fun _ => none) (bM_word_L5 (nI a) (nI b) (nI i)) fuel u = some (r, v') ∧ Ag [] [36] v v' ∧ v'.2.1 90 36 = nI (i + m) ∧ m ≤ 6 ∧ (∀ t, t < m → i + t < nP) ∧ MW T a b i r m := by
    intro n
    induction n with
    | zero => intro j fuel u hj hf h6; omega
    | succ n ih =>
      intro j fuel u hj hf h6 hA eu hij hfull hex
      obtain ⟨g, rfl⟩ : ∃ g, fuel = g + 1 := ⟨fuel - 1, by omega⟩
      obtain ⟨c, d, hJ, hc16, hc0, hd⟩ := wordIn bP hT (hM.ag hA) hb hab h6 hij (by omega) eu hfull
      have ihx := ih (j + 1) g (stG u 90 36 (nI (i + (j + 1)))) (by omega) (by omega)
      rw [fx_s]
      generalize fx _ _ g = s1 at ihx ⊢
      unfold bM_word_L5
      simp only [nm_d, jn_d]
      rw [hJ]
      rcases hd with ⟨rfl, hd⟩ | ⟨x, x1, x2, x3, x4, rfl⟩
      · rw [if_pos (show (-1 : Int32) < 0 by decide)]
        by_cases h0 : c = 0
        · rw [h0, if_pos (show nI 0 = (0 : Int32) from rfl)]
          have hall := hc0.mp h0
          refine ⟨-1, j, u, rfl, hA, eu, h6, hij, Or.inr ⟨rfl, hall, ?_, fun x x1 x2 x3 => ?_⟩⟩
          · obtain ⟨x, x1, x2, x3⟩ := hex
            exact ⟨x, x1, x2, by have := hall x x1 x2; omega⟩
          · have h1 := hfull x x1 x2 x3
            have h2 := hall x x1 x2
            exact hd x x1 x2 ⟨by omega, by omega⟩
        · rw [if_neg (nI_ne0 (by omega) (by omega)), eu, nI_1]
          have hex2 : ∃ x, a ≤ x ∧ x ≤ b ∧ j + 1 ≤ mlen T (mlt x) i := Classical.byContradiction (fun hn => h0 (hc0.mpr (fun x x1 x2 => Classical.byContradiction (fun hq => hn ⟨x, x1, x2, by omega⟩))))
          obtain ⟨y, y1, y2, y3⟩ := hex2
          have hyl := mlen_le T (mlt y) i
          have hyl6 := (mlt_len (show y < 16 by omega)).2
          have hyj := ((mlen_iff T (mlt y) i (j + 1)).mp y3).2 j (by omega)
          have hjP : i + j < nP := by
            rcases Nat.lt_or_ge (i + j) nP with z | z
            · exact z
            · rw [hT (i + j) z] at hyj
              exact absurd hyj (mlt_pos (show y < 16 by omega) (show j < 8 by omega)).2
          exact ihx (by omega) (hA.trans (Ag.sf (by decide))) f90s (fun t ht => by
            rcases Nat.lt_or_ge t j with z | z
            · exact hij t z
            · obtain rfl : t = j := by omega
              exact hjP) (fun x x1 x2 x3 => by
            have h1 := hfull x x1 x2 x3
            have h2 := hd x x1 x2
            omega) ⟨y, y1, y2, y3⟩
      · rw [if_neg (show ¬ nI x < 0 from nI_pos (by omega))]
        exact ⟨nI x, j, u, rfl, hA, eu, h6, hij, Or.inl ⟨x, x1, x2, by omega, by omega, rfl⟩⟩
  unfold sM_word
  rw [e, nm_d, eM_word_L5]
  exact key 7 0 FU v (by omega) (by rw [FU_v]; omega) (by omega) Ag.rfl e (fun t ht => by omega) (fun x _ _ _ => by omega) ⟨a, by omega, hab, by omega⟩
def tB (t : Nat) : Nat := if t = 100 then 8 else 0
theorem tab_w {t k : Nat} (ht : t = 100 ∨ t = 101) (hk : k < tLen t) : sbyts.getD (tOff t + k) [] = mlt (tB t + k) ∧ tOff t + k < 12 ∧ tB t + k < 16 ∧ 3 ≤ (mlt (tB t + k)).length ∧ sch (tOff t + k) 0 = (mlt (tB t + k)).getD 0 0 ∧ sch (tOff t + k) 1 = (mlt (tB t + k)).getD 1 0 := by
  have h : ∀ t, t < 2 → ∀ k, k < tLen (100 + t) → sbyts.getD (tOff (100 + t) + k) [] = mlt (tB (100 + t) + k) ∧ tOff (100 + t) + k < 12 ∧ tB (100 + t) + k < 16 ∧ 3 ≤ (mlt (tB (100 + t) + k)).length ∧ sch (tOff (100 + t) + k) 0 = (mlt (tB (100 + t) + k)).getD 0 0 ∧ sch (tOff (100 + t) + k) 1 = (mlt (tB (100 + t) + k)).getD 1 0 := by decide +kernel
  rcases ht with rfl | rfl
  · exact h 0 (by decide) k hk
  · exact h 1 (by decide) k hk
theorem tab_two {t k q : Nat} (ht : t = 100 ∨ t = 101) (hk : k < tLen t) (hq : q < tLen t) (e0 : (mlt (tB t + k)).getD 0 0 = (mlt (tB t + q)).getD 0 0) (e1 : (mlt (tB t + k)).getD 1 0 = (mlt (tB t + q)).getD 1 0) : k = q := by
  have h : ∀ t, t < 2 → ∀ k, k < tLen (100 + t) → ∀ q, q < tLen (100 + t) → (mlt (tB (100 + t) + k)).getD 0 0 = (mlt (tB (100 + t) + q)).getD 0 0 → (mlt (tB (100 + t) + k)).getD 1 0 = (mlt (tB (100 + t) + q)).getD 1 0 → k = q := by decide +kernel
  rcases ht with rfl | rfl
  · exact h 0 (by decide) k hk q hq e0 e1
  · exact h 1 (by decide) k hk q hq e0 e1
theorem jn_arg {α ρ : Type} {K : (α → Option ρ) → Option ρ} {z : α} (h : ∀ J, K J = J z) {J : α → Option ρ} : jn J K = J z := by rw [jn_d]; exact h J
theorem wordX {T : Nat → Int32} {nP i t : Nat} {w : Wd} (bP : nP ≤ 120) (hT : ∀ q, nP ≤ q → T q = -1) (hX : TX T nP w) (ht : t = 100 ∨ t = 101) (hi : i < 700) (e1 : w.2.1 90 23 = nI i) (e2 : w.2.1 90 24 = 0) : ∃ (r : Int32) (w' : Wd), sX_word w t 1 = some (r, w') ∧ Ag [] [23, 24] w w' ∧ ((r = -1 ∧ w'.2.1 90 24 = 1 ∧ w'.2.1 90 23 = nI i ∧ ∀ k, k < tLen t → mlen T (mlt (tB t + k)) i = 0) ∨ ∃ q, q < tLen t ∧ r = nI q ∧ w'.2.1 90 23 = nI (i + mlen T (mlt (tB t + q)) i) ∧ w'.2.1 90 24 = (if mlen T (mlt (tB t + q)) i = (mlt (tB t + q)).length then 0 else 1) ∧ ∀ k, k < tLen t → mlen T (mlt (tB t + k)) i ≤ mlen T (mlt (tB t + q)) i ∧ (mlen T (mlt (tB t + k)) i = (mlt (tB t + k)).length → k = q)) := by
  have htl : tLen t ≤ 7 := by rcases ht with rfl | rfl <;> decide
  have key : ∀ (m k fuel : Nat) (x : Int32), k + m = tLen t → m < fuel → ((x = -1 ∧ ∀ y, y < k → ¬ (mlt (tB t + y)).getD 0 0 = T i) ∨ ∃ q, q < k ∧ x = nI q ∧ (mlt (tB t + q)).getD 0 0 = T i ∧ ((mlt (tB t + q)).getD 1 0 = T (i + 1) ∨ ∀ y, y < k → (mlt (tB t + y)).getD 0 0 = T i → ¬ (mlt (tB t + y)).getD 1 0 = T (i + 1))) → ∃ x', (∀ J, fx (fun _ _ => none) (bX_word_L39 w t 1 (T (i + 1)) J) fuel x (nI k) = J x') ∧ ((x' = -1 ∧ ∀ y, y < tLen t → ¬ (mlt (tB t + y)).getD 0 0 = T i) ∨ ∃ q, q < tLen t ∧ x' = nI q ∧ (mlt (tB t + q)).getD 0 0 = T i ∧ ((mlt (tB t + q)).getD 1 0 = T (i + 1) ∨ ∀ y, y < tLen t → (mlt (tB t + y)).getD 0 0 = T i → ¬ (mlt (tB t + y)).getD 1 0 = T (i + 1))) := by
    intro m
    induction m with
    | zero =>
      intro k fuel x hk hf h
      obtain ⟨g, rfl⟩ : ∃ g, fuel = g + 1 := ⟨fuel - 1, by omega⟩
      obtain rfl : k = tLen t := by omega
      refine ⟨x, fun J => ?_, h⟩
      rw [fx_s]
      unfold bX_word_L39
      rw [decide_eq_true ht, gd_t, nm_d]
      exact if_pos (Int32.le_refl _)
    | succ m ih =>
      intro k fuel x hk hf h
      obtain ⟨g, rfl⟩ : ∃ g, fuel = g + 1 := ⟨fuel - 1, by omega⟩
      have hkt : k < tLen t := by omega
      obtain ⟨t1, t2, t3, t4, t5, t6⟩ := tab_w ht hkt
      have hl : slens.getD (tOff t + k) 0 = (mlt (tB t + k)).length := by rw [← t1]; exact (slen_v (by omega)).1
      have hl6 := (slen_v (show tOff t + k < 17 by omega)).2
      have c0 : sS_charAt (tOff t + k) 0 = some ((mlt (tB t + k)).getD 0 0) := by
        unfold sS_charAt
        rw [decide_eq_true (show tOff t + k < 17 by omega), show inb (0 : Int32) (slens.getD (tOff t + k) 0) = true from inb_nI (show 0 < slens.getD (tOff t + k) 0 by omega) (by omega), show (true && true) = true from rfl, gd_t, show (0 : Int32).toNatClampNeg = 0 from rfl, t5]
      have c1 : sS_charAt (tOff t + k) 1 = some ((mlt (tB t + k)).getD 1 0) := by
        unfold sS_charAt
        rw [decide_eq_true (show tOff t + k < 17 by omega), show inb (1 : Int32) (slens.getD (tOff t + k) 0) = true from inb_nI (show 1 < slens.getD (tOff t + k) 0 by omega) (by omega), show (true && true) = true from rfl, gd_t, show (1 : Int32).toNatClampNeg = 1 from rfl, t6]
      have st : ∀ (J : Int32 → Option (Int32 × Wd)) s1, bX_word_L39 w t 1 (T (i + 1)) J s1 x (nI k) = if (mlt (tB t + k)).getD 0 0 = T i then (if x = -1 then s1 (nI k) (nI (k + 1)) else if (mlt (tB t + k)).getD 1 0 = T (i + 1) then s1 (nI k) (nI (k + 1)) else s1 x (nI (k + 1))) else s1 x (nI (k + 1)) := by
        intro J s1
        unfold bX_word_L39
        rw [decide_eq_true ht, gd_t, nm_d, inb_nI hkt (by omega), clN (show k < 1073741824 by omega), show (true && true) = true from rfl, rd_t, c0, bd_s, now_v bP hT hX (by omega) e1, bd_s]
        simp only [jn_d, nm_d, bd_s, rd_t, nI_1]
        rw [c1]
        simp only [bd_s]
        rw [if_neg (show ¬ Int32.ofNat (tLen t) ≤ nI k from fun z => absurd ((nIle (a := tLen t) (by omega) (by omega)).mp z) (by omega))]
      have nxt : ∀ x2 : Int32, (∀ (J : Int32 → Option (Int32 × Wd)) s1, bX_word_L39 w t 1 (T (i + 1)) J s1 x (nI k) = s1 x2 (nI (k + 1))) → ((x2 = -1 ∧ ∀ y, y < k + 1 → ¬ (mlt (tB t + y)).getD 0 0 = T i) ∨ ∃ q, q < k + 1 ∧ x2 = nI q ∧ (mlt (tB t + q)).getD 0 0 = T i ∧ ((mlt (tB t + q)).getD 1 0 = T (i + 1) ∨ ∀ y, y < k + 1 → (mlt (tB t + y)).getD 0 0 = T i → ¬ (mlt (tB t + y)).getD 1 0 = T (i + 1))) → ∃ x', (∀ J, fx (fun _ _ => none) (bX_word_L39 w t 1 (T (i + 1)) J) (g + 1) x (nI k) = J x') ∧ ((x' = -1 ∧ ∀ y, y < tLen t → ¬ (mlt (tB t + y)).getD 0 0 = T i) ∨ ∃ q, q < tLen t ∧ x' = nI q ∧ (mlt (tB t + q)).getD 0 0 = T i ∧ ((mlt (tB t + q)).getD 1 0 = T (i + 1) ∨ ∀ y, y < tLen t → (mlt (tB t + y)).getD 0 0 = T i → ¬ (mlt (tB t + y)).getD 1 0 = T (i + 1))) := by
        intro x2 hst h2
        obtain ⟨x', r1, r2⟩ := ih (k + 1) g x2 (by omega) (by omega) h2
        refine ⟨x', fun J => ?_, r2⟩
        rw [fx_s, hst]
        exact r1 J
      have up : ∀ {P : Nat → Prop}, (∀ y, y < k → P y) → P k → ∀ y, y < k + 1 → P y := by
        intro P q1 q2 y hy
        rcases Nat.lt_or_ge y k with z | z
        · exact q1 y z
        · obtain rfl : y = k := by omega
          exact q2
      by_cases h0 : (mlt (tB t + k)).getD 0 0 = T i
      · rcases h with ⟨rfl, hn⟩ | ⟨q, hq, rfl, q1, q2⟩
        · refine nxt (nI k) (fun J s1 => by rw [st, if_pos h0, if_pos rfl]) (Or.inr ⟨k, by omega, rfl, h0, ?_⟩)
          by_cases hc : (mlt (tB t + k)).getD 1 0 = T (i + 1)
          · exact Or.inl hc
          · exact Or.inr (up (fun y hy z => absurd z (hn y hy)) (fun _ => hc))
        · by_cases hc : (mlt (tB t + k)).getD 1 0 = T (i + 1)
          · exact nxt (nI k) (fun J s1 => by rw [st, if_pos h0, if_neg (nI_nm1 (by omega)), if_pos hc]) (Or.inr ⟨k, by omega, rfl, h0, Or.inl hc⟩)
          · refine nxt (nI q) (fun J s1 => by rw [st, if_pos h0, if_neg (nI_nm1 (by omega)), if_neg hc]) (Or.inr ⟨q, by omega, rfl, q1, ?_⟩)
            rcases q2 with z | z
            · exact Or.inl z
            · exact Or.inr (up z (fun _ => hc))
      · refine nxt x (fun J s1 => by rw [st, if_neg h0]) ?_
        rcases h with ⟨rfl, hn⟩ | ⟨q, hq, rfl, q1, q2⟩
        · exact Or.inl ⟨rfl, up hn h0⟩
        · refine Or.inr ⟨q, by omega, rfl, q1, ?_⟩
          rcases q2 with z | z
          · exact Or.inl z
          · exact Or.inr (up z (fun y => absurd y h0))
  obtain ⟨x, r1, r2⟩ := key (tLen t) 0 FU (-1) (by omega) (by rw [FU_v]; omega) (Or.inl ⟨rfl, fun y hy => by omega⟩)
  have r1' : ∀ J, sX_word_L39 w t 1 (T (i + 1)) J (-1) 0 = J x := fun J => by rw [eX_word_L39]; exact r1 J
  have hone : ∀ k, k < tLen t → (1 ≤ mlen T (mlt (tB t + k)) i ↔ (mlt (tB t + k)).getD 0 0 = T i) := by
    intro k hk
    obtain ⟨-, -, -, t4, -⟩ := tab_w ht hk
    rw [mlen_iff]
    refine ⟨fun q => q.2 0 (by omega), fun q => ⟨by omega, fun s hs => ?_⟩⟩
    obtain rfl : s = 0 := by omega
    exact q
  have htwo : ∀ k, k < tLen t → 2 ≤ mlen T (mlt (tB t + k)) i → (mlt (tB t + k)).getD 0 0 = T i ∧ (mlt (tB t + k)).getD 1 0 = T (i + 1) := by
    intro k hk h
    have := (mlen_iff _ _ _ _).mp h
    exact ⟨this.2 0 (by omega), this.2 1 (by omega)⟩
  have hrest : ∀ J : Int32 → Option (Int32 × Wd), (if w.2.1 90 22 ≤ w.2.1 90 23 + 1 then J (-1) else rd (inb (w.2.1 90 23 + 1) 120) (w.2.1 21 (w.2.1 90 23 + 1).toNatClampNeg) fun v25 => J (v25 &&& 255)) = J (T (i + 1)) := by
    intro J
    rw [hX.1, e1, nI_1]
    by_cases h : nP ≤ i + 1
    · rw [if_pos ((nIle (by omega) (by omega)).mpr h), hT _ h]
    · rw [if_neg (fun z => h ((nIle (by omega) (by omega)).mp z)), inb_nI (show i + 1 < 120 by omega) (by decide), clN (show i + 1 < 1073741824 by omega), rd_t, hX.2 _ (by omega)]
  unfold sX_word
  rw [jn_arg (K := fun J2 => if w.2.1 90 22 ≤ w.2.1 90 23 + 1 then J2 (-1) else rd (inb (w.2.1 90 23 + 1) 120) (w.2.1 21 (w.2.1 90 23 + 1).toNatClampNeg) fun v25 => J2 (v25 &&& 255)) hrest]
  simp only [nm_d, jn_d]
  rw [r1']
  rcases r2 with ⟨rfl, hn⟩ | ⟨q, hq, rfl, q1, q2⟩
  · rw [if_pos rfl]
    refine ⟨-1, _, rfl, Ag.sf (by decide), Or.inl ⟨rfl, f90s, by rw [f90n (by decide)]; exact e1, fun k hk => ?_⟩⟩
    have hz : ¬ 1 ≤ mlen T (mlt (tB t + k)) i := fun z => hn k hk ((hone k hk).mp z)
    omega
  · obtain ⟨t1, t2, t3, t4, t5, t6⟩ := tab_w ht hq
    obtain ⟨w', s1, s2, -, s3, s4⟩ := signs0 (S := tOff t + q) bP hT (by omega) (by omega) hX e1 e2
    rw [t1] at s3 s4
    rw [if_neg (nI_nm1 (by omega)), decide_eq_true ht, inb_nI hq (by omega), clN (show q < 1073741824 by omega), show (true && true) = true from rfl, rd_t, s1, bd_s]
    refine ⟨nI q, w', rfl, s2, Or.inr ⟨q, hq, rfl, s3, s4, fun k hk => ?_⟩⟩
    have hk1 := hone k hk
    have hq1 := (hone q hq).mpr q1
    have same : 2 ≤ mlen T (mlt (tB t + k)) i → k = q := by
      intro h
      have hk2 := htwo k hk h
      rcases q2 with z | z
      · exact tab_two ht hk hq (hk2.1.trans q1.symm) (hk2.2.trans z.symm)
      · exact absurd hk2.2 (z k hk hk2.1)
    refine ⟨?_, fun h => same ?_⟩
    · by_cases h : 2 ≤ mlen T (mlt (tB t + k)) i
      · rw [same h]; exact Nat.le_refl _
      · omega
    · obtain ⟨-, -, -, k4, -⟩ := tab_w ht hk
      omega
