set_option maxRecDepth 100000
theorem mlen_iff (T : Nat → Int32) : ∀ (L : List Int32) (i t : Nat), t ≤ mlen T L i ↔ t ≤ L.length ∧ ∀ s, s < t → L.getD s 0 = T (i + s) := by
  intro L
  induction L with
  | nil =>
    intro i t
    unfold mlen
    rw [List.length_nil]
    exact ⟨fun h => ⟨h, fun s hs => by omega⟩, fun h => h.1⟩
  | cons c L ih =>
    intro i t
    unfold mlen
    rw [List.length_cons]
    by_cases h : T i = c
    · rw [if_pos h]
      constructor
      · intro ht
        rcases Nat.eq_zero_or_pos t with h0 | h0
        · subst h0; exact ⟨by omega, fun s hs => by omega⟩
        · have := (ih (i + 1) (t - 1)).mp (by omega)
          refine ⟨by omega, fun s hs => ?_⟩
          rcases Nat.eq_zero_or_pos s with s0 | s0
          · subst s0; exact h.symm
          · obtain ⟨q, rfl⟩ : ∃ q, s = q + 1 := ⟨s - 1, by omega⟩
            have e := this.2 q (by omega)
            rw [show i + (q + 1) = i + 1 + q by omega]
            exact e
      · rintro ⟨h1, h2⟩
        rcases Nat.eq_zero_or_pos t with h0 | h0
        · omega
        · have := (ih (i + 1) (t - 1)).mpr ⟨by omega, fun s hs => by
            have e := h2 (s + 1) (by omega)
            rw [show i + (s + 1) = i + 1 + s by omega] at e
            exact e⟩
          omega
    · rw [if_neg h]
      constructor
      · intro ht; exact ⟨by omega, fun s hs => by omega⟩
      · rintro ⟨h1, h2⟩
        rcases Nat.eq_zero_or_pos t with h0 | h0
        · omega
        · exact absurd (h2 0 (by omega)).symm h
theorem mlt_len {x : Nat} (hx : x < 16) : 1 ≤ (mlt x).length ∧ (mlt x).length ≤ 6 := by
  have h : ∀ x, x < 16 → 1 ≤ (mlt x).length ∧ (mlt x).length ≤ 6 := by decide +kernel
  exact h x hx
theorem mlt_pos {x k : Nat} (hx : x < 16) (hk : k < 8) : ((mlt x).getD k 0 = 0 ↔ (mlt x).length ≤ k) ∧ ¬ (mlt x).getD k 0 = -1 := by
  have h : ∀ x, x < 16 → ∀ k, k < 8 → ((mlt x).getD k 0 = 0 ↔ (mlt x).length ≤ k) ∧ ¬ (mlt x).getD k 0 = -1 := by decide +kernel
  exact h x hx k hk
theorem fits_v {T : Nat → Int32} {nP i j x : Nat} {v : Wd} (bP : nP ≤ 120) (hM : TM T nP v) (hx : x < 16) (hj : j ≤ 6) (hij : ∀ t, t < j → i + t < nP) (hi : i < 1000) (e : v.2.1 90 36 = nI (i + j)) : (sM_fits v (nI x) (nI i) = some 1 ∧ ∀ s, s < j → (mlt x).getD s 0 = T (i + s)) ∨ (sM_fits v (nI x) (nI i) = some 0 ∧ ¬ ∀ s, s < j → (mlt x).getD s 0 = T (i + s)) := by
  have key : ∀ (m k fuel : Nat) (f : Int32), k + m = j → m < fuel → ((f = 1 ∧ ∀ s, s < k → (mlt x).getD s 0 = T (i + s)) ∨ (f = 0 ∧ ¬ ∀ s, s < k → (mlt x).getD s 0 = T (i + s))) → (fx (fun _ _ => none) (bM_fits_L5 (nI x) (nI i) v) fuel f (nI (i + k)) = some 1 ∧ ∀ s, s < j → (mlt x).getD s 0 = T (i + s)) ∨ (fx (fun _ _ => none) (bM_fits_L5 (nI x) (nI i) v) fuel f (nI (i + k)) = some 0 ∧ ¬ ∀ s, s < j → (mlt x).getD s 0 = T (i + s)) := by
    intro m
    induction m with
    | zero =>
      intro k fuel f hk hf h
      obtain ⟨g, rfl⟩ : ∃ g, fuel = g + 1 := ⟨fuel - 1, by omega⟩
      obtain rfl : k = j := by omega
      rw [fx_s]
      unfold bM_fits_L5
      rw [e, if_pos (Int32.le_refl _)]
      rcases h with ⟨rfl, h⟩ | ⟨rfl, h⟩
      · exact Or.inl ⟨rfl, h⟩
      · exact Or.inr ⟨rfl, h⟩
    | succ m ih =>
      intro k fuel f hk hf h
      obtain ⟨g, rfl⟩ : ∃ g, fuel = g + 1 := ⟨fuel - 1, by omega⟩
      have ihx := fun f => ih (k + 1) g f (by omega) (by omega)
      have hik := hij k (by omega)
      have sub : nI (i + k) - nI i = nI k := by rw [nIsub (by omega)]; congr 1; omega
      rw [fx_s]
      generalize fx _ _ g = s1 at ihx ⊢
      unfold bM_fits_L5
      rw [e, if_neg (fun z => absurd ((nIle (by omega) (by omega)).mp z) (by omega)), sub, letter_v hx (by omega), inb_nI (show i + k < 120 by omega) (by decide), clN (show i + k < 1073741824 by omega), hM.2 (i + k) hik]
      simp only [jn_d, nm_d, bd_s, rd_t, nI_1]
      have hs : (∀ s, s < k + 1 → (mlt x).getD s 0 = T (i + s)) ↔ (∀ s, s < k → (mlt x).getD s 0 = T (i + s)) ∧ (mlt x).getD k 0 = T (i + k) := by
        refine ⟨fun q => ⟨fun s hs => q s (by omega), q k (by omega)⟩, fun q s hs => ?_⟩
        rcases Nat.lt_or_ge s k with z | z
        · exact q.1 s z
        · obtain rfl : s = k := by omega
          exact q.2
      rcases h with ⟨rfl, h⟩ | ⟨rfl, h⟩
      · rw [if_neg n10]
        by_cases hc : (mlt x).getD k 0 = T (i + k)
        · rw [if_pos hc]; exact ihx 1 (Or.inl ⟨rfl, hs.mpr ⟨h, hc⟩⟩)
        · rw [if_neg hc]; exact ihx 0 (Or.inr ⟨rfl, fun z => hc (hs.mp z).2⟩)
      · rw [if_pos z00]
        exact ihx 0 (Or.inr ⟨rfl, fun z => h (hs.mp z).1⟩)
  unfold sM_fits
  rw [nm_d, nm_d, eM_fits_L5]
  exact key j 0 FU 1 (by omega) (by rw [FU_v]; omega) (Or.inl ⟨rfl, fun s hs => by omega⟩)
/-- one letter on: who could go on, who is done -/
theorem wordIn {T : Nat → Int32} {nP i j a b : Nat} {v : Wd} (bP : nP ≤ 120) (hT : ∀ q, nP ≤ q → T q = -1) (hM : TM T nP v) (hb : b < 16) (hab : a ≤ b) (hj : j ≤ 6) (hij : ∀ t, t < j → i + t < nP) (hi : i < 900) (e : v.2.1 90 36 = nI (i + j)) (hfull : ∀ x, a ≤ x → x ≤ b → mlen T (mlt x) i = (mlt x).length → j ≤ (mlt x).length) : ∃ (c : Nat) (d : Int32), (∀ J, sM_word_L14 (nI b) (nI i) v J 0 (-1) (nI a) = J (nI c) d) ∧ c ≤ 16 ∧ (c = 0 ↔ ∀ x, a ≤ x → x ≤ b → mlen T (mlt x) i ≤ j) ∧ ((d = -1 ∧ ∀ x, a ≤ x → x ≤ b → ¬ (mlen T (mlt x) i = j ∧ (mlt x).length = j)) ∨ ∃ x, a ≤ x ∧ x ≤ b ∧ mlen T (mlt x) i = j ∧ (mlt x).length = j ∧ d = nI x) := by
  have key : ∀ (m x fuel c : Nat) (d : Int32), x + m = b + 1 → m < fuel → a ≤ x → c ≤ x - a → (c = 0 ↔ ∀ y, a ≤ y → y < x → mlen T (mlt y) i ≤ j) → ((d = -1 ∧ ∀ y, a ≤ y → y < x → ¬ (mlen T (mlt y) i = j ∧ (mlt y).length = j)) ∨ ∃ y, a ≤ y ∧ y < x ∧ mlen T (mlt y) i = j ∧ (mlt y).length = j ∧ d = nI y) → ∃ (c' : Nat) (d' : Int32), (∀ J, fx (fun _ _ _ => none) (bM_word_L14 (nI b) (nI i) v J) fuel (nI c) d (nI x) = J (nI c') d') ∧ c' ≤ 16 ∧ (c' = 0 ↔ ∀ y, a ≤ y → y ≤ b → mlen T (mlt y) i ≤ j) ∧ ((d' = -1 ∧ ∀ y, a ≤ y → y ≤ b → ¬ (mlen T (mlt y) i = j ∧ (mlt y).length = j)) ∨ ∃ y, a ≤ y ∧ y ≤ b ∧ mlen T (mlt y) i = j ∧ (mlt y).length = j ∧ d' = nI y) := by
    intro m
    induction m with
    | zero =>
      intro x fuel c d hx hf hax hc h1 h2
      obtain ⟨g, rfl⟩ : ∃ g, fuel = g + 1 := ⟨fuel - 1, by omega⟩
      obtain rfl : x = b + 1 := by omega
      refine ⟨c, d, fun J => ?_, by omega, ?_, ?_⟩
      · rw [fx_s]
        unfold bM_word_L14
        rw [if_pos ((nIlt (by omega) (by omega)).mpr (by omega))]
      · exact h1.trans ⟨fun q y hy1 hy2 => q y hy1 (by omega), fun q y hy1 hy2 => q y hy1 (by omega)⟩
      · rcases h2 with ⟨q1, q2⟩ | ⟨y, y1, y2, y3⟩
        · exact Or.inl ⟨q1, fun y hy1 hy2 => q2 y hy1 (by omega)⟩
        · exact Or.inr ⟨y, y1, by omega, y3⟩
    | succ m ih =>
      intro x fuel c d hx hf hax hc h1 h2
      obtain ⟨g, rfl⟩ : ∃ g, fuel = g + 1 := ⟨fuel - 1, by omega⟩
      have hxb : x ≤ b := by omega
      have hml := mlt_len (show x < 16 by omega)
      have hmp := mlt_pos (show x < 16 by omega) (show j < 8 by omega)
      have hml2 := mlen_le T (mlt x) i
      have hle := hfull x hax hxb
      have sub : nI (i + j) - nI i = nI j := by rw [nIsub (by omega)]; congr 1; omega
      have hge := mlen_iff T (mlt x) i j
      have hge1 := mlen_iff T (mlt x) i (j + 1)
      have sg := sign_v bP hT hM (show i + j < 1000 by omega) e
      have nxt : ∀ (c2 : Nat) (d2 : Int32), (∀ (J : Int32 → Int32 → Option (Int32 × Wd)) s1, bM_word_L14 (nI b) (nI i) v J s1 (nI c) d (nI x) = s1 (nI c2) d2 (nI (x + 1))) → c2 ≤ x + 1 - a → (c2 = 0 ↔ ∀ y, a ≤ y → y < x + 1 → mlen T (mlt y) i ≤ j) → ((d2 = -1 ∧ ∀ y, a ≤ y → y < x + 1 → ¬ (mlen T (mlt y) i = j ∧ (mlt y).length = j)) ∨ ∃ y, a ≤ y ∧ y < x + 1 ∧ mlen T (mlt y) i = j ∧ (mlt y).length = j ∧ d2 = nI y) → ∃ (c' : Nat) (d' : Int32), (∀ J, fx (fun _ _ _ => none) (bM_word_L14 (nI b) (nI i) v J) (g + 1) (nI c) d (nI x) = J (nI c') d') ∧ c' ≤ 16 ∧ (c' = 0 ↔ ∀ y, a ≤ y → y ≤ b → mlen T (mlt y) i ≤ j) ∧ ((d' = -1 ∧ ∀ y, a ≤ y → y ≤ b → ¬ (mlen T (mlt y) i = j ∧ (mlt y).length = j)) ∨ ∃ y, a ≤ y ∧ y ≤ b ∧ mlen T (mlt y) i = j ∧ (mlt y).length = j ∧ d' = nI y) := by
        intro c2 d2 hst q1 q2 q3
        obtain ⟨c', d', r1, r2⟩ := ih (x + 1) g c2 d2 (by omega) (by omega) (by omega) q1 q2 q3
        refine ⟨c', d', fun J => ?_, r2⟩
        rw [fx_s, hst]
        exact r1 J
      have grow : ∀ {P : Nat → Prop}, (∀ y, a ≤ y → y < x + 1 → P y) ↔ (∀ y, a ≤ y → y < x → P y) ∧ P x := by
        intro P
        refine ⟨fun q => ⟨fun y y1 y2 => q y y1 (by omega), q x hax (by omega)⟩, fun q y y1 y2 => ?_⟩
        rcases Nat.lt_or_ge y x with z | z
        · exact q.1 y y1 z
        · obtain rfl : y = x := by omega
          exact q.2
      have h2n : ¬ (mlen T (mlt x) i = j ∧ (mlt x).length = j) → ((d = -1 ∧ ∀ y, a ≤ y → y < x + 1 → ¬ (mlen T (mlt y) i = j ∧ (mlt y).length = j)) ∨ ∃ y, a ≤ y ∧ y < x + 1 ∧ mlen T (mlt y) i = j ∧ (mlt y).length = j ∧ d = nI y) := by
        intro hn
        rcases h2 with ⟨p1, p2⟩ | ⟨y, y1, y2, y3⟩
        · exact Or.inl ⟨p1, grow.mpr ⟨p2, hn⟩⟩
        · exact Or.inr ⟨y, y1, by omega, y3⟩
      rcases fits_v (x := x) bP hM (by omega) hj hij (by omega) e with ⟨f1, f2⟩ | ⟨f1, f2⟩
      · have hjl : j ≤ (mlt x).length := by
          rcases Nat.lt_or_ge (mlt x).length j with z | z
          · have : (mlt x).length ≤ mlen T (mlt x) i := (mlen_iff T (mlt x) i _).mpr ⟨Nat.le_refl _, fun s hs => f2 s (by omega)⟩
            exact hle (by omega)
          · exact z
        have hjm : j ≤ mlen T (mlt x) i := hge.mpr ⟨hjl, f2⟩
        have body : ∀ (J : Int32 → Int32 → Option (Int32 × Wd)) s1, bM_word_L14 (nI b) (nI i) v J s1 (nI c) d (nI x) = if (mlt x).getD j 0 = 0 then s1 (nI c) (nI x) (nI (x + 1)) else if (mlt x).getD j 0 = T (i + j) then s1 (nI (c + 1)) d (nI (x + 1)) else s1 (nI c) d (nI (x + 1)) := by
          intro J s1
          unfold bM_word_L14
          rw [if_neg (fun z => absurd ((nIlt (by omega) (by omega)).mp z) (by omega)), f1, bd_s, if_neg n10, e, sub, letter_v (by omega) (by omega), sg]
          simp only [bd_s, nm_d, nI_1]
        by_cases hend : (mlt x).length ≤ j
        · refine nxt c (nI x) (fun J s1 => by rw [body, if_pos (hmp.1.mpr hend)]) (by omega) ?_ (Or.inr ⟨x, hax, by omega, by omega, by omega, rfl⟩)
          rw [h1, grow]
          exact ⟨fun q => ⟨q, by omega⟩, fun q => q.1⟩
        · have h0 : ¬ (mlt x).getD j 0 = 0 := fun z => hend (hmp.1.mp z)
          by_cases hc1 : (mlt x).getD j 0 = T (i + j)
          · have hm1 : j + 1 ≤ mlen T (mlt x) i := hge1.mpr ⟨by omega, fun s hs => by
              rcases Nat.lt_or_ge s j with z | z
              · exact f2 s z
              · obtain rfl : s = j := by omega
                exact hc1⟩
            refine nxt (c + 1) d (fun J s1 => by rw [body, if_neg h0, if_pos hc1]) (by omega) ?_ (h2n (by omega))
            rw [grow]
            exact ⟨fun q => by omega, fun q => by have := q.2; omega⟩
          · have hm1 : ¬ j + 1 ≤ mlen T (mlt x) i := fun z => hc1 ((hge1.mp z).2 j (by omega))
            refine nxt c d (fun J s1 => by rw [body, if_neg h0, if_neg hc1]) (by omega) ?_ (h2n (by omega))
            rw [h1, grow]
            exact ⟨fun q => ⟨q, by omega⟩, fun q => q.1⟩
      · have hm0 : ¬ j ≤ mlen T (mlt x) i := fun z => f2 (hge.mp z).2
        refine nxt c d (fun J s1 => ?_) (by omega) ?_ (h2n (by omega))
        · unfold bM_word_L14
          rw [if_neg (fun z => absurd ((nIlt (by omega) (by omega)).mp z) (by omega)), f1, bd_s, if_pos z00, nm_d, nI_1]
        · rw [h1, grow]
          exact ⟨fun q => ⟨q, by omega⟩, fun q => q.1⟩
  obtain ⟨c, d, r1, r2⟩ := key (b + 1 - a) a FU 0 (-1) (by omega) (by rw [FU_v]; omega) (Nat.le_refl _) (by omega) ⟨fun _ y y1 y2 => by omega, fun _ => rfl⟩ (Or.inl ⟨rfl, fun y y1 y2 => by omega⟩)
  exact ⟨c, d, fun J => by rw [eM_word_L14]; exact r1 J, r2⟩
