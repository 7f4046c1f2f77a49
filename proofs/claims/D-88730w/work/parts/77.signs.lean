set_option maxRecDepth 100000
def mls : List (List Int32) := [[112, 97, 105, 114], [102, 111, 117, 114], [101, 105, 103, 104, 116], [115, 105, 110, 103, 108, 101], [113, 117, 97, 100], [42], [108, 101, 116], [98, 97, 114], [115, 116, 114, 101, 97, 109], [119, 105, 110, 100], [104, 111, 117, 114], [109, 111, 110, 116, 104], [115, 105, 122, 101], [121, 111, 117, 110, 103], [105, 99, 101], [105, 102]]
def mlt (x : Nat) : List Int32 := mls.getD x []
theorem letter_v {x k : Nat} (hx : x < 16) (hk : k < 8) : sM_letter (nI x) (nI k) = some ((mlt x).getD k 0) := by
  have h : ∀ x, x < 16 → ∀ k, k < 8 → sM_letter (nI x) (nI k) = some ((mlt x).getD k 0) := by decide +kernel
  exact h x hx k hk
/-- the tape as both see it -/
def TX (T : Nat → Int32) (nP : Nat) (w : Wd) : Prop := w.2.1 90 22 = nI nP ∧ ∀ j, j < nP → w.2.1 21 j &&& 255 = T j
def TM (T : Nat → Int32) (nP : Nat) (v : Wd) : Prop := v.2.1 90 29 = nI nP ∧ ∀ j, j < nP → v.2.1 28 j = T j
theorem now_v {T : Nat → Int32} {nP i : Nat} {w : Wd} (bP : nP ≤ 120) (hT : ∀ j, nP ≤ j → T j = -1) (hX : TX T nP w) (hi : i < 1000) (e : w.2.1 90 23 = nI i) : sX_now w = some (T i) := by
  unfold sX_now
  rw [hX.1, e]
  by_cases h : nP ≤ i
  · rw [if_pos ((nIle (by omega) (by omega)).mpr h), hT i h]
  · rw [if_neg (fun z => h ((nIle (by omega) (by omega)).mp z)), inb_nI (show i < 120 by omega) (by decide), clN (show i < 1073741824 by omega), rd_t, hX.2 i (by omega)]
theorem sign_v {T : Nat → Int32} {nP i : Nat} {v : Wd} (bP : nP ≤ 120) (hT : ∀ j, nP ≤ j → T j = -1) (hM : TM T nP v) (hi : i < 1000) (e : v.2.1 90 36 = nI i) : sM_sign v = some (T i) := by
  unfold sM_sign
  rw [hM.1, e]
  by_cases h : nP ≤ i
  · rw [if_pos ((nIle (by omega) (by omega)).mpr h), hT i h]
  · rw [if_neg (fun z => h ((nIle (by omega) (by omega)).mp z)), inb_nI (show i < 120 by omega) (by decide), clN (show i < 1073741824 by omega), rd_t, hM.2 i (by omega)]
/-- how many letters are there -/
def mlen (T : Nat → Int32) : List Int32 → Nat → Nat
  | [], _ => 0
  | c :: L, i => if T i = c then mlen T L (i + 1) + 1 else 0
theorem mlen_le (T : Nat → Int32) : ∀ L i, mlen T L i ≤ L.length := by
  intro L
  induction L with
  | nil => intro i; exact Nat.le_refl _
  | cons c L ih => intro i; unfold mlen; have := ih (i + 1); rw [List.length_cons]; split <;> omega
theorem sch_v {S k : Nat} (hS : S < 17) (hk : k < 6) : sch S k = (sbyts.getD S []).getD k 0 := by
  have h : ∀ S, S < 17 → ∀ k, k < 6 → sch S k = (sbyts.getD S []).getD k 0 := by decide +kernel
  exact h S hS k hk
theorem slen_v {S : Nat} (hS : S < 17) : slens.getD S 0 = (sbyts.getD S []).length ∧ slens.getD S 0 ≤ 6 := by
  have h : ∀ S, S < 17 → slens.getD S 0 = (sbyts.getD S []).length ∧ slens.getD S 0 ≤ 6 := by decide +kernel
  exact h S hS
theorem signs_v {T : Nat → Int32} {nP S : Nat} (bP : nP ≤ 120) (hT : ∀ j, nP ≤ j → T j = -1) (hS : S < 17) : ∀ (L : List Int32) (k i fuel : Nat) (w : Wd), (sbyts.getD S []).drop k = L → k ≤ slens.getD S 0 → L.length < fuel → i + L.length < 900 → TX T nP w → w.2.1 90 23 = nI i → w.2.1 90 24 = 0 → ∃ w', fx (fun _ _ => none) (bX_signs_L2 S) fuel (nI k) w = some w' ∧ Ag [] [23, 24] w w' ∧ w'.2.2 = w.2.2 ∧ w'.2.1 90 23 = nI (i + mlen T L i) ∧ w'.2.1 90 24 = (if mlen T L i = L.length then 0 else 1) := by
  have hl := slen_v hS
  intro L
  induction L with
  | nil =>
    intro k i fuel w hL hk hf hi hX e1 e2
    obtain ⟨g, rfl⟩ : ∃ g, fuel = g + 1 := ⟨fuel - 1, by omega⟩
    have hk2 : k = slens.getD S 0 := by
      have := congrArg List.length hL
      rw [List.length_drop, List.length_nil] at this
      omega
    refine ⟨w, ?_, Ag.rfl, rfl, e1, e2⟩
    rw [fx_s]
    unfold bX_signs_L2 sS_length
    rw [decide_eq_true hS, gd_t, bd_s, hk2]
    exact if_pos (Int32.le_refl _)
  | cons c L ih =>
    intro k i fuel w hL hk hf hi hX e1 e2
    obtain ⟨g, rfl⟩ : ∃ g, fuel = g + 1 := ⟨fuel - 1, by omega⟩
    have hk2 : k < slens.getD S 0 := by
      have := congrArg List.length hL
      rw [List.length_drop, List.length_cons] at this
      omega
    have hc : sch S k = c := by
      rw [sch_v hS (by omega)]
      have h1 : (sbyts.getD S [])[k]? = some c := by
        have := congrArg (fun l => l[0]?) hL
        simpa using this
      rw [List.getD_eq_getElem?_getD, h1]; rfl
    have hL2 : (sbyts.getD S []).drop (k + 1) = L := by
      have := congrArg (List.drop 1) hL
      rw [List.drop_drop] at this
      simpa [Nat.add_comm] using this
    rw [List.length_cons] at hf hi
    rw [fx_s]
    have ihx := ih (k + 1) (i + 1) g (stG w 90 23 (nI (i + 1))) hL2 (by omega) (by omega) (by omega) ⟨by rw [f90n (by decide)]; exact hX.1, fun j hj => by rw [stG_ne (by decide)]; exact hX.2 j hj⟩ f90s (by rw [f90n (by decide)]; exact e2)
    have stop : ∀ w2 : Wd, w2.2.1 90 24 = 1 → k + 1 ≤ slens.getD S 0 → fx (fun _ _ => none) (bX_signs_L2 S) g (nI (k + 1)) w2 = some w2 := by
      intro w2 h24 hk3
      obtain ⟨g2, rfl⟩ : ∃ g2, g = g2 + 1 := ⟨g - 1, by omega⟩
      rw [fx_s]
      unfold bX_signs_L2 sS_length
      rw [decide_eq_true hS, gd_t, bd_s, h24, if_neg n10]
      exact ite_self _
    generalize fx _ _ g = s1 at ihx stop ⊢
    unfold bX_signs_L2 sS_length sS_charAt
    rw [decide_eq_true hS, gd_t, bd_s, e2, if_pos z00, now_v bP hT hX (by omega) e1, bd_s, inb_nI (show k < slens.getD S 0 by omega) (by omega), clN (show k < 1073741824 by omega), show (true && true) = true from rfl, gd_t, bd_s, hc, e1]
    rw [if_neg (show ¬ Int32.ofNat (slens.getD S 0) ≤ nI k from fun z => absurd ((nIle (a := slens.getD S 0) (by omega) (by omega)).mp z) (by omega))]
    unfold mlen
    by_cases h : T i = c
    · rw [if_pos h, if_pos h, nm_d, nI_1, nm_d, nI_1]
      obtain ⟨w', r1, r2, r3, r4, r5⟩ := ihx
      refine ⟨w', r1, (Ag.sf (by decide)).trans r2, r3, ?_, ?_⟩
      · rw [r4]; congr 1; omega
      · rw [r5, List.length_cons]
        by_cases hq : mlen T L (i + 1) = L.length
        · rw [if_pos hq, if_pos (by omega)]
        · rw [if_neg hq, if_neg (by omega)]
    · rw [if_neg h, if_neg h, nm_d, nm_d, nI_1, stop _ f90s (by omega)]
      refine ⟨_, rfl, Ag.sf (by decide), rfl, by rw [f90n (by decide)]; exact e1, ?_⟩
      rw [f90s, List.length_cons, if_neg (by omega)]
theorem signs0 {T : Nat → Int32} {nP S i : Nat} {w : Wd} (bP : nP ≤ 120) (hT : ∀ j, nP ≤ j → T j = -1) (hS : S < 17) (hi : i < 800) (hX : TX T nP w) (e1 : w.2.1 90 23 = nI i) (e2 : w.2.1 90 24 = 0) : ∃ w', sX_signs w S = some w' ∧ Ag [] [23, 24] w w' ∧ w'.2.2 = w.2.2 ∧ w'.2.1 90 23 = nI (i + mlen T (sbyts.getD S []) i) ∧ w'.2.1 90 24 = (if mlen T (sbyts.getD S []) i = (sbyts.getD S []).length then 0 else 1) := by
  have hl := slen_v hS
  unfold sX_signs
  rw [nm_d, eX_signs_L2]
  exact signs_v bP hT hS (sbyts.getD S []) 0 i FU w rfl (by omega) (by rw [FU_v]; omega) (by omega) hX e1 e2
