set_option maxRecDepth 100000
theorem orb {x s : Nat} (hx : x < 256) (hs : s < 8) (hb : x.testBit s = false) : nI x ||| ((1 : Int32) <<< (nI s &&& 31)) = nI (x + 2 ^ s) := by
  have h : ∀ s, s < 8 → ∀ x, x < 256 → x.testBit s = false → nI x ||| ((1 : Int32) <<< (nI s &&& 31)) = nI (x + 2 ^ s) := by decide +kernel
  exact h s hs x hx hb
theorem addb {N x s : Nat} (hN : N ≤ 8) (hx : x < 2 ^ N) (hs : s < N) (hb : x.testBit s = false) : x + 2 ^ s < 2 ^ N := by
  have h : ∀ N, N < 9 → ∀ s, s < N → ∀ x, x < 2 ^ N → x.testBit s = false → x + 2 ^ s < 2 ^ N := by decide +kernel
  exact h N (by omega) s hs x hx hb
theorem shlb {s : Nat} (hs : s < 16) : (1 : Int32) <<< (nI s &&& 31) = nI (2 ^ s) := by
  have h : ∀ s, s < 16 → (1 : Int32) <<< (nI s &&& 31) = nI (2 ^ s) := by decide
  exact h s hs
theorem p2N {N : Nat} (hN : N ≤ 8) : 1 ≤ 2 ^ N ∧ 2 ^ N ≤ 256 := ⟨Nat.one_le_two_pow, Nat.pow_le_pow_right (n := 2) (j := 8) (by decide) hN⟩
/-- the best of a set, seats from s on -/
def inn (c T : Nat → Nat) (x : Nat) : Nat → Nat → Nat → Nat
  | 0, _, z => z
  | m + 1, s, z => inn c T x m (s + 1) (if x.testBit s then z else min z (c s + T (x + 2 ^ s)))
/-- the table: m oars left, of nO -/
def tab (cm : Nat → Int32) (ct : Nat → Nat → Nat) (nO N K : Nat) : Nat → Nat → Nat
  | 0, x => if x = 2 ^ N - 1 then 0 else K
  | m + 1, x => if cm (nO - (m + 1)) = 0 then tab cm ct nO N K m x else inn (ct (nO - (m + 1))) (tab cm ct nO N K m) x N 0 (tab cm ct nO N K m x)
theorem tab_s {cm : Nat → Int32} {ct : Nat → Nat → Nat} {nO N K m x : Nat} : tab cm ct nO N K (m + 1) x = if cm (nO - (m + 1)) = 0 then tab cm ct nO N K m x else inn (ct (nO - (m + 1))) (tab cm ct nO N K m) x N 0 (tab cm ct nO N K m x) := rfl
theorem inn_r (c T T' : Nat → Nat) (K K' B N x : Nat) (hN : N ≤ 8) (hx : x < 2 ^ N) (hB : B + 8 < K) (hB' : B + 8 < K') (hc : ∀ s, c s ≤ 8) (hT : ∀ y, y < 2 ^ N → (T y = K ∧ T' y = K') ∨ (T y = T' y ∧ T y ≤ B)) : ∀ m s z z', s + m = N → ((z = K ∧ z' = K') ∨ (z = z' ∧ z ≤ B + 8)) → ((inn c T x m s z = K ∧ inn c T' x m s z' = K') ∨ (inn c T x m s z = inn c T' x m s z' ∧ inn c T x m s z ≤ B + 8)) := by
  intro m
  induction m with
  | zero => intro s z z' _ h; exact h
  | succ m ih =>
    intro s z z' hs h
    unfold inn
    by_cases hb : x.testBit s = true
    · rw [if_pos hb, if_pos hb]
      exact ih (s + 1) z z' (by omega) h
    · rw [if_neg hb, if_neg hb]
      refine ih (s + 1) _ _ (by omega) ?_
      have hy := hT (x + 2 ^ s) (addb hN hx (by omega) (by simpa using hb))
      have := hc s
      omega
theorem tab_r (cm : Nat → Int32) (ct : Nat → Nat → Nat) (nO N : Nat) (hN : N ≤ 8) (hc : ∀ p s, ct p s ≤ 8) : ∀ m, m ≤ 16 → ∀ x, x < 2 ^ N → (tab cm ct nO N 1048576 m x = 1048576 ∧ tab cm ct nO N 1000000 m x = 1000000) ∨ (tab cm ct nO N 1048576 m x = tab cm ct nO N 1000000 m x ∧ tab cm ct nO N 1048576 m x ≤ 8 * m) := by
  intro m
  induction m with
  | zero =>
    intro _ x hx
    unfold tab
    by_cases h : x = 2 ^ N - 1
    · rw [if_pos h, if_pos h]; exact Or.inr ⟨rfl, by omega⟩
    · rw [if_neg h, if_neg h]; exact Or.inl ⟨rfl, rfl⟩
  | succ m ih =>
    intro hm x hx
    unfold tab
    have hT := ih (by omega)
    by_cases h : cm (nO - (m + 1)) = 0
    · rw [if_pos h, if_pos h]
      rcases hT x hx with q | q
      · exact Or.inl q
      · exact Or.inr ⟨q.1, by omega⟩
    · rw [if_neg h, if_neg h]
      have := inn_r (ct (nO - (m + 1))) (tab cm ct nO N 1048576 m) (tab cm ct nO N 1000000 m) 1048576 1000000 (8 * m) N x hN hx (by omega) (by omega) (hc _) hT N 0 (tab cm ct nO N 1048576 m x) (tab cm ct nO N 1000000 m x) (by omega) (by
        rcases hT x hx with q | q
        · exact Or.inl q
        · exact Or.inr ⟨q.1, by omega⟩)
      rcases this with q | q
      · exact Or.inl q
      · exact Or.inr ⟨q.1, by omega⟩
theorem tab_b (cm : Nat → Int32) (ct : Nat → Nat → Nat) (nO N : Nat) (hN : N ≤ 8) (hc : ∀ p s, ct p s ≤ 8) (m : Nat) (hm : m ≤ 16) (x : Nat) (hx : x < 2 ^ N) : tab cm ct nO N 1048576 m x ≤ 1048576 ∧ tab cm ct nO N 1000000 m x ≤ 1000000 := by
  rcases tab_r cm ct nO N hN hc m hm x hx with q | q <;> omega
theorem inX {w : Wd} {b p x N K : Nat} {cm : Nat → Int32} {c T : Nat → Nat} (hN : N ≤ 8) (hp : p < 16) (hx : x < 2 ^ N) (hK : K ≤ 1048576) (hseat : ∀ z, sB_seats (stG w 14 (p * 256 + x) z) b = some (nI N)) (hb : b < w.1 0) (hcm : ∀ z, sX_mayCome (stG w 14 (p * 256 + x) z) b (nI p) = some (cm p)) (hc0 : ¬ cm p = 0) (hc8 : ∀ s, c s ≤ 8) (hc : ∀ s z, s < N → sX_costOf (stG w 14 (p * 256 + x) z) b (nI s) (nI p) = some (nI (c s))) (hT : ∀ y, y < 2 ^ N → T y ≤ K ∧ w.2.1 14 (p * 256 + y + 256) = nI (T y)) (self : Int32 → Wd → Option Wd) : ∀ m s z fuel, s + m = N → m < fuel → z ≤ K → fx (fun _ _ => none) (bX_workOut_L89 b (nI p) (nI x) self (nI (p * 256 + x))) fuel (nI s) (stG w 14 (p * 256 + x) (nI z)) = self (nI (x + 1)) (stG w 14 (p * 256 + x) (nI (inn c T x m s z))) := by
  have h2 := p2N hN
  intro m
  induction m with
  | zero =>
    intro s z fuel hs hf hz
    obtain ⟨g, rfl⟩ : ∃ g, fuel = g + 1 := ⟨fuel - 1, by omega⟩
    obtain rfl : s = N := by omega
    rw [fx_s]
    unfold bX_workOut_L89
    rw [show (stG w 14 (p * 256 + x) (nI z)).1 = w.1 from rfl, decide_eq_true hb, gd_t, hseat, bd_s, if_pos (Int32.le_refl _), nm_d, nI_1]
    rfl
  | succ m ih =>
    intro s z fuel hs hf hz
    obtain ⟨g, rfl⟩ : ∃ g, fuel = g + 1 := ⟨fuel - 1, by omega⟩
    have ihx := fun z hz => ih (s + 1) z g (by omega) (by omega) hz
    rw [fx_s]
    generalize fx _ _ g = s1 at ihx ⊢
    unfold bX_workOut_L89
    rw [show (stG w 14 (p * 256 + x) (nI z)).1 = w.1 from rfl, decide_eq_true hb, gd_t, hseat, bd_s, if_neg (fun z => absurd ((nIle (by omega) (by omega)).mp z) (by omega)), hcm, bd_s, if_neg hc0]
    conv => rhs; unfold inn
    by_cases ht : x.testBit s = true
    · rw [if_pos ((bito (by omega) (by omega)).mpr ht), if_pos ht, nm_d, nI_1]
      exact ihx z hz
    · have ht' : x.testBit s = false := by simpa using ht
      have hadd := addb hN hx (show s < N by omega) ht'
      have hTy := hT _ hadd
      have h2s : 1 ≤ 2 ^ s := Nat.one_le_two_pow
      have e1 : nI (p * 256 + x) + 256 + nI (2 ^ s) = nI (p * 256 + (x + 2 ^ s) + 256) := by
        rw [show (256 : Int32) = nI 256 from rfl, nI_add, nI_add]; congr 1; omega
      rw [if_neg (fun z => ht ((bito (by omega) (by omega)).mp z)), if_neg ht, hc s _ (by omega), shlb (by omega), e1, inb_nI (show p * 256 + x < 4352 by omega) (by decide), clN (show p * 256 + x < 1073741824 by omega), inb_nI (show p * 256 + (x + 2 ^ s) + 256 < 4352 by omega) (by decide), clN (show p * 256 + (x + 2 ^ s) + 256 < 1073741824 by omega)]
      simp only [rd_t, nm_d, nI_1, bd_s]
      have hcs := hc8 s
      rw [stG_eq, pk_us, pk_un (show p * 256 + (x + 2 ^ s) + 256 ≠ p * 256 + x by omega), hTy.2, nI_add, min_v (by omega) (by omega), bd_s, stG_stG]
      exact ihx _ (by omega)
theorem rowX {w0 : Wd} {b nO N K : Nat} {cm : Nat → Int32} {ct : Nat → Nat → Nat} (hN : N ≤ 8) (h1N : 1 ≤ N) (bO : nO ≤ 16) (xO : w0.2.1 90 2 = nI nO) (hb : b < w0.1 0) (hseat : ∀ w, Ag [14, 16] [] w0 w → sB_seats w b = some (nI N)) (hcm : ∀ w, Ag [14, 16] [] w0 w → ∀ p, p < nO → sX_mayCome w b (nI p) = some (cm p)) (hc8 : ∀ p s, ct p s ≤ 8) (hc : ∀ w, Ag [14, 16] [] w0 w → ∀ p, p < nO → ¬ cm p = 0 → ∀ s, s < N → sX_costOf w b (nI s) (nI p) = some (nI (ct p s))) (p : Nat) (hp : p ≤ nO) : ∀ (m x fuel : Nat) (w : Wd), x + m = 2 ^ N → m < fuel → Ag [14, 16] [] w0 w → (∀ q, p < q → q ≤ nO → ∀ y, y < 2 ^ N → w.2.1 14 (q * 256 + y) = nI (tab cm ct nO N 1048576 (nO - q) y)) → (∀ y, y < x → w.2.1 14 (p * 256 + y) = nI (tab cm ct nO N 1048576 (nO - p) y)) → ∃ w', (∀ self, fx (fun _ _ => none) (bX_workOut_L19 b (nI (2 ^ N)) (nI p) self) fuel (nI x) w = self (nI p + (-1)) w') ∧ Ag [14, 16] [] w0 w' ∧ (∀ q, p ≤ q → q ≤ nO → ∀ y, y < 2 ^ N → w'.2.1 14 (q * 256 + y) = nI (tab cm ct nO N 1048576 (nO - q) y)) := by
  have h2 := p2N hN
  intro m
  induction m with
  | zero =>
    intro x fuel w hx hf hA hq hy
    obtain ⟨g, rfl⟩ : ∃ g, fuel = g + 1 := ⟨fuel - 1, by omega⟩
    obtain rfl : x = 2 ^ N := by omega
    refine ⟨w, fun self => ?_, hA, fun q h1 h3 y h4 => ?_⟩
    · rw [fx_s]
      unfold bX_workOut_L19
      rw [if_pos (Int32.le_refl _), nm_d]
    · rcases Nat.lt_or_ge p q with h | h
      · exact hq q h h3 y h4
      · obtain rfl : p = q := by omega
        exact hy y h4
  | succ m ih =>
    intro x fuel w hx hf hA hq hy
    obtain ⟨g, rfl⟩ : ∃ g, fuel = g + 1 := ⟨fuel - 1, by omega⟩
    have hxN : x < 2 ^ N := by omega
    have key : ∀ z, z = tab cm ct nO N 1048576 (nO - p) x → (∀ self s1, bX_workOut_L19 b (nI (2 ^ N)) (nI p) self s1 (nI x) w = s1 (nI (x + 1)) (stG w 14 (p * 256 + x) (nI z))) → ∃ w', (∀ self, fx (fun _ _ => none) (bX_workOut_L19 b (nI (2 ^ N)) (nI p) self) (g + 1) (nI x) w = self (nI p + (-1)) w') ∧ Ag [14, 16] [] w0 w' ∧ (∀ q, p ≤ q → q ≤ nO → ∀ y, y < 2 ^ N → w'.2.1 14 (q * 256 + y) = nI (tab cm ct nO N 1048576 (nO - q) y)) := by
      intro z hz hst
      obtain ⟨w', r1, r2⟩ := ih (x + 1) g (stG w 14 (p * 256 + x) (nI z)) (by omega) (by omega) (hA.trans (Ag.st (by decide) (by decide))) (fun q h1 h3 y h4 => by
        rw [stG_eq, pk_un (by omega)]; exact hq q h1 h3 y h4) (fun y h4 => by
        rw [stG_eq]
        by_cases e : y = x
        · rw [e, pk_us, hz]
        · rw [pk_un (by omega)]; exact hy y (by omega))
      refine ⟨w', fun self => ?_, r2⟩
      rw [fx_s, hst]
      exact r1 self
    have e0 : nI p * 256 + nI x = nI (p * 256 + x) := by rw [show (256 : Int32) = nI 256 from rfl, pk_mul, nI_add]
    by_cases hpn : p = nO
    · subst hpn
      refine key (if x = 2 ^ N - 1 then 0 else 1048576) (by rw [Nat.sub_self]; rfl) (fun self s1 => ?_)
      unfold bX_workOut_L19
      rw [if_neg (fun z => absurd ((nIle (by omega) (by omega)).mp z) (by omega)), nm_d, e0, hA.2.2 2 (by simp), xO, if_pos rfl, inb_nI (show p * 256 + x < 4352 by omega) (by decide), clN (show p * 256 + x < 1073741824 by omega)]
      simp only [jn_d, rd_t, nm_d, nI_1]
      have e1 : nI (2 ^ N) - 1 = nI (2 ^ N - 1) := nIsub (b := 1) (by omega)
      rw [e1]
      by_cases h : x = 2 ^ N - 1
      · rw [if_pos h, if_pos (congrArg nI h)]; rfl
      · rw [if_neg h, if_neg (fun z => h ((nIeq (by omega) (by omega)).mp z))]; rfl
    · have hpn' : p < nO := by omega
      obtain ⟨j, hj⟩ : ∃ j, nO - p = j + 1 := ⟨nO - p - 1, by omega⟩
      have hj2 : nO - (p + 1) = j := by omega
      have hj3 : nO - (j + 1) = p := by omega
      have hTb := fun y hy => (tab_b cm ct nO N hN hc8 j (by omega) y hy).1
      have hrow : ∀ y, y < 2 ^ N → w.2.1 14 (p * 256 + y + 256) = nI (tab cm ct nO N 1048576 j y) := by
        intro y hy
        have := hq (p + 1) (by omega) (by omega) y hy
        rw [hj2] at this
        rw [show p * 256 + y + 256 = (p + 1) * 256 + y by omega]
        exact this
      have hA2 : ∀ z, Ag [14, 16] [] w0 (stG w 14 (p * 256 + x) z) := fun z => hA.trans (Ag.st (by decide) (by decide))
      have head : ∀ self s1, bX_workOut_L19 b (nI (2 ^ N)) (nI p) self s1 (nI x) w = sX_workOut_L89 b (nI p) (nI x) s1 (nI (p * 256 + x)) 0 (stG w 14 (p * 256 + x) (nI (tab cm ct nO N 1048576 j x))) := by
        intro self s1
        unfold bX_workOut_L19
        have e2 : nI (p * 256 + x) + 256 = nI (p * 256 + x + 256) := nI_add _ 256
        rw [if_neg (fun z => absurd ((nIle (by omega) (by omega)).mp z) (by omega)), nm_d, e0, hA.2.2 2 (by simp), xO, if_neg (fun z => hpn ((nIeq (by omega) (by omega)).mp z)), e2, inb_nI (show p * 256 + x < 4352 by omega) (by decide), clN (show p * 256 + x < 1073741824 by omega), inb_nI (show p * 256 + x + 256 < 4352 by omega) (by decide), clN (show p * 256 + x + 256 < 1073741824 by omega), rd_t, rd_t, nm_d, hrow x hxN]
      by_cases hc0 : cm p = 0
      · refine key (tab cm ct nO N 1048576 j x) (by rw [hj, tab_s, hj3, if_pos hc0]) (fun self s1 => ?_)
        rw [head, eX_workOut_L89]
        obtain ⟨g2, hg2⟩ : ∃ g, FU = g + 1 := ⟨99999, by rw [FU_v]⟩
        rw [hg2, fx_s]
        unfold bX_workOut_L89
        rw [show (stG w 14 (p * 256 + x) (nI (tab cm ct nO N 1048576 j x))).1 = w.1 from rfl, hA.1, decide_eq_true hb, gd_t, hseat _ (hA2 _), bd_s, if_neg (show ¬ nI N ≤ 0 from fun z => absurd ((nIle (b := 0) (by omega) (by decide)).mp z) (by omega)), hcm _ (hA2 _) p hpn', bd_s, if_pos hc0, nm_d, nI_1]
      · refine key (inn (ct p) (tab cm ct nO N 1048576 j) x N 0 (tab cm ct nO N 1048576 j x)) (by rw [hj, tab_s, hj3, if_neg hc0]) (fun self s1 => ?_)
        rw [head, eX_workOut_L89]
        exact inX (cm := cm) (K := 1048576) hN (by omega) hxN (Nat.le_refl _) (fun z => hseat _ (hA2 z)) (by rw [hA.1]; exact hb) (fun z => hcm _ (hA2 z) p hpn') hc0 (hc8 p) (fun s z hs => hc _ (hA2 z) p hpn' hc0 s hs) (fun y hy => ⟨hTb y hy, hrow y hy⟩) s1 N 0 _ FU (by omega) (by rw [FU_v]; omega) (hTb x hxN)
theorem tabX {w0 : Wd} {b nO N : Nat} {cm : Nat → Int32} {ct : Nat → Nat → Nat} (hN : N ≤ 8) (h1N : 1 ≤ N) (bO : nO ≤ 16) (xO : w0.2.1 90 2 = nI nO) (hb : b < w0.1 0) (hseat : ∀ w, Ag [14, 16] [] w0 w → sB_seats w b = some (nI N)) (hcm : ∀ w, Ag [14, 16] [] w0 w → ∀ p, p < nO → sX_mayCome w b (nI p) = some (cm p)) (hc8 : ∀ p s, ct p s ≤ 8) (hc : ∀ w, Ag [14, 16] [] w0 w → ∀ p, p < nO → ¬ cm p = 0 → ∀ s, s < N → sX_costOf w b (nI s) (nI p) = some (nI (ct p s))) : ∃ w', sX_workOut w0 b = some w' ∧ Ag [14, 16] [] w0 w' ∧ ∀ q, q ≤ nO → ∀ y, y < 2 ^ N → w'.2.1 14 (q * 256 + y) = nI (tab cm ct nO N 1048576 (nO - q) y) := by
  have h2 := p2N hN
  have key : ∀ (k fuel : Nat) (w : Wd), k ≤ nO + 1 → k < fuel → Ag [14, 16] [] w0 w → (∀ q, k ≤ q → q ≤ nO → ∀ y, y < 2 ^ N → w.2.1 14 (q * 256 + y) = nI (tab cm ct nO N 1048576 (nO - q) y)) → ∃ w', fx (fun _ _ => none) (bX_workOut_L12 b (nI (2 ^ N))) fuel (nI k + (-1)) w = some w' ∧ Ag [14, 16] [] w0 w' ∧ ∀ q, q ≤ nO → ∀ y, y < 2 ^ N → w'.2.1 14 (q * 256 + y) = nI (tab cm ct nO N 1048576 (nO - q) y) := by
    intro k
    induction k with
    | zero =>
      intro fuel w hk hf hA hq
      obtain ⟨g, rfl⟩ : ∃ g, fuel = g + 1 := ⟨fuel - 1, by omega⟩
      refine ⟨w, ?_, hA, fun q hq' => hq q (by omega) hq'⟩
      rw [fx_s]
      unfold bX_workOut_L12
      rw [if_pos (show nI 0 + (-1) < (0 : Int32) by decide)]
    | succ k ih =>
      intro fuel w hk hf hA hq
      obtain ⟨g, rfl⟩ : ∃ g, fuel = g + 1 := ⟨fuel - 1, by omega⟩
      obtain ⟨w1, r1, r2, r3⟩ := rowX hN h1N bO xO hb hseat hcm hc8 hc (K := 0) k (by omega) (2 ^ N) 0 FU w (by omega) (by rw [FU_v]; omega) hA (fun q h1 h3 => hq q (by omega) h3) (fun y hy => by omega)
      obtain ⟨w', s1, s2⟩ := ih g w1 (by omega) (by omega) r2 r3
      refine ⟨w', ?_, s2⟩
      rw [fx_s, pk_m1]
      have hr : ∀ self, sX_workOut_L19 b (nI (2 ^ N)) (nI k) self 0 w = self (nI k + (-1)) w1 := fun self => by rw [eX_workOut_L19]; exact r1 self
      generalize fx _ _ g = t1 at s1 ⊢
      unfold bX_workOut_L12
      rw [if_neg (show ¬ nI k < 0 from nI_pos (by omega)), nm_d, hr]
      exact s1
  unfold sX_workOut
  rw [decide_eq_true hb, gd_t, hseat w0 Ag.rfl, bd_s, shlb (by omega), xO]
  rw [nm_d, nm_d, eX_workOut_L12, ← pk_m1 nO]
  exact key (nO + 1) FU w0 (by omega) (by rw [FU_v]; omega) Ag.rfl (fun q h1 h3 => by omega)
