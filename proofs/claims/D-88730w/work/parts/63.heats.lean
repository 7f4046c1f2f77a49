set_option maxRecDepth 100000
theorem nIsub {a b : Nat} (h : b ≤ a) : nI a - nI b = nI (a - b) := by
  have e : nI a = nI (a - b) + nI b := by rw [nI_add, Nat.sub_add_cancel h]
  rw [e, Int32.add_sub_cancel]
theorem absd (a b : Nat) (ha : a < 10000) (hb : b < 10000) : sJ0_abs_2 (nI a - nI b) = some (nI (a - b + (b - a))) := by
  unfold sJ0_abs_2
  by_cases h : b ≤ a
  · rw [nIsub h, if_pos (show (0 : Int32) ≤ nI (a - b) from (nIle (a := 0) (by decide) (by omega)).mpr (by omega)), show a - b + (b - a) = a - b by omega]
  · have e : nI a - nI b = -(nI (b - a)) := by
      rw [← nIsub (show a ≤ b by omega), Int32.neg_sub]
    have hn : ¬ (0 : Int32) ≤ -(nI (b - a)) := by
      intro z
      have z' := Int32.le_iff_toInt_le.mp z
      rw [Int32.toInt_neg, nTi (by omega)] at z'
      have : (-((b - a : Nat) : Int)).bmod (2 ^ 32) = -((b - a : Nat) : Int) := by
        rw [Int.bmod_eq_of_le] <;> omega
      rw [this] at z'
      have h0 : (0 : Int32).toInt = 0 := by decide
      omega
    rw [e, if_neg hn, Int32.neg_neg, show a - b + (b - a) = b - a by omega]
/-- one bit among 32 -/
theorem bit1 {k : Nat} (hk : k < 16) {i : Nat} (hi : i < 32) : ((1 : Int32) <<< (nI k &&& 31)).toBitVec.getLsbD i = decide (i = k) := by
  have h : ∀ k, k < 16 → ∀ i, i < 32 → ((1 : Int32) <<< (nI k &&& 31)).toBitVec.getLsbD i = decide (i = k) := by decide
  exact h k hk i hi
theorem whoIn_v {v : Wd} {nO : Nat} (hO : nO ≤ 16) (yO : v.2.1 90 10 = nI nO) (b : Int32) : ∃ r, sM_whoIn v b = some r ∧ ∀ i, i < 32 → r.toBitVec.getLsbD i = decide (i < nO ∧ v.2.1 2 i = b) := by
  unfold sM_whoIn
  rw [nm_d, nm_d, eM_whoIn_L4]
  refine fx2_run (fun (r x : Int32) => ∃ k, k ≤ nO ∧ x = nI k ∧ ∀ i, i < 32 → r.toBitVec.getLsbD i = decide (i < k ∧ v.2.1 2 i = b)) (fun _ (x : Int32) => nO - x.toNatClampNeg) (fun (r : Int32) => ∀ i, i < 32 → r.toBitVec.getLsbD i = decide (i < nO ∧ v.2.1 2 i = b)) ?_ FU 0 0 ⟨0, by omega, rfl, fun i hi => ?_⟩ (by rw [FU_v]; omega)
  · rintro self r x ⟨k, hk, rfl, hr⟩ ih
    unfold bM_whoIn_L4
    rw [yO]
    by_cases h : nO ≤ k
    · rw [if_pos ((nIle (by omega) (by omega)).mpr h)]
      obtain rfl : k = nO := by omega
      exact ⟨r, rfl, hr⟩
    · rw [if_neg (fun z => h ((nIle (by omega) (by omega)).mp z)), inb_nI (show k < 16 by omega) (by decide), clN (show k < 1073741824 by omega), rd_t]
      simp only [jn_d, nm_d, nI_1]
      have hm : nO - (nI (k + 1)).toNatClampNeg < nO - (nI k).toNatClampNeg := by rw [clN (by omega), clN (by omega)]; omega
      by_cases hb : v.2.1 2 k = b
      · rw [if_pos hb]
        refine ih _ _ ⟨k + 1, by omega, rfl, fun i hi => ?_⟩ hm
        rw [Int32.toBitVec_or, BitVec.getLsbD_or, hr i hi, bit1 (by omega) hi]
        by_cases hik : i = k
        · subst hik; simp [hb]
        · have : (i < k + 1) ↔ i < k := by omega
          simp [hik, this]
      · rw [if_neg hb]
        refine ih _ _ ⟨k + 1, by omega, rfl, fun i hi => ?_⟩ hm
        rw [Int32.or_zero, hr i hi]
        by_cases hik : i = k
        · subst hik; simp [hb]
        · have : (i < k + 1) ↔ i < k := by omega
          simp [this]
  · simp
theorem who_dis {v : Wd} {nO : Nat} (hO : nO ≤ 16) (yO : v.2.1 90 10 = nI nO) {a b : Int32} (hab : a ≠ b) : ∃ r s, sM_whoIn v a = some r ∧ sM_whoIn v b = some s ∧ r &&& s = 0 := by
  obtain ⟨r, e1, h1⟩ := whoIn_v hO yO a
  obtain ⟨s, e2, h2⟩ := whoIn_v hO yO b
  refine ⟨r, s, e1, e2, ?_⟩
  apply Int32.toBitVec_inj.mp
  apply BitVec.eq_of_getLsbD_eq
  intro i hi
  rw [Int32.toBitVec_and, BitVec.getLsbD_and, h1 i hi, h2 i hi]
  have : (0 : Int32).toBitVec.getLsbD i = false := by
    have : (0 : Int32).toBitVec = 0#32 := rfl
    rw [this, BitVec.getLsbD_zero]
  rw [this]
  by_cases g : v.2.1 2 i = a
  · have : ¬ v.2.1 2 i = b := fun z => hab (g.symm.trans z)
    simp [this]
  · simp [g]
theorem shares_v {w v : Wd} {nO nB a b : Nat} (hS : Seats nO nB w v) (k0 : w.1 0 = nB) (bB : nB ≤ 8) (bO : nO ≤ 16) (ha : a < nB) (hb : b < nB) : sX_shares w a b = some (if a = b then 1 else 0) := by
  unfold sX_shares
  rw [nm_d, jn_d, k0, decide_eq_true ha, decide_eq_true hb, eX_shares_L2]
  have hr : ∀ n k, k ≤ 9 → 9 - k < n → fx (fun _ => none) (bX_shares_L2 w a b (gd (true && true) (if a = b then some (1 : Int32) else some 0))) n (nI k) = some (if a = b then 1 else 0) := by
    intro n
    induction n with
    | zero => intro k _ h; omega
    | succ n ih =>
      intro k hk hn
      have ihx := ih (k + 1)
      rw [fx_s]
      generalize fx _ _ n = s1 at ihx ⊢
      unfold bX_shares_L2
      by_cases h : 8 < k
      · rw [if_pos (show (8 : Int32) < nI k from (nIlt (a := 8) (by decide) (by omega)).mpr h)]
        rw [show (true && true) = true from rfl, gd_t]
        split <;> rfl
      · rw [if_neg (show ¬ (8 : Int32) < nI k from fun z => h ((nIlt (a := 8) (by decide) (by omega)).mp z)), k0, decide_eq_true ha, decide_eq_true hb, inb_nI (show k < 9 by omega) (by decide), clN (show k < 1073741824 by omega)]
        simp only [Bool.and_self, rd_t, gd_t, nm_d, nI_1]
        rcases hS.1 a ha k (by omega) with e | ⟨p, hp, e, e2, e3⟩
        · rw [e, if_pos rfl]
          exact ihx (by omega) (by omega)
        · rw [e, if_neg (nI_nm1 (by omega)), place_v hS k0 bB bO hb hp, bd_s, e2]
          by_cases hab : a = b
          · subst hab
            rw [if_pos rfl, if_pos rfl, e3, if_neg (nI_nm1 (by omega))]
          · have hab' : ¬ nI a = nI b := fun z => hab ((nIeq (by omega) (by omega)).mp z)
            rw [if_neg hab', if_pos rfl]
            exact ihx (by omega) (by omega)
  exact hr FU 0 (by omega) (by rw [FU_v]; omega)
/-- whether two heats clash -/
def cl01 (N : Int32) (ta tb ba bb : Nat) : Nat := if N ≤ nI (ta - tb + (tb - ta)) then 0 else if ba = bb then 1 else 0
theorem cl01_s (N : Int32) (ta tb ba bb : Nat) : cl01 N ta tb ba bb = cl01 N tb ta bb ba := by
  unfold cl01
  rw [Nat.add_comm (ta - tb)]
  simp only [eq_comm]
theorem cl01_b (N : Int32) (ta tb ba bb : Nat) : cl01 N ta tb ba bb = 0 ∨ cl01 N ta tb ba bb = 1 := by
  unfold cl01
  repeat' split
  all_goals simp
theorem clashX {w v : Wd} {nO nB nH i j : Nat} {T B : Nat → Nat} (hS : Seats nO nB w v) (k0 : w.1 0 = nB) (k3 : w.1 3 = nB) (bB : nB ≤ 8) (bO : nO ≤ 16) (bH : nH ≤ 20) (hT : ∀ i, i < nH → T i < 1440 ∧ w.2.1 35 i = nI (T i)) (hB : ∀ i, i < nH → B i < nB ∧ w.2.1 36 i = nI (B i)) (hi : i < nH) (hj : j < nH) : sX_clash w (nI i) (nI j) = some (nI (if i = j then 0 else cl01 (w.2.1 90 38) (T i) (T j) (B i) (B j))) := by
  unfold sX_clash
  by_cases hij : i = j
  · subst hij
    rw [if_pos rfl, if_pos rfl]; rfl
  · rw [if_neg (fun z => hij ((nIeq (by omega) (by omega)).mp z)), if_neg hij, inb_nI (show i < 20 by omega) (by decide), clN (show i < 1073741824 by omega), inb_nI (show j < 20 by omega) (by decide), clN (show j < 1073741824 by omega)]
    have h1 := hT i hi
    have h2 := hT j hj
    have h3 := hB i hi
    have h4 := hB j hj
    simp only [rd_t]
    rw [h1.2, h2.2, absd _ _ (by omega) (by omega), bd_s, h3.2, h4.2, inb_nI (show B i < 8 by omega) (by decide), clN (show B i < 1073741824 by omega), inb_nI (show B j < 8 by omega) (by decide), clN (show B j < 1073741824 by omega), k3, decide_eq_true h3.1, decide_eq_true h4.1]
    simp only [Bool.and_self, rd_t]
    rw [shares_v hS k0 bB bO h3.1 h4.1, bd_s]
    unfold cl01
    by_cases hn : w.2.1 90 38 ≤ nI (T i - T j + (T j - T i))
    · rw [if_pos hn, if_pos hn]; rfl
    · rw [if_neg hn, if_neg hn]
      by_cases hb : B i = B j
      · rw [if_pos hb, if_pos hb, if_neg n10]; rfl
      · rw [if_neg hb, if_neg hb, if_pos z00]; rfl
theorem clashM {v : Wd} {nO nB nH i j t : Nat} {T B : Nat → Nat} (yO : v.2.1 90 10 = nI nO) (bB : nB ≤ 8) (bO : nO ≤ 16) (bH : nH ≤ 20) (hT : ∀ i, i < nH → T i < 1440 ∧ v.2.1 47 i = nI (T i)) (hB : ∀ i, i < nH → B i < nB ∧ v.2.1 46 i = nI (B i)) (hi : i < nH) (hj : j < nH) (ht : t < 1440) : sM_clash v (nI i) (nI t) (nI j) = some (nI (cl01 (v.2.1 90 49) t (T j) (B i) (B j))) := by
  unfold sM_clash
  rw [inb_nI (show i < 20 by omega) (by decide), clN (show i < 1073741824 by omega), inb_nI (show j < 20 by omega) (by decide), clN (show j < 1073741824 by omega)]
  have h2 := hT j hj
  have h3 := hB i hi
  have h4 := hB j hj
  simp only [rd_t, jn_d, nm_d]
  rw [h2.2, h3.2, h4.2]
  have fin : (if v.2.1 90 49 ≤ nI (t - T j + (T j - t)) then some (0 : Int32) else if nI (B i) = nI (B j) then some 1 else bd (sM_whoIn v (nI (B i))) fun v8 => bd (sM_whoIn v (nI (B j))) fun v10 => if (v8 &&& v10) = 0 then some 0 else some 1) = some (nI (cl01 (v.2.1 90 49) t (T j) (B i) (B j))) := by
    unfold cl01
    by_cases hn : v.2.1 90 49 ≤ nI (t - T j + (T j - t))
    · rw [if_pos hn, if_pos hn]; rfl
    · rw [if_neg hn, if_neg hn]
      by_cases hb : B i = B j
      · rw [if_pos hb, hb, if_pos rfl]; rfl
      · have hb' : ¬ nI (B i) = nI (B j) := fun z => hb ((nIeq (by omega) (by omega)).mp z)
        obtain ⟨r, s, e1, e2, e3⟩ := who_dis bO yO hb'
        rw [if_neg hb', if_neg hb, e1, e2, bd_s, bd_s, e3, if_pos rfl]; rfl
  by_cases h : T j ≤ t
  · rw [if_pos ((nIle (by omega) (by omega)).mpr h), nIsub h, show t - T j = t - T j + (T j - t) by omega]
    exact fin
  · rw [if_neg (fun z => h ((nIle (by omega) (by omega)).mp z)), nIsub (by omega), show T j - t = t - T j + (T j - t) by omega]
    exact fin
def sm (f : Nat → Nat) : Nat → Nat
  | 0 => 0
  | n + 1 => sm f n + f n
theorem sm_add (f g : Nat → Nat) : ∀ n, sm (fun i => f i + g i) n = sm f n + sm g n := by
  intro n
  induction n with
  | zero => rfl
  | succ n ih => unfold sm; rw [ih]; omega
theorem sm_c (f g : Nat → Nat) : ∀ n, (∀ i, i < n → f i = g i) → sm f n = sm g n := by
  intro n
  induction n with
  | zero => intro _; rfl
  | succ n ih => intro h; unfold sm; rw [ih (fun i hi => h i (by omega)), h n (by omega)]
theorem sm_0 (f : Nat → Nat) : ∀ n, (∀ i, i < n → f i = 0) → sm f n = 0 := by
  intro n
  induction n with
  | zero => intro _; rfl
  | succ n ih => intro h; unfold sm; rw [ih (fun i hi => h i (by omega)), h n (by omega)]
/-- pairs counted by rows or by columns -/
theorem sm_pairs (c : Nat → Nat → Nat) (hs : ∀ i j, c i j = c j i) : ∀ n, sm (fun i => sm (fun j => if i < j then c i j else 0) n) n = sm (fun a => sm (c a) a) n := by
  intro n
  induction n with
  | zero => rfl
  | succ n ih =>
    have e : sm (fun i => sm (fun j => if i < j then c i j else 0) (n + 1)) (n + 1) = sm (fun i => sm (fun j => if i < j then c i j else 0) n + (if i < n then c i n else 0)) n + (sm (fun j => if n < j then c n j else 0) n + (if n < n then c n n else 0)) := rfl
    have e2 : sm (fun a => sm (c a) a) (n + 1) = sm (fun a => sm (c a) a) n + sm (c n) n := rfl
    rw [e, e2, sm_add, ih, sm_0 (fun j => if n < j then c n j else 0) n (fun i hi => if_neg (by omega)), if_neg (by omega)]
    have e3 : sm (fun i => if i < n then c i n else 0) n = sm (c n) n := sm_c _ _ n (fun i hi => by rw [if_pos hi]; exact hs i n)
    omega
theorem clsX2 {w : Wd} {nH i : Nat} (bH : nH ≤ 20) (xH : w.2.1 90 37 = nI nH) (c : Nat → Nat → Nat) (hc : ∀ i j, c i j = 0 ∨ c i j = 1) (h : ∀ i j, i < nH → j < nH → i < j → sX_clash w (nI i) (nI j) = some (nI (c i j))) (hi : i < nH) (c0 : Nat) (self5 : Int32 → Int32 → Option Int32) : ∀ m j fuel, j + m = nH → i < j → m < fuel → fx (fun _ _ => none) (bX_clashes_L16 w (nI i) self5) fuel (nI (c0 + sm (fun j => if i < j then c i j else 0) j)) (nI j) = self5 (nI (c0 + sm (fun j => if i < j then c i j else 0) nH)) (nI (i + 1)) := by
  intro m
  induction m with
  | zero =>
    intro j fuel hj hij hf
    obtain ⟨g, rfl⟩ : ∃ g, fuel = g + 1 := ⟨fuel - 1, by omega⟩
    obtain rfl : j = nH := by omega
    rw [fx_s]
    unfold bX_clashes_L16
    rw [xH, if_pos (Int32.le_refl _), nm_d, nI_1]
  | succ m ih =>
    intro j fuel hj hij hf
    obtain ⟨g, rfl⟩ : ∃ g, fuel = g + 1 := ⟨fuel - 1, by omega⟩
    have ihx := ih (j + 1) g (by omega) (by omega) (by omega)
    rw [fx_s]
    generalize fx _ _ g = s1 at ihx ⊢
    rw [← ihx]
    unfold bX_clashes_L16
    rw [xH, if_neg (fun z => absurd ((nIle (by omega) (by omega)).mp z) (by omega)), h i j hi (by omega) hij, bd_s]
    simp only [nm_d, nI_1]
    have e : sm (fun j => if i < j then c i j else 0) (j + 1) = sm (fun j => if i < j then c i j else 0) j + c i j := by
      conv => lhs; unfold sm
      rw [if_pos hij]
    rw [e]
    rcases hc i j with z | z
    · rw [z, if_pos (show nI 0 = (0 : Int32) from rfl)]; rfl
    · rw [z, if_neg (show ¬ nI 1 = (0 : Int32) by decide)]; rfl
theorem clsX {w : Wd} {nH : Nat} (bH : nH ≤ 20) (xH : w.2.1 90 37 = nI nH) (c : Nat → Nat → Nat) (hc : ∀ i j, c i j = 0 ∨ c i j = 1) (h : ∀ i j, i < nH → j < nH → i < j → sX_clash w (nI i) (nI j) = some (nI (c i j))) : ∀ m i fuel, i + m = nH → m < fuel → fx (fun _ _ => none) (bX_clashes_L4 w) fuel (nI (sm (fun i => sm (fun j => if i < j then c i j else 0) nH) i)) (nI i) = some (nI (sm (fun i => sm (fun j => if i < j then c i j else 0) nH) nH)) := by
  intro m
  induction m with
  | zero =>
    intro i fuel hi hf
    obtain ⟨g, rfl⟩ : ∃ g, fuel = g + 1 := ⟨fuel - 1, by omega⟩
    obtain rfl : i = nH := by omega
    rw [fx_s]
    unfold bX_clashes_L4
    rw [xH, if_pos (Int32.le_refl _)]
  | succ m ih =>
    intro i fuel hi hf
    obtain ⟨g, rfl⟩ : ∃ g, fuel = g + 1 := ⟨fuel - 1, by omega⟩
    have ihx := ih (i + 1) g (by omega) (by omega)
    rw [fx_s]
    generalize fx _ _ g = s1 at ihx ⊢
    rw [← ihx]
    unfold bX_clashes_L4
    rw [xH, if_neg (fun z => absurd ((nIle (by omega) (by omega)).mp z) (by omega)), nm_d, nI_1, eX_clashes_L16]
    have := clsX2 bH xH c hc h (show i < nH by omega) (sm (fun i => sm (fun j => if i < j then c i j else 0) nH) i) s1 (nH - (i + 1)) (i + 1) FU (by omega) (by omega) (by rw [FU_v]; omega)
    rw [sm_0 (fun j => if i < j then c i j else 0) (i + 1) (fun j hj => if_neg (by omega)), Nat.add_zero] at this
    exact this
theorem clsM2 {v : Wd} {nH a : Nat} (bH : nH ≤ 20) (c : Nat → Nat → Nat) (hc : ∀ i j, c i j = 0 ∨ c i j = 1) (h : ∀ i j, i < nH → j < i → sM_clash v (nI i) (v.2.1 47 i) (nI j) = some (nI (c i j))) (ha : a < nH) (c0 : Nat) (self5 : Int32 → Int32 → Option Int32) : ∀ m j fuel, j + m = a → m < fuel → fx (fun _ _ => none) (bM_clashes_L14 v (nI a) self5) fuel (nI (c0 + sm (c a) j)) (nI j) = self5 (nI (c0 + sm (c a) a)) (nI (a + 1)) := by
  intro m
  induction m with
  | zero =>
    intro j fuel hj hf
    obtain ⟨g, rfl⟩ : ∃ g, fuel = g + 1 := ⟨fuel - 1, by omega⟩
    obtain rfl : j = a := by omega
    rw [fx_s]
    unfold bM_clashes_L14
    rw [if_pos (Int32.le_refl _), nm_d, nI_1]
  | succ m ih =>
    intro j fuel hj hf
    obtain ⟨g, rfl⟩ : ∃ g, fuel = g + 1 := ⟨fuel - 1, by omega⟩
    have ihx := ih (j + 1) g (by omega) (by omega)
    rw [fx_s]
    generalize fx _ _ g = s1 at ihx ⊢
    rw [← ihx]
    unfold bM_clashes_L14
    rw [if_neg (fun z => absurd ((nIle (by omega) (by omega)).mp z) (by omega)), inb_nI (show a < 20 by omega) (by decide), clN (show a < 1073741824 by omega), rd_t, h a j ha (by omega), bd_s]
    simp only [nm_d, nI_1, jn_d]
    have e : sm (c a) (j + 1) = sm (c a) j + c a j := rfl
    rw [e]
    rcases hc a j with z | z
    · rw [z, if_pos (show nI 0 = (0 : Int32) from rfl), Int32.add_zero]; rfl
    · rw [z, if_neg (show ¬ nI 1 = (0 : Int32) by decide)]; rfl
theorem clsM {v : Wd} {nH : Nat} (bH : nH ≤ 20) (yH : v.2.1 90 48 = nI nH) (c : Nat → Nat → Nat) (hc : ∀ i j, c i j = 0 ∨ c i j = 1) (h : ∀ i j, i < nH → j < i → sM_clash v (nI i) (v.2.1 47 i) (nI j) = some (nI (c i j))) : ∀ m i fuel, i + m = nH → m < fuel → fx (fun _ _ => none) (bM_clashes_L4 v) fuel (nI (sm (fun a => sm (c a) a) i)) (nI i) = some (nI (sm (fun a => sm (c a) a) nH)) := by
  intro m
  induction m with
  | zero =>
    intro i fuel hi hf
    obtain ⟨g, rfl⟩ : ∃ g, fuel = g + 1 := ⟨fuel - 1, by omega⟩
    obtain rfl : i = nH := by omega
    rw [fx_s]
    unfold bM_clashes_L4
    rw [yH, if_pos (Int32.le_refl _)]
  | succ m ih =>
    intro i fuel hi hf
    obtain ⟨g, rfl⟩ : ∃ g, fuel = g + 1 := ⟨fuel - 1, by omega⟩
    have ihx := ih (i + 1) g (by omega) (by omega)
    rw [fx_s]
    generalize fx _ _ g = s1 at ihx ⊢
    rw [← ihx]
    unfold bM_clashes_L4
    rw [yH, if_neg (fun z => absurd ((nIle (by omega) (by omega)).mp z) (by omega)), nm_d, eM_clashes_L14]
    exact clsM2 bH c hc h (show i < nH by omega) (sm (fun a => sm (c a) a) i) s1 i 0 FU (by omega) (by rw [FU_v]; omega)
theorem heatsX {w v : Wd} {nB nH : Nat} (bB : nB ≤ 8) (hH : Heats nB nH w v) : (∀ i, i < nH → (v.2.1 47 i).toNatClampNeg < 1440 ∧ w.2.1 35 i = nI (v.2.1 47 i).toNatClampNeg) ∧ (∀ i, i < nH → (v.2.1 46 i).toNatClampNeg < nB ∧ w.2.1 36 i = nI (v.2.1 46 i).toNatClampNeg) ∧ (∀ i, i < nH → (v.2.1 47 i).toNatClampNeg < 1440 ∧ v.2.1 47 i = nI (v.2.1 47 i).toNatClampNeg) ∧ (∀ i, i < nH → (v.2.1 46 i).toNatClampNeg < nB ∧ v.2.1 46 i = nI (v.2.1 46 i).toNatClampNeg) := by
  refine ⟨fun i hi => ?_, fun i hi => ?_, fun i hi => ?_, fun i hi => ?_⟩ <;> obtain ⟨b, t, hb, ht, e1, e2, e3, e4⟩ := hH i hi
  · rw [e4, clN (by omega), e3]; exact ⟨ht, rfl⟩
  · rw [e2, clN (by omega), e1]; exact ⟨hb, rfl⟩
  · rw [e4, clN (by omega)]; exact ⟨ht, rfl⟩
  · rw [e2, clN (by omega)]; exact ⟨hb, rfl⟩
theorem op_clashes : Op_clashes Rel := by
  intro w v hR
  have hR0 := hR
  obtain ⟨nO, nB, nC, nU, nT, nL, nH, nP, d, hC, hO, hB, hS, hRc, hV, hT, hU, hG, hL, hH, hK⟩ := hR
  have C := hC
  obtain ⟨⟨bO, bB, bC, bU, bT, bL, bH, bP, bD⟩, ⟨k0, k1, k2, k3, k4, k5⟩, ⟨xO, xB, xD, xC, xU, xP, xT, xL, xH⟩, ⟨yO, yB, yD, yC, yU, yP, yT, yL, yH⟩, hnr, hn0, hn9⟩ := C
  unfold sX_clashes sM_clashes
  simp only [nm_d]
  rw [eX_clashes_L4, eM_clashes_L4]
  obtain ⟨q1, q2, q3, q4⟩ := heatsX bB hH
  let c := fun i j => cl01 (v.2.1 90 49) (v.2.1 47 i).toNatClampNeg (v.2.1 47 j).toNatClampNeg (v.2.1 46 i).toNatClampNeg (v.2.1 46 j).toNatClampNeg
  have ex := clsX bH xH c (fun i j => cl01_b _ _ _ _ _) (fun i j hi hj hij => by
    rw [clashX hS k0 k3 bB bO bH q1 q2 hi hj, if_neg (by omega), hnr]) nH 0 FU (by omega) (by rw [FU_v]; omega)
  have em := clsM bH yH c (fun i j => cl01_b _ _ _ _ _) (fun i j hi hj => by
    have z := clashM (j := j) yO bB bO bH q3 q4 hi (by omega) (q3 i hi).1
    rw [← (q3 i hi).2] at z
    exact z) nH 0 FU (by omega) (by rw [FU_v]; omega)
  rw [sm_pairs c (fun i j => cl01_s _ _ _ _ _)] at ex
  exact fin1 ex em
def anyC (c : Nat → Nat) : Nat → Nat
  | 0 => 0
  | k + 1 => if c k = 0 then anyC c k else 1
theorem anyC_b (c : Nat → Nat) : ∀ k, anyC c k = 0 ∨ anyC c k = 1 := by
  intro k
  induction k with
  | zero => exact Or.inl rfl
  | succ k ih => unfold anyC; split; exact ih; exact Or.inr rfl
theorem anyC_m (c : Nat → Nat) (k : Nat) (h : anyC c k = 1) : ∀ m, anyC c (k + m) = 1 := by
  intro m
  induction m with
  | zero => exact h
  | succ m ih => rw [← Nat.add_assoc]; unfold anyC; split; exact ih; rfl
theorem shX2 {w : Wd} {nH h : Nat} (bH : nH ≤ 20) (xH : w.2.1 90 37 = nI nH) (c : Nat → Nat) (hc : ∀ j, c j = 0 ∨ c j = 1) (hcl : ∀ j, j < nH → sX_clash w (nI h) (nI j) = some (nI (c j))) (J : Int32 → Option (Int32 × Wd)) : ∀ m j fuel, j + m = nH → m < fuel → fx (fun _ _ => none) (bX_shift_L57 (nI h) w J) fuel (nI (anyC c j)) (nI j) = J (nI (anyC c nH)) := by
  intro m
  induction m with
  | zero =>
    intro j fuel hj hf
    obtain ⟨g, rfl⟩ : ∃ g, fuel = g + 1 := ⟨fuel - 1, by omega⟩
    obtain rfl : j = nH := by omega
    rw [fx_s]
    unfold bX_shift_L57
    rw [xH, if_pos (Int32.le_refl _)]
  | succ m ih =>
    intro j fuel hj hf
    obtain ⟨g, rfl⟩ : ∃ g, fuel = g + 1 := ⟨fuel - 1, by omega⟩
    have ihx := ih (j + 1) g (by omega) (by omega)
    rw [fx_s]
    generalize fx _ _ g = s1 at ihx ⊢
    rw [← ihx]
    unfold bX_shift_L57
    rw [xH, if_neg (fun z => absurd ((nIle (by omega) (by omega)).mp z) (by omega)), hcl j (by omega), bd_s]
    simp only [nm_d, nI_1]
    conv => rhs; unfold anyC
    rcases hc j with z | z <;> rcases anyC_b c j with y | y <;> rw [z, y] <;> rfl
theorem shM2 {v : Wd} {nH h t : Nat} (bH : nH ≤ 20) (hh : h < nH) (yH : v.2.1 90 48 = nI nH) (c : Nat → Nat) (hc : ∀ j, c j = 0 ∨ c j = 1) (hch : c h = 0) (hcl : ∀ j, j < nH → j ≠ h → sM_clash v (nI h) (nI t) (nI j) = some (nI (c j))) (J : Int32 → Option Int32) : ∀ m j fuel, j + m = nH → m < fuel → fx (fun _ _ => none) (bM_shift_L37 (nI h) v (nI t) J) fuel (nI (1 - anyC c j)) (nI j) = J (nI (1 - anyC c nH)) := by
  intro m
  induction m with
  | zero =>
    intro j fuel hj hf
    obtain ⟨g, rfl⟩ : ∃ g, fuel = g + 1 := ⟨fuel - 1, by omega⟩
    obtain rfl : j = nH := by omega
    rw [fx_s]
    unfold bM_shift_L37
    rw [yH, if_pos (Int32.le_refl _)]
  | succ m ih =>
    intro j fuel hj hf
    obtain ⟨g, rfl⟩ : ∃ g, fuel = g + 1 := ⟨fuel - 1, by omega⟩
    have ihx := ih (j + 1) g (by omega) (by omega)
    rw [fx_s]
    generalize fx _ _ g = s1 at ihx ⊢
    unfold bM_shift_L37
    rw [yH, if_neg (fun z => absurd ((nIle (by omega) (by omega)).mp z) (by omega))]
    rcases anyC_b c j with y | y
    · rw [y, if_neg (show ¬ nI (1 - 0) = (0 : Int32) by decide)]
      simp only [jn_d, nm_d, nI_1]
      have e : anyC c (j + 1) = if c j = 0 then anyC c j else 1 := rfl
      rw [e, y] at ihx
      by_cases hj2 : j = h
      · subst hj2
        rw [if_pos rfl]
        rw [hch, if_pos rfl] at ihx
        exact ihx
      · rw [if_neg (fun z => hj2 ((nIeq (by omega) (by omega)).mp z)), hcl j (by omega) hj2, bd_s]
        rcases hc j with z | z
        · rw [z, if_pos (show nI 0 = (0 : Int32) from rfl)]
          rw [z, if_pos rfl] at ihx
          exact ihx
        · rw [z, if_neg (show ¬ nI 1 = (0 : Int32) by decide)]
          rw [z, if_neg (by decide)] at ihx
          exact ihx
    · have hn : anyC c nH = 1 := by
        rw [← hj]; exact anyC_m c j y (m + 1)
      rw [y, hn, if_pos (show nI (1 - 1) = (0 : Int32) from rfl)]
theorem shift_loop {w v : Wd} {nO nB nH h : Nat} (hS : Seats nO nB w v) (k0 : w.1 0 = nB) (k3 : w.1 3 = nB) (bB : nB ≤ 8) (bO : nO ≤ 16) (bH : nH ≤ 20) (xH : w.2.1 90 37 = nI nH) (yH : v.2.1 90 48 = nI nH) (yO : v.2.1 90 10 = nI nO) (hnr : w.2.1 90 38 = v.2.1 90 49) (hH : Heats nB nH w v) (hh : h < nH) (J8 : Int32 → Wd → Option (Int32 × Wd)) : ∀ m t f f' y, t + m = 1440 → m + 1 < f → m < f' → ∃ r y', fx (fun _ _ _ => none) (bX_shift_L30 (nI h) J8) f (-1) (nI t) (stG w 35 h y) = J8 r (stG w 35 h y') ∧ fx (fun _ => none) (bM_shift_L25 (nI h) v) f' (nI t) = some (if r = -1 then -3 else r) := by
  intro m
  induction m with
  | zero =>
    intro t f f' y ht hf hf'
    obtain ⟨g, rfl⟩ : ∃ g, f = g + 1 := ⟨f - 1, by omega⟩
    obtain ⟨g', rfl⟩ : ∃ g, f' = g + 1 := ⟨f' - 1, by omega⟩
    obtain rfl : t = 1440 := by omega
    rw [fx_s, fx_s]
    unfold bX_shift_L30 bM_shift_L25
    rw [if_pos (show (1440 : Int32) ≤ nI 1440 from Int32.le_refl _), if_pos (show (1440 : Int32) ≤ nI 1440 from Int32.le_refl _)]
    exact ⟨-1, y, rfl, rfl⟩
  | succ m ih =>
    intro t f f' y ht hf hf'
    obtain ⟨g, rfl⟩ : ∃ g, f = g + 1 := ⟨f - 1, by omega⟩
    obtain ⟨g', rfl⟩ : ∃ g, f' = g + 1 := ⟨f' - 1, by omega⟩
    have ihx := ih (t + 1) g g' (nI t) (by omega) (by omega) (by omega)
    have hstop : fx (fun _ _ _ => none) (bX_shift_L30 (nI h) J8) g (nI t) (nI (t + 1)) (stG w 35 h (nI t)) = J8 (nI t) (stG w 35 h (nI t)) := by
      obtain ⟨e, rfl⟩ : ∃ e, g = e + 1 := ⟨g - 1, by omega⟩
      rw [fx_s]
      generalize fx _ _ e = s1
      unfold bX_shift_L30
      rw [if_neg (show ¬ nI t = (-1 : Int32) from nI_nm1 (by omega))]
      split <;> rfl
    rw [fx_s, fx_s]
    generalize fx _ _ g = s1 at ihx hstop ⊢
    generalize fx _ _ g' = s2 at ihx ⊢
    have hlt : ¬ (1440 : Int32) ≤ nI t := fun z => absurd ((nIle (a := 1440) (by decide) (by omega)).mp z) (by omega)
    obtain ⟨q1, q2, q3, q4⟩ := heatsX bB hH
    unfold bX_shift_L30 bM_shift_L25
    rw [if_neg hlt, if_neg hlt, if_pos rfl, inb_nI (show h < 20 by omega) (by decide), clN (show h < 1073741824 by omega), rd_t, stG_stG]
    simp only [nm_d, jn_d, nI_1]
    generalize hw2 : stG w 35 h (nI t) = w2 at ihx hstop ⊢
    have hA : Ag [35] [] w w2 := by rw [← hw2]; exact Ag.st (by decide) (by decide)
    have hS2 : Seats nO nB w2 v := hS.a hA (Ag.rfl (S := []) (F := [])) (by decide) (by decide)
    have r1 : w2.1 = w.1 := hA.1
    have r37 : w2.2.1 90 37 = nI nH := (hA.2.2 37 (by simp)).trans xH
    have r38 : w2.2.1 90 38 = v.2.1 90 49 := (hA.2.2 38 (by simp)).trans hnr
    have r36 : w2.2.1 36 = w.2.1 36 := hA.2.1 36 (by decide) (by decide)
    let T2 := fun i => if i = h then t else (v.2.1 47 i).toNatClampNeg
    have hT2 : ∀ i, i < nH → T2 i < 1440 ∧ w2.2.1 35 i = nI (T2 i) := by
      intro i hi
      show (if i = h then t else (v.2.1 47 i).toNatClampNeg) < 1440 ∧ w2.2.1 35 i = nI (if i = h then t else (v.2.1 47 i).toNatClampNeg)
      rw [← hw2, stG_eq]
      by_cases hih : i = h
      · rw [if_pos hih, hih, pk_us]; exact ⟨by omega, rfl⟩
      · rw [if_neg hih, pk_un hih]; exact q1 i hi
    let c := fun j => if h = j then 0 else cl01 (v.2.1 90 49) t (v.2.1 47 j).toNatClampNeg (v.2.1 46 h).toNatClampNeg (v.2.1 46 j).toNatClampNeg
    have hc : ∀ j, c j = 0 ∨ c j = 1 := by
      intro j
      show (if h = j then 0 else cl01 (v.2.1 90 49) t (v.2.1 47 j).toNatClampNeg (v.2.1 46 h).toNatClampNeg (v.2.1 46 j).toNatClampNeg) = 0 ∨ (if h = j then 0 else cl01 (v.2.1 90 49) t (v.2.1 47 j).toNatClampNeg (v.2.1 46 h).toNatClampNeg (v.2.1 46 j).toNatClampNeg) = 1
      split
      · exact Or.inl rfl
      · exact cl01_b _ _ _ _ _
    have ex := shX2 (h := h) bH r37 c hc (fun j hj => by
      rw [clashX hS2 (by rw [r1]; exact k0) (by rw [r1]; exact k3) bB bO bH hT2 (by rw [r36]; exact q2) hh hj, r38]
      show some (nI (if h = j then 0 else cl01 (v.2.1 90 49) (if h = h then t else (v.2.1 47 h).toNatClampNeg) (if j = h then t else (v.2.1 47 j).toNatClampNeg) (v.2.1 46 h).toNatClampNeg (v.2.1 46 j).toNatClampNeg)) = some (nI (if h = j then 0 else cl01 (v.2.1 90 49) t (v.2.1 47 j).toNatClampNeg (v.2.1 46 h).toNatClampNeg (v.2.1 46 j).toNatClampNeg))
      by_cases hhj : h = j
      · rw [if_pos hhj, if_pos hhj]
      · rw [if_neg hhj, if_neg hhj, if_pos rfl, if_neg (fun z => hhj z.symm)]) (fun x17 => if x17 = 0 then s1 (nI t) (nI (t + 1)) w2 else s1 (-1) (nI (t + 1)) w2) nH 0 FU (by omega) (by rw [FU_v]; omega)
    have em := shM2 (h := h) (t := t) bH hh yH c hc (if_pos rfl) (fun j hj hjh => by
      rw [clashM yO bB bO bH q3 q4 hh hj (by omega)]
      exact congrArg (fun z => some (nI z)) (if_neg (fun z => hjh z.symm)).symm) (fun x8 => if x8 = 0 then s2 (nI (t + 1)) else some (nI t)) nH 0 FU (by omega) (by rw [FU_v]; omega)
    rw [eX_shift_L57, eM_shift_L37]
    have ex' : fx (fun _ _ => none) (bX_shift_L57 (nI h) w2 (fun x17 => if x17 = 0 then s1 (nI t) (nI (t + 1)) w2 else s1 (-1) (nI (t + 1)) w2)) FU 0 0 = _ := ex
    have em' : fx (fun _ _ => none) (bM_shift_L37 (nI h) v (nI t) (fun x8 => if x8 = 0 then s2 (nI (t + 1)) else some (nI t))) FU 1 0 = _ := em
    rw [ex', em']
    rcases anyC_b c nH with z | z
    · rw [z, if_pos (show nI 0 = (0 : Int32) from rfl), if_neg (show ¬ nI (1 - 0) = (0 : Int32) by decide), hstop]
      exact ⟨nI t, nI t, by rw [hw2], by rw [if_neg (nI_nm1 (by omega))]⟩
    · rw [z, if_neg (show ¬ nI 1 = (0 : Int32) by decide), if_pos (show nI (1 - 1) = (0 : Int32) from rfl)]
      exact ihx
theorem stG_same {w : Wd} {a j : Nat} {x : Int32} (h : w.2.1 a j = x) : stG w a j x = w := by
  unfold stG
  have : (fun b => if b = a then upd (w.2.1 a) j x else w.2.1 b) = w.2.1 := by
    funext b
    by_cases hb : b = a
    · rw [if_pos hb, hb, upd_same h]
    · rw [if_neg hb]
  rw [this]
theorem op_shift : Op_shift Rel := by
  intro w v a1 hR
  have hR0 := hR
  obtain ⟨nO, nB, nC, nU, nT, nL, nH, nP, d, hC, hO, hB, hS, hRc, hV, hT, hU, hG, hL, hH, hK⟩ := hR
  have C := hC
  obtain ⟨⟨bO, bB, bC, bU, bT, bL, bH, bP, bD⟩, ⟨k0, k1, k2, k3, k4, k5⟩, ⟨xO, xB, xD, xC, xU, xP, xT, xL, xH⟩, ⟨yO, yB, yD, yC, yU, yP, yT, yL, yH⟩, hnr, hn0, hn9⟩ := C
  unfold sX_shift sM_shift
  rw [xH, yH, in_below a1 (by omega), isIn_below a1 (by omega)]
  simp only [bd_s]
  by_cases h1 : 0 ≤ a1.toInt ∧ a1.toInt < nH
  rotate_left
  · rw [b1_f h1, if_pos z00, if_pos z00]
    exact fin2 rfl rfl hR0
  rw [b1_t h1, if_neg n10, if_neg n10]
  obtain ⟨h, hh, rfl⟩ := ix_of h1
  rw [inb_nI (show h < 20 by omega) (by decide), clN (show h < 1073741824 by omega)]
  simp only [rd_t, nm_d, jn_d]
  obtain ⟨b, t, hb, ht, e1, e2, e3, e4⟩ := hH h hh
  rw [e3, e4, eX_shift_L30, eM_shift_L25]
  obtain ⟨r, y', ex, em⟩ := shift_loop hS k0 k3 bB bO bH xH yH yO hnr hH hh (fun x6 w7 => if x6 = -1 then some (-3, stG w7 35 h (nI t)) else some (x6, stG w7 35 h (nI t))) (1440 - t) t FU FU (nI t) (by omega) (by rw [FU_v]; omega) (by rw [FU_v]; omega)
  rw [stG_same e3, stG_stG, stG_same e3] at ex
  rw [ex, em]
  by_cases hr : r = -1
  · rw [if_pos hr, if_pos hr]
    exact fin2 rfl rfl hR0
  · rw [if_neg hr, if_neg hr]
    exact fin2 rfl rfl hR0
