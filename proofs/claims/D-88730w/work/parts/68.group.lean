set_option maxRecDepth 100000
/-- one race: both in the lower part -/
def stp (x y : Nat) (p : Nat → Nat) : Nat → Nat := fun o => if o = x ∨ o = y then min (p x) (p y) else p o
def pas (X Y : Nat → Nat) : Nat → Nat → (Nat → Nat) → Nat → Nat
  | 0, _, p => p
  | m + 1, r, p => pas X Y m (r + 1) (stp (X r) (Y r) p)
def cfl (X Y : Nat → Nat) : Nat → Nat → (Nat → Nat) → Nat → Nat
  | 0, _, _, c => c
  | m + 1, r, p, c => cfl X Y m (r + 1) (stp (X r) (Y r) p) (if p (X r) = p (Y r) then c else 1)
theorem stp_le (x y : Nat) (p : Nat → Nat) (o : Nat) : stp x y p o ≤ p o := by
  unfold stp
  by_cases h : o = x ∨ o = y
  · rw [if_pos h]; rcases h with rfl | rfl <;> omega
  · rw [if_neg h]; exact Nat.le_refl _
theorem pas_le (X Y : Nat → Nat) : ∀ m r p o, pas X Y m r p o ≤ p o := by
  intro m
  induction m with
  | zero => intro r p o; exact Nat.le_refl _
  | succ m ih => intro r p o; exact Nat.le_trans (ih (r + 1) _ o) (stp_le _ _ p o)
theorem sm_le (f g : Nat → Nat) : ∀ n, (∀ i, i < n → f i ≤ g i) → sm f n ≤ sm g n := by
  intro n
  induction n with
  | zero => intro _; exact Nat.le_refl _
  | succ n ih => intro h; unfold sm; have := ih (fun i hi => h i (by omega)); have := h n (by omega); omega
theorem sm_lt (f g : Nat → Nat) : ∀ n, (∀ i, i < n → f i ≤ g i) → (∃ i, i < n ∧ f i < g i) → sm f n < sm g n := by
  intro n
  induction n with
  | zero => intro _ ⟨i, hi, _⟩; omega
  | succ n ih =>
    intro h ⟨i, hi, hlt⟩
    unfold sm
    rcases Nat.lt_or_ge i n with hn | hn
    · have := ih (fun i hi => h i (by omega)) ⟨i, hn, hlt⟩
      have := h n (by omega)
      omega
    · obtain rfl : i = n := by omega
      have := sm_le f g i (fun j hj => h j (by omega))
      omega
/-- nothing changed: every race within one part; else the sum is less -/
theorem cfl_v (X Y : Nat → Nat) (n : Nat) : ∀ m r p c, (∀ j, X (r + j) < n ∧ Y (r + j) < n ∨ m ≤ j) → (c = 0 ∨ c = 1) → (cfl X Y m r p c = 1 ∧ (c = 1 ∨ sm (pas X Y m r p) n < sm p n)) ∨ (cfl X Y m r p c = 0 ∧ c = 0 ∧ (∀ o, pas X Y m r p o = p o) ∧ ∀ j, j < m → p (X (r + j)) = p (Y (r + j))) := by
  intro m
  induction m with
  | zero =>
    intro r p c hxy hc
    unfold cfl pas
    rcases hc with rfl | rfl
    · exact Or.inr ⟨rfl, rfl, fun o => rfl, fun j hj => by omega⟩
    · exact Or.inl ⟨rfl, Or.inl rfl⟩
  | succ m ih =>
    intro r p c hxy hc
    have hr : X r < n ∧ Y r < n := by
      rcases hxy 0 with h | h
      · exact h
      · omega
    have hsh : ∀ j, X (r + 1 + j) < n ∧ Y (r + 1 + j) < n ∨ m ≤ j := by
      intro j
      rcases hxy (j + 1) with h | h
      · rw [show r + 1 + j = r + (j + 1) by omega]; exact Or.inl h
      · exact Or.inr (by omega)
    unfold cfl pas
    by_cases e : p (X r) = p (Y r)
    · rw [if_pos e]
      have hst : ∀ o, stp (X r) (Y r) p o = p o := by
        intro o
        unfold stp
        by_cases h : o = X r ∨ o = Y r
        · rw [if_pos h]; rcases h with rfl | rfl <;> omega
        · rw [if_neg h]
      have hst' : stp (X r) (Y r) p = p := funext hst
      rw [hst']
      rcases ih (r + 1) p c hsh hc with h | ⟨h1, h2, h3, h4⟩
      · exact Or.inl h
      · refine Or.inr ⟨h1, h2, h3, fun j hj => ?_⟩
        rcases Nat.eq_zero_or_pos j with h0 | h0
        · subst h0; exact e
        · have := h4 (j - 1) (by omega)
          rw [show r + 1 + (j - 1) = r + j by omega] at this
          exact this
    · rw [if_neg e]
      have hlt : sm (stp (X r) (Y r) p) n < sm p n := by
        refine sm_lt _ _ n (fun i _ => stp_le _ _ p i) ?_
        rcases Nat.lt_or_ge (p (X r)) (p (Y r)) with h | h
        · exact ⟨Y r, hr.2, by unfold stp; rw [if_pos (Or.inr rfl)]; omega⟩
        · exact ⟨X r, hr.1, by unfold stp; rw [if_pos (Or.inl rfl)]; omega⟩
      rcases ih (r + 1) (stp (X r) (Y r) p) 1 hsh (Or.inr rfl) with ⟨h1, -⟩ | ⟨-, h2, -⟩
      · refine Or.inl ⟨h1, Or.inr (Nat.lt_of_le_of_lt (sm_le _ _ n (fun i _ => pas_le X Y m (r + 1) _ i)) hlt)⟩
      · exact absurd h2 (by decide)
theorem pas_inv (X Y : Nat → Nat) (f : Nat → Nat) : ∀ m r p, (∀ j, j < m → f (X (r + j)) = f (Y (r + j))) → (∀ o, f (p o) = f o) → ∀ o, f (pas X Y m r p o) = f o := by
  intro m
  induction m with
  | zero => intro r p _ h; exact h
  | succ m ih =>
    intro r p hf h o
    refine ih (r + 1) _ (fun j hj => ?_) (fun o => ?_) o
    · have := hf (j + 1) (by omega)
      rw [show r + 1 + j = r + (j + 1) by omega]; exact this
    · have hr := hf 0 (by omega)
      rw [Nat.add_zero] at hr
      unfold stp
      by_cases ho : o = X r ∨ o = Y r
      · rw [if_pos ho]
        have hx := h (X r)
        have hy := h (Y r)
        rcases Nat.le_total (p (X r)) (p (Y r)) with q | q
        · rw [Nat.min_eq_left q, hx]
          rcases ho with rfl | rfl
          · rfl
          · exact hr
        · rw [Nat.min_eq_right q, hy]
          rcases ho with rfl | rfl
          · exact hr.symm
          · rfl
      · rw [if_neg ho]; exact h o
theorem min_v {a b : Nat} (ha : a < 1073741824) (hb : b < 1073741824) : sJ0_min (nI a) (nI b) = some (nI (min a b)) := by
  unfold sJ0_min
  by_cases h : b < a
  · first
    | rw [if_pos ((nIlt hb ha).mpr h), Nat.min_eq_right (by omega)]
    | rw [if_neg (fun z => absurd ((nIle ha hb).mp z) (by omega)), Nat.min_eq_right (by omega)]
    | rw [if_neg (fun z => absurd ((nIlt ha hb).mp z) (by omega)), Nat.min_eq_right (by omega)]
  · first
    | rw [if_neg (fun z => h ((nIlt hb ha).mp z)), Nat.min_eq_left (by omega)]
    | rw [if_pos ((nIle ha hb).mpr (by omega)), Nat.min_eq_left (by omega)]
theorem passX {w0 : Wd} {X Y : Nat → Nat} {nO nC : Nat} (bO : nO ≤ 16) (bC : nC ≤ 40) (xC : w0.2.1 90 10 = nI nC) (hX : ∀ r, r < nC → X r < nO ∧ Y r < nO ∧ w0.2.1 5 r = nI (X r) ∧ w0.2.1 6 r = nI (Y r)) : ∀ (m r fuel : Nat) (w : Wd) (p : Nat → Nat) (c : Nat), r + m = nC → m < fuel → (c = 0 ∨ c = 1) → (∀ o, p o ≤ o) → Ag [8] [] w0 w → (∀ o, o < nO → w.2.1 8 o = nI (p o)) → ∃ w', (∀ self, fx (fun _ _ _ => none) (bX_findParts_L33 self) fuel (nI c) (nI r) w = self (nI (cfl X Y m r p c)) w') ∧ Ag [8] [] w0 w' ∧ ∀ o, o < nO → w'.2.1 8 o = nI (pas X Y m r p o) := by
  intro m
  induction m with
  | zero =>
    intro r fuel w p c hr hf hc hp hA hv
    obtain ⟨g, rfl⟩ : ∃ g, fuel = g + 1 := ⟨fuel - 1, by omega⟩
    obtain rfl : r = nC := by omega
    refine ⟨w, fun self => ?_, hA, hv⟩
    rw [fx_s]
    unfold bX_findParts_L33
    rw [hA.2.2 10 (by simp), xC, if_pos (Int32.le_refl _)]
    rfl
  | succ m ih =>
    intro r fuel w p c hr hf hc hp hA hv
    obtain ⟨g, rfl⟩ : ∃ g, fuel = g + 1 := ⟨fuel - 1, by omega⟩
    obtain ⟨x1, y1, ex, ey⟩ := hX r (by omega)
    have px := hp (X r)
    have py := hp (Y r)
    have vx := hv (X r) x1
    have vy := hv (Y r) y1
    have e5 : w.2.1 5 r = nI (X r) := by rw [hA.2.1 5 (by decide) (by decide)]; exact ex
    have e6 : w.2.1 6 r = nI (Y r) := by rw [hA.2.1 6 (by decide) (by decide)]; exact ey
    generalize hq : min (p (X r)) (p (Y r)) = q
    have hq2 : q ≤ p (X r) ∧ q ≤ p (Y r) := by omega
    obtain ⟨w', h1, h2, h3⟩ := ih (r + 1) g (stG (stG w 8 (X r) (nI q)) 8 (Y r) (nI q)) (stp (X r) (Y r) p) (if p (X r) = p (Y r) then c else 1) (by omega) (by omega) (by split; exact hc; exact Or.inr rfl) (fun o => Nat.le_trans (stp_le _ _ p o) (hp o)) ((hA.trans (Ag.st (by decide) (by decide))).trans (Ag.st (by decide) (by decide))) (fun o ho => by
      rw [stG_eq, stG_eq]
      unfold stp
      by_cases hy : o = Y r
      · rw [if_pos (Or.inr hy), hy, pk_us, hq]
      · rw [pk_un hy]
        by_cases hx : o = X r
        · rw [if_pos (Or.inl hx), hx, pk_us, hq]
        · rw [pk_un hx, if_neg (fun z => z.elim hx hy)]; exact hv o ho)
    refine ⟨w', fun self => ?_, h2, h3⟩
    have h1s := h1 self
    rw [fx_s]
    generalize fx _ _ g = s1 at h1s ⊢
    unfold bX_findParts_L33
    rw [hA.2.2 10 (by simp), xC, if_neg (fun z => absurd ((nIle (by omega) (by omega)).mp z) (by omega)), inb_nI (show r < 40 by omega) (by decide), clN (show r < 1073741824 by omega)]
    simp only [rd_t, nm_d, jn_d, nI_1]
    rw [e5, e6, inb_nI (show X r < 16 by omega) (by decide), clN (show X r < 1073741824 by omega), inb_nI (show Y r < 16 by omega) (by decide), clN (show Y r < 1073741824 by omega)]
    simp only [rd_t]
    rw [vx, vy, min_v (by omega) (by omega), bd_s, hq]
    have e6' : (stG w 8 (X r) (nI q)).2.1 6 r = nI (Y r) := by rw [stG_ne (by decide)]; exact e6
    rw [e6', inb_nI (show Y r < 16 by omega) (by decide), clN (show Y r < 1073741824 by omega)]
    simp only [rd_t]
    conv => rhs; unfold cfl
    by_cases e : p (X r) = p (Y r)
    · rw [if_pos e] at h1s
      have q1 : nI (p (X r)) = nI q := congrArg nI (by omega)
      have q2 : nI (p (Y r)) = nI q := congrArg nI (by omega)
      rw [if_pos q1, if_pos q2, Int32.or_zero, if_pos e]
      exact h1s
    · rw [if_neg e] at h1s
      rw [if_neg e]
      have hor : nI c ||| 1 = nI 1 := by rcases hc with rfl | rfl <;> rfl
      by_cases q1 : nI (p (X r)) = nI q
      · have q1' := (nIeq (by omega) (by omega)).mp q1
        rw [if_pos q1, if_neg (fun z => by have := (nIeq (by omega) (by omega)).mp z; omega), hor]
        exact h1s
      · rw [if_neg q1, hor]
        exact h1s
theorem passM {v0 : Wd} {X Y : Nat → Nat} {nC : Nat} (bC : nC ≤ 40) (yC : v0.2.1 90 16 = nI nC) (hX : ∀ r, r < nC → X r < 16 ∧ Y r < 16 ∧ v0.2.1 12 r = nI (X r) ∧ v0.2.1 13 r = nI (Y r)) : ∀ (m r fuel : Nat) (w : Wd) (p : Nat → Nat) (c : Nat), r + m = nC → m < fuel → (∀ o, p o ≤ o) → Ag [15] [] v0 w → (∀ o, o < 16 → w.2.1 15 o = nI (p o)) → ∃ w', (∀ self, fx (fun _ _ _ => none) (bM_findGroups_L31 self) fuel (nI c) (nI r) w = self (nI (cfl X Y m r p c)) w') ∧ Ag [15] [] v0 w' ∧ ∀ o, o < 16 → w'.2.1 15 o = nI (pas X Y m r p o) := by
  intro m
  induction m with
  | zero =>
    intro r fuel w p c hr hf hp hA hv
    obtain ⟨g, rfl⟩ : ∃ g, fuel = g + 1 := ⟨fuel - 1, by omega⟩
    obtain rfl : r = nC := by omega
    refine ⟨w, fun self => ?_, hA, hv⟩
    rw [fx_s]
    unfold bM_findGroups_L31
    rw [hA.2.2 16 (by simp), yC, if_pos (Int32.le_refl _)]
    rfl
  | succ m ih =>
    intro r fuel w p c hr hf hp hA hv
    obtain ⟨g, rfl⟩ : ∃ g, fuel = g + 1 := ⟨fuel - 1, by omega⟩
    obtain ⟨x1, y1, ex, ey⟩ := hX r (by omega)
    have px := hp (X r)
    have py := hp (Y r)
    have vx := hv (X r) x1
    have vy := hv (Y r) y1
    have e5 : w.2.1 12 r = nI (X r) := by rw [hA.2.1 12 (by decide) (by decide)]; exact ex
    have e6 : w.2.1 13 r = nI (Y r) := by rw [hA.2.1 13 (by decide) (by decide)]; exact ey
    have hst : ∀ (self : Int32 → Wd → Option Wd) (s1 : Int32 → Int32 → Wd → Option Wd), bM_findGroups_L31 self s1 (nI c) (nI r) w = if nI (p (X r)) = nI (p (Y r)) then s1 (nI c) (nI (r + 1)) w else s1 1 (nI (r + 1)) (stG (stG w 15 (X r) (nI (min (p (X r)) (p (Y r))))) 15 (Y r) (nI (min (p (X r)) (p (Y r))))) := by
      intro self s1
      unfold bM_findGroups_L31
      rw [hA.2.2 16 (by simp), yC, if_neg (fun z => absurd ((nIle (by omega) (by omega)).mp z) (by omega)), inb_nI (show r < 40 by omega) (by decide), clN (show r < 1073741824 by omega)]
      simp only [rd_t, nm_d, jn_d, nI_1]
      rw [e5, e6, inb_nI (show X r < 16 by omega) (by decide), clN (show X r < 1073741824 by omega), inb_nI (show Y r < 16 by omega) (by decide), clN (show Y r < 1073741824 by omega)]
      simp only [rd_t]
      rw [vx, vy]
      have e6' : ∀ z, (stG w 15 (X r) z).2.1 13 r = nI (Y r) := fun z => by rw [stG_ne (by decide)]; exact e6
      rw [e6', e6', inb_nI (show Y r < 16 by omega) (by decide), clN (show Y r < 1073741824 by omega)]
      simp only [rd_t]
      by_cases h : p (Y r) ≤ p (X r)
      · rw [if_pos ((nIle (by omega) (by omega)).mpr h), if_pos ((nIle (by omega) (by omega)).mpr h), Nat.min_eq_right h]
      · rw [if_neg (fun z => h ((nIle (by omega) (by omega)).mp z)), if_neg (fun z => h ((nIle (by omega) (by omega)).mp z)), Nat.min_eq_left (by omega)]
    by_cases e : p (X r) = p (Y r)
    · have hsp : stp (X r) (Y r) p = p := by
        funext o
        unfold stp
        by_cases h : o = X r ∨ o = Y r
        · rw [if_pos h]; rcases h with rfl | rfl <;> omega
        · rw [if_neg h]
      obtain ⟨w', h1, h2, h3⟩ := ih (r + 1) g w p c (by omega) (by omega) hp hA hv
      unfold cfl pas
      rw [hsp, if_pos e]
      refine ⟨w', fun self => ?_, h2, h3⟩
      rw [fx_s, hst, if_pos (congrArg nI e)]
      exact h1 self
    · obtain ⟨w', h1, h2, h3⟩ := ih (r + 1) g (stG (stG w 15 (X r) (nI (min (p (X r)) (p (Y r))))) 15 (Y r) (nI (min (p (X r)) (p (Y r))))) (stp (X r) (Y r) p) 1 (by omega) (by omega) (fun o => Nat.le_trans (stp_le _ _ p o) (hp o)) ((hA.trans (Ag.st (by decide) (by decide))).trans (Ag.st (by decide) (by decide))) (fun o ho => by
        rw [stG_eq, stG_eq]
        unfold stp
        by_cases hy : o = Y r
        · rw [if_pos (Or.inr hy), hy, pk_us]
        · rw [pk_un hy]
          by_cases hx : o = X r
          · rw [if_pos (Or.inl hx), hx, pk_us]
          · rw [pk_un hx, if_neg (fun z => z.elim hx hy)]; exact hv o ho)
      unfold cfl pas
      rw [if_neg e]
      refine ⟨w', fun self => ?_, h2, h3⟩
      rw [fx_s, hst, if_neg (fun z => e ((nIeq (by omega) (by omega)).mp z))]
      exact h1 self
theorem initX {w0 : Wd} {nO : Nat} (bO : nO ≤ 16) (xO : w0.2.1 90 2 = nI nO) : ∀ (m k fuel : Nat) (w : Wd), k + m = nO → m < fuel → Ag [8] [] w0 w → (∀ o, o < k → w.2.1 8 o = nI o) → ∃ w', (∀ J, fx (fun _ _ => none) (bX_findParts_L2 J) fuel (nI k) w = J w') ∧ Ag [8] [] w0 w' ∧ ∀ o, o < nO → w'.2.1 8 o = nI o := by
  intro m
  induction m with
  | zero =>
    intro k fuel w hk hf hA hv
    obtain ⟨g, rfl⟩ : ∃ g, fuel = g + 1 := ⟨fuel - 1, by omega⟩
    obtain rfl : k = nO := by omega
    refine ⟨w, fun J => ?_, hA, hv⟩
    rw [fx_s]
    unfold bX_findParts_L2
    rw [hA.2.2 2 (by simp), xO, if_pos (Int32.le_refl _)]
  | succ m ih =>
    intro k fuel w hk hf hA hv
    obtain ⟨g, rfl⟩ : ∃ g, fuel = g + 1 := ⟨fuel - 1, by omega⟩
    obtain ⟨w', h1, h2, h3⟩ := ih (k + 1) g (stG w 8 k (nI k)) (by omega) (by omega) (hA.trans (Ag.st (by decide) (by decide))) (fun o ho => by
      rw [stG_eq]
      by_cases h : o = k
      · rw [h, pk_us]
      · rw [pk_un h]; exact hv o (by omega))
    refine ⟨w', fun J => ?_, h2, h3⟩
    have h1s := h1 J
    rw [fx_s]
    generalize fx _ _ g = s1 at h1s ⊢
    unfold bX_findParts_L2
    rw [hA.2.2 2 (by simp), xO, if_neg (fun z => absurd ((nIle (by omega) (by omega)).mp z) (by omega)), inb_nI (show k < 16 by omega) (by decide), clN (show k < 1073741824 by omega), rd_t, nm_d, nI_1]
    exact h1s
theorem initM {w0 : Wd} : ∀ (m k fuel : Nat) (w : Wd), k + m = 16 → m < fuel → Ag [15] [] w0 w → (∀ o, o < k → w.2.1 15 o = nI o) → ∃ w', (∀ J, fx (fun _ _ => none) (bM_findGroups_L2 J) fuel (nI k) w = J w') ∧ Ag [15] [] w0 w' ∧ ∀ o, o < 16 → w'.2.1 15 o = nI o := by
  intro m
  induction m with
  | zero =>
    intro k fuel w hk hf hA hv
    obtain ⟨g, rfl⟩ : ∃ g, fuel = g + 1 := ⟨fuel - 1, by omega⟩
    obtain rfl : k = 16 := by omega
    refine ⟨w, fun J => ?_, hA, hv⟩
    rw [fx_s]
    unfold bM_findGroups_L2
    rw [if_pos (show (16 : Int32) ≤ nI 16 from Int32.le_refl _)]
  | succ m ih =>
    intro k fuel w hk hf hA hv
    obtain ⟨g, rfl⟩ : ∃ g, fuel = g + 1 := ⟨fuel - 1, by omega⟩
    obtain ⟨w', h1, h2, h3⟩ := ih (k + 1) g (stG w 15 k (nI k)) (by omega) (by omega) (hA.trans (Ag.st (by decide) (by decide))) (fun o ho => by
      rw [stG_eq]
      by_cases h : o = k
      · rw [h, pk_us]
      · rw [pk_un h]; exact hv o (by omega))
    refine ⟨w', fun J => ?_, h2, h3⟩
    have h1s := h1 J
    rw [fx_s]
    generalize fx _ _ g = s1 at h1s ⊢
    unfold bM_findGroups_L2
    rw [if_neg (show ¬ (16 : Int32) ≤ nI k from fun z => absurd ((nIle (a := 16) (by decide) (by omega)).mp z) (by omega)), inb_nI (show k < 16 by omega) (by decide), clN (show k < 1073741824 by omega), rd_t, nm_d, nI_1]
    exact h1s
/-- what the parts are when nothing changes any more -/
def PartsOk (X Y : Nat → Nat) (nC : Nat) (P : Nat → Nat) : Prop := (∀ o, P o ≤ o) ∧ (∀ r, r < nC → P (X r) = P (Y r)) ∧ ∀ f : Nat → Nat, (∀ r, r < nC → f (X r) = f (Y r)) → ∀ o, f (P o) = f o
theorem partsRun {w0 v0 : Wd} {X Y : Nat → Nat} {nO nC : Nat} (bO : nO ≤ 16) (bC : nC ≤ 40) (xC : w0.2.1 90 10 = nI nC) (yC : v0.2.1 90 16 = nI nC) (hX : ∀ r, r < nC → X r < nO ∧ Y r < nO ∧ w0.2.1 5 r = nI (X r) ∧ w0.2.1 6 r = nI (Y r) ∧ v0.2.1 12 r = nI (X r) ∧ v0.2.1 13 r = nI (Y r)) : ∀ (S f f' : Nat) (p : Nat → Nat) (w v : Wd), sm p nO ≤ S → S + 1 < f → S + 1 < f' → (∀ o, p o ≤ o) → (∀ q : Nat → Nat, (∀ r, r < nC → q (X r) = q (Y r)) → ∀ o, q (p o) = q o) → Ag [8] [] w0 w → Ag [15] [] v0 v → (∀ o, o < nO → w.2.1 8 o = nI (p o)) → (∀ o, o < 16 → v.2.1 15 o = nI (p o)) → ∃ P w' v', fx (fun _ _ => none) bX_findParts_L25 f 1 w = some w' ∧ fx (fun _ _ => none) bM_findGroups_L23 f' 1 v = some v' ∧ Ag [8] [] w0 w' ∧ Ag [15] [] v0 v' ∧ (∀ o, o < nO → w'.2.1 8 o = nI (P o)) ∧ (∀ o, o < 16 → v'.2.1 15 o = nI (P o)) ∧ PartsOk X Y nC P := by
  intro S
  induction S with
  | zero =>
    intro f f' p w v hS hf hf' hp hi hA hB hw hv
    obtain ⟨g, rfl⟩ : ∃ g, f = g + 2 := ⟨f - 2, by omega⟩
    obtain ⟨g', rfl⟩ : ∃ g, f' = g + 2 := ⟨f' - 2, by omega⟩
    obtain ⟨w', x1, x2, x3⟩ := passX bO bC xC (fun r hr => ⟨(hX r hr).1, (hX r hr).2.1, (hX r hr).2.2.1, (hX r hr).2.2.2.1⟩) nC 0 FU w p 0 (by omega) (by rw [FU_v]; omega) (Or.inl rfl) hp hA hw
    obtain ⟨v', y1, y2, y3⟩ := passM bC yC (fun r hr => ⟨by have := (hX r hr).1; omega, by have := (hX r hr).2.1; omega, (hX r hr).2.2.2.2.1, (hX r hr).2.2.2.2.2⟩) nC 0 FU v p 0 (by omega) (by rw [FU_v]; omega) hp hB hv
    have hsx : ∀ s, bX_findParts_L25 s 1 w = s (nI (cfl X Y nC 0 p 0)) w' := by
      intro s
      unfold bX_findParts_L25
      rw [if_neg n10, nm_d, nm_d, eX_findParts_L33]
      exact x1 s
    have hsy : ∀ s, bM_findGroups_L23 s 1 v = s (nI (cfl X Y nC 0 p 0)) v' := by
      intro s
      unfold bM_findGroups_L23
      rw [if_neg n10, nm_d, nm_d, eM_findGroups_L31]
      exact y1 s
    have hxy : ∀ j, X (0 + j) < nO ∧ Y (0 + j) < nO ∨ nC ≤ j := fun j => by
      rcases Nat.lt_or_ge j nC with h | h
      · rw [Nat.zero_add]; exact Or.inl ⟨(hX j h).1, (hX j h).2.1⟩
      · exact Or.inr h
    rcases cfl_v X Y nO nC 0 p 0 hxy (Or.inl rfl) with ⟨-, h⟩ | ⟨h1, -, h3, h4⟩
    · exfalso
      rcases h with h | h
      · exact absurd h (by decide)
      · omega
    · refine ⟨p, w', v', ?_, ?_, x2, y2, fun o ho => by rw [x3 o ho, h3], fun o ho => by rw [y3 o ho, h3], hp, fun r hr => ?_, hi⟩
      · rw [show g + 2 = g + 1 + 1 from rfl, fx_s, hsx, h1, fx_s]
        unfold bX_findParts_L25
        rw [if_pos (show nI 0 = (0 : Int32) from rfl)]
      · rw [show g' + 2 = g' + 1 + 1 from rfl, fx_s, hsy, h1, fx_s]
        unfold bM_findGroups_L23
        rw [if_pos (show nI 0 = (0 : Int32) from rfl)]
      · have := h4 r hr
        rw [Nat.zero_add] at this
        exact this
  | succ S ih =>
    intro f f' p w v hS hf hf' hp hi hA hB hw hv
    obtain ⟨g, rfl⟩ : ∃ g, f = g + 2 := ⟨f - 2, by omega⟩
    obtain ⟨g', rfl⟩ : ∃ g, f' = g + 2 := ⟨f' - 2, by omega⟩
    obtain ⟨w', x1, x2, x3⟩ := passX bO bC xC (fun r hr => ⟨(hX r hr).1, (hX r hr).2.1, (hX r hr).2.2.1, (hX r hr).2.2.2.1⟩) nC 0 FU w p 0 (by omega) (by rw [FU_v]; omega) (Or.inl rfl) hp hA hw
    obtain ⟨v', y1, y2, y3⟩ := passM bC yC (fun r hr => ⟨by have := (hX r hr).1; omega, by have := (hX r hr).2.1; omega, (hX r hr).2.2.2.2.1, (hX r hr).2.2.2.2.2⟩) nC 0 FU v p 0 (by omega) (by rw [FU_v]; omega) hp hB hv
    have hsx : ∀ s, bX_findParts_L25 s 1 w = s (nI (cfl X Y nC 0 p 0)) w' := by
      intro s
      unfold bX_findParts_L25
      rw [if_neg n10, nm_d, nm_d, eX_findParts_L33]
      exact x1 s
    have hsy : ∀ s, bM_findGroups_L23 s 1 v = s (nI (cfl X Y nC 0 p 0)) v' := by
      intro s
      unfold bM_findGroups_L23
      rw [if_neg n10, nm_d, nm_d, eM_findGroups_L31]
      exact y1 s
    have hxy : ∀ j, X (0 + j) < nO ∧ Y (0 + j) < nO ∨ nC ≤ j := fun j => by
      rcases Nat.lt_or_ge j nC with h | h
      · rw [Nat.zero_add]; exact Or.inl ⟨(hX j h).1, (hX j h).2.1⟩
      · exact Or.inr h
    rcases cfl_v X Y nO nC 0 p 0 hxy (Or.inl rfl) with ⟨h1, h⟩ | ⟨h1, -, h3, h4⟩
    · rcases h with h | h
      · exact absurd h (by decide)
      · obtain ⟨P, w2, v2, r1, r2, r3⟩ := ih (g + 1) (g' + 1) (pas X Y nC 0 p) w' v' (by omega) (by omega) (by omega) (fun o => Nat.le_trans (pas_le X Y nC 0 p o) (hp o)) (fun q hq => pas_inv X Y q nC 0 p (fun j hj => by rw [Nat.zero_add]; exact hq j hj) (hi q hq)) x2 y2 x3 y3
        refine ⟨P, w2, v2, ?_, ?_, r3⟩
        · rw [show g + 2 = g + 1 + 1 from rfl, fx_s, hsx, h1]
          exact r1
        · rw [show g' + 2 = g' + 1 + 1 from rfl, fx_s, hsy, h1]
          exact r2
    · refine ⟨p, w', v', ?_, ?_, x2, y2, fun o ho => by rw [x3 o ho, h3], fun o ho => by rw [y3 o ho, h3], hp, fun r hr => ?_, hi⟩
      · rw [show g + 2 = g + 1 + 1 from rfl, fx_s, hsx, h1, fx_s]
        unfold bX_findParts_L25
        rw [if_pos (show nI 0 = (0 : Int32) from rfl)]
      · rw [show g' + 2 = g' + 1 + 1 from rfl, fx_s, hsy, h1, fx_s]
        unfold bM_findGroups_L23
        rw [if_pos (show nI 0 = (0 : Int32) from rfl)]
      · have := h4 r hr
        rw [Nat.zero_add] at this
        exact this
def xr (v : Wd) (r : Nat) : Nat := (v.2.1 12 r).toNatClampNeg
def yr (v : Wd) (r : Nat) : Nat := (v.2.1 13 r).toNatClampNeg
theorem races_xy {w v : Wd} {nO nC : Nat} (bO : nO ≤ 16) (h : Races nO nC w v) : ∀ r, r < nC → xr v r < nO ∧ yr v r < nO ∧ w.2.1 5 r = nI (xr v r) ∧ w.2.1 6 r = nI (yr v r) ∧ v.2.1 12 r = nI (xr v r) ∧ v.2.1 13 r = nI (yr v r) := by
  intro r hr
  obtain ⟨x, y, hx, hy, -, e1, e2, e3, e4, -⟩ := h r hr
  unfold xr yr
  rw [e2, e4, clN (by omega), clN (by omega)]
  exact ⟨hx, hy, e1, e3, rfl, rfl⟩
theorem sm_id : ∀ n, n ≤ 16 → sm (fun o => o) n ≤ 16 * n := by
  intro n
  induction n with
  | zero => intro _; exact Nat.le_refl _
  | succ n ih => intro h; unfold sm; have := ih (by omega); omega
theorem parts_v {w v : Wd} {nO nC : Nat} (bO : nO ≤ 16) (bC : nC ≤ 40) (xO : w.2.1 90 2 = nI nO) (xC : w.2.1 90 10 = nI nC) (yC : v.2.1 90 16 = nI nC) (hRc : Races nO nC w v) : ∃ P w' v', sX_findParts w = some w' ∧ sM_findGroups v = some v' ∧ Ag [8] [] w w' ∧ Ag [15] [] v v' ∧ (∀ o, o < nO → w'.2.1 8 o = nI (P o)) ∧ (∀ o, o < 16 → v'.2.1 15 o = nI (P o)) ∧ PartsOk (xr v) (yr v) nC P := by
  obtain ⟨w1, e1, a1, i1⟩ := initX bO xO nO 0 FU w (by omega) (by rw [FU_v]; omega) Ag.rfl (fun o ho => by omega)
  obtain ⟨v1, e2, a2, i2⟩ := initM (w0 := v) 16 0 FU v (by omega) (by rw [FU_v]; omega) Ag.rfl (fun o ho => by omega)
  have hs := sm_id nO bO
  obtain ⟨P, w2, v2, r1, r2, r3⟩ := partsRun bO bC xC yC (races_xy bO hRc) (16 * nO) FU FU (fun o => o) w1 v1 hs (by rw [FU_v]; omega) (by rw [FU_v]; omega) (fun o => Nat.le_refl _) (fun q _ o => rfl) a1 a2 i1 i2
  refine ⟨P, w2, v2, ?_, ?_, r3⟩
  · unfold sX_findParts
    have e1' : ∀ J, sX_findParts_L2 J 0 w = J w1 := fun J => by rw [eX_findParts_L2]; exact e1 J
    rw [nm_d, jn_d, e1', nm_d, eX_findParts_L25]
    exact r1
  · unfold sM_findGroups
    have e2' : ∀ J, sM_findGroups_L2 J 0 v = J v1 := fun J => by rw [eM_findGroups_L2]; exact e2 J
    rw [nm_d, jn_d, e2', nm_d, eM_findGroups_L23]
    exact r2
theorem op_group : Op_group Rel := by
  intro w v a1 hR
  have hR0 := hR
  obtain ⟨nO, nB, nC, nU, nT, nL, nH, nP, d, hC, hO, hB, hS, hRc, hV, hT, hU, hG, hL, hH, hK⟩ := hR
  have C := hC
  obtain ⟨⟨bO, bB, bC, bU, bT, bL, bH, bP, bD⟩, ⟨k0, k1, k2, k3, k4, k5⟩, ⟨xO, xB, xD, xC, xU, xP, xT, xL, xH⟩, ⟨yO, yB, yD, yC, yU, yP, yT, yL, yH⟩, hnr, hn0, hn9⟩ := C
  unfold sX_group sM_group
  rw [sX_isOar_v a1 xO (by omega), sM_isOar_v a1 yO (by omega), bd_s, bd_s]
  by_cases h1 : 0 ≤ a1.toInt ∧ a1.toInt < nO
  rotate_left
  · rw [b1_f h1, if_pos z00, if_pos z00]
    exact fin3 rfl rfl hR0
  rw [b1_t h1, if_neg n10, if_neg n10]
  obtain ⟨p, hp, rfl⟩ := ix_of h1
  obtain ⟨P, w', v', e1, e2, a1, a2, p1, p2, -⟩ := parts_v bO bC xO xC yC hRc
  rw [e1, e2, bd_s, bd_s, inb_nI (show p < 16 by omega) (by decide), clN (show p < 1073741824 by omega), rd_t, rd_t, p1 p hp, p2 p (by omega)]
  exact fin3 rfl rfl (hR0.keep (a1.mono (by simp) (by simp)) (a2.mono (by simp) (by simp)))
