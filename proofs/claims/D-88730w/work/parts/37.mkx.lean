set_option maxRecDepth 100000
def adU (ad : Nat → Nat) (r q : Nat) : Nat → Nat := fun i => if i = r then q else ad i
theorem adU_eq (ad : Nat → Nat) (r q : Nat) : adU ad r q r = q := if_pos rfl
theorem adU_ne {ad : Nat → Nat} {r q i : Nat} (h : i ≠ r) : adU ad r q i = ad i := if_neg h
def addO (w : Wd) (k : Nat) (n wt sd : Int32) : Wd := (fun i => if i = 1 then w.1 1 + 1 else if i = 108 + 10 * w.1 1 then k else w.1 i, fun r => if r = 102 + 10 * w.1 1 then (fun j => if j = 0 then n else if j = 1 then wt else if j = 3 then sd else 0) else w.2.1 r, w.2.2)
def addB (w : Wd) (a1 a2 a3 a4 : Int32) : Wd := (fun i => if i = 0 then w.1 0 + 1 else w.1 i, fun r => if r = 100 + 10 * w.1 0 then (fun j => if j = 0 then a1 else if j = 1 then a2 else if j = 2 then a3 else if j = 3 then a4 else 0) else if r = 101 + 10 * w.1 0 then cr0 9 else w.2.1 r, w.2.2)
def addR (w : Wd) : Wd := (fun i => if i = 2 then w.1 2 + 1 else w.1 i, fun r => if r = 103 + 10 * w.1 2 then (fun _ => 0) else if r = 104 + 10 * w.1 2 then (fun _ => 0) else if r = 105 + 10 * w.1 2 then (fun _ => 0) else if r = 106 + 10 * w.1 2 then (fun _ => 0) else if r = 107 + 10 * w.1 2 then (fun _ => 0) else w.2.1 r, w.2.2)
def dropR (w : Wd) : Wd := (fun i => if i = 2 then w.1 2 - 1 else w.1 i, w.2.1, w.2.2)
def incA (w : Wd) (c : Nat) : Wd := (fun i => if i = c then w.1 c + 1 else w.1 i, w.2.1, w.2.2)
theorem blk_succ (n : Nat) (f : Nat → Nat × va_E) : blk (n + 1) f = blk n f ++ [f n] := by simp [blk, List.range_succ]
theorem ins1 (X Y xs : va_W) (x : Nat × va_E) : ((X ++ Y) ++ (x :: xs)).Perm ((X ++ [x]) ++ (Y ++ xs)) := by
  rw [List.append_assoc, List.append_assoc]
  exact List.Perm.append_left _ List.perm_middle
theorem insS {Y Z xs : va_W} (X : va_W) (h : (Y ++ xs).Perm Z) : ((X ++ Y) ++ xs).Perm (X ++ Z) := by
  rw [List.append_assoc]
  exact List.Perm.append_left _ h
theorem insC {X X' Y Z xs : va_W} {x : Nat × va_E} (hx : X' = X ++ [x]) (h : (Y ++ xs).Perm Z) : ((X ++ Y) ++ (x :: xs)).Perm (X' ++ Z) := by
  subst hx
  exact (ins1 X Y xs x).trans (List.Perm.append_left _ h)
theorem rfs_congr {n : Nat} {ad ad' : Nat → Nat} {t : Nat} (h : ∀ i, i < n → ad' (t + 10 * i) = ad (t + 10 * i)) : rfs n ad' t = rfs n ad t := by
  funext i
  unfold rfs
  by_cases hi : i < n
  · rw [if_pos hi, if_pos hi, h i hi]
  · rw [if_neg hi, if_neg hi]
theorem rfs_succ {n : Nat} {ad : Nat → Nat} {t : Nat} : va_up (rfs n ad t) n (some (ad (t + 10 * n))) = rfs (n + 1) ad t := by
  funext i
  unfold va_up rfs
  by_cases h : i = n
  · subst h; simp
  · rw [if_neg h]
    by_cases h2 : i < n
    · rw [if_pos h2, if_pos (by omega)]
    · rw [if_neg h2, if_neg (by omega)]
theorem fixX_congr {g : Nat → ClassId} {ad ad' : Nat → Nat} {w w' : Wd} (ha : ∀ i, i < 100 → ad' i = ad i) (h0 : rfs (w'.1 4) ad' 102 = rfs (w.1 4) ad 102) (h1 : rfs (w'.1 3) ad' 100 = rfs (w.1 3) ad 100) (h2 : rfs (w'.1 5) ad' 103 = rfs (w.1 5) ad 103) (hr : ∀ r, r < 100 → w'.2.1 r = w.2.1 r) (hl : w'.2.2 = w.2.2) : fixX g ad' w' = fixX g ad w := by
  unfold fixX fieldsX
  rw [h0, h1, h2, hl]
  simp only [ha 0 (by decide), ha 1 (by decide), ha 5 (by decide), ha 6 (by decide), ha 7 (by decide), ha 8 (by decide), ha 9 (by decide), ha 11 (by decide), ha 14 (by decide), ha 16 (by decide), ha 17 (by decide), ha 18 (by decide), ha 19 (by decide), ha 21 (by decide), ha 25 (by decide), ha 26 (by decide), ha 27 (by decide), ha 28 (by decide), ha 29 (by decide), ha 30 (by decide), ha 31 (by decide), ha 35 (by decide), ha 36 (by decide), ha 39 (by decide), ha 99 (by decide), hr 5 (by decide), hr 6 (by decide), hr 7 (by decide), hr 8 (by decide), hr 9 (by decide), hr 14 (by decide), hr 16 (by decide), hr 17 (by decide), hr 18 (by decide), hr 21 (by decide), hr 25 (by decide), hr 26 (by decide), hr 27 (by decide), hr 28 (by decide), hr 29 (by decide), hr 30 (by decide), hr 31 (by decide), hr 35 (by decide), hr 36 (by decide), hr 39 (by decide), hr 90 (by decide)]
theorem addO_perm {g : Nat → ClassId} {ad : Nat → Nat} {w : Wd} {q k : Nat} {n wt sd : Int32} (h : w.1 4 ≤ w.1 1) : (cellsX g ad w ++ ([(q, .inr (3 + k, if k = 0 then [.int n, .int wt, .int 0, .int sd] else [.int n, .int wt, .int 0]))] : va_W)).Perm (cellsX g (adU ad (102 + 10 * w.1 1) q) (addO w k n wt sd)) := by
  unfold cellsX
  have nn : ∀ i, i ≠ 1 → i < 108 → (addO w k n wt sd).1 i = w.1 i := fun i h1 h2 => by show (if _ then _ else if _ then _ else _) = _; rw [if_neg h1, if_neg (by omega)]
  have e : fixX g (adU ad (102 + 10 * w.1 1) q) (addO w k n wt sd) = fixX g ad w := fixX_congr (fun i hi => adU_ne (by omega)) (by rw [nn 4 (by decide) (by decide)]; exact rfs_congr (n := w.1 4) (t := 102) fun i hi => adU_ne (show 102 + 10 * i ≠ 102 + 10 * w.1 1 by omega)) (by rw [nn 3 (by decide) (by decide)]; exact rfs_congr (n := w.1 3) (t := 100) fun i hi => adU_ne (show 100 + 10 * i ≠ 102 + 10 * w.1 1 by omega)) (by rw [nn 5 (by decide) (by decide)]; exact rfs_congr (n := w.1 5) (t := 103) fun i hi => adU_ne (show 103 + 10 * i ≠ 102 + 10 * w.1 1 by omega)) (fun r hr => if_neg (by omega)) rfl
  rw [e]
  refine insS _ ?_
  have hw : ∀ t i : Nat, t ≠ 102 → 100 ≤ t → t < 108 → (addO w k n wt sd).2.1 (t + 10 * i) = w.2.1 (t + 10 * i) := fun t i h1 h2 h3 => if_neg (by omega)
  have ha : ∀ t i : Nat, t ≠ 102 → 100 ≤ t → t < 108 → adU ad (102 + 10 * w.1 1) q (t + 10 * i) = ad (t + 10 * i) := fun t i h1 h2 h3 => adU_ne (by omega)
  have ha9 : adU ad (102 + 10 * w.1 1) q 99 = ad 99 := adU_ne (by omega)
  unfold dynX
  rw [nn 0 (by decide) (by decide), nn 2 (by decide) (by decide)]
  show List.Perm (_ ++ _) (blk (w.1 1 + 1) _ ++ _)
  refine insC (?_ : blk (w.1 1 + 1) _ = _) (List.Perm.of_eq ?_)
  · rw [blk_succ]
    refine cg2 (blk_congr fun i hi => ?_) ?_
    · have h1 : (addO w k n wt sd).1 (108 + 10 * i) = w.1 (108 + 10 * i) := by show (if _ then _ else if _ then _ else _) = _; rw [if_neg (by omega), if_neg (by omega)]
      have h2 : (addO w k n wt sd).2.1 (102 + 10 * i) = w.2.1 (102 + 10 * i) := if_neg (by omega)
      have h3 : adU ad (102 + 10 * w.1 1) q (102 + 10 * i) = ad (102 + 10 * i) := adU_ne (by omega)
      simp only [oarC, ofs, h1, h2, h3]
    · have h1 : (addO w k n wt sd).1 (108 + 10 * w.1 1) = k := by show (if _ then _ else if _ then _ else _) = _; rw [if_neg (by omega), if_pos rfl]
      have h2 : (addO w k n wt sd).2.1 (102 + 10 * w.1 1) = fun j => if j = 0 then n else if j = 1 then wt else if j = 3 then sd else 0 := if_pos rfl
      simp only [oarC, ofs, h1, h2, adU_eq]
      rfl
  · rw [List.append_nil]
    refine cg2 (blk_congr fun i hi => ?_) (cg2 (blk_congr fun i hi => ?_) (cg2 (blk_congr fun i hi => ?_) (cg2 (blk_congr fun i hi => ?_) (cg2 (blk_congr fun i hi => ?_) (cg2 (blk_congr fun i hi => ?_) (cg2 (blk_congr fun i hi => ?_) rfl))))))
    · simp only [boatC, bfs, hw 100 i (by decide) (by decide) (by decide), ha 100 i (by decide) (by decide) (by decide), ha 101 i (by decide) (by decide) (by decide)]
    · simp only [crewC, hw 101 i (by decide) (by decide) (by decide), ha 101 i (by decide) (by decide) (by decide)]
    · simp only [ruleC, rufs, hw 103 i (by decide) (by decide) (by decide), ha9, ha 103 i (by decide) (by decide) (by decide), ha 104 i (by decide) (by decide) (by decide), ha 105 i (by decide) (by decide) (by decide), ha 106 i (by decide) (by decide) (by decide), ha 107 i (by decide) (by decide) (by decide)]
    · simp only [rarC, hw 104 i (by decide) (by decide) (by decide), ha 104 i (by decide) (by decide) (by decide)]
    · simp only [rarC, hw 105 i (by decide) (by decide) (by decide), ha 105 i (by decide) (by decide) (by decide)]
    · simp only [rarC, hw 106 i (by decide) (by decide) (by decide), ha 106 i (by decide) (by decide) (by decide)]
    · simp only [rarC, hw 107 i (by decide) (by decide) (by decide), ha 107 i (by decide) (by decide) (by decide)]
def adB (ad : Nat → Nat) (n q q2 : Nat) : Nat → Nat := fun i => if i = 100 + 10 * n then q else if i = 101 + 10 * n then q2 else ad i
theorem addB_perm {g : Nat → ClassId} {ad : Nat → Nat} {w : Wd} {q q2 : Nat} {a1 a2 a3 a4 : Int32} (h : w.1 3 ≤ w.1 0) : (cellsX g ad w ++ ([(q, .inr (1, [.int a1, .int a2, .int a3, .int a4, .ref q2, .int 0])), (q2, .inl (g 0, 9, .inl (cr0 9)))] : va_W)).Perm (cellsX g (adB ad (w.1 0) q q2) (addB w a1 a2 a3 a4)) := by
  have ane : ∀ i : Nat, i ≠ 100 + 10 * w.1 0 → i ≠ 101 + 10 * w.1 0 → adB ad (w.1 0) q q2 i = ad i := fun i h1 h2 => by unfold adB; rw [if_neg h1, if_neg h2]
  have wne : ∀ r : Nat, r ≠ 100 + 10 * w.1 0 → r ≠ 101 + 10 * w.1 0 → (addB w a1 a2 a3 a4).2.1 r = w.2.1 r := fun i h1 h2 => by unfold addB; simp only [if_neg h1, if_neg h2]
  unfold cellsX
  have e : fixX g (adB ad (w.1 0) q q2) (addB w a1 a2 a3 a4) = fixX g ad w := fixX_congr (fun i hi => ane i (by omega) (by omega)) (rfs_congr fun i hi => ane _ (by omega) (by omega)) (rfs_congr fun i hi => ane _ (by have : i < w.1 3 := hi; omega) (by omega)) (rfs_congr fun i hi => ane _ (by omega) (by omega)) (fun r hr => wne r (by omega) (by omega)) rfl
  rw [e]
  refine insS _ ?_
  have hw : ∀ t i : Nat, t ≠ 100 → t ≠ 101 → 100 ≤ t → t < 108 → (addB w a1 a2 a3 a4).2.1 (t + 10 * i) = w.2.1 (t + 10 * i) := fun t i h1 h2 h3 h4 => wne _ (by omega) (by omega)
  have ha : ∀ t i : Nat, t ≠ 100 → t ≠ 101 → 100 ≤ t → t < 108 → adB ad (w.1 0) q q2 (t + 10 * i) = ad (t + 10 * i) := fun t i h1 h2 h3 h4 => ane _ (by omega) (by omega)
  have ha9 : adB ad (w.1 0) q q2 99 = ad 99 := ane _ (by omega) (by omega)
  have h8 : ∀ i, (addB w a1 a2 a3 a4).1 (108 + 10 * i) = w.1 (108 + 10 * i) := fun i => if_neg (by omega)
  unfold dynX
  show List.Perm (_ ++ _) (blk (w.1 1) _ ++ (blk (w.1 0 + 1) _ ++ (blk (w.1 0 + 1) _ ++ _)))
  have e0 : blk (w.1 1) (oarC ad w) = blk (w.1 1) (oarC (adB ad (w.1 0) q q2) (addB w a1 a2 a3 a4)) := blk_congr fun i hi => by
    simp only [oarC, ofs, h8, hw 102 i (by decide) (by decide) (by decide) (by decide), ha 102 i (by decide) (by decide) (by decide) (by decide)]
  rw [← e0]
  refine insS _ ?_
  have b1 : adB ad (w.1 0) q q2 (100 + 10 * w.1 0) = q := if_pos rfl
  have b2 : adB ad (w.1 0) q q2 (101 + 10 * w.1 0) = q2 := by unfold adB; rw [if_neg (by omega), if_pos rfl]
  have v1 : (addB w a1 a2 a3 a4).2.1 (100 + 10 * w.1 0) = fun j => if j = 0 then a1 else if j = 1 then a2 else if j = 2 then a3 else if j = 3 then a4 else 0 := if_pos rfl
  have v2 : (addB w a1 a2 a3 a4).2.1 (101 + 10 * w.1 0) = cr0 9 := by unfold addB; simp only [if_neg (show 101 + 10 * w.1 0 ≠ 100 + 10 * w.1 0 by omega), if_true]
  refine insC (?_ : blk (w.1 0 + 1) _ = _) (insC (?_ : blk (w.1 0 + 1) _ = _) (List.Perm.of_eq ?_))
  · rw [blk_succ]
    refine cg2 (blk_congr fun i hi => ?_) ?_
    · simp only [boatC, bfs, ane (100 + 10 * i) (by omega) (by omega), ane (101 + 10 * i) (by omega) (by omega), wne (100 + 10 * i) (by omega) (by omega)]
    · simp only [boatC, bfs, b1, b2, v1]
      rfl
  · rw [blk_succ]
    refine cg2 (blk_congr fun i hi => ?_) ?_
    · simp only [crewC, ane (101 + 10 * i) (by omega) (by omega), wne (101 + 10 * i) (by omega) (by omega)]
    · simp only [crewC, b2, v2]
  · rw [List.append_nil]
    refine cg2 (blk_congr fun i hi => ?_) (cg2 (blk_congr fun i hi => ?_) (cg2 (blk_congr fun i hi => ?_) (cg2 (blk_congr fun i hi => ?_) (cg2 (blk_congr fun i hi => ?_) rfl))))
    · simp only [ruleC, rufs, ha9, hw 103 i (by decide) (by decide) (by decide) (by decide), ha 103 i (by decide) (by decide) (by decide) (by decide), ha 104 i (by decide) (by decide) (by decide) (by decide), ha 105 i (by decide) (by decide) (by decide) (by decide), ha 106 i (by decide) (by decide) (by decide) (by decide), ha 107 i (by decide) (by decide) (by decide) (by decide)]
    · simp only [rarC, hw 104 i (by decide) (by decide) (by decide) (by decide), ha 104 i (by decide) (by decide) (by decide) (by decide)]
    · simp only [rarC, hw 105 i (by decide) (by decide) (by decide) (by decide), ha 105 i (by decide) (by decide) (by decide) (by decide)]
    · simp only [rarC, hw 106 i (by decide) (by decide) (by decide) (by decide), ha 106 i (by decide) (by decide) (by decide) (by decide)]
    · simp only [rarC, hw 107 i (by decide) (by decide) (by decide) (by decide), ha 107 i (by decide) (by decide) (by decide) (by decide)]
def adR (ad : Nat → Nat) (n q q1 q2 q3 q4 : Nat) : Nat → Nat := fun i => if i = 103 + 10 * n then q else if i = 104 + 10 * n then q1 else if i = 105 + 10 * n then q2 else if i = 106 + 10 * n then q3 else if i = 107 + 10 * n then q4 else ad i
theorem addR_perm {g : Nat → ClassId} {ad : Nat → Nat} {w : Wd} {q q1 q2 q3 q4 : Nat} (h : w.1 5 ≤ w.1 2) : (cellsX g ad w ++ ([(q, .inr (2, [.int 0, .int 0, .int 0, .ref q1, .ref q2, .ref q3, .ref q4, .ref (ad 99)])), (q1, .inl (g 0, 3, .inl (fun _ => 0))), (q2, .inl (g 0, 3, .inl (fun _ => 0))), (q3, .inl (g 0, 3, .inl (fun _ => 0))), (q4, .inl (g 2, 3, .inl (fun _ => 0)))] : va_W)).Perm (cellsX g (adR ad (w.1 2) q q1 q2 q3 q4) (addR w)) := by
  generalize hN : w.1 2 = n
  have ane : ∀ i : Nat, i ≠ 103 + 10 * n → i ≠ 104 + 10 * n → i ≠ 105 + 10 * n → i ≠ 106 + 10 * n → i ≠ 107 + 10 * n → adR ad n q q1 q2 q3 q4 i = ad i := fun i h1 h2 h3 h4 h5 => by unfold adR; rw [if_neg h1, if_neg h2, if_neg h3, if_neg h4, if_neg h5]
  have wne : ∀ r : Nat, r ≠ 103 + 10 * n → r ≠ 104 + 10 * n → r ≠ 105 + 10 * n → r ≠ 106 + 10 * n → r ≠ 107 + 10 * n → (addR w).2.1 r = w.2.1 r := fun i h1 h2 h3 h4 h5 => by unfold addR; simp only [hN, if_neg h1, if_neg h2, if_neg h3, if_neg h4, if_neg h5]
  unfold cellsX
  have e : fixX g (adR ad n q q1 q2 q3 q4) (addR w) = fixX g ad w := fixX_congr (fun i hi => ane i (by omega) (by omega) (by omega) (by omega) (by omega)) (rfs_congr fun i hi => ane _ (by omega) (by omega) (by omega) (by omega) (by omega)) (rfs_congr fun i hi => ane _ (by omega) (by omega) (by omega) (by omega) (by omega)) (rfs_congr fun i hi => ane _ (by have : i < w.1 5 := hi; omega) (by omega) (by omega) (by omega) (by omega)) (fun r hr => wne r (by omega) (by omega) (by omega) (by omega) (by omega)) rfl
  rw [e]
  refine insS _ ?_
  have hw : ∀ t i : Nat, 100 ≤ t → t < 103 → (addR w).2.1 (t + 10 * i) = w.2.1 (t + 10 * i) := fun t i h1 h2 => wne _ (by omega) (by omega) (by omega) (by omega) (by omega)
  have ha : ∀ t i : Nat, 100 ≤ t → t < 103 → adR ad n q q1 q2 q3 q4 (t + 10 * i) = ad (t + 10 * i) := fun t i h1 h2 => ane _ (by omega) (by omega) (by omega) (by omega) (by omega)
  have ha9 : adR ad n q q1 q2 q3 q4 99 = ad 99 := ane _ (by omega) (by omega) (by omega) (by omega) (by omega)
  have h8 : ∀ i, (addR w).1 (108 + 10 * i) = w.1 (108 + 10 * i) := fun i => if_neg (by omega)
  have v : ∀ t, 103 ≤ t → t < 108 → (addR w).2.1 (t + 10 * n) = fun _ => 0 := by
    intro t h1 h2
    have : t = 103 ∨ t = 104 ∨ t = 105 ∨ t = 106 ∨ t = 107 := by omega
    rcases this with rfl | rfl | rfl | rfl | rfl <;> (unfold addR; simp only [hN]; simp)
  have b0 : adR ad n q q1 q2 q3 q4 (103 + 10 * n) = q := if_pos rfl
  have b1 : adR ad n q q1 q2 q3 q4 (104 + 10 * n) = q1 := by unfold adR; simp
  have b2 : adR ad n q q1 q2 q3 q4 (105 + 10 * n) = q2 := by unfold adR; simp
  have b3 : adR ad n q q1 q2 q3 q4 (106 + 10 * n) = q3 := by unfold adR; simp
  have b4 : adR ad n q q1 q2 q3 q4 (107 + 10 * n) = q4 := by unfold adR; simp
  unfold dynX
  show List.Perm (_ ++ _) (blk (w.1 1) _ ++ (blk (w.1 0) _ ++ (blk (w.1 0) _ ++ (blk (w.1 2 + 1) _ ++ (blk (w.1 2 + 1) _ ++ (blk (w.1 2 + 1) _ ++ (blk (w.1 2 + 1) _ ++ (blk (w.1 2 + 1) _ ++ []))))))))
  rw [hN]
  have e0 : blk (w.1 1) (oarC ad w) = blk (w.1 1) (oarC (adR ad n q q1 q2 q3 q4) (addR w)) := blk_congr fun i hi => by
    simp only [oarC, ofs, h8, hw 102 i (by decide) (by decide), ha 102 i (by decide) (by decide)]
  have e1 : blk (w.1 0) (boatC ad w) = blk (w.1 0) (boatC (adR ad n q q1 q2 q3 q4) (addR w)) := blk_congr fun i hi => by
    simp only [boatC, bfs, hw 100 i (by decide) (by decide), ha 100 i (by decide) (by decide), ha 101 i (by decide) (by decide)]
  have e2 : blk (w.1 0) (crewC g ad w) = blk (w.1 0) (crewC g (adR ad n q q1 q2 q3 q4) (addR w)) := blk_congr fun i hi => by
    simp only [crewC, hw 101 i (by decide) (by decide), ha 101 i (by decide) (by decide)]
  rw [← e0, ← e1, ← e2]
  refine insS _ (insS _ (insS _ ?_))
  have ax : ∀ t i : Nat, i < n → 103 ≤ t → t < 108 → adR ad n q q1 q2 q3 q4 (t + 10 * i) = ad (t + 10 * i) := fun t i h1 h2 h3 => ane _ (by omega) (by omega) (by omega) (by omega) (by omega)
  have wx : ∀ t i : Nat, i < n → 103 ≤ t → t < 108 → (addR w).2.1 (t + 10 * i) = w.2.1 (t + 10 * i) := fun t i h1 h2 h3 => wne _ (by omega) (by omega) (by omega) (by omega) (by omega)
  refine insC (?_ : blk (n + 1) _ = _) (insC (?_ : blk (n + 1) _ = _) (insC (?_ : blk (n + 1) _ = _) (insC (?_ : blk (n + 1) _ = _) (insC (?_ : blk (n + 1) _ = _) (List.Perm.of_eq rfl)))))
  · rw [blk_succ]
    refine cg2 (blk_congr fun i hi => ?_) ?_
    · simp only [ruleC, rufs, ha9, wx 103 i hi (by decide) (by decide), ax 103 i hi (by decide) (by decide), ax 104 i hi (by decide) (by decide), ax 105 i hi (by decide) (by decide), ax 106 i hi (by decide) (by decide), ax 107 i hi (by decide) (by decide)]
    · simp only [ruleC, rufs, ha9, v 103 (by decide) (by decide), b0, b1, b2, b3, b4]
  · rw [blk_succ]
    refine cg2 (blk_congr fun i hi => ?_) ?_
    · simp only [rarC, wx 104 i hi (by decide) (by decide), ax 104 i hi (by decide) (by decide)]
    · simp only [rarC, v 104 (by decide) (by decide), b1]
  · rw [blk_succ]
    refine cg2 (blk_congr fun i hi => ?_) ?_
    · simp only [rarC, wx 105 i hi (by decide) (by decide), ax 105 i hi (by decide) (by decide)]
    · simp only [rarC, v 105 (by decide) (by decide), b2]
  · rw [blk_succ]
    refine cg2 (blk_congr fun i hi => ?_) ?_
    · simp only [rarC, wx 106 i hi (by decide) (by decide), ax 106 i hi (by decide) (by decide)]
    · simp only [rarC, v 106 (by decide) (by decide), b3]
  · rw [blk_succ]
    refine cg2 (blk_congr fun i hi => ?_) ?_
    · simp only [rarC, wx 107 i hi (by decide) (by decide), ax 107 i hi (by decide) (by decide)]
    · simp only [rarC, v 107 (by decide) (by decide), b4]
theorem blk_subl {n k : Nat} {f : Nat → Nat × va_E} (h : n ≤ k) : (blk n f).Sublist (blk k f) := by
  unfold blk
  exact (List.range_sublist.mpr h).map f
theorem dropR_subl {g : Nat → ClassId} {ad : Nat → Nat} {w : Wd} : (cellsX g ad (dropR w)).Sublist (cellsX g ad w) := by
  have e : fixX g ad (dropR w) = fixX g ad w := rfl
  unfold cellsX
  rw [e]
  refine List.Sublist.append (List.Sublist.refl _) ?_
  unfold dynX
  have h8 : ∀ i, (dropR w).1 (108 + 10 * i) = w.1 (108 + 10 * i) := fun i => if_neg (by omega)
  have e0 : oarC ad (dropR w) = oarC ad w := by funext i; simp only [oarC, ofs, h8]; rfl
  rw [e0]
  have hle : (dropR w).1 2 ≤ w.1 2 := Nat.sub_le _ _
  exact List.Sublist.append (List.Sublist.refl _) (List.Sublist.append (List.Sublist.refl _) (List.Sublist.append (List.Sublist.refl _) (List.Sublist.append (blk_subl hle) (List.Sublist.append (blk_subl hle) (List.Sublist.append (blk_subl hle) (List.Sublist.append (blk_subl hle) (List.Sublist.append (blk_subl hle) (List.Sublist.refl _))))))))
theorem dynX_inc {g : Nat → ClassId} {ad : Nat → Nat} {w : Wd} {c : Nat} (h : c = 3 ∨ c = 4 ∨ c = 5) : dynX g ad (incA w c) = dynX g ad w := by
  have h8 : ∀ i, (incA w c).1 (108 + 10 * i) = w.1 (108 + 10 * i) := fun i => if_neg (by omega)
  have e0 : oarC ad (incA w c) = oarC ad w := by funext i; simp only [oarC, ofs, h8]; rfl
  have n0 : (incA w c).1 0 = w.1 0 := if_neg (by omega)
  have n1 : (incA w c).1 1 = w.1 1 := if_neg (by omega)
  have n2 : (incA w c).1 2 = w.1 2 := if_neg (by omega)
  unfold dynX
  rw [e0, n0, n1, n2]
  rfl
section MK
variable {p : Program} {l : Launch} {e : Env} {R : Room} {s : State} {m : MethodId} {args : Array Value} {below : List Frame} {meth : Method} {c : Code} {cells slots : Nat} {Q : State → Prop} {A : Nat → Prop} {D : va_G} {g : Nat → ClassId} {sd : Nat → Nat} {ad : Nat → Nat} {nL : Nat} {cc : ByteArray}
variable {w : Wd} {pc pc' : Nat} {lv : List (Nat × Value)} {st : List Value} {ρ : Type} {res : ρ}
variable {own : String} {j index : Nat}
theorem astB (B : Bd p s m args meth c cc nL own D vwCl (tysG g)) {i : Int32} {f : Wd → Option ρ} (hd : D1 cc pc .aastore pc') (ho : rd (inb i 8 && (decide (j < w.1 0) && (decide (i.toNatClampNeg = w.1 3) && decide (j = w.1 3)))) (incA w 3) f = some res) (kk : ∀ w' : Wd, f w' = some res → XJ p l e R s m args below meth c cells slots Q A D vwCl (cellsX g ad) nL w' pc' lv st) : XJ p l e R s m args below meth c cells slots Q A D vwCl (cellsX g ad) nL w pc lv (.ref (ad (100 + 10 * j)) :: .int i :: .ref (ad 1) :: st) := by
  obtain ⟨hd, rfl⟩ := hd
  obtain ⟨hb, ho⟩ := rd_e ho
  simp only [Bool.and_eq_true, decide_eq_true_eq] at hb
  obtain ⟨hi, hj, h1, h2⟩ := hb
  intro H locs ls hP hD hS hl
  have he : (cellsX g ad w).set 2 (ad 1, .inl (g 5, 8, .inr (.inr (.inr (.inr (va_up (rfs (w.1 3) ad 100) i.toNatClampNeg (some (ad (100 + 10 * j)))))))))  = cellsX g ad (incA w 3) := by
    rw [h1, h2, rfs_succ]
    unfold cellsX
    rw [dynX_inc (by decide)]
    rfl
  refine va_astq B.1 B.2.1 B.2.2.2.2.2.1 hP hD hS 2 5 _ 1 rfl rfl (at_boat hj) rfl (inb_in hi) hd (fun H1 locs1 hP1 hD1 hS1 => ?_)
  rw [he] at hP1 hD1
  exact kk _ ho H1 locs1 ls hP1 hD1 hS1 hl
theorem astR (B : Bd p s m args meth c cc nL own D vwCl (tysG g)) {i : Int32} {f : Wd → Option ρ} (hd : D1 cc pc .aastore pc') (ho : rd (inb i 10 && (decide (j < w.1 2) && (decide (i.toNatClampNeg = w.1 5) && decide (j = w.1 5)))) (incA w 5) f = some res) (kk : ∀ w' : Wd, f w' = some res → XJ p l e R s m args below meth c cells slots Q A D vwCl (cellsX g ad) nL w' pc' lv st) : XJ p l e R s m args below meth c cells slots Q A D vwCl (cellsX g ad) nL w pc lv (.ref (ad (103 + 10 * j)) :: .int i :: .ref (ad 19) :: st) := by
  obtain ⟨hd, rfl⟩ := hd
  obtain ⟨hb, ho⟩ := rd_e ho
  simp only [Bool.and_eq_true, decide_eq_true_eq] at hb
  obtain ⟨hi, hj, h1, h2⟩ := hb
  intro H locs ls hP hD hS hl
  have he : (cellsX g ad w).set 13 (ad 19, .inl (g 6, 10, .inr (.inr (.inr (.inr (va_up (rfs (w.1 5) ad 103) i.toNatClampNeg (some (ad (103 + 10 * j)))))))))  = cellsX g ad (incA w 5) := by
    rw [h1, h2, rfs_succ]
    unfold cellsX
    rw [dynX_inc (by decide)]
    rfl
  refine va_astq B.1 B.2.1 B.2.2.2.2.2.1 hP hD hS 13 6 _ 2 rfl rfl (at_rule hj) rfl (inb_in hi) hd (fun H1 locs1 hP1 hD1 hS1 => ?_)
  rw [he] at hP1 hD1
  exact kk _ ho H1 locs1 ls hP1 hD1 hS1 hl
theorem astO (B : Bd p s m args meth c cc nL own D vwCl (tysG g)) (hX : NXA sd A s) {i : Int32} {f : Wd → Option ρ} (hd : D1 cc pc .aastore pc') (ho : rd (inb i 16 && (oOk w j && (decide (i.toNatClampNeg = w.1 4) && decide (j = w.1 4)))) (incA w 4) f = some res) (kk : ∀ w' : Wd, f w' = some res → XJ p l e R s m args below meth c cells slots Q A D vwCl (cellsX g ad) nL w' pc' lv st) : XJ p l e R s m args below meth c cells slots Q A D vwCl (cellsX g ad) nL w pc lv (.ref (ad (102 + 10 * j)) :: .int i :: .ref (ad 0) :: st) := by
  obtain ⟨hd, rfl⟩ := hd
  obtain ⟨hb, ho⟩ := rd_e ho
  simp only [Bool.and_eq_true, decide_eq_true_eq] at hb
  obtain ⟨hi, hj, h1, h2⟩ := hb
  obtain ⟨hj, hc⟩ := oOk_e hj
  intro H locs ls hP hD hS hl
  have he : (cellsX g ad w).set 1 (ad 0, .inl (g 4, 16, .inr (.inr (.inr (.inr (va_up (rfs (w.1 4) ad 102) i.toNatClampNeg (some (ad (102 + 10 * j)))))))))  = cellsX g ad (incA w 4) := by
    rw [h1, h2, rfs_succ]
    unfold cellsX
    rw [dynX_inc (by decide)]
    rfl
  rcases hc with hc | hc | hc | hc
  · refine va_astqO (r := (RX6, TX6, 4)) B.1 B.2.1 B.2.2.2.2.2.1 hP hD hS 1 4 _ 3 rfl rfl (hX.1 _ nq1204) (at_oarK hj hc) rfl (inb_in hi) hd (fun H1 locs1 hP1 hD1 hS1 => ?_)
    rw [he] at hP1 hD1
    exact kk _ ho H1 locs1 ls hP1 hD1 hS1 hl
  · refine va_astqO (r := (RX3, TX3, 3)) B.1 B.2.1 B.2.2.2.2.2.1 hP hD hS 1 4 _ 4 rfl rfl (hX.1 _ nq1201) (at_oarK hj hc) rfl (inb_in hi) hd (fun H1 locs1 hP1 hD1 hS1 => ?_)
    rw [he] at hP1 hD1
    exact kk _ ho H1 locs1 ls hP1 hD1 hS1 hl
  · refine va_astqO (r := (RX4, TX4, 3)) B.1 B.2.1 B.2.2.2.2.2.1 hP hD hS 1 4 _ 5 rfl rfl (hX.1 _ nq1202) (at_oarK hj hc) rfl (inb_in hi) hd (fun H1 locs1 hP1 hD1 hS1 => ?_)
    rw [he] at hP1 hD1
    exact kk _ ho H1 locs1 ls hP1 hD1 hS1 hl
  · refine va_astqO (r := (RX5, TX5, 3)) B.1 B.2.1 B.2.2.2.2.2.1 hP hD hS 1 4 _ 6 rfl rfl (hX.1 _ nq1203) (at_oarK hj hc) rfl (inb_in hi) hd (fun H1 locs1 hP1 hD1 hS1 => ?_)
    rw [he] at hP1 hD1
    exact kk _ ho H1 locs1 ls hP1 hD1 hS1 hl
abbrev QcA (D : va_G) (g : Nat → ClassId) (a99 : Nat) (r : Int32) (wr : Wd) (A : Nat → Prop) : Array Value → State → Outcome → State → Prop := va_Qi (fun (x : Int32) (ad' : Nat → Nat) => x = r ∧ ad' 99 = a99) (fun ad' t => MPost D vwCl (tysG g) (cellsX g ad' wr) A t) A
theorem j_iretA (B : Bd p s m args meth c cc nL own D vwCl (tysG g)) {x r : Int32} {wr : Wd} {a99 kc ks : Nat} (hr : meth.sig.returnType = some .int) (hQ : Q = MQ below (QcA D g a99 r wr A) args s kc ks A) (h99 : ad 99 = a99) (h1 : cells ≤ kc) (h2 : slots ≤ ks) (hd : D1 cc pc .ireturn pc') (ho : some (x, w) = some (r, wr)) : XJ p l e R s m args below meth c cells slots Q A D vwCl (cellsX g ad) nL w pc lv [.int x] := by
  obtain ⟨rfl, rfl⟩ := Prod.mk.inj (Option.some.inj ho)
  exact j_iretS (post := fun (y : Int32) (ad' : Nat → Nat) => y = x ∧ ad' 99 = a99) (f := fun ad' => cellsX g ad' w) ad B hr hQ h1 h2 ⟨rfl, h99⟩ rfl hd
end MK
theorem dX0_made_0 : decode cX0_made 0 = .ok (.iload_n 1, 1) := by decide +kernel
theorem dX0_made_1 : decode cX0_made 1 = .ok (.tableswitch 66 2 4 #[27, 40, 53], 27) := by decide +kernel
theorem dX0_made_28 : decode cX0_made 28 = .ok (.new 122, 3) := by decide +kernel
theorem dX0_made_31 : decode cX0_made 31 = .ok (.dup, 1) := by decide +kernel
theorem dX0_made_32 : decode cX0_made 32 = .ok (.aload_n 0, 1) := by decide +kernel
theorem dX0_made_33 : decode cX0_made 33 = .ok (.getfield 100, 3) := by decide +kernel
theorem dX0_made_36 : decode cX0_made 36 = .ok (.iload_n 2, 1) := by decide +kernel
theorem dX0_made_37 : decode cX0_made 37 = .ok (.invokespecial 124, 3) := by decide +kernel
theorem dX0_made_40 : decode cX0_made 40 = .ok (.areturn, 1) := by decide +kernel
theorem dX0_made_41 : decode cX0_made 41 = .ok (.new 127, 3) := by decide +kernel
theorem dX0_made_44 : decode cX0_made 44 = .ok (.dup, 1) := by decide +kernel
theorem dX0_made_45 : decode cX0_made 45 = .ok (.aload_n 0, 1) := by decide +kernel
theorem dX0_made_46 : decode cX0_made 46 = .ok (.getfield 100, 3) := by decide +kernel
theorem dX0_made_49 : decode cX0_made 49 = .ok (.iload_n 2, 1) := by decide +kernel
theorem dX0_made_50 : decode cX0_made 50 = .ok (.invokespecial 129, 3) := by decide +kernel
theorem dX0_made_53 : decode cX0_made 53 = .ok (.areturn, 1) := by decide +kernel
theorem dX0_made_54 : decode cX0_made 54 = .ok (.new 130, 3) := by decide +kernel
theorem dX0_made_57 : decode cX0_made 57 = .ok (.dup, 1) := by decide +kernel
theorem dX0_made_58 : decode cX0_made 58 = .ok (.aload_n 0, 1) := by decide +kernel
theorem dX0_made_59 : decode cX0_made 59 = .ok (.getfield 100, 3) := by decide +kernel
theorem dX0_made_62 : decode cX0_made 62 = .ok (.iload_n 2, 1) := by decide +kernel
theorem dX0_made_63 : decode cX0_made 63 = .ok (.invokespecial 132, 3) := by decide +kernel
theorem dX0_made_66 : decode cX0_made 66 = .ok (.areturn, 1) := by decide +kernel
theorem dX0_made_67 : decode cX0_made 67 = .ok (.new 133, 3) := by decide +kernel
theorem dX0_made_70 : decode cX0_made 70 = .ok (.dup, 1) := by decide +kernel
theorem dX0_made_71 : decode cX0_made 71 = .ok (.aload_n 0, 1) := by decide +kernel
theorem dX0_made_72 : decode cX0_made 72 = .ok (.getfield 100, 3) := by decide +kernel
theorem dX0_made_75 : decode cX0_made 75 = .ok (.iload_n 2, 1) := by decide +kernel
theorem dX0_made_76 : decode cX0_made 76 = .ok (.iload_n 1, 1) := by decide +kernel
theorem dX0_made_77 : decode cX0_made 77 = .ok (.invokespecial 135, 3) := by decide +kernel
theorem dX0_made_80 : decode cX0_made 80 = .ok (.areturn, 1) := by decide +kernel
theorem pkX0_made : PkV yX0_made RX0 cX0_made 3 (some (.object "DawnEights$Oar")) 2 := ⟨q231, qs0, q57, q232, by decide +kernel⟩
abbrev rmX0_made : Room := { frames := 4, cells := 1, slots := 4, locals := 86 }
def kcls (k : Int32) : Nat := if k = 2 then 1 else if k = 3 then 2 else if k = 4 then 3 else 0
set_option maxHeartbeats 4000000 in
theorem met_X0_made (l : Launch) (D : va_G) (g : Nat → ClassId) (ad sd : Nat → Nat) (w : Wd) (a1 a2 : Int32) (hg : w.1 4 ≤ w.1 1) (sz : Nat) : Met l yX0_made (ws_ yX0_made cX0_made 3 (some (.object "DawnEights$Oar"))) rmX0_made (va_Pc [.ref (ad 99), .int a1, .int a2] (MPre D vwCl (tysG g) (cellsX g ad w) (NXX sd (cellsX g ad w)) sz)) (va_Qr (fun _ : Nat => True) (fun u z t => z = u ∧ MPost D vwCl (tysG g) (cellsX g (adU ad (102 + 10 * w.1 1) u) (addO w (kcls a1) (w.2.1 90 2) a2 a1)) (va_A (cellsX g ad w) sz) t) (va_A (cellsX g ad w) sz)) 1 4 (va_A (cellsX g ad w) sz) := by
  refine met_XJ (l := l) (D := D) (cl := vwCl) (tys := tysG g) (y := yX0_made) (maxL := 3) (ret := (some (.object "DawnEights$Oar"))) (rm := rmX0_made) (mc := 1) (ms := 4) (NX := NXX sd (cellsX g ad w)) (sz := sz) (QcA := fun A => (va_Qr (fun _ : Nat => True) (fun u z t => z = u ∧ MPost D vwCl (tysG g) (cellsX g (adU ad (102 + 10 * w.1 1) u) (addO w (kcls a1) (w.2.1 90 2) a2 a1)) A t) A)) (cw := cellsX g ad) (w := w) (cc := cX0_made) (lv := [(0, .ref (ad 99)), (1, .int a1), (2, .int a2)]) pnX0 [.ref (ad 99), .int a1, .int a2] (Nat.le_of_ble_eq_true rfl) rfl ?_
  intro p e s m args below meth c R Q A B hN hr hsz hA hmm hRm hQ hAe
  refine j_iload_n B ⟨dX0_made_0, rfl⟩ 1 rfl ?_
  by_cases h2 : a1 = 2
  · have hk : kcls a1 = 1 := by unfold kcls; rw [if_pos h2]
    refine j_tswIn (tgt := 28) B dX0_made_1 2 h2 (by decide) (by decide) rfl (by decide) ?_
    refine j_new (T := TX3) (ci := 4) (fs := [.int 0, .int 0, .int 0]) B hA in_X3 tyX3 tyX3_ok q233 q234 q60 rfl (by decide) (by rw [hRm]; exact Nat.le_of_ble_eq_true rfl) (by rw [hRm]; exact Nat.le_of_ble_eq_true rfl) ⟨dX0_made_28, rfl⟩ (fun q => ?_)
    refine j_dup B ⟨dX0_made_31, rfl⟩ rfl ?_
    refine j_aload_n B ⟨dX0_made_32, rfl⟩ 0 rfl ?_
    refine j_get (T := TX0) (ci := 0) B in_X0 0 rfl rfl 2 (by decide) q87 rfl ⟨dX0_made_33, rfl⟩ ?_
    refine j_iload_n B ⟨dX0_made_36, rfl⟩ 2 rfl ?_
    refine j_frv (cw' := cellsX g (adU ad (102 + 10 * w.1 1) q)) (w' := fun _ => addO w 1 (w.2.1 90 2) a2 a1) (rest := cellsX g ad w) (sub := [(q, .inr (4, [.int 0, .int 0, .int 0]))]) (f := fun (_ : Unit) => [(q, .inr (4, [.int (w.2.1 90 2), .int a2, .int 0]))]) B hA rfl (List.Perm.refl _) (fun _ _ => addO_perm (k := 1) hg) (run_I (As := [.int (w.2.1 90 2), .int a2]) B (met_X3_init_X3 l D g q (w.2.1 90 2) a2 0 0 0 0) NT_ok pkX3_init q235 rfl rfl hRm ⟨Nat.le_of_ble_eq_true rfl, Nat.le_of_ble_eq_true rfl⟩ rfl (Nat.le_of_ble_eq_true rfl) (by rw [hRm]; exact ⟨Nat.le_of_ble_eq_true rfl, Nat.le_of_ble_eq_true rfl⟩) dX0_made_37) (fun _ _ => ?_)
    exact j_aretS (post := fun _ : Nat => True) (f := fun u => cellsX g (adU ad (102 + 10 * w.1 1) u) (addO w (kcls a1) (w.2.1 90 2) a2 a1)) (ra := fun u => u) q B hr (Or.inl ⟨_, rfl⟩) hQ (Nat.le_of_ble_eq_true rfl) (Nat.le_of_ble_eq_true rfl) trivial rfl (by rw [hk]) ⟨dX0_made_40, rfl⟩
  by_cases h3 : a1 = 3
  · have hk : kcls a1 = 2 := by unfold kcls; rw [if_neg h2, if_pos h3]
    refine j_tswIn (tgt := 41) B dX0_made_1 3 h3 (by decide) (by decide) rfl (by decide) ?_
    refine j_new (T := TX4) (ci := 5) (fs := [.int 0, .int 0, .int 0]) B hA in_X4 tyX4 tyX4_ok q254 q255 q61 rfl (by decide) (by rw [hRm]; exact Nat.le_of_ble_eq_true rfl) (by rw [hRm]; exact Nat.le_of_ble_eq_true rfl) ⟨dX0_made_41, rfl⟩ (fun q => ?_)
    refine j_dup B ⟨dX0_made_44, rfl⟩ rfl ?_
    refine j_aload_n B ⟨dX0_made_45, rfl⟩ 0 rfl ?_
    refine j_get (T := TX0) (ci := 0) B in_X0 0 rfl rfl 2 (by decide) q87 rfl ⟨dX0_made_46, rfl⟩ ?_
    refine j_iload_n B ⟨dX0_made_49, rfl⟩ 2 rfl ?_
    refine j_frv (cw' := cellsX g (adU ad (102 + 10 * w.1 1) q)) (w' := fun _ => addO w 2 (w.2.1 90 2) a2 a1) (rest := cellsX g ad w) (sub := [(q, .inr (5, [.int 0, .int 0, .int 0]))]) (f := fun (_ : Unit) => [(q, .inr (5, [.int (w.2.1 90 2), .int a2, .int 0]))]) B hA rfl (List.Perm.refl _) (fun _ _ => addO_perm (k := 2) hg) (run_I (As := [.int (w.2.1 90 2), .int a2]) B (met_X4_init_X4 l D g q (w.2.1 90 2) a2 0 0 0 0) NT_ok pkX4_init q256 rfl rfl hRm ⟨Nat.le_of_ble_eq_true rfl, Nat.le_of_ble_eq_true rfl⟩ rfl (Nat.le_of_ble_eq_true rfl) (by rw [hRm]; exact ⟨Nat.le_of_ble_eq_true rfl, Nat.le_of_ble_eq_true rfl⟩) dX0_made_50) (fun _ _ => ?_)
    exact j_aretS (post := fun _ : Nat => True) (f := fun u => cellsX g (adU ad (102 + 10 * w.1 1) u) (addO w (kcls a1) (w.2.1 90 2) a2 a1)) (ra := fun u => u) q B hr (Or.inl ⟨_, rfl⟩) hQ (Nat.le_of_ble_eq_true rfl) (Nat.le_of_ble_eq_true rfl) trivial rfl (by rw [hk]) ⟨dX0_made_53, rfl⟩
  by_cases h4 : a1 = 4
  · have hk : kcls a1 = 3 := by unfold kcls; rw [if_neg h2, if_neg h3, if_pos h4]
    refine j_tswIn (tgt := 54) B dX0_made_1 4 h4 (by decide) (by decide) rfl (by decide) ?_
    refine j_new (T := TX5) (ci := 6) (fs := [.int 0, .int 0, .int 0]) B hA in_X5 tyX5 tyX5_ok q264 q265 q62 rfl (by decide) (by rw [hRm]; exact Nat.le_of_ble_eq_true rfl) (by rw [hRm]; exact Nat.le_of_ble_eq_true rfl) ⟨dX0_made_54, rfl⟩ (fun q => ?_)
    refine j_dup B ⟨dX0_made_57, rfl⟩ rfl ?_
    refine j_aload_n B ⟨dX0_made_58, rfl⟩ 0 rfl ?_
    refine j_get (T := TX0) (ci := 0) B in_X0 0 rfl rfl 2 (by decide) q87 rfl ⟨dX0_made_59, rfl⟩ ?_
    refine j_iload_n B ⟨dX0_made_62, rfl⟩ 2 rfl ?_
    refine j_frv (cw' := cellsX g (adU ad (102 + 10 * w.1 1) q)) (w' := fun _ => addO w 3 (w.2.1 90 2) a2 a1) (rest := cellsX g ad w) (sub := [(q, .inr (6, [.int 0, .int 0, .int 0]))]) (f := fun (_ : Unit) => [(q, .inr (6, [.int (w.2.1 90 2), .int a2, .int 0]))]) B hA rfl (List.Perm.refl _) (fun _ _ => addO_perm (k := 3) hg) (run_I (As := [.int (w.2.1 90 2), .int a2]) B (met_X5_init_X5 l D g q (w.2.1 90 2) a2 0 0 0 0) NT_ok pkX5_init q266 rfl rfl hRm ⟨Nat.le_of_ble_eq_true rfl, Nat.le_of_ble_eq_true rfl⟩ rfl (Nat.le_of_ble_eq_true rfl) (by rw [hRm]; exact ⟨Nat.le_of_ble_eq_true rfl, Nat.le_of_ble_eq_true rfl⟩) dX0_made_63) (fun _ _ => ?_)
    exact j_aretS (post := fun _ : Nat => True) (f := fun u => cellsX g (adU ad (102 + 10 * w.1 1) u) (addO w (kcls a1) (w.2.1 90 2) a2 a1)) (ra := fun u => u) q B hr (Or.inl ⟨_, rfl⟩) hQ (Nat.le_of_ble_eq_true rfl) (Nat.le_of_ble_eq_true rfl) trivial rfl (by rw [hk]) ⟨dX0_made_66, rfl⟩
  have hk : kcls a1 = 0 := by unfold kcls; rw [if_neg h2, if_neg h3, if_neg h4]
  refine j_tswOut (tgt := 67) B dX0_made_1 (by have a2 := lv_neT h2 (a := 2) (by decide); have a3 := lv_neT h3 (a := 3) (by decide); have a4 := lv_neT h4 (a := 4) (by decide); omega) (by decide) ?_
  refine j_new (T := TX6) (ci := 3) (fs := [.int 0, .int 0, .int 0, .int 0]) B hA in_X6 tyX6 tyX6_ok q274 q275 q63 rfl (by decide) (by rw [hRm]; exact Nat.le_of_ble_eq_true rfl) (by rw [hRm]; exact Nat.le_of_ble_eq_true rfl) ⟨dX0_made_67, rfl⟩ (fun q => ?_)
  refine j_dup B ⟨dX0_made_70, rfl⟩ rfl ?_
  refine j_aload_n B ⟨dX0_made_71, rfl⟩ 0 rfl ?_
  refine j_get (T := TX0) (ci := 0) B in_X0 0 rfl rfl 2 (by decide) q87 rfl ⟨dX0_made_72, rfl⟩ ?_
  refine j_iload_n B ⟨dX0_made_75, rfl⟩ 2 rfl ?_
  refine j_iload_n B ⟨dX0_made_76, rfl⟩ 1 rfl ?_
  refine j_frv (cw' := cellsX g (adU ad (102 + 10 * w.1 1) q)) (w' := fun _ => addO w 0 (w.2.1 90 2) a2 a1) (rest := cellsX g ad w) (sub := [(q, .inr (3, [.int 0, .int 0, .int 0, .int 0]))]) (f := fun (_ : Unit) => [(q, .inr (3, [.int (w.2.1 90 2), .int a2, .int 0, .int a1]))]) B hA rfl (List.Perm.refl _) (fun _ _ => addO_perm (k := 0) hg) (run_I (As := [.int (w.2.1 90 2), .int a2, .int a1]) B (met_X6_init_X6 l D g q (w.2.1 90 2) a2 a1 0 0 0 0) NT_ok pkX6_init q276 rfl rfl hRm ⟨Nat.le_of_ble_eq_true rfl, Nat.le_of_ble_eq_true rfl⟩ rfl (Nat.le_of_ble_eq_true rfl) (by rw [hRm]; exact ⟨Nat.le_of_ble_eq_true rfl, Nat.le_of_ble_eq_true rfl⟩) dX0_made_77) (fun _ _ => ?_)
  exact j_aretS (post := fun _ : Nat => True) (f := fun u => cellsX g (adU ad (102 + 10 * w.1 1) u) (addO w (kcls a1) (w.2.1 90 2) a2 a1)) (ra := fun u => u) q B hr (Or.inl ⟨_, rfl⟩) hQ (Nat.le_of_ble_eq_true rfl) (Nat.le_of_ble_eq_true rfl) trivial rfl (by rw [hk]) ⟨dX0_made_80, rfl⟩
