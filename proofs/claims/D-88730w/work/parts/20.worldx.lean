set_option maxRecDepth 100000
/-! the world of DawnEights: its object and arrays (fixX), then blocks of oars, boats, crews, rules and their arrays (dynX); a row a field and an array.
 w.1: 0 boats, 1 oars, 2 rules (objects); 3, 4, 5 how many of them lie in the arrays boats, oars, rules; 108 + 10 * o the class of oar o (0 Sweeper, 1 Both, 2 Sculler, 3 Young).
 rows of w.2.1: 90 the fields, k the array of field k; 100 + 10 * b boat, 101 + 10 * b its crew, 102 + 10 * o oar, 103 + 10 * r rule, 104 .. 107 its fields, signs, numbers, nots -/
def blk (n : Nat) (f : Nat → Nat × va_E) : va_W := (List.range n).map f
theorem blk_len {n : Nat} {f : Nat → Nat × va_E} : (blk n f).length = n := by simp [blk]
theorem blk_get {n : Nat} {f : Nat → Nat × va_E} {r : va_W} {j : Nat} (h : j < n) : (blk n f ++ r)[j]? = some (f j) := by
  rw [List.getElem?_append_left (by rw [blk_len]; exact h)]
  simp [blk, h]
theorem app_get (l r : va_W) (n : Nat) (hl : l.length = n) (i : Nat) : (l ++ r)[n + i]? = r[i]? := by
  subst hl
  rw [List.getElem?_append_right (Nat.le_add_right _ _), Nat.add_sub_cancel_left]
theorem app_set (l r : va_W) (n : Nat) (hl : l.length = n) (i : Nat) (x : Nat × va_E) : (l ++ r).set (n + i) x = l ++ r.set i x := by
  subst hl
  rw [List.set_append_right _ _ (Nat.le_add_right _ _), Nat.add_sub_cancel_left]
theorem blk_set {n : Nat} {f : Nat → Nat × va_E} {r : va_W} {j : Nat} {x : Nat × va_E} (h : j < n) : (blk n f ++ r).set j x = blk n (fun i => if i = j then x else f i) ++ r := by
  rw [List.set_append_left _ _ (by rw [blk_len]; exact h)]
  congr 1
  apply List.ext_getElem?
  intro i
  rw [List.getElem?_set]
  by_cases hij : j = i
  · subst hij
    simp [blk, h]
  · rw [if_neg hij]
    simp only [blk, List.getElem?_map]
    by_cases hi : i < n
    · simp [hi, Ne.symm hij]
    · rw [List.getElem?_eq_none (by simp; omega)]; rfl
theorem blk_congr {n : Nat} {f f' : Nat → Nat × va_E} (h : ∀ j, j < n → f j = f' j) : blk n f = blk n f' := by
  unfold blk
  apply List.map_congr_left
  intro a ha
  exact h a (List.mem_range.mp ha)
theorem cg2 {a b c d : va_W} (h : a = b) (k : c = d) : a ++ c = b ++ d := by rw [h, k]
theorem stG_1 (w : Wd) (a j : Nat) (v : Int32) : (stG w a j v).1 = w.1 := rfl
theorem stG_22 (w : Wd) (a j : Nat) (v : Int32) : (stG w a j v).2.2 = w.2.2 := rfl
theorem stG_ne {w : Wd} {a b j : Nat} {v : Int32} (h : b ≠ a) : (stG w a j v).2.1 b = w.2.1 b := if_neg h
theorem stG_eq (w : Wd) (a j : Nat) (v : Int32) : (stG w a j v).2.1 a = upd (w.2.1 a) j v := if_pos rfl
def rfs (n : Nat) (ad : Nat → Nat) (t : Nat) : Nat → Option Nat := fun i => if i < n then some (ad (t + 10 * i)) else none
def fieldsX (ad : Nat → Nat) (w : Wd) : List Value := [.ref (ad 0), .ref (ad 1), .int (w.2.1 90 2), .int (w.2.1 90 3), .int (w.2.1 90 4), .ref (ad 5), .ref (ad 6), .ref (ad 7), .ref (ad 8), .ref (ad 9), .int (w.2.1 90 10), .ref (ad 11), .int (w.2.1 90 12), .long (w.2.2 90 13), .ref (ad 14), .int (w.2.1 90 15), .ref (ad 16), .ref (ad 17), .ref (ad 18), .ref (ad 19), .int (w.2.1 90 20), .ref (ad 21), .int (w.2.1 90 22), .int (w.2.1 90 23), .int (w.2.1 90 24), .ref (ad 25), .ref (ad 26), .ref (ad 27), .ref (ad 28), .ref (ad 29), .ref (ad 30), .ref (ad 31), .int (w.2.1 90 32), .int (w.2.1 90 33), .int (w.2.1 90 34), .ref (ad 35), .ref (ad 36), .int (w.2.1 90 37), .int (w.2.1 90 38), .ref (ad 39), .int (w.2.1 90 40), .int (w.2.1 90 41)]
def fixX (g : Nat → ClassId) (ad : Nat → Nat) (w : Wd) : va_W := [(ad 99, .inr (0, fieldsX ad w)), (ad 0, .inl (g 4, 16, .inr (.inr (.inr (.inr (rfs (w.1 4) ad 102)))))), (ad 1, .inl (g 5, 8, .inr (.inr (.inr (.inr (rfs (w.1 3) ad 100)))))), (ad 5, .inl (g 0, 40, .inl (w.2.1 5))), (ad 6, .inl (g 0, 40, .inl (w.2.1 6))), (ad 7, .inl (g 0, 40, .inl (w.2.1 7))), (ad 8, .inl (g 0, 16, .inl (w.2.1 8))), (ad 9, .inl (g 0, 16, .inl (w.2.1 9))), (ad 11, .inl (g 1, 272, .inr (.inl (w.2.2 11)))), (ad 14, .inl (g 0, 4352, .inl (w.2.1 14))), (ad 16, .inl (g 0, 16, .inl (w.2.1 16))), (ad 17, .inl (g 0, 30, .inl (w.2.1 17))), (ad 18, .inl (g 0, 30, .inl (w.2.1 18))), (ad 19, .inl (g 6, 10, .inr (.inr (.inr (.inr (rfs (w.1 5) ad 103)))))), (ad 21, .inl (g 3, 120, .inl (w.2.1 21))), (ad 25, .inl (g 0, 30, .inl (w.2.1 25))), (ad 26, .inl (g 0, 30, .inl (w.2.1 26))), (ad 27, .inl (g 0, 30, .inl (w.2.1 27))), (ad 28, .inl (g 0, 30, .inl (w.2.1 28))), (ad 29, .inl (g 0, 60, .inl (w.2.1 29))), (ad 30, .inl (g 0, 60, .inl (w.2.1 30))), (ad 31, .inl (g 2, 60, .inl (w.2.1 31))), (ad 35, .inl (g 0, 20, .inl (w.2.1 35))), (ad 36, .inl (g 0, 20, .inl (w.2.1 36))), (ad 39, .inl (g 0, 3, .inl (w.2.1 39)))]
def ofs (w : Wd) (o : Nat) : List Value := if w.1 (108 + 10 * o) = 0 then [.int (w.2.1 (102 + 10 * o) 0), .int (w.2.1 (102 + 10 * o) 1), .int (w.2.1 (102 + 10 * o) 2), .int (w.2.1 (102 + 10 * o) 3)] else [.int (w.2.1 (102 + 10 * o) 0), .int (w.2.1 (102 + 10 * o) 1), .int (w.2.1 (102 + 10 * o) 2)]
def oarC (ad : Nat → Nat) (w : Wd) (o : Nat) : Nat × va_E := (ad (102 + 10 * o), .inr (3 + w.1 (108 + 10 * o), ofs w o))
def bfs (ad : Nat → Nat) (w : Wd) (b : Nat) : List Value := [.int (w.2.1 (100 + 10 * b) 0), .int (w.2.1 (100 + 10 * b) 1), .int (w.2.1 (100 + 10 * b) 2), .int (w.2.1 (100 + 10 * b) 3), .ref (ad (101 + 10 * b)), .int (w.2.1 (100 + 10 * b) 5)]
def boatC (ad : Nat → Nat) (w : Wd) (b : Nat) : Nat × va_E := (ad (100 + 10 * b), .inr (1, bfs ad w b))
def crewC (g : Nat → ClassId) (ad : Nat → Nat) (w : Wd) (b : Nat) : Nat × va_E := (ad (101 + 10 * b), .inl (g 0, 9, .inl (w.2.1 (101 + 10 * b))))
def rufs (ad : Nat → Nat) (w : Wd) (r : Nat) : List Value := [.int (w.2.1 (103 + 10 * r) 0), .int (w.2.1 (103 + 10 * r) 1), .int (w.2.1 (103 + 10 * r) 2), .ref (ad (104 + 10 * r)), .ref (ad (105 + 10 * r)), .ref (ad (106 + 10 * r)), .ref (ad (107 + 10 * r)), .ref (ad 99)]
def ruleC (ad : Nat → Nat) (w : Wd) (r : Nat) : Nat × va_E := (ad (103 + 10 * r), .inr (2, rufs ad w r))
def rarC (g : Nat → ClassId) (ad : Nat → Nat) (w : Wd) (t gi r : Nat) : Nat × va_E := (ad (t + 10 * r), .inl (g gi, 3, .inl (w.2.1 (t + 10 * r))))
def dynX (g : Nat → ClassId) (ad : Nat → Nat) (w : Wd) : va_W := blk (w.1 1) (oarC ad w) ++ (blk (w.1 0) (boatC ad w) ++ (blk (w.1 0) (crewC g ad w) ++ (blk (w.1 2) (ruleC ad w) ++ (blk (w.1 2) (rarC g ad w 104 0) ++ (blk (w.1 2) (rarC g ad w 105 0) ++ (blk (w.1 2) (rarC g ad w 106 0) ++ (blk (w.1 2) (rarC g ad w 107 2) ++ [])))))))
def cellsX (g : Nat → ClassId) (ad : Nat → Nat) (w : Wd) : va_W := fixX g ad w ++ dynX g ad w
theorem dynX_st {g : Nat → ClassId} {ad : Nat → Nat} {w : Wd} {a j : Nat} {v : Int32} (h : a < 100) : dynX g ad (stG w a j v) = dynX g ad w := by
  unfold dynX
  simp only [stG_1]
  have e : ∀ t i : Nat, 100 ≤ t → (stG w a j v).2.1 (t + 10 * i) = w.2.1 (t + 10 * i) := fun t i ht => stG_ne (by omega)
  refine cg2 (blk_congr fun i _ => ?_) (cg2 (blk_congr fun i _ => ?_) (cg2 (blk_congr fun i _ => ?_) (cg2 (blk_congr fun i _ => ?_) (cg2 (blk_congr fun i _ => ?_) (cg2 (blk_congr fun i _ => ?_) (cg2 (blk_congr fun i _ => ?_) (cg2 (blk_congr fun i _ => ?_) rfl)))))))
  · simp only [oarC, ofs, stG_1, e 102 i (by decide)]
  · simp only [boatC, bfs, e 100 i (by decide)]
  · simp only [crewC, e 101 i (by decide)]
  · simp only [ruleC, rufs, e 103 i (by decide)]
  · simp only [rarC, e 104 i (by decide)]
  · simp only [rarC, e 105 i (by decide)]
  · simp only [rarC, e 106 i (by decide)]
  · simp only [rarC, e 107 i (by decide)]
theorem dynX_stL {g : Nat → ClassId} {ad : Nat → Nat} {w : Wd} {a j : Nat} {v : Int64} : dynX g ad (stL w a j v) = dynX g ad w := rfl
theorem fixX_st {g : Nat → ClassId} {ad : Nat → Nat} {w : Wd} {a j : Nat} {v : Int32} (h : 100 ≤ a) : fixX g ad (stG w a j v) = fixX g ad w := by
  have e : ∀ t : Nat, t < 100 → (stG w a j v).2.1 t = w.2.1 t := fun t ht => stG_ne (by omega)
  unfold fixX fieldsX
  simp only [stG_1, stG_22, e 5 (by decide), e 6 (by decide), e 7 (by decide), e 8 (by decide), e 9 (by decide), e 14 (by decide), e 16 (by decide), e 17 (by decide), e 18 (by decide), e 21 (by decide), e 25 (by decide), e 26 (by decide), e 27 (by decide), e 28 (by decide), e 29 (by decide), e 30 (by decide), e 31 (by decide), e 35 (by decide), e 36 (by decide), e 39 (by decide), e 90 (by decide)]
theorem at_oar {g : Nat → ClassId} {ad : Nat → Nat} {w : Wd} {j : Nat} (h : j < w.1 1) : (cellsX g ad w)[25 + j]? = some (oarC ad w j) := by
  unfold cellsX dynX
  rw [app_get _ _ 25 rfl, blk_get h]
theorem at_boat {g : Nat → ClassId} {ad : Nat → Nat} {w : Wd} {j : Nat} (h : j < w.1 0) : (cellsX g ad w)[25 + (w.1 1 + j)]? = some (boatC ad w j) := by
  unfold cellsX dynX
  rw [app_get _ _ 25 rfl, app_get _ _ _ blk_len, blk_get h]
theorem at_crew {g : Nat → ClassId} {ad : Nat → Nat} {w : Wd} {j : Nat} (h : j < w.1 0) : (cellsX g ad w)[25 + (w.1 1 + (w.1 0 + j))]? = some (crewC g ad w j) := by
  unfold cellsX dynX
  rw [app_get _ _ 25 rfl, app_get _ _ _ blk_len, app_get _ _ _ blk_len, blk_get h]
theorem at_rule {g : Nat → ClassId} {ad : Nat → Nat} {w : Wd} {j : Nat} (h : j < w.1 2) : (cellsX g ad w)[25 + (w.1 1 + (w.1 0 + (w.1 0 + j)))]? = some (ruleC ad w j) := by
  unfold cellsX dynX
  rw [app_get _ _ 25 rfl, app_get _ _ _ blk_len, app_get _ _ _ blk_len, app_get _ _ _ blk_len, blk_get h]
theorem at_rar4 {g : Nat → ClassId} {ad : Nat → Nat} {w : Wd} {j : Nat} (h : j < w.1 2) : (cellsX g ad w)[25 + (w.1 1 + (w.1 0 + (w.1 0 + (w.1 2 + j))))]? = some (rarC g ad w 104 0 j) := by
  unfold cellsX dynX
  rw [app_get _ _ 25 rfl, app_get _ _ _ blk_len, app_get _ _ _ blk_len, app_get _ _ _ blk_len, app_get _ _ _ blk_len, blk_get h]
theorem at_rar5 {g : Nat → ClassId} {ad : Nat → Nat} {w : Wd} {j : Nat} (h : j < w.1 2) : (cellsX g ad w)[25 + (w.1 1 + (w.1 0 + (w.1 0 + (w.1 2 + (w.1 2 + j)))))]? = some (rarC g ad w 105 0 j) := by
  unfold cellsX dynX
  rw [app_get _ _ 25 rfl, app_get _ _ _ blk_len, app_get _ _ _ blk_len, app_get _ _ _ blk_len, app_get _ _ _ blk_len, app_get _ _ _ blk_len, blk_get h]
theorem at_rar6 {g : Nat → ClassId} {ad : Nat → Nat} {w : Wd} {j : Nat} (h : j < w.1 2) : (cellsX g ad w)[25 + (w.1 1 + (w.1 0 + (w.1 0 + (w.1 2 + (w.1 2 + (w.1 2 + j))))))]? = some (rarC g ad w 106 0 j) := by
  unfold cellsX dynX
  rw [app_get _ _ 25 rfl, app_get _ _ _ blk_len, app_get _ _ _ blk_len, app_get _ _ _ blk_len, app_get _ _ _ blk_len, app_get _ _ _ blk_len, app_get _ _ _ blk_len, blk_get h]
theorem at_rar7 {g : Nat → ClassId} {ad : Nat → Nat} {w : Wd} {j : Nat} (h : j < w.1 2) : (cellsX g ad w)[25 + (w.1 1 + (w.1 0 + (w.1 0 + (w.1 2 + (w.1 2 + (w.1 2 + (w.1 2 + j)))))))]? = some (rarC g ad w 107 2 j) := by
  unfold cellsX dynX
  rw [app_get _ _ 25 rfl, app_get _ _ _ blk_len, app_get _ _ _ blk_len, app_get _ _ _ blk_len, app_get _ _ _ blk_len, app_get _ _ _ blk_len, app_get _ _ _ blk_len, app_get _ _ _ blk_len, blk_get h]
theorem set_crew {g : Nat → ClassId} {ad : Nat → Nat} {w : Wd} {j k : Nat} {v : Int32} (h : j < w.1 0) : (cellsX g ad w).set (25 + (w.1 1 + (w.1 0 + j))) (ad (101 + 10 * j), .inl (g 0, 9, .inl (upd (w.2.1 (101 + 10 * j)) k v))) = cellsX g ad (stG w (101 + 10 * j) k v) := by
  unfold cellsX dynX
  rw [app_set _ _ 25 rfl, app_set _ _ _ blk_len, app_set _ _ _ blk_len, blk_set h, fixX_st (by omega)]
  simp only [stG_1]
  refine congrArg (fixX g ad w ++ ·) (cg2 (blk_congr fun i _ => ?_) (cg2 (blk_congr fun i _ => ?_) (cg2 (blk_congr fun i _ => ?_) (cg2 (blk_congr fun i _ => ?_) (cg2 (blk_congr fun i _ => ?_) (cg2 (blk_congr fun i _ => ?_) (cg2 (blk_congr fun i _ => ?_) (cg2 (blk_congr fun i _ => ?_) rfl))))))))
  · simp only [oarC, ofs, stG_1, stG_ne (show 102 + 10 * i ≠ 101 + 10 * j by omega)]
  · simp only [boatC, bfs, stG_1, stG_ne (show 100 + 10 * i ≠ 101 + 10 * j by omega)]
  · by_cases hi : i = j
    · subst hi
      rw [if_pos rfl]
      simp only [crewC, stG_eq]
    · rw [if_neg hi]
      simp only [crewC, stG_1, stG_ne (show 101 + 10 * i ≠ 101 + 10 * j by omega)]
  · simp only [ruleC, rufs, stG_1, stG_ne (show 103 + 10 * i ≠ 101 + 10 * j by omega)]
  · simp only [rarC, stG_1, stG_ne (show 104 + 10 * i ≠ 101 + 10 * j by omega)]
  · simp only [rarC, stG_1, stG_ne (show 105 + 10 * i ≠ 101 + 10 * j by omega)]
  · simp only [rarC, stG_1, stG_ne (show 106 + 10 * i ≠ 101 + 10 * j by omega)]
  · simp only [rarC, stG_1, stG_ne (show 107 + 10 * i ≠ 101 + 10 * j by omega)]
theorem set_rar4 {g : Nat → ClassId} {ad : Nat → Nat} {w : Wd} {j k : Nat} {v : Int32} (h : j < w.1 2) : (cellsX g ad w).set (25 + (w.1 1 + (w.1 0 + (w.1 0 + (w.1 2 + j))))) (ad (104 + 10 * j), .inl (g 0, 3, .inl (upd (w.2.1 (104 + 10 * j)) k v))) = cellsX g ad (stG w (104 + 10 * j) k v) := by
  unfold cellsX dynX
  rw [app_set _ _ 25 rfl, app_set _ _ _ blk_len, app_set _ _ _ blk_len, app_set _ _ _ blk_len, app_set _ _ _ blk_len, blk_set h, fixX_st (by omega)]
  simp only [stG_1]
  refine congrArg (fixX g ad w ++ ·) (cg2 (blk_congr fun i _ => ?_) (cg2 (blk_congr fun i _ => ?_) (cg2 (blk_congr fun i _ => ?_) (cg2 (blk_congr fun i _ => ?_) (cg2 (blk_congr fun i _ => ?_) (cg2 (blk_congr fun i _ => ?_) (cg2 (blk_congr fun i _ => ?_) (cg2 (blk_congr fun i _ => ?_) rfl))))))))
  · simp only [oarC, ofs, stG_1, stG_ne (show 102 + 10 * i ≠ 104 + 10 * j by omega)]
  · simp only [boatC, bfs, stG_1, stG_ne (show 100 + 10 * i ≠ 104 + 10 * j by omega)]
  · simp only [crewC, stG_1, stG_ne (show 101 + 10 * i ≠ 104 + 10 * j by omega)]
  · simp only [ruleC, rufs, stG_1, stG_ne (show 103 + 10 * i ≠ 104 + 10 * j by omega)]
  · by_cases hi : i = j
    · subst hi
      rw [if_pos rfl]
      simp only [rarC, stG_eq]
    · rw [if_neg hi]
      simp only [rarC, stG_1, stG_ne (show 104 + 10 * i ≠ 104 + 10 * j by omega)]
  · simp only [rarC, stG_1, stG_ne (show 105 + 10 * i ≠ 104 + 10 * j by omega)]
  · simp only [rarC, stG_1, stG_ne (show 106 + 10 * i ≠ 104 + 10 * j by omega)]
  · simp only [rarC, stG_1, stG_ne (show 107 + 10 * i ≠ 104 + 10 * j by omega)]
theorem set_rar5 {g : Nat → ClassId} {ad : Nat → Nat} {w : Wd} {j k : Nat} {v : Int32} (h : j < w.1 2) : (cellsX g ad w).set (25 + (w.1 1 + (w.1 0 + (w.1 0 + (w.1 2 + (w.1 2 + j)))))) (ad (105 + 10 * j), .inl (g 0, 3, .inl (upd (w.2.1 (105 + 10 * j)) k v))) = cellsX g ad (stG w (105 + 10 * j) k v) := by
  unfold cellsX dynX
  rw [app_set _ _ 25 rfl, app_set _ _ _ blk_len, app_set _ _ _ blk_len, app_set _ _ _ blk_len, app_set _ _ _ blk_len, app_set _ _ _ blk_len, blk_set h, fixX_st (by omega)]
  simp only [stG_1]
  refine congrArg (fixX g ad w ++ ·) (cg2 (blk_congr fun i _ => ?_) (cg2 (blk_congr fun i _ => ?_) (cg2 (blk_congr fun i _ => ?_) (cg2 (blk_congr fun i _ => ?_) (cg2 (blk_congr fun i _ => ?_) (cg2 (blk_congr fun i _ => ?_) (cg2 (blk_congr fun i _ => ?_) (cg2 (blk_congr fun i _ => ?_) rfl))))))))
  · simp only [oarC, ofs, stG_1, stG_ne (show 102 + 10 * i ≠ 105 + 10 * j by omega)]
  · simp only [boatC, bfs, stG_1, stG_ne (show 100 + 10 * i ≠ 105 + 10 * j by omega)]
  · simp only [crewC, stG_1, stG_ne (show 101 + 10 * i ≠ 105 + 10 * j by omega)]
  · simp only [ruleC, rufs, stG_1, stG_ne (show 103 + 10 * i ≠ 105 + 10 * j by omega)]
  · simp only [rarC, stG_1, stG_ne (show 104 + 10 * i ≠ 105 + 10 * j by omega)]
  · by_cases hi : i = j
    · subst hi
      rw [if_pos rfl]
      simp only [rarC, stG_eq]
    · rw [if_neg hi]
      simp only [rarC, stG_1, stG_ne (show 105 + 10 * i ≠ 105 + 10 * j by omega)]
  · simp only [rarC, stG_1, stG_ne (show 106 + 10 * i ≠ 105 + 10 * j by omega)]
  · simp only [rarC, stG_1, stG_ne (show 107 + 10 * i ≠ 105 + 10 * j by omega)]
theorem set_rar6 {g : Nat → ClassId} {ad : Nat → Nat} {w : Wd} {j k : Nat} {v : Int32} (h : j < w.1 2) : (cellsX g ad w).set (25 + (w.1 1 + (w.1 0 + (w.1 0 + (w.1 2 + (w.1 2 + (w.1 2 + j))))))) (ad (106 + 10 * j), .inl (g 0, 3, .inl (upd (w.2.1 (106 + 10 * j)) k v))) = cellsX g ad (stG w (106 + 10 * j) k v) := by
  unfold cellsX dynX
  rw [app_set _ _ 25 rfl, app_set _ _ _ blk_len, app_set _ _ _ blk_len, app_set _ _ _ blk_len, app_set _ _ _ blk_len, app_set _ _ _ blk_len, app_set _ _ _ blk_len, blk_set h, fixX_st (by omega)]
  simp only [stG_1]
  refine congrArg (fixX g ad w ++ ·) (cg2 (blk_congr fun i _ => ?_) (cg2 (blk_congr fun i _ => ?_) (cg2 (blk_congr fun i _ => ?_) (cg2 (blk_congr fun i _ => ?_) (cg2 (blk_congr fun i _ => ?_) (cg2 (blk_congr fun i _ => ?_) (cg2 (blk_congr fun i _ => ?_) (cg2 (blk_congr fun i _ => ?_) rfl))))))))
  · simp only [oarC, ofs, stG_1, stG_ne (show 102 + 10 * i ≠ 106 + 10 * j by omega)]
  · simp only [boatC, bfs, stG_1, stG_ne (show 100 + 10 * i ≠ 106 + 10 * j by omega)]
  · simp only [crewC, stG_1, stG_ne (show 101 + 10 * i ≠ 106 + 10 * j by omega)]
  · simp only [ruleC, rufs, stG_1, stG_ne (show 103 + 10 * i ≠ 106 + 10 * j by omega)]
  · simp only [rarC, stG_1, stG_ne (show 104 + 10 * i ≠ 106 + 10 * j by omega)]
  · simp only [rarC, stG_1, stG_ne (show 105 + 10 * i ≠ 106 + 10 * j by omega)]
  · by_cases hi : i = j
    · subst hi
      rw [if_pos rfl]
      simp only [rarC, stG_eq]
    · rw [if_neg hi]
      simp only [rarC, stG_1, stG_ne (show 106 + 10 * i ≠ 106 + 10 * j by omega)]
  · simp only [rarC, stG_1, stG_ne (show 107 + 10 * i ≠ 106 + 10 * j by omega)]
theorem set_rar7 {g : Nat → ClassId} {ad : Nat → Nat} {w : Wd} {j k : Nat} {v : Int32} (h : j < w.1 2) : (cellsX g ad w).set (25 + (w.1 1 + (w.1 0 + (w.1 0 + (w.1 2 + (w.1 2 + (w.1 2 + (w.1 2 + j)))))))) (ad (107 + 10 * j), .inl (g 2, 3, .inl (upd (w.2.1 (107 + 10 * j)) k v))) = cellsX g ad (stG w (107 + 10 * j) k v) := by
  unfold cellsX dynX
  rw [app_set _ _ 25 rfl, app_set _ _ _ blk_len, app_set _ _ _ blk_len, app_set _ _ _ blk_len, app_set _ _ _ blk_len, app_set _ _ _ blk_len, app_set _ _ _ blk_len, app_set _ _ _ blk_len, blk_set h, fixX_st (by omega)]
  simp only [stG_1]
  refine congrArg (fixX g ad w ++ ·) (cg2 (blk_congr fun i _ => ?_) (cg2 (blk_congr fun i _ => ?_) (cg2 (blk_congr fun i _ => ?_) (cg2 (blk_congr fun i _ => ?_) (cg2 (blk_congr fun i _ => ?_) (cg2 (blk_congr fun i _ => ?_) (cg2 (blk_congr fun i _ => ?_) (cg2 (blk_congr fun i _ => ?_) rfl))))))))
  · simp only [oarC, ofs, stG_1, stG_ne (show 102 + 10 * i ≠ 107 + 10 * j by omega)]
  · simp only [boatC, bfs, stG_1, stG_ne (show 100 + 10 * i ≠ 107 + 10 * j by omega)]
  · simp only [crewC, stG_1, stG_ne (show 101 + 10 * i ≠ 107 + 10 * j by omega)]
  · simp only [ruleC, rufs, stG_1, stG_ne (show 103 + 10 * i ≠ 107 + 10 * j by omega)]
  · simp only [rarC, stG_1, stG_ne (show 104 + 10 * i ≠ 107 + 10 * j by omega)]
  · simp only [rarC, stG_1, stG_ne (show 105 + 10 * i ≠ 107 + 10 * j by omega)]
  · simp only [rarC, stG_1, stG_ne (show 106 + 10 * i ≠ 107 + 10 * j by omega)]
  · by_cases hi : i = j
    · subst hi
      rw [if_pos rfl]
      simp only [rarC, stG_eq]
    · rw [if_neg hi]
      simp only [rarC, stG_1, stG_ne (show 107 + 10 * i ≠ 107 + 10 * j by omega)]
theorem set_boat {g : Nat → ClassId} {ad : Nat → Nat} {w : Wd} {j k : Nat} {v : Int32} (hk : k = 5) (h : j < w.1 0) : (cellsX g ad w).set (25 + (w.1 1 + j)) (ad (100 + 10 * j), .inr (1, (bfs ad w j).set k (.int v))) = cellsX g ad (stG w (100 + 10 * j) k v) := by
  unfold cellsX dynX
  rw [app_set _ _ 25 rfl, app_set _ _ _ blk_len, blk_set h, fixX_st (by omega)]
  simp only [stG_1]
  refine congrArg (fixX g ad w ++ ·) (cg2 (blk_congr fun i _ => ?_) (cg2 (blk_congr fun i _ => ?_) (cg2 (blk_congr fun i _ => ?_) (cg2 (blk_congr fun i _ => ?_) (cg2 (blk_congr fun i _ => ?_) (cg2 (blk_congr fun i _ => ?_) (cg2 (blk_congr fun i _ => ?_) (cg2 (blk_congr fun i _ => ?_) rfl))))))))
  · simp only [oarC, ofs, stG_1, stG_ne (show 102 + 10 * i ≠ 100 + 10 * j by omega)]
  · by_cases hi : i = j
    · subst hi
      rw [if_pos rfl]
      subst hk
      simp only [boatC, bfs, stG_eq]
      rfl
    · rw [if_neg hi]
      simp only [boatC, bfs, stG_1, stG_ne (show 100 + 10 * i ≠ 100 + 10 * j by omega)]
  · simp only [crewC, stG_1, stG_ne (show 101 + 10 * i ≠ 100 + 10 * j by omega)]
  · simp only [ruleC, rufs, stG_1, stG_ne (show 103 + 10 * i ≠ 100 + 10 * j by omega)]
  · simp only [rarC, stG_1, stG_ne (show 104 + 10 * i ≠ 100 + 10 * j by omega)]
  · simp only [rarC, stG_1, stG_ne (show 105 + 10 * i ≠ 100 + 10 * j by omega)]
  · simp only [rarC, stG_1, stG_ne (show 106 + 10 * i ≠ 100 + 10 * j by omega)]
  · simp only [rarC, stG_1, stG_ne (show 107 + 10 * i ≠ 100 + 10 * j by omega)]
theorem set_rule {g : Nat → ClassId} {ad : Nat → Nat} {w : Wd} {j k : Nat} {v : Int32} (hk : k = 0 ∨ k = 1 ∨ k = 2) (h : j < w.1 2) : (cellsX g ad w).set (25 + (w.1 1 + (w.1 0 + (w.1 0 + j)))) (ad (103 + 10 * j), .inr (2, (rufs ad w j).set k (.int v))) = cellsX g ad (stG w (103 + 10 * j) k v) := by
  unfold cellsX dynX
  rw [app_set _ _ 25 rfl, app_set _ _ _ blk_len, app_set _ _ _ blk_len, app_set _ _ _ blk_len, blk_set h, fixX_st (by omega)]
  simp only [stG_1]
  refine congrArg (fixX g ad w ++ ·) (cg2 (blk_congr fun i _ => ?_) (cg2 (blk_congr fun i _ => ?_) (cg2 (blk_congr fun i _ => ?_) (cg2 (blk_congr fun i _ => ?_) (cg2 (blk_congr fun i _ => ?_) (cg2 (blk_congr fun i _ => ?_) (cg2 (blk_congr fun i _ => ?_) (cg2 (blk_congr fun i _ => ?_) rfl))))))))
  · simp only [oarC, ofs, stG_1, stG_ne (show 102 + 10 * i ≠ 103 + 10 * j by omega)]
  · simp only [boatC, bfs, stG_1, stG_ne (show 100 + 10 * i ≠ 103 + 10 * j by omega)]
  · simp only [crewC, stG_1, stG_ne (show 101 + 10 * i ≠ 103 + 10 * j by omega)]
  · by_cases hi : i = j
    · subst hi
      rw [if_pos rfl]
      rcases hk with rfl | rfl | rfl <;> (simp only [ruleC, rufs, stG_eq]; rfl)
    · rw [if_neg hi]
      simp only [ruleC, rufs, stG_1, stG_ne (show 103 + 10 * i ≠ 103 + 10 * j by omega)]
  · simp only [rarC, stG_1, stG_ne (show 104 + 10 * i ≠ 103 + 10 * j by omega)]
  · simp only [rarC, stG_1, stG_ne (show 105 + 10 * i ≠ 103 + 10 * j by omega)]
  · simp only [rarC, stG_1, stG_ne (show 106 + 10 * i ≠ 103 + 10 * j by omega)]
  · simp only [rarC, stG_1, stG_ne (show 107 + 10 * i ≠ 103 + 10 * j by omega)]
theorem set_oar {g : Nat → ClassId} {ad : Nat → Nat} {w : Wd} {j k : Nat} {v : Int32} (hk : k = 2) (h : j < w.1 1) : (cellsX g ad w).set (25 + j) (ad (102 + 10 * j), .inr (3 + w.1 (108 + 10 * j), (ofs w j).set k (.int v))) = cellsX g ad (stG w (102 + 10 * j) k v) := by
  unfold cellsX dynX
  rw [app_set _ _ 25 rfl, blk_set h, fixX_st (by omega)]
  simp only [stG_1]
  refine congrArg (fixX g ad w ++ ·) (cg2 (blk_congr fun i _ => ?_) (cg2 (blk_congr fun i _ => ?_) (cg2 (blk_congr fun i _ => ?_) (cg2 (blk_congr fun i _ => ?_) (cg2 (blk_congr fun i _ => ?_) (cg2 (blk_congr fun i _ => ?_) (cg2 (blk_congr fun i _ => ?_) (cg2 (blk_congr fun i _ => ?_) rfl))))))))
  · by_cases hi : i = j
    · subst hi
      rw [if_pos rfl]
      subst hk
      simp only [oarC, ofs, stG_eq, stG_1]
      split <;> rfl
    · rw [if_neg hi]
      simp only [oarC, ofs, stG_1, stG_ne (show 102 + 10 * i ≠ 102 + 10 * j by omega)]
  · simp only [boatC, bfs, stG_1, stG_ne (show 100 + 10 * i ≠ 102 + 10 * j by omega)]
  · simp only [crewC, stG_1, stG_ne (show 101 + 10 * i ≠ 102 + 10 * j by omega)]
  · simp only [ruleC, rufs, stG_1, stG_ne (show 103 + 10 * i ≠ 102 + 10 * j by omega)]
  · simp only [rarC, stG_1, stG_ne (show 104 + 10 * i ≠ 102 + 10 * j by omega)]
  · simp only [rarC, stG_1, stG_ne (show 105 + 10 * i ≠ 102 + 10 * j by omega)]
  · simp only [rarC, stG_1, stG_ne (show 106 + 10 * i ≠ 102 + 10 * j by omega)]
  · simp only [rarC, stG_1, stG_ne (show 107 + 10 * i ≠ 102 + 10 * j by omega)]
def nestWs : List Cond := [.fieldLinkNest "DawnEights$Rule" (46) "DawnEights" "day" "I" "DawnEights", .fieldLinkNest "DawnEights$Rule" (43) "DawnEights" "streams" "[I" "DawnEights", .fieldLinkNest "DawnEights$Rule" (49) "DawnEights" "winds" "[I" "DawnEights", .fieldLinkNest "DawnEights$Rule" (33) "DawnEights$Boat" "kind" "I" "DawnEights", .fieldLinkNest "DawnEights" (191) "DawnEights$Boat" "least" "I" "DawnEights", .fieldLinkNest "DawnEights" (194) "DawnEights$Boat" "most" "I" "DawnEights", .fieldLinkNest "DawnEights" (417) "DawnEights$Boat" "length" "I" "DawnEights", .fieldLinkNest "DawnEights" (167) "DawnEights$Boat" "crew" "[I" "DawnEights", .fieldLinkNest "DawnEights" (184) "DawnEights$Boat" "isBroken" "Z" "DawnEights", .declares ⟨"DawnEights$Oar", "kind", "()I"⟩, .declares ⟨"DawnEights$Oar", "mayBeOut", "(I)Z"⟩, .declares ⟨"DawnEights$Rows", "dislikes", "(I)I"⟩, .methodLinkNest "DawnEights" (366) ⟨"DawnEights$Rule", "<init>", "(LDawnEights;)V"⟩ "DawnEights", .fieldLinkNest "DawnEights" (343) "DawnEights$Rule" "isBar" "Z" "DawnEights", .fieldLinkNest "DawnEights" (350) "DawnEights$Rule" "kind" "I" "DawnEights", .fieldLinkNest "DawnEights" (318) "DawnEights$Rule" "size" "I" "DawnEights", .fieldLinkNest "DawnEights" (321) "DawnEights$Rule" "fields" "[I" "DawnEights", .fieldLinkNest "DawnEights" (332) "DawnEights$Rule" "signs" "[I" "DawnEights", .fieldLinkNest "DawnEights" (340) "DawnEights$Rule" "numbers" "[I" "DawnEights", .fieldLinkNest "DawnEights" (315) "DawnEights$Rule" "nots" "[Z" "DawnEights", .methodLinkNest "DawnEights$Rule" (56) ⟨"DawnEights", "hasYoung", "(LDawnEights$Boat;)Z"⟩ "DawnEights", .castable "DawnEights$Both" "DawnEights$Oar", .castable "DawnEights$Sculler" "DawnEights$Oar", .castable "DawnEights$Young" "DawnEights$Oar", .castable "DawnEights$Sweeper" "DawnEights$Oar", .methodLink "DawnEights" 262 ⟨"DawnEights$Oar", "dislikes", "(I)I"⟩, .sameMethod "DawnEights$Oar" "DawnEights$Rows" "dislikes" "(I)I"]
theorem nq89 : (Cond.fieldLinkNest "DawnEights$Rule" (46) "DawnEights" "day" "I" "DawnEights") ∈ nestWs := List.mem_of_getElem? (i := 0) rfl
theorem nq104 : (Cond.fieldLinkNest "DawnEights$Rule" (43) "DawnEights" "streams" "[I" "DawnEights") ∈ nestWs := List.mem_of_getElem? (i := 1) rfl
theorem nq106 : (Cond.fieldLinkNest "DawnEights$Rule" (49) "DawnEights" "winds" "[I" "DawnEights") ∈ nestWs := List.mem_of_getElem? (i := 2) rfl
theorem nq298 : (Cond.fieldLinkNest "DawnEights$Rule" (33) "DawnEights$Boat" "kind" "I" "DawnEights") ∈ nestWs := List.mem_of_getElem? (i := 3) rfl
theorem nq300 : (Cond.fieldLinkNest "DawnEights" (191) "DawnEights$Boat" "least" "I" "DawnEights") ∈ nestWs := List.mem_of_getElem? (i := 4) rfl
theorem nq302 : (Cond.fieldLinkNest "DawnEights" (194) "DawnEights$Boat" "most" "I" "DawnEights") ∈ nestWs := List.mem_of_getElem? (i := 5) rfl
theorem nq304 : (Cond.fieldLinkNest "DawnEights" (417) "DawnEights$Boat" "length" "I" "DawnEights") ∈ nestWs := List.mem_of_getElem? (i := 6) rfl
theorem nq306 : (Cond.fieldLinkNest "DawnEights" (167) "DawnEights$Boat" "crew" "[I" "DawnEights") ∈ nestWs := List.mem_of_getElem? (i := 7) rfl
theorem nq307 : (Cond.fieldLinkNest "DawnEights" (184) "DawnEights$Boat" "isBroken" "Z" "DawnEights") ∈ nestWs := List.mem_of_getElem? (i := 8) rfl
theorem nq374 : (Cond.declares ⟨"DawnEights$Oar", "kind", "()I"⟩) ∈ nestWs := List.mem_of_getElem? (i := 9) rfl
theorem nq485 : (Cond.declares ⟨"DawnEights$Oar", "mayBeOut", "(I)Z"⟩) ∈ nestWs := List.mem_of_getElem? (i := 10) rfl
theorem nq496 : (Cond.declares ⟨"DawnEights$Rows", "dislikes", "(I)I"⟩) ∈ nestWs := List.mem_of_getElem? (i := 11) rfl
theorem nq525 : (Cond.methodLinkNest "DawnEights" (366) ⟨"DawnEights$Rule", "<init>", "(LDawnEights;)V"⟩ "DawnEights") ∈ nestWs := List.mem_of_getElem? (i := 12) rfl
theorem nq529 : (Cond.fieldLinkNest "DawnEights" (343) "DawnEights$Rule" "isBar" "Z" "DawnEights") ∈ nestWs := List.mem_of_getElem? (i := 13) rfl
theorem nq531 : (Cond.fieldLinkNest "DawnEights" (350) "DawnEights$Rule" "kind" "I" "DawnEights") ∈ nestWs := List.mem_of_getElem? (i := 14) rfl
theorem nq533 : (Cond.fieldLinkNest "DawnEights" (318) "DawnEights$Rule" "size" "I" "DawnEights") ∈ nestWs := List.mem_of_getElem? (i := 15) rfl
theorem nq535 : (Cond.fieldLinkNest "DawnEights" (321) "DawnEights$Rule" "fields" "[I" "DawnEights") ∈ nestWs := List.mem_of_getElem? (i := 16) rfl
theorem nq537 : (Cond.fieldLinkNest "DawnEights" (332) "DawnEights$Rule" "signs" "[I" "DawnEights") ∈ nestWs := List.mem_of_getElem? (i := 17) rfl
theorem nq539 : (Cond.fieldLinkNest "DawnEights" (340) "DawnEights$Rule" "numbers" "[I" "DawnEights") ∈ nestWs := List.mem_of_getElem? (i := 18) rfl
theorem nq541 : (Cond.fieldLinkNest "DawnEights" (315) "DawnEights$Rule" "nots" "[Z" "DawnEights") ∈ nestWs := List.mem_of_getElem? (i := 19) rfl
theorem nq656 : (Cond.methodLinkNest "DawnEights$Rule" (56) ⟨"DawnEights", "hasYoung", "(LDawnEights$Boat;)Z"⟩ "DawnEights") ∈ nestWs := List.mem_of_getElem? (i := 20) rfl
theorem nq1201 : (Cond.castable "DawnEights$Both" "DawnEights$Oar") ∈ nestWs := List.mem_of_getElem? (i := 21) rfl
theorem nq1202 : (Cond.castable "DawnEights$Sculler" "DawnEights$Oar") ∈ nestWs := List.mem_of_getElem? (i := 22) rfl
theorem nq1203 : (Cond.castable "DawnEights$Young" "DawnEights$Oar") ∈ nestWs := List.mem_of_getElem? (i := 23) rfl
theorem nq1204 : (Cond.castable "DawnEights$Sweeper" "DawnEights$Oar") ∈ nestWs := List.mem_of_getElem? (i := 24) rfl
theorem nqx0 : (Cond.methodLink "DawnEights" 262 ⟨"DawnEights$Oar", "dislikes", "(I)I"⟩) ∈ nestWs := List.mem_of_getElem? (i := 25) rfl
theorem nqx1 : (Cond.sameMethod "DawnEights$Oar" "DawnEights$Rows" "dislikes" "(I)I") ∈ nestWs := List.mem_of_getElem? (i := 26) rfl
def slens : List Nat := [6, 4, 4, 5, 4, 5, 3, 4, 4, 5, 6, 4, 1, 4, 4, 4, 1]
def sbyts : List (List Int32) := [[115, 116, 114, 101, 97, 109], [119, 105, 110, 100], [104, 111, 117, 114], [109, 111, 110, 116, 104], [115, 105, 122, 101], [121, 111, 117, 110, 103], [105, 99, 101], [112, 97, 105, 114], [102, 111, 117, 114], [101, 105, 103, 104, 116], [115, 105, 110, 103, 108, 101], [113, 117, 97, 100], [61], [98, 97, 114, 32], [108, 101, 116, 32], [32, 105, 102, 32], [38]]
def StrA (sd : Nat → Nat) (A : Nat → Prop) (U : State) (H : Heap) : Prop :=
  vk_S 17 slens sbyts (fun i => sd i) (fun i => sd (20 + i)) A U H ∧ va_Z "java/lang/String" "COMPACT_STRINGS" "Z" (.int 1) A U H ∧ va_Zq "jdk/internal/util/Preconditions" "SIOOBE_FORMATTER" "Ljava/util/function/BiFunction;" A U H ∧
  (va_Z "DawnEights" "FIELDS" "[Ljava/lang/String;" (.ref (sd 100)) A U H ∧ va_T (.object "java/lang/String") (sd 100) 7 (fun j => .ref (sd j)) A U H) ∧
  (va_Z "DawnEights" "KINDS" "[Ljava/lang/String;" (.ref (sd 101)) A U H ∧ va_T (.object "java/lang/String") (sd 101) 5 (fun j => .ref (sd (7 + j))) A U H)
def StrR (sd : Nat → Nat) (U : State) : Prop := vk_R "DawnEights" 334 "=" (sd 12) U ∧ vk_R "DawnEights" 346 "bar " (sd 13) U ∧ vk_R "DawnEights" 348 "let " (sd 14) U ∧ vk_R "DawnEights" 355 " if " (sd 15) U ∧ vk_R "DawnEights" 361 "&" (sd 16) U
def NXA (sd : Nat → Nat) (A : Nat → Prop) (U : State) : Prop := (∀ w ∈ nestWs, va_Nw w U) ∧ StrA sd A U U.heap ∧ StrR sd U
def NXX (sd : Nat → Nat) (ws : va_W) (sz : Nat) (U : State) : Prop := NXA sd (va_A ws sz) U
theorem nest_on : ∀ w ∈ nestWs, w.onTables = true := by
  intro w h
  have h2 : nestWs.all (fun w => w.onTables) = true := by rfl
  exact List.all_eq_true.mp h2 w h
theorem nest_warm {s U : State} (hW : s.WarmedH U.vm) (h : ∀ w ∈ nestWs, va_Nw w s) : ∀ w ∈ nestWs, va_Nw w U := by
  intro w hw
  have hz := h w hw
  simp only [nestWs, List.mem_cons, List.not_mem_nil, or_false] at hw
  rcases hw with rfl | rfl | rfl | rfl | rfl | rfl | rfl | rfl | rfl | rfl | rfl | rfl | rfl | rfl | rfl | rfl | rfl | rfl | rfl | rfl | rfl | rfl | rfl | rfl | rfl | rfl | rfl
  · exact hz.warmF hW
  · exact hz.warmF hW
  · exact hz.warmF hW
  · exact hz.warmF hW
  · exact hz.warmF hW
  · exact hz.warmF hW
  · exact hz.warmF hW
  · exact hz.warmF hW
  · exact hz.warmF hW
  · exact hz.warmD hW
  · exact hz.warmD hW
  · exact hz.warmD hW
  · exact hz.warmM hW
  · exact hz.warmF hW
  · exact hz.warmF hW
  · exact hz.warmF hW
  · exact hz.warmF hW
  · exact hz.warmF hW
  · exact hz.warmF hW
  · exact hz.warmF hW
  · exact hz.warmM hW
  · exact hz.warmC hW
  · exact hz.warmC hW
  · exact hz.warmC hW
  · exact hz.warmC hW
  · exact word_at hW (Or.inl rfl) hz
  · exact word_at hW (Or.inl rfl) hz
theorem StrA.moved {sd : Nat → Nat} {A : Nat → Prop} {u U : State} {H : Heap} (hvm : u.vm.Alike U.vm) (h : StrA sd A u H) : StrA sd A U H :=
  ⟨h.1.moved hvm, h.2.1.moved hvm, h.2.2.1.elim (fun z => Or.inl (z.moved hvm)) (fun ⟨t, z⟩ => Or.inr ⟨t, z.moved hvm⟩), ⟨h.2.2.2.1.1.moved hvm, h.2.2.2.1.2.moved hvm⟩, ⟨h.2.2.2.2.1.moved hvm, h.2.2.2.2.2.moved hvm⟩⟩
theorem StrA.kept {sd : Nat → Nat} {A : Nat → Prop} {U : State} {H H1 : Heap} (h : StrA sd A U H) (hq : ∀ a : Nat, a < H.size → ¬ A a → H1[a]? = H[a]?) : StrA sd A U H1 :=
  ⟨h.1.kept hq, h.2.1.kept hq, h.2.2.1.elim (fun z => Or.inl (z.kept hq)) (fun ⟨t, z⟩ => Or.inr ⟨t, z.kept hq⟩), ⟨h.2.2.2.1.1.kept hq, h.2.2.2.1.2.kept hq⟩, ⟨h.2.2.2.2.1.kept hq, h.2.2.2.2.2.kept hq⟩⟩
theorem StrA.narrow {sd : Nat → Nat} {A B : Nat → Prop} {U : State} {H : Heap} (h : StrA sd A U H) (hq : ∀ q, B q → A q) : StrA sd B U H :=
  ⟨h.1.narrow hq, h.2.1.narrow hq, h.2.2.1.elim (fun z => Or.inl (z.narrow hq)) (fun ⟨t, z⟩ => Or.inr ⟨t, z.narrow hq⟩), ⟨h.2.2.2.1.1.narrow hq, h.2.2.2.1.2.narrow hq⟩, ⟨h.2.2.2.2.1.narrow hq, h.2.2.2.2.2.narrow hq⟩⟩
theorem StrR.warm {sd : Nat → Nat} {s U : State} (hW : s.WarmedH U.vm) (h : StrR sd s) : StrR sd U := ⟨h.1.warm hW, h.2.1.warm hW, h.2.2.1.warm hW, h.2.2.2.1.warm hW, h.2.2.2.2.warm hW⟩
theorem StrR.same {sd : Nat → Nat} {u U : State} (hv : U.vm = u.vm) (h : StrR sd u) : StrR sd U := ⟨h.1.same hv, h.2.1.same hv, h.2.2.1.same hv, h.2.2.2.1.same hv, h.2.2.2.2.same hv⟩
theorem NXX_ok {sd : Nat → Nat} {A : Nat → Prop} {s : State} {ws : va_W} (hX : NXA sd A s) : NXok (NXX sd ws) A s ws := by
  refine ⟨fun sz U g mk a h => ⟨fun w hw => va_Nw.same (nest_on w hw) (u := U) (U := U.calling g mk a) rfl (h.1 w hw), StrA.moved (u := U) (U := U.calling g mk a) (Vm.Alike.refl U.vm) h.2.1, StrR.same (u := U) (U := U.calling g mk a) rfl h.2.2⟩, ?_⟩
  intro H locs U hS hF hU hW
  subst hU
  exact ⟨nest_warm hW hX.1, ((hX.2.1.moved hW.alike).kept (fun a h1 h2 => hS.2.1 a h1 h2)).narrow hF, hX.2.2.warm hW⟩
