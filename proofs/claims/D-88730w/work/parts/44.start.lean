set_option maxRecDepth 100000
def sidx : List Nat := [428, 430, 432, 434, 436, 437, 439, 441, 443, 445, 447, 449, 334, 346, 348, 355, 361]
def stm (i : Nat) : Term := .string "DawnEights" (sidx.getD i 0)
abbrev fl1 : List Cond := flatC (Jvm.Cond.and given_1 narrow_1)
theorem st_ex {i : Nat} (hi : i < 17) : Cond.exactly (stm i) "java/lang/String" ∈ fl1 := co_dec (P := fun i => Cond.exactly (stm i) "java/lang/String" ∈ fl1) (N := 17) (by decide +kernel) hi
theorem st_co {i : Nat} (hi : i < 17) : Cond.eq (.field (stm i) "java/lang/String" "coder" "B") (.int 0) ∈ fl1 := co_dec (P := fun i => Cond.eq (.field (stm i) "java/lang/String" "coder" "B") (.int 0) ∈ fl1) (N := 17) (by decide +kernel) hi
theorem st_ar {i : Nat} (hi : i < 17) : Cond.arrayOf (.field (stm i) "java/lang/String" "value" "[B") .byte ∈ fl1 := co_dec (P := fun i => Cond.arrayOf (.field (stm i) "java/lang/String" "value" "[B") .byte ∈ fl1) (N := 17) (by decide +kernel) hi
theorem st_le {i : Nat} (hi : i < 17) : Cond.eq (.length (.field (stm i) "java/lang/String" "value" "[B")) (.int (Int32.ofNat (slens.getD i 0))) ∈ fl1 := co_dec (P := fun i => Cond.eq (.length (.field (stm i) "java/lang/String" "value" "[B")) (.int (Int32.ofNat (slens.getD i 0))) ∈ fl1) (N := 17) (by decide +kernel) hi
theorem st_el {i : Nat} (hi : i < 17) : ∀ j : Nat, j < slens.getD i 0 → Cond.eq (.elem (.field (stm i) "java/lang/String" "value" "[B") (.int (Int32.ofNat j))) (.int ((sbyts.getD i []).getD j 0)) ∈ fl1 := co_dec (P := fun i => ∀ j : Nat, j < slens.getD i 0 → Cond.eq (.elem (.field (stm i) "java/lang/String" "value" "[B") (.int (Int32.ofNat j))) (.int ((sbyts.getD i []).getD j 0)) ∈ fl1) (N := 17) (by decide +kernel) hi
def neP (w : Cond) : Option (Nat × Nat) := match w with
  | .not (.eq (.string c a) (.string d b)) => if c = "DawnEights" ∧ d = "DawnEights" then some (a, b) else none
  | _ => none
theorem neP_e {w : Cond} {a b : Nat} (h : neP w = some (a, b)) : w = .not (.eq (.string "DawnEights" a) (.string "DawnEights" b)) := by
  unfold neP at h
  split at h
  · split at h
    · rename_i hc
      obtain ⟨rfl, rfl⟩ := hc
      cases h
      rfl
    · cases h
  · cases h
theorem neL : fl1.filterMap neP = [(346, 348), (346, 355), (348, 355), (346, 334), (348, 334), (355, 334), (346, 361), (348, 361), (355, 361), (334, 361), (346, 441), (348, 441), (355, 441), (334, 441), (361, 441), (346, 443), (348, 443), (355, 443), (334, 443), (361, 443), (441, 443), (346, 445), (348, 445), (355, 445), (334, 445), (361, 445), (441, 445), (443, 445), (346, 447), (348, 447), (355, 447), (334, 447), (361, 447), (441, 447), (443, 447), (445, 447), (346, 449), (348, 449), (355, 449), (334, 449), (361, 449), (441, 449), (443, 449), (445, 449), (447, 449), (346, 428), (348, 428), (355, 428), (334, 428), (361, 428), (441, 428), (443, 428), (445, 428), (447, 428), (449, 428), (346, 430), (348, 430), (355, 430), (334, 430), (361, 430), (441, 430), (443, 430), (445, 430), (447, 430), (449, 430), (428, 430), (346, 432), (348, 432), (355, 432), (334, 432), (361, 432), (441, 432), (443, 432), (445, 432), (447, 432), (449, 432), (428, 432), (430, 432), (346, 434), (348, 434), (355, 434), (334, 434), (361, 434), (441, 434), (443, 434), (445, 434), (447, 434), (449, 434), (428, 434), (430, 434), (432, 434), (346, 436), (348, 436), (355, 436), (334, 436), (361, 436), (441, 436), (443, 436), (445, 436), (447, 436), (449, 436), (428, 436), (430, 436), (432, 436), (434, 436), (346, 437), (348, 437), (355, 437), (334, 437), (361, 437), (441, 437), (443, 437), (445, 437), (447, 437), (449, 437), (428, 437), (430, 437), (432, 437), (434, 437), (436, 437), (346, 439), (348, 439), (355, 439), (334, 439), (361, 439), (441, 439), (443, 439), (445, 439), (447, 439), (449, 439), (428, 439), (430, 439), (432, 439), (434, 439), (436, 439), (437, 439)] := by decide +kernel
theorem st_ne {i : Nat} (hi : i < 17) : ∀ j : Nat, j < 17 → i ≠ j → (Cond.not (Cond.eq (stm i) (stm j)) ∈ fl1 ∨ Cond.not (Cond.eq (stm j) (stm i)) ∈ fl1) := by
  intro j hj hij
  have h : (sidx.getD i 0, sidx.getD j 0) ∈ fl1.filterMap neP ∨ (sidx.getD j 0, sidx.getD i 0) ∈ fl1.filterMap neP := by
    rw [neL]
    exact co_dec (P := fun i => ∀ j : Nat, j < 17 → i ≠ j → ((sidx.getD i 0, sidx.getD j 0) ∈ ([(346, 348), (346, 355), (348, 355), (346, 334), (348, 334), (355, 334), (346, 361), (348, 361), (355, 361), (334, 361), (346, 441), (348, 441), (355, 441), (334, 441), (361, 441), (346, 443), (348, 443), (355, 443), (334, 443), (361, 443), (441, 443), (346, 445), (348, 445), (355, 445), (334, 445), (361, 445), (441, 445), (443, 445), (346, 447), (348, 447), (355, 447), (334, 447), (361, 447), (441, 447), (443, 447), (445, 447), (346, 449), (348, 449), (355, 449), (334, 449), (361, 449), (441, 449), (443, 449), (445, 449), (447, 449), (346, 428), (348, 428), (355, 428), (334, 428), (361, 428), (441, 428), (443, 428), (445, 428), (447, 428), (449, 428), (346, 430), (348, 430), (355, 430), (334, 430), (361, 430), (441, 430), (443, 430), (445, 430), (447, 430), (449, 430), (428, 430), (346, 432), (348, 432), (355, 432), (334, 432), (361, 432), (441, 432), (443, 432), (445, 432), (447, 432), (449, 432), (428, 432), (430, 432), (346, 434), (348, 434), (355, 434), (334, 434), (361, 434), (441, 434), (443, 434), (445, 434), (447, 434), (449, 434), (428, 434), (430, 434), (432, 434), (346, 436), (348, 436), (355, 436), (334, 436), (361, 436), (441, 436), (443, 436), (445, 436), (447, 436), (449, 436), (428, 436), (430, 436), (432, 436), (434, 436), (346, 437), (348, 437), (355, 437), (334, 437), (361, 437), (441, 437), (443, 437), (445, 437), (447, 437), (449, 437), (428, 437), (430, 437), (432, 437), (434, 437), (436, 437), (346, 439), (348, 439), (355, 439), (334, 439), (361, 439), (441, 439), (443, 439), (445, 439), (447, 439), (449, 439), (428, 439), (430, 439), (432, 439), (434, 439), (436, 439), (437, 439)] : List (Nat × Nat)) ∨ (sidx.getD j 0, sidx.getD i 0) ∈ ([(346, 348), (346, 355), (348, 355), (346, 334), (348, 334), (355, 334), (346, 361), (348, 361), (355, 361), (334, 361), (346, 441), (348, 441), (355, 441), (334, 441), (361, 441), (346, 443), (348, 443), (355, 443), (334, 443), (361, 443), (441, 443), (346, 445), (348, 445), (355, 445), (334, 445), (361, 445), (441, 445), (443, 445), (346, 447), (348, 447), (355, 447), (334, 447), (361, 447), (441, 447), (443, 447), (445, 447), (346, 449), (348, 449), (355, 449), (334, 449), (361, 449), (441, 449), (443, 449), (445, 449), (447, 449), (346, 428), (348, 428), (355, 428), (334, 428), (361, 428), (441, 428), (443, 428), (445, 428), (447, 428), (449, 428), (346, 430), (348, 430), (355, 430), (334, 430), (361, 430), (441, 430), (443, 430), (445, 430), (447, 430), (449, 430), (428, 430), (346, 432), (348, 432), (355, 432), (334, 432), (361, 432), (441, 432), (443, 432), (445, 432), (447, 432), (449, 432), (428, 432), (430, 432), (346, 434), (348, 434), (355, 434), (334, 434), (361, 434), (441, 434), (443, 434), (445, 434), (447, 434), (449, 434), (428, 434), (430, 434), (432, 434), (346, 436), (348, 436), (355, 436), (334, 436), (361, 436), (441, 436), (443, 436), (445, 436), (447, 436), (449, 436), (428, 436), (430, 436), (432, 436), (434, 436), (346, 437), (348, 437), (355, 437), (334, 437), (361, 437), (441, 437), (443, 437), (445, 437), (447, 437), (449, 437), (428, 437), (430, 437), (432, 437), (434, 437), (436, 437), (346, 439), (348, 439), (355, 439), (334, 439), (361, 439), (441, 439), (443, 439), (445, 439), (447, 439), (449, 439), (428, 439), (430, 439), (432, 439), (434, 439), (436, 439), (437, 439)] : List (Nat × Nat)))) (N := 17) (by decide +kernel) hi j hj hij
  rcases h with h | h
  · obtain ⟨w, hw, e⟩ := List.mem_filterMap.mp h
    exact Or.inl (neP_e e ▸ hw)
  · obtain ⟨w, hw, e⟩ := List.mem_filterMap.mp h
    exact Or.inr (neP_e e ▸ hw)
theorem st_f {j : Nat} (hj : j < 7) : Cond.eq (.elem (.static "DawnEights" "FIELDS" "[Ljava/lang/String;") (.int (Int32.ofNat j))) (stm j) ∈ fl1 := co_dec (P := fun j => Cond.eq (.elem (.static "DawnEights" "FIELDS" "[Ljava/lang/String;") (.int (Int32.ofNat j))) (stm j) ∈ fl1) (N := 7) (by decide +kernel) hj
theorem st_k {j : Nat} (hj : j < 5) : Cond.eq (.elem (.static "DawnEights" "KINDS" "[Ljava/lang/String;") (.int (Int32.ofNat j))) (stm (7 + j)) ∈ fl1 := co_dec (P := fun j => Cond.eq (.elem (.static "DawnEights" "KINDS" "[Ljava/lang/String;") (.int (Int32.ofNat j))) (stm (7 + j)) ∈ fl1) (N := 5) (by decide +kernel) hj
theorem eq_val {args : Array Value} {s : State} {t u : Term} {v : Value} (h : (Cond.eq t u).before args s = true) (hu : u.eval args s none [] s = some v) : t.eval args s none [] s = some v := by
  refine va_eqI (h := ?_) hu
  unfold Cond.before Cond.holds at h
  cases hv : (Cond.eq t u).value args s none s [] with
  | none => rw [hv] at h; cases h
  | some z => rw [hv] at h; cases z with
    | true => rfl
    | false => cases h
theorem start_NXA {s : State} {b : Addr} (hts : ∀ w ∈ lw_tbl, w.before #[Value.ref b] s = true) (hgv : (Jvm.Cond.and given_1 narrow_1).before #[Value.ref b] s = true) : ∃ sd : Nat → Nat, NXA sd (fun q => s.heap.size ≤ q) s := by
  have hs := flat_of_before _ hgv
  have hA : ∀ a : Nat, a < s.heap.size → ¬ (s.heap.size ≤ a) := fun a h => by omega
  obtain ⟨adK, adV, hS, hev⟩ := vk_Sof (args := #[Value.ref b]) (s := s) (N := 17) (tm := stm) (len := slens) (byt := sbyts) (A := fun q => s.heap.size ≤ q) (fun i _ => slen_lt i) (fun i hi => hs _ (st_ex hi)) (fun i hi => hs _ (st_co hi)) (fun i hi => hs _ (st_ar hi)) (fun i hi => hs _ (st_le hi)) (fun i hi j hj => hs _ (st_el hi j hj)) (fun i j hi hj hij => (st_ne hi j hj hij).elim (fun h => Or.inl (hs _ h)) (fun h => Or.inr (hs _ h))) hA
  obtain ⟨tF, hF1, hF2⟩ := va_Tof (args := #[Value.ref b]) (s := s) (tm := .static "DawnEights" "FIELDS" "[Ljava/lang/String;") (ty := .object "java/lang/String") (N := 7) (f := fun j => .ref (adK j)) (A := fun q => s.heap.size ≤ q) (by decide) (hs _ (by decide +kernel)) (va_eqt (hs _ (by decide +kernel))) (fun j hj => eq_val (hs _ (st_f hj)) (hev j (by omega))) hA
  obtain ⟨tK, hK1, hK2⟩ := va_Tof (args := #[Value.ref b]) (s := s) (tm := .static "DawnEights" "KINDS" "[Ljava/lang/String;") (ty := .object "java/lang/String") (N := 5) (f := fun j => .ref (adK (7 + j))) (A := fun q => s.heap.size ≤ q) (by decide) (hs _ (by decide +kernel)) (va_eqt (hs _ (by decide +kernel))) (fun j hj => eq_val (hs _ (st_k hj)) (hev (7 + j) (by omega))) hA
  refine ⟨fun k => if k < 17 then adK k else if k < 37 then adV (k - 20) else if k = 100 then tF else tK, ?_, ?_, ?_⟩
  · intro w hw
    refine va_Nw.of (nest_on w hw) (A := #[Value.ref b]) ?_
    simp only [nestWs, List.mem_cons, List.not_mem_nil, or_false] at hw
    rcases hw with rfl | rfl | rfl | rfl | rfl | rfl | rfl | rfl | rfl | rfl | rfl | rfl | rfl | rfl | rfl | rfl | rfl | rfl | rfl | rfl | rfl | rfl | rfl | rfl | rfl | rfl | rfl
    · exact hts _ q89
    · exact hts _ q104
    · exact hts _ q106
    · exact hts _ q298
    · exact hts _ q300
    · exact hts _ q302
    · exact hts _ q304
    · exact hts _ q306
    · exact hts _ q307
    · exact hts _ q374
    · exact hts _ q485
    · exact hts _ q496
    · exact hts _ q525
    · exact hts _ q529
    · exact hts _ q531
    · exact hts _ q533
    · exact hts _ q535
    · exact hts _ q537
    · exact hts _ q539
    · exact hts _ q541
    · exact hts _ q656
    · exact hts _ q1201
    · exact hts _ q1202
    · exact hts _ q1203
    · exact hts _ q1204
    · exact hs _ (by decide +kernel)
    · exact hs _ (by decide +kernel)
  · refine ⟨⟨fun i hi => ?_, fun i j hi hj h => ?_⟩, ?_, ?_, ⟨?_, ?_⟩, ⟨?_, ?_⟩⟩
    · have h1 : (if i < 17 then adK i else if i < 37 then adV (i - 20) else if i = 100 then tF else tK) = adK i := if_pos hi
      have h2 : (if 20 + i < 17 then adK (20 + i) else if 20 + i < 37 then adV (20 + i - 20) else if 20 + i = 100 then tF else tK) = adV i := by rw [if_neg (by omega), if_pos (by omega), Nat.add_sub_cancel_left]
      show va_O _ (if i < 17 then _ else _) _ _ _ ∧ va_OF _ _ _ _ (if i < 17 then _ else _) _ _ _ ∧ va_OF _ _ _ (.ref (if 20 + i < 17 then _ else _)) (if i < 17 then _ else _) _ _ _ ∧ va_T _ (if 20 + i < 17 then _ else _) _ _ _ _ _
      rw [h1, h2]
      exact hS.1 i hi
    · have h1 : ∀ i, i < 17 → (if i < 17 then adK i else if i < 37 then adV (i - 20) else if i = 100 then tF else tK) = adK i := fun i hi => if_pos hi
      have h' : (if i < 17 then adK i else if i < 37 then adV (i - 20) else if i = 100 then tF else tK) = (if j < 17 then adK j else if j < 37 then adV (j - 20) else if j = 100 then tF else tK) := h
      rw [h1 i hi, h1 j hj] at h'
      exact hS.2 i j hi hj h'
    · exact va_Zof (hts _ q583) (hts _ (lw_all_tbl q67)) (va_eqi (hs _ (by decide +kernel))) hA
    · exact va_Zqof (hts _ q599) (hts _ (lw_all_tbl q69)) (hs _ (by decide +kernel)) hA
    · exact va_Zof (hts _ q634) (hts _ (lw_all_tbl q57)) hF1 hA
    · obtain ⟨cell, h1, h2, h3, h4, h5, h6, h7⟩ := hF2
      exact ⟨cell, h1, h2, h3, h4, h5, fun j hj => by rw [h6 j hj]; show _ = some (Value.ref (if j < 17 then _ else _)); rw [if_pos (by omega)], h7⟩
    · exact va_Zof (hts _ q623) (hts _ (lw_all_tbl q57)) hK1 hA
    · obtain ⟨cell, h1, h2, h3, h4, h5, h6, h7⟩ := hK2
      exact ⟨cell, h1, h2, h3, h4, h5, fun j hj => by rw [h6 j hj]; show _ = some (Value.ref (if 7 + j < 17 then _ else _)); rw [if_pos (by omega)], h7⟩
  · exact ⟨vk_R.of (hts _ q635) (hev 12 (by decide)), vk_R.of (hts _ q568) (hev 13 (by decide)), vk_R.of (hts _ q569) (hev 14 (by decide)), vk_R.of (hts _ q628) (hev 15 (by decide)), vk_R.of (hts _ q638) (hev 16 (by decide))⟩
theorem start_K {s : State} {b : Addr} (hts : ∀ w ∈ lw_tbl, w.before #[Value.ref b] s = true) : ∃ (D : va_G) (g : Nat → ClassId), va_K D vwCl (tysG g) s := by
  obtain ⟨c0, i0, k0⟩ := u_known (C := RX0) (T := TX0) (N := 42) (n := 42) hts (fun w h => lw_all_tbl (in_X0 w h)) (hts _ (lw_all_tbl q72))
  obtain ⟨c1, i1, k1⟩ := u_known (C := RX7) (T := TX7) (N := 6) (n := 6) hts (fun w h => lw_all_tbl (in_X7 w h)) (hts _ (lw_all_tbl q292))
  obtain ⟨c2, i2, k2⟩ := u_known (C := RX8) (T := TX8) (N := 8) (n := 8) hts (fun w h => lw_all_tbl (in_X8 w h)) (hts _ (lw_all_tbl q524))
  obtain ⟨c3, i3, k3⟩ := u_known (C := RX6) (T := TX6) (N := 4) (n := 4) hts (fun w h => lw_all_tbl (in_X6 w h)) (hts _ (lw_all_tbl q275))
  obtain ⟨c4, i4, k4⟩ := u_known (C := RX3) (T := TX3) (N := 3) (n := 3) hts (fun w h => lw_all_tbl (in_X3 w h)) (hts _ (lw_all_tbl q234))
  obtain ⟨c5, i5, k5⟩ := u_known (C := RX4) (T := TX4) (N := 3) (n := 3) hts (fun w h => lw_all_tbl (in_X4 w h)) (hts _ (lw_all_tbl q255))
  obtain ⟨c6, i6, k6⟩ := u_known (C := RX5) (T := TX5) (N := 3) (n := 3) hts (fun w h => lw_all_tbl (in_X5 w h)) (hts _ (lw_all_tbl q265))
  obtain ⟨c7, i7, k7⟩ := u_known (C := RX1) (T := TX1) (N := 53) (n := 53) hts (fun w h => lw_all_tbl (in_X1 w h)) (hts _ (lw_all_tbl q755))
  obtain ⟨g0, kk0, cp0, ha0, hb0, hc0⟩ := Cond.arrayClass_spec (hts _ (lw_all_tbl q215))
  obtain ⟨g1, kk1, cp1, ha1, hb1, hc1⟩ := Cond.arrayClass_spec (hts _ (lw_all_tbl q216))
  obtain ⟨g2, kk2, cp2, ha2, hb2, hc2⟩ := Cond.arrayClass_spec (hts _ (lw_all_tbl q218))
  obtain ⟨g3, kk3, cp3, ha3, hb3, hc3⟩ := Cond.arrayClass_spec (hts _ (lw_all_tbl q217))
  obtain ⟨cp4, g4, kk4, hf4, -, hb4, hc4, ha4⟩ := Cond.arrayOver_spec (hts _ q80)
  obtain ⟨cp5, g5, kk5, hf5, -, hb5, hc5, ha5⟩ := Cond.arrayOver_spec (hts _ q82)
  obtain ⟨cp6, g6, kk6, hf6, -, hb6, hc6, ha6⟩ := Cond.arrayOver_spec (hts _ q84)
  refine ⟨(fun k => if k = 0 then c0 else if k = 1 then c1 else if k = 2 then c2 else if k = 3 then c3 else if k = 4 then c4 else if k = 5 then c5 else if k = 6 then c6 else c7, fun k => if k = 0 then i0 else if k = 1 then i1 else if k = 2 then i2 else if k = 3 then i3 else if k = 4 then i4 else if k = 5 then i5 else if k = 6 then i6 else i7), fun k => if k = 0 then g0 else if k = 1 then g1 else if k = 2 then g2 else if k = 3 then g3 else if k = 4 then g4 else if k = 5 then g5 else g6, ?_, ?_⟩
  · intro k q hq
    match k, hq with
    | 0, hq => cases hq; exact k0
    | 1, hq => cases hq; exact k1
    | 2, hq => cases hq; exact k2
    | 3, hq => cases hq; exact k3
    | 4, hq => cases hq; exact k4
    | 5, hq => cases hq; exact k5
    | 6, hq => cases hq; exact k6
    | 7, hq => cases hq; exact k7
    | k + 8, hq => simp [vwCl] at hq
  · intro k q hq
    match k, hq with
    | 0, hq => cases hq; exact ⟨fun n z => ⟨fun k h => (by cases h), kk0, hb0, cp0, hc0⟩, ha0⟩
    | 1, hq => cases hq; exact ⟨fun n z => ⟨fun k h => (by cases h), kk1, hb1, cp1, hc1⟩, ha1⟩
    | 2, hq => cases hq; exact ⟨fun n z => ⟨fun k h => (by cases h), kk2, hb2, cp2, hc2⟩, ha2⟩
    | 3, hq => cases hq; exact ⟨fun n z => ⟨fun k h => (by cases h), kk3, hb3, cp3, hc3⟩, ha3⟩
    | 4, hq => cases hq; exact ⟨fun n z => ⟨fun k h => (by cases h), kk4, hb4, cp4, hc4⟩, kk4, cp4, hb4, hc4, hf4, ha4⟩
    | 5, hq => cases hq; exact ⟨fun n z => ⟨fun k h => (by cases h), kk5, hb5, cp5, hc5⟩, kk5, cp5, hb5, hc5, hf5, ha5⟩
    | 6, hq => cases hq; exact ⟨fun n z => ⟨fun k h => (by cases h), kk6, hb6, cp6, hc6⟩, kk6, cp6, hb6, hc6, hf6, ha6⟩
    | k + 7, hq => simp [tysG] at hq
