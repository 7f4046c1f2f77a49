set_option maxRecDepth 100000
def OpsOk (Rel : Wd → Wd → Prop) : Prop := Op_oar Rel ∧ Op_boat Rel ∧ Op_ill Rel ∧ Op_sit Rel ∧ Op_seat Rel ∧ Op_about Rel ∧ Op_race Rel ∧ Op_unrace Rel ∧ Op_group Rel ∧ Op_strength Rel ∧ Op_between Rel ∧ Op_misfit Rel ∧ Op_sure Rel ∧ Op_crew Rel ∧ Op_water Rel ∧ Op_feed Rel ∧ Op_rule Rel ∧ Op_ruled Rel ∧ Op_may Rel ∧ Op_day Rel ∧ Op_out Rel ∧ Op_look Rel ∧ Op_broke Rel ∧ Op_outing Rel ∧ Op_heat Rel ∧ Op_near Rel ∧ Op_clashes Rel ∧ Op_shift Rel ∧ Op_trailer Rel ∧ Op_rack Rel ∧ Op_count Rel
theorem l_lt {i L : Nat} (hi : i ≤ 330) (hL : L ≤ 320) : (nI L - 5 < nI i) ↔ L < i + 5 := by
  rw [Int32.lt_iff_toInt_lt, show (5 : Int32) = nI 5 from rfl, pk_sub_toInt (by omega) (by omega), nI_toInt (by omega)]
  omega
set_option maxHeartbeats 1000000 in
theorem law_loop {p : Program} {l : Launch} {e : Env} {s : State} {m : MethodId} {below : List Frame} {meth : Method} {c : Code} {A : Nat → Prop} {D : va_G} {g : Nat → ClassId} {sd : Nat → Nat} {b L a1 a2 : Nat} {xs : Nat → Int32} {Rel : Wd → Wd → Prop} {Q : State → Prop} (B : Bd p s m #[Value.ref b] meth c code 4 R_law D vwCl (tysG g)) (hA : ∀ q, s.heap.size ≤ q → A q) (hX : NXA sd A s) (hscr : va_X b L xs s s.heap) (hbl : b < s.heap.size) (hbA : ¬ A b) (hL : L ≤ 320) (ops : OpsOk Rel) (fin : ∀ (i : Nat) (w v : Wd) (ad am : Nat → Nat), i ≤ 330 → XJ p l e room_1 s m #[Value.ref b] below meth c (66 + i) (10973 + 4 * i) Q A D vwCl (cwL g) 4 ((ad, w), (am, v)) 1184 [(0, .ref b), (1, .ref a1), (2, .ref a2), (3, .int (nI i))] []) : ∀ (n i : Nat) (w v : Wd) (ad am : Nat → Nat), L + 5 < i + 5 * n → i ≤ L → Rel w v → ad 99 = a1 → am 99 = a2 → XJ p l e room_1 s m #[Value.ref b] below meth c (66 + i) (10973 + 4 * i) Q A D vwCl (cwL g) 4 ((ad, w), (am, v)) 18 [(0, .ref b), (1, .ref a1), (2, .ref a2), (3, .int (nI i))] [] := by
  obtain ⟨o_oar, o_boat, o_ill, o_sit, o_seat, o_about, o_race, o_unrace, o_group, o_strength, o_between, o_misfit, o_sure, o_crew, o_water, o_feed, o_rule, o_ruled, o_may, o_day, o_out, o_look, o_broke, o_outing, o_heat, o_near, o_clashes, o_shift, o_trailer, o_rack, o_count⟩ := ops
  intro n
  induction n with
  | zero =>
    intro i w v ad am h hi
    omega
  | succ n ih =>
    intro i w v ad am h hi hR h1 h2
    refine j_iload_n B eL_18 3 rfl ?_
    refine j_aload_n B eL_19 0 rfl ?_
    refine l_len B hscr hbl hbA eL_20 ?_
    refine j_const B eL_21 ?_
    refine j_isub B eL_22 ?_
    by_cases hlt : L < i + 5
    · refine j_icmp_gt (a := some ()) (b := none) (res := ()) (dc := inferInstance) B eL_23 (if_pos ((l_lt (by omega) hL).mpr hlt)) (fun _ _ => fin i w v ad am (by omega)) (fun hh => absurd ((l_lt (by omega) hL).mpr hlt) hh)
    refine j_icmp_gt (a := none) (b := some ()) (res := ()) (dc := inferInstance) B eL_23 (if_neg (fun z => hlt ((l_lt (by omega) hL).mp z))) (fun _ hh => by cases hh) (fun _ _ => ?_)
    have hi5 : i + 5 ≤ L := by omega
    have next : ∀ (w' v' : Wd) (ad' : Nat → Nat), Rel w' v' → ad' 99 = a1 → XJ p l e room_1 s m #[Value.ref b] below meth c (66 + (i + 5)) (10973 + 4 * (i + 5)) Q A D vwCl (cwL g) 4 ((ad', w'), (am, v')) 1178 [(0, .ref b), (1, .ref a1), (2, .ref a2), (3, .int (nI i))] [] := by
      intro w' v' ad' hR' h1'
      refine j_iinc (d := 5) (f := fun z => some z) (res := nI i + 5) (lv' := fun z => [(0, .ref b), (1, .ref a1), (2, .ref a2), (3, .int z)]) B eL_1178 3 rfl (by decide) [1, 2, 3, 0] (by decide) (fun _ => rfl) rfl (fun z hz => ?_)
      cases hz
      refine j_goto B eL_1181 ?_
      have h5 : nI i + 5 = nI (i + 5) := nI_add i 5
      rw [h5]
      exact ih (i + 5) w' v' ad' am (by omega) hi5 hR' h1' h2
    refine j_aload_n B eL_26 0 rfl ?_
    refine j_iload_n B eL_27 3 rfl ?_
    refine l_arg0 B hscr hbl hbA (by omega) hL eL_28 ?_
    refine j_const B eL_29 ?_
    refine j_iand B eL_31 ?_
    generalize xs i &&& 31 = sx
    by_cases hs0 : sx = 0
    · exact j_tswIn (tgt := 172) B eL_32 0 hs0 (by decide) (by decide) rfl (by decide) (law_oar B hA hX hscr hbl hbA hL hi5 o_oar hR h1 h2 next)
    by_cases hs1 : sx = 1
    · exact j_tswIn (tgt := 205) B eL_32 1 hs1 (by decide) (by decide) rfl (by decide) (law_boat B hA hX hscr hbl hbA hL hi5 o_boat hR h1 h2 next)
    by_cases hs2 : sx = 2
    · exact j_tswIn (tgt := 258) B eL_32 2 hs2 (by decide) (by decide) rfl (by decide) (law_ill B hA hX hscr hbl hbA hL hi5 o_ill hR h1 h2 next)
    by_cases hs3 : sx = 3
    · exact j_tswIn (tgt := 291) B eL_32 3 hs3 (by decide) (by decide) rfl (by decide) (law_sit B hA hX hscr hbl hbA hL hi5 o_sit hR h1 h2 next)
    by_cases hs4 : sx = 4
    · exact j_tswIn (tgt := 334) B eL_32 4 hs4 (by decide) (by decide) rfl (by decide) (law_seat B hA hX hscr hbl hbA hL hi5 o_seat hR h1 h2 next)
    by_cases hs5 : sx = 5
    · exact j_tswIn (tgt := 367) B eL_32 5 hs5 (by decide) (by decide) rfl (by decide) (law_about B hA hX hscr hbl hbA hL hi5 o_about hR h1 h2 next)
    by_cases hs6 : sx = 6
    · exact j_tswIn (tgt := 400) B eL_32 6 hs6 (by decide) (by decide) rfl (by decide) (law_race B hA hX hscr hbl hbA hL hi5 o_race hR h1 h2 next)
    by_cases hs7 : sx = 7
    · exact j_tswIn (tgt := 443) B eL_32 7 hs7 (by decide) (by decide) rfl (by decide) (law_unrace B hA hX hscr hbl hbA hL hi5 o_unrace hR h1 h2 next)
    by_cases hs8 : sx = 8
    · exact j_tswIn (tgt := 456) B eL_32 8 hs8 (by decide) (by decide) rfl (by decide) (law_group B hA hX hscr hbl hbA hL hi5 o_group hR h1 h2 next)
    by_cases hs9 : sx = 9
    · exact j_tswIn (tgt := 479) B eL_32 9 hs9 (by decide) (by decide) rfl (by decide) (law_strength B hA hX hscr hbl hbA hL hi5 o_strength hR h1 h2 next)
    by_cases hs10 : sx = 10
    · exact j_tswIn (tgt := 513) B eL_32 10 hs10 (by decide) (by decide) rfl (by decide) (law_between B hA hX hscr hbl hbA hL hi5 o_between hR h1 h2 next)
    by_cases hs11 : sx = 11
    · exact j_tswIn (tgt := 557) B eL_32 11 hs11 (by decide) (by decide) rfl (by decide) (law_misfit B hA hX hscr hbl hbA hL hi5 o_misfit hR h1 h2 next)
    by_cases hs12 : sx = 12
    · exact j_tswIn (tgt := 591) B eL_32 12 hs12 (by decide) (by decide) rfl (by decide) (law_sure B hA hX hscr hbl hbA hL hi5 o_sure hR h1 h2 next)
    by_cases hs13 : sx = 13
    · exact j_tswIn (tgt := 624) B eL_32 13 hs13 (by decide) (by decide) rfl (by decide) (law_crew B hA hX hscr hbl hbA hL hi5 o_crew hR h1 h2 next)
    by_cases hs14 : sx = 14
    · exact j_tswIn (tgt := 667) B eL_32 14 hs14 (by decide) (by decide) rfl (by decide) (law_water B hA hX hscr hbl hbA hL hi5 o_water hR h1 h2 next)
    by_cases hs15 : sx = 15
    · exact j_tswIn (tgt := 710) B eL_32 15 hs15 (by decide) (by decide) rfl (by decide) (law_feed B hA hX hscr hbl hbA hL hi5 o_feed hR h1 h2 next)
    by_cases hs16 : sx = 16
    · exact j_tswIn (tgt := 773) B eL_32 16 hs16 (by decide) (by decide) rfl (by decide) (law_rule B hA hX hscr hbl hbA hL hi5 o_rule hR h1 h2 next)
    by_cases hs17 : sx = 17
    · exact j_tswIn (tgt := 786) B eL_32 17 hs17 (by decide) (by decide) rfl (by decide) (law_ruled B hA hX hscr hbl hbA hL hi5 o_ruled hR h1 h2 next)
    by_cases hs18 : sx = 18
    · exact j_tswIn (tgt := 819) B eL_32 18 hs18 (by decide) (by decide) rfl (by decide) (law_may B hA hX hscr hbl hbA hL hi5 o_may hR h1 h2 next)
    by_cases hs19 : sx = 19
    · exact j_tswIn (tgt := 852) B eL_32 19 hs19 (by decide) (by decide) rfl (by decide) (law_day B hA hX hscr hbl hbA hL hi5 o_day hR h1 h2 next)
    by_cases hs20 : sx = 20
    · exact j_tswIn (tgt := 875) B eL_32 20 hs20 (by decide) (by decide) rfl (by decide) (law_out B hA hX hscr hbl hbA hL hi5 o_out hR h1 h2 next)
    by_cases hs21 : sx = 21
    · exact j_tswIn (tgt := 908) B eL_32 21 hs21 (by decide) (by decide) rfl (by decide) (law_look B hA hX hscr hbl hbA hL hi5 o_look hR h1 h2 next)
    by_cases hs22 : sx = 22
    · exact j_tswIn (tgt := 941) B eL_32 22 hs22 (by decide) (by decide) rfl (by decide) (law_broke B hA hX hscr hbl hbA hL hi5 o_broke hR h1 h2 next)
    by_cases hs23 : sx = 23
    · exact j_tswIn (tgt := 974) B eL_32 23 hs23 (by decide) (by decide) rfl (by decide) (law_outing B hA hX hscr hbl hbA hL hi5 o_outing hR h1 h2 next)
    by_cases hs24 : sx = 24
    · exact j_tswIn (tgt := 1007) B eL_32 24 hs24 (by decide) (by decide) rfl (by decide) (law_heat B hA hX hscr hbl hbA hL hi5 o_heat hR h1 h2 next)
    by_cases hs25 : sx = 25
    · exact j_tswIn (tgt := 1040) B eL_32 25 hs25 (by decide) (by decide) rfl (by decide) (law_near B hA hX hscr hbl hbA hL hi5 o_near hR h1 h2 next)
    by_cases hs26 : sx = 26
    · exact j_tswIn (tgt := 1063) B eL_32 26 hs26 (by decide) (by decide) rfl (by decide) (law_clashes B hA hX hscr hbl hbA hL hi5 o_clashes hR h1 h2 next)
    by_cases hs27 : sx = 27
    · exact j_tswIn (tgt := 1076) B eL_32 27 hs27 (by decide) (by decide) rfl (by decide) (law_shift B hA hX hscr hbl hbA hL hi5 o_shift hR h1 h2 next)
    by_cases hs28 : sx = 28
    · exact j_tswIn (tgt := 1099) B eL_32 28 hs28 (by decide) (by decide) rfl (by decide) (law_trailer B hA hX hscr hbl hbA hL hi5 o_trailer hR h1 h2 next)
    by_cases hs29 : sx = 29
    · exact j_tswIn (tgt := 1132) B eL_32 29 hs29 (by decide) (by decide) rfl (by decide) (law_rack B hA hX hscr hbl hbA hL hi5 o_rack hR h1 h2 next)
    by_cases hs30 : sx = 30
    · exact j_tswIn (tgt := 1155) B eL_32 30 hs30 (by decide) (by decide) rfl (by decide) (law_count B hA hX hscr hbl hbA hL hi5 o_count hR h1 h2 next)
    refine j_tswOut (tgt := 1178) B eL_32 (by have a0 := lv_neT hs0 (a := 0) (by decide); have a1 := lv_neT hs1 (a := 1) (by decide); have a2 := lv_neT hs2 (a := 2) (by decide); have a3 := lv_neT hs3 (a := 3) (by decide); have a4 := lv_neT hs4 (a := 4) (by decide); have a5 := lv_neT hs5 (a := 5) (by decide); have a6 := lv_neT hs6 (a := 6) (by decide); have a7 := lv_neT hs7 (a := 7) (by decide); have a8 := lv_neT hs8 (a := 8) (by decide); have a9 := lv_neT hs9 (a := 9) (by decide); have a10 := lv_neT hs10 (a := 10) (by decide); have a11 := lv_neT hs11 (a := 11) (by decide); have a12 := lv_neT hs12 (a := 12) (by decide); have a13 := lv_neT hs13 (a := 13) (by decide); have a14 := lv_neT hs14 (a := 14) (by decide); have a15 := lv_neT hs15 (a := 15) (by decide); have a16 := lv_neT hs16 (a := 16) (by decide); have a17 := lv_neT hs17 (a := 17) (by decide); have a18 := lv_neT hs18 (a := 18) (by decide); have a19 := lv_neT hs19 (a := 19) (by decide); have a20 := lv_neT hs20 (a := 20) (by decide); have a21 := lv_neT hs21 (a := 21) (by decide); have a22 := lv_neT hs22 (a := 22) (by decide); have a23 := lv_neT hs23 (a := 23) (by decide); have a24 := lv_neT hs24 (a := 24) (by decide); have a25 := lv_neT hs25 (a := 25) (by decide); have a26 := lv_neT hs26 (a := 26) (by decide); have a27 := lv_neT hs27 (a := 27) (by decide); have a28 := lv_neT hs28 (a := 28) (by decide); have a29 := lv_neT hs29 (a := 29) (by decide); have a30 := lv_neT hs30 (a := 30) (by decide); omega) (by decide) ?_
    exact j_widen (k := 66 + (i + 5)) (n := 10973 + 4 * (i + 5)) (by omega) (by omega) (next w v ad hR h1)
