set_option maxRecDepth 100000
theorem NAO_ok {A : Nat → Prop} {s : State} {ws : va_W} (h : NAO 0 s) : NXok NAO A s ws := by
  refine ⟨fun sz U g mk a h => ⟨h.1.moved (U := U.calling g mk a) (Vm.Alike.refl U.vm), h.2.1.moved (U := U.calling g mk a) (Vm.Alike.refl U.vm), h.2.2.moved (U := U.calling g mk a) (Vm.Alike.refl U.vm)⟩, ?_⟩
  intro H locs U hS hF hU hW
  exact ⟨h.1.moved hW.alike, h.2.1.moved hW.alike, h.2.2.moved hW.alike⟩
set_option maxHeartbeats 1000000 in
theorem whole_of {Rel : Wd → Wd → Prop} (ops : OpsOk Rel) (h0 : Rel wX0 (wM0 8)) {p : Program} {e : Env} {s : State} {m : MethodId} {below : List Frame} {meth : Method} {c : Code} (l : Launch) {b L : Nat} {xs : Nat → Int32} (hL : L ≤ 320) (C0 : lw_At p s m meth c b L xs) : W p l e room_1 s m #[Value.ref b] below meth c s.heap [] 0 0 (lw_Z below #[Value.ref b] s) (entryFrame m ([Value.ref b] : List Value).toArray 4) := by
  obtain ⟨hx, hb, hr, hml, hown, hts, hscr, hbl, hlocks, hgv⟩ := C0
  obtain ⟨D, g, hK⟩ := start_K hts
  obtain ⟨sd, hX⟩ := start_NXA hts hgv
  have htsA : ∀ w ∈ lw_all, w.before #[Value.ref b] s = true := fun w h => hts w (lw_all_tbl h)
  have B : Bd p s m #[Value.ref b] meth c code 4 R_law D vwCl (tysG g) := ⟨hx, hb, hml, hown, htsA, hK, hlocks⟩
  have hao : NAO 0 s := ⟨va_AO.of (hts _ q80), va_AO.of (hts _ q82), va_AO.of (hts _ q84)⟩
  generalize hAe : (fun q => s.heap.size ≤ q : Nat → Prop) = A at hX
  have hA : ∀ q, s.heap.size ≤ q → A q := fun q h => by rw [← hAe]; exact h
  have hbA : ¬ A b := by rw [← hAe]; exact Nat.not_le.mpr hbl
  have hl := lv_entry ([Value.ref b] : List Value) (n := 4) (Nat.le_of_ble_eq_true rfl)
  rw [lg_entry_eq]
  generalize (lg_sl ([Value.ref b] : List Value) ++ List.replicate (4 - (lg_sl ([Value.ref b] : List Value)).length) Slot.unset).toArray = ls at hl ⊢
  have hl : lv_has ls 4 [(0, .ref b)] := hl
  have key : XJ p l e room_1 s m #[Value.ref b] below meth c 0 0 (lw_Z below #[Value.ref b] s) A D vwCl (id : va_W → va_W) 4 [] 0 [(0, .ref b)] [] := by
    refine j_new (T := TX0) (ci := 0) (fs := fX00) B hA in_X0 tyX0 tyX0_ok q71 q72 q57 rfl (by decide) (by show _ ≤ 610156; omega) (by show _ ≤ 7271780; omega) eL_0 (fun q1 => ?_)
    refine j_dup B eL_3 rfl ?_
    refine j_frv (cw' := fun ad : Nat → Nat => cellsX g ad wX0) (w' := fun ad => ad) (rest := []) (sub := [(q1, .inr (0, fX00))]) (f := fun ad => cellsX g ad wX0) (post := fun ad : Nat → Nat => ad 99 = q1) B hA rfl (List.Perm.refl _) (fun _ _ => List.Perm.refl _) (run_I (As := []) B (met_X0_init l D g q1) (NAO_ok hao) pkX0_init q73 rfl rfl rfl ⟨Nat.le_of_ble_eq_true rfl, Nat.le_of_ble_eq_true rfl⟩ rfl (Nat.le_of_ble_eq_true rfl) ⟨by show _ ≤ 610156; decide, by show _ ≤ 7271780; decide⟩ eL_4.1) (fun ad h1 => ?_)
    refine j_astore_n (lv' := [(0, .ref b), (1, .ref q1)]) B eL_7 [1, 0] (by decide) rfl ?_
    refine j_new (T := TX1) (ci := 7) (fs := fM00) B hA in_X1 tyX1 tyX1_ok q754 q755 q58 rfl (by decide) (by show _ ≤ 610156; decide) (by show _ ≤ 7271780; decide) eL_8 (fun q2 => ?_)
    refine j_dup B eL_11 rfl ?_
    refine j_frv (cw' := cwL g) (w' := fun am => ((ad, wX0), (am, wM0 8))) (rest := cellsX g ad wX0) (sub := [(q2, .inr (7, fM00))]) (f := fun am => cellsM g am (wM0 8)) (post := fun am : Nat → Nat => am 99 = q2) B hA rfl (List.Perm.refl _) (fun _ _ => List.Perm.refl _) (run_I (As := []) B (met_X1_init l D g q2) NT_ok pkX1_init q756 rfl rfl rfl ⟨Nat.le_of_ble_eq_true rfl, Nat.le_of_ble_eq_true rfl⟩ rfl (Nat.le_of_ble_eq_true rfl) ⟨by show _ ≤ 610156; decide, by show _ ≤ 7271780; decide⟩ eL_12.1) (fun am h2 => ?_)
    refine j_astore_n (lv' := [(0, .ref b), (1, .ref q1), (2, .ref q2)]) B eL_15 [1, 2, 0] (by decide) rfl ?_
    refine j_const B eL_16 ?_
    refine j_istore_n (f := fun z => some z) (res := (0 : Int32)) (lv' := fun z => [(0, .ref b), (1, .ref q1), (2, .ref q2), (3, .int z)]) B eL_17 [1, 2, 3, 0] (by decide) (fun _ => rfl) rfl (fun z hz => ?_)
    cases hz
    refine j_widen (k := 66 + 0) (n := 10973 + 4 * 0) (by decide) (by decide) ?_
    refine law_loop (Rel := Rel) B hA hX hscr hbl hbA hL ops (fun i w v ad am hi => ?_) (L + 2) 0 wX0 (wM0 8) ad am (by omega) (Nat.zero_le _) h0 h1 h2
    refine j_const B eL_1184 ?_
    intro H locs ls hP hD hS hl
    refine va_forget (fun q hq => ?_) ?_
    · have h := hS.2.2 q hq
      rw [← hAe] at h
      exact h
    · refine W.widen (k := 610156) (n := 7271780) (by omega) (by omega) ?_
      exact lw_ret hx hb hr hlocks eL_1185.1
  exact key s.heap [] ls (fun k q h => by simp at h) ⟨fun i j p q h => by simp at h, fun k q h => by simp at h⟩ va_S.rf hl
