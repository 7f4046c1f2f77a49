set_option maxRecDepth 100000
def Op_oar (Rel : Wd → Wd → Prop) : Prop := ∀ (w v : Wd) (a1 : Int32) (a2 : Int32), Rel w v → ∃ (r : Int32) (w' : Wd) (v' : Wd), sX_oar w a1 a2 = some (r, w') ∧ sM_oar v a1 a2 = some (r, v') ∧ Rel w' v'
def Op_boat (Rel : Wd → Wd → Prop) : Prop := ∀ (w v : Wd) (a1 : Int32) (a2 : Int32) (a3 : Int32) (a4 : Int32), Rel w v → ∃ (r : Int32) (w' : Wd) (v' : Wd), sX_boat w a1 a2 a3 a4 = some (r, w') ∧ sM_boat v a1 a2 a3 a4 = some (r, v') ∧ Rel w' v'
def Op_ill (Rel : Wd → Wd → Prop) : Prop := ∀ (w v : Wd) (a1 : Int32) (a2 : Int32), Rel w v → ∃ (r : Int32) (w' : Wd) (v' : Wd), sX_ill w a1 a2 = some (r, w') ∧ sM_ill v a1 a2 = some (r, v') ∧ Rel w' v'
def Op_sit (Rel : Wd → Wd → Prop) : Prop := ∀ (w v : Wd) (a1 : Int32) (a2 : Int32) (a3 : Int32), Rel w v → ∃ (r : Int32) (w' : Wd) (v' : Wd), sX_sit w a1 a2 a3 = some (r, w') ∧ sM_sit v a1 a2 a3 = some (r, v') ∧ Rel w' v'
def Op_seat (Rel : Wd → Wd → Prop) : Prop := ∀ (w v : Wd) (a1 : Int32) (a2 : Int32), Rel w v → ∃ (r : Int32), sX_seat w a1 a2 = some r ∧ sM_seat v a1 a2 = some r
def Op_about (Rel : Wd → Wd → Prop) : Prop := ∀ (w v : Wd) (a1 : Int32) (a2 : Int32), Rel w v → ∃ (r : Int32), sX_about w a1 a2 = some r ∧ sM_about v a1 a2 = some r
def Op_race (Rel : Wd → Wd → Prop) : Prop := ∀ (w v : Wd) (a1 : Int32) (a2 : Int32) (a3 : Int32), Rel w v → ∃ (r : Int32) (w' : Wd) (v' : Wd), sX_race w a1 a2 a3 = some (r, w') ∧ sM_race v a1 a2 a3 = some (r, v') ∧ Rel w' v'
def Op_unrace (Rel : Wd → Wd → Prop) : Prop := ∀ (w v : Wd) , Rel w v → ∃ (r : Int32) (w' : Wd) (v' : Wd), sX_unrace w = some (r, w') ∧ sM_unrace v = some (r, v') ∧ Rel w' v'
def Op_group (Rel : Wd → Wd → Prop) : Prop := ∀ (w v : Wd) (a1 : Int32), Rel w v → ∃ (r : Int32) (w' : Wd) (v' : Wd), sX_group w a1 = some (r, w') ∧ sM_group v a1 = some (r, v') ∧ Rel w' v'
def Op_strength (Rel : Wd → Wd → Prop) : Prop := ∀ (w v : Wd) (a1 : Int32) (a2 : Int32), Rel w v → ∃ (r : Int64) (w' : Wd) (v' : Wd), sX_strength w a1 a2 = some (r, w') ∧ sM_strength v a1 a2 = some (r, v') ∧ Rel w' v'
def Op_between (Rel : Wd → Wd → Prop) : Prop := ∀ (w v : Wd) (a1 : Int32) (a2 : Int32) (a3 : Int32), Rel w v → ∃ (r : Int64) (w' : Wd) (v' : Wd), sX_between w a1 a2 a3 = some (r, w') ∧ sM_between v a1 a2 a3 = some (r, v') ∧ Rel w' v'
def Op_misfit (Rel : Wd → Wd → Prop) : Prop := ∀ (w v : Wd) (a1 : Int32) (a2 : Int32), Rel w v → ∃ (r : Int64) (w' : Wd) (v' : Wd), sX_misfit w a1 a2 = some (r, w') ∧ sM_misfit v a1 a2 = some (r, v') ∧ Rel w' v'
def Op_sure (Rel : Wd → Wd → Prop) : Prop := ∀ (w v : Wd) (a1 : Int32) (a2 : Int32), Rel w v → ∃ (r : Int32), sX_sure w a1 a2 = some r ∧ sM_sure v a1 a2 = some r
def Op_crew (Rel : Wd → Wd → Prop) : Prop := ∀ (w v : Wd) (a1 : Int32) (a2 : Int32) (a3 : Int32), Rel w v → ∃ (r : Int32) (w' : Wd) (v' : Wd), sX_crew w a1 a2 a3 = some (r, w') ∧ sM_crew v a1 a2 a3 = some (r, v') ∧ Rel w' v'
def Op_water (Rel : Wd → Wd → Prop) : Prop := ∀ (w v : Wd) (a1 : Int32) (a2 : Int32) (a3 : Int32), Rel w v → ∃ (r : Int32) (w' : Wd) (v' : Wd), sX_water w a1 a2 a3 = some (r, w') ∧ sM_water v a1 a2 a3 = some (r, v') ∧ Rel w' v'
def Op_feed (Rel : Wd → Wd → Prop) : Prop := ∀ (w v : Wd) (a1 : Int64) (a2 : Int32), Rel w v → ∃ (r : Int32) (w' : Wd) (v' : Wd), sX_feed w a1 a2 = some (r, w') ∧ sM_feed v a1 a2 = some (r, v') ∧ Rel w' v'
def Op_rule (Rel : Wd → Wd → Prop) : Prop := ∀ (w v : Wd) , Rel w v → ∃ (r : Int32) (w' : Wd) (v' : Wd), sX_rule w = some (r, w') ∧ sM_rule v = some (r, v') ∧ Rel w' v'
def Op_ruled (Rel : Wd → Wd → Prop) : Prop := ∀ (w v : Wd) (a1 : Int32) (a2 : Int32), Rel w v → ∃ (r : Int32), sX_ruled w a1 a2 = some r ∧ sM_ruled v a1 a2 = some r
def Op_may (Rel : Wd → Wd → Prop) : Prop := ∀ (w v : Wd) (a1 : Int32) (a2 : Int32), Rel w v → ∃ (r : Int32), sX_may w a1 a2 = some r ∧ sM_may v a1 a2 = some r
def Op_day (Rel : Wd → Wd → Prop) : Prop := ∀ (w v : Wd) (a1 : Int32), Rel w v → ∃ (r : Int32) (w' : Wd) (v' : Wd), sX_day w a1 = some (r, w') ∧ sM_day v a1 = some (r, v') ∧ Rel w' v'
def Op_out (Rel : Wd → Wd → Prop) : Prop := ∀ (w v : Wd) (a1 : Int32) (a2 : Int32), Rel w v → ∃ (r : Int32) (w' : Wd) (v' : Wd), sX_out w a1 a2 = some (r, w') ∧ sM_out v a1 a2 = some (r, v') ∧ Rel w' v'
def Op_look (Rel : Wd → Wd → Prop) : Prop := ∀ (w v : Wd) (a1 : Int32) (a2 : Int32), Rel w v → ∃ (r : Int32) (w' : Wd) (v' : Wd), sX_look w a1 a2 = some (r, w') ∧ sM_look v a1 a2 = some (r, v') ∧ Rel w' v'
def Op_broke (Rel : Wd → Wd → Prop) : Prop := ∀ (w v : Wd) (a1 : Int32) (a2 : Int32), Rel w v → ∃ (r : Int32) (w' : Wd), sX_broke w a1 a2 = some (r, w') ∧ sM_broke v a1 a2 = some r ∧ Rel w' v
def Op_outing (Rel : Wd → Wd → Prop) : Prop := ∀ (w v : Wd) (a1 : Int32) (a2 : Int32), Rel w v → ∃ (r : Int32), sX_outing w a1 a2 = some r ∧ sM_outing v a1 a2 = some r
def Op_heat (Rel : Wd → Wd → Prop) : Prop := ∀ (w v : Wd) (a1 : Int32) (a2 : Int32), Rel w v → ∃ (r : Int32) (w' : Wd) (v' : Wd), sX_heat w a1 a2 = some (r, w') ∧ sM_heat v a1 a2 = some (r, v') ∧ Rel w' v'
def Op_near (Rel : Wd → Wd → Prop) : Prop := ∀ (w v : Wd) (a1 : Int32), Rel w v → ∃ (r : Int32) (w' : Wd) (v' : Wd), sX_near w a1 = some (r, w') ∧ sM_near v a1 = some (r, v') ∧ Rel w' v'
def Op_clashes (Rel : Wd → Wd → Prop) : Prop := ∀ (w v : Wd) , Rel w v → ∃ (r : Int32), sX_clashes w = some r ∧ sM_clashes v = some r
def Op_shift (Rel : Wd → Wd → Prop) : Prop := ∀ (w v : Wd) (a1 : Int32), Rel w v → ∃ (r : Int32) (w' : Wd), sX_shift w a1 = some (r, w') ∧ sM_shift v a1 = some r ∧ Rel w' v
def Op_trailer (Rel : Wd → Wd → Prop) : Prop := ∀ (w v : Wd) (a1 : Int32) (a2 : Int32), Rel w v → ∃ (r : Int32) (w' : Wd) (v' : Wd), sX_trailer w a1 a2 = some (r, w') ∧ sM_trailer v a1 a2 = some (r, v') ∧ Rel w' v'
def Op_rack (Rel : Wd → Wd → Prop) : Prop := ∀ (w v : Wd) (a1 : Int32), Rel w v → ∃ (r : Int32), sX_rack w a1 = some r ∧ sM_rack v a1 = some r
def Op_count (Rel : Wd → Wd → Prop) : Prop := ∀ (w v : Wd) (a1 : Int32), Rel w v → ∃ (r : Int32), sX_count w a1 = some r ∧ sM_count v a1 = some r
def R_law : String := "DawnEightsLaw"
def cwL (g : Nat → ClassId) (z : ((Nat → Nat) × Wd) × ((Nat → Nat) × Wd)) : va_W := cellsX g z.1.1 z.1.2 ++ cellsM g z.2.1 z.2.2
section LW
variable {p : Program} {l : Launch} {e : Env} {R : Room} {s : State} {m : MethodId} {args : Array Value} {below : List Frame} {meth : Method} {c : Code} {cells slots : Nat} {Q : State → Prop} {A : Nat → Prop} {D : va_G} {g : Nat → ClassId} {sd ad am : Nat → Nat} {w w' v v' : Wd} {b L : Nat} {xs : Nat → Int32} {pc pc' tgt : Nat} {st : List Value} {lv : List (Nat × Value)}
theorem l_arg (B : Bd p s m args meth c code 4 R_law D vwCl (tysG g)) (hscr : va_X b L xs s s.heap) (hbl : b < s.heap.size) (hbA : ¬ A b) {i : Nat} (hi : i + 5 ≤ L) (hL : L ≤ 320) (k : Nat) (hk : k < 5) {p1 p2 p3 p4 : Nat} (h0 : lv[0]? = some (0, .ref b)) (h3 : lv[3]? = some (3, .int (nI i))) (d1 : D1 code pc (.aload_n 0) p1) (d2 : D1 code p1 (.iload_n 3) p2) (d3 : DC code p2 (nI k) p3) (d4 : D1 code p3 .iadd p4) (d5 : D1 code p4 .iaload pc') (kk : XJ p l e R s m args below meth c cells slots Q A D vwCl (cwL g) 4 ((ad, w), (am, v)) pc' lv (.int (xs (i + k)) :: st)) : XJ p l e R s m args below meth c cells slots Q A D vwCl (cwL g) 4 ((ad, w), (am, v)) pc lv st := by
  refine j_aload_n B d1 0 h0 ?_
  refine j_iload_n B d2 3 h3 ?_
  refine j_const B d3 ?_
  refine j_iadd B d4 ?_
  rw [nI_add]
  obtain ⟨d5, rfl⟩ := d5
  have hlt : i + k < L := by omega
  intro H locs ls hP hD hS hl
  refine va_sld B.1 B.2.1 hscr hbl hbA hS (vp_in_nI hlt (by omega)) d5 ?_
  rw [nI_clamp (show i + k < 2 ^ 31 by omega)]
  exact kk H locs ls hP hD hS hl
theorem l_arg0 (B : Bd p s m args meth c code 4 R_law D vwCl (tysG g)) (hscr : va_X b L xs s s.heap) (hbl : b < s.heap.size) (hbA : ¬ A b) {i : Nat} (hi : i < L) (hL : L ≤ 320) (d5 : D1 code pc .iaload pc') (kk : XJ p l e R s m args below meth c cells slots Q A D vwCl (cwL g) 4 ((ad, w), (am, v)) pc' lv (.int (xs i) :: st)) : XJ p l e R s m args below meth c cells slots Q A D vwCl (cwL g) 4 ((ad, w), (am, v)) pc lv (.int (nI i) :: .ref b :: st) := by
  obtain ⟨d5, rfl⟩ := d5
  intro H locs ls hP hD hS hl
  refine va_sld B.1 B.2.1 hscr hbl hbA hS (vp_in_nI hi (by omega)) d5 ?_
  rw [nI_clamp (show i < 2 ^ 31 by omega)]
  exact kk H locs ls hP hD hS hl
theorem l_len (B : Bd p s m args meth c code 4 R_law D vwCl (tysG g)) (hscr : va_X b L xs s s.heap) (hbl : b < s.heap.size) (hbA : ¬ A b) (d5 : D1 code pc .arraylength pc') (kk : XJ p l e R s m args below meth c cells slots Q A D vwCl (cwL g) 4 ((ad, w), (am, v)) pc' lv (.int (nI L) :: st)) : XJ p l e R s m args below meth c cells slots Q A D vwCl (cwL g) 4 ((ad, w), (am, v)) pc lv (.ref b :: st) := by
  obtain ⟨d5, rfl⟩ := d5
  intro H locs ls hP hD hS hl
  exact va_slen B.1 B.2.1 hscr hbl hbA hS d5 (kk H locs ls hP hD hS hl)
theorem l_eqi (B : Bd p s m args meth c code 4 R_law D vwCl (tysG g)) {r : Int32} (d : DJ code pc (.if_icmp .eq) tgt pc') (kk : XJ p l e R s m args below meth c cells slots Q A D vwCl (cwL g) 4 ((ad, w), (am, v)) tgt lv st) : XJ p l e R s m args below meth c cells slots Q A D vwCl (cwL g) 4 ((ad, w), (am, v)) pc lv (.int r :: .int r :: st) := by
  obtain ⟨off, hd, ht, rfl⟩ := d
  exact fun H locs ls hP hD hS hl => lv_icmp_eq B.1 B.2.1 hd ht (fun _ => kk H locs ls hP hD hS hl) (fun h => absurd rfl h)
theorem l_eql (B : Bd p s m args meth c code 4 R_law D vwCl (tysG g)) {r : Int64} {p1 : Nat} (d0 : D1 code pc .lcmp p1) (d : DJ code p1 (.ifCond .eq) tgt pc') (kk : XJ p l e R s m args below meth c cells slots Q A D vwCl (cwL g) 4 ((ad, w), (am, v)) tgt lv st) : XJ p l e R s m args below meth c cells slots Q A D vwCl (cwL g) 4 ((ad, w), (am, v)) pc lv (.long r :: .long r :: st) := by
  exact j_lcmp_eq (a := some ()) (b := none) (res := ()) (dc := inferInstance) B d0 d (if_pos rfl) (fun _ _ => kk) (fun h => absurd rfl h)
theorem l_Xi (B : Bd p s m args meth c code 4 R_law D vwCl (tysG g)) (hA : ∀ q, s.heap.size ≤ q → A q) (hX : NXA sd A s) {y : MethodName} {bytes : ByteArray} {maxL n index : Nat} {rm rmc : Room} {As : List Value} {r : Int32} (hM : ∀ sz, Met l y (ws_ y bytes maxL (some .int)) rm (va_Pc (.ref (ad 99) :: As) (MPre D vwCl (tysG g) (cellsX g ad w) (NXX sd (cellsX g ad w)) sz)) (QcI D vwCl (tysG g) (cellsX g ad w') r (va_A (cellsX g ad w) sz)) 0 0 (va_A (cellsX g ad w) sz)) (pk : PkV y RX0 bytes maxL (some .int) n) (hlk : Cond.methodLink R_law index y ∈ lw_all) (hrc : rm.cells = 0) (hrs : rm.slots = 0) (hRm : R = rmc) (hR : rm.frames + 1 ≤ rmc.frames ∧ 8 + (maxL + 11) + rm.locals ≤ rmc.locals) (hn : As.length = n) {stk : List Value} {a9 : Nat} (h99 : ad 99 = a9) (hst : stk = As.reverse ++ .ref a9 :: st) (hroom : (st.map fun v => v.category).sum ≤ 8) (hcs : cells ≤ R.cells ∧ slots ≤ R.slots) (hd : D3 code pc (.invokevirtual index) pc') (kk : XJ p l e R s m args below meth c cells slots Q A D vwCl (cwL g) 4 ((ad, w'), (am, v)) pc' lv (.int r :: st)) : XJ p l e R s m args below meth c cells slots Q A D vwCl (cwL g) 4 ((ad, w), (am, v)) pc lv stk := by
  subst h99
  subst hst
  obtain ⟨hd, rfl⟩ := hd
  refine j_fri (cw' := cwL g) (w' := fun _ => ((ad, w'), (am, v))) (rest := cellsM g am v) (sub := cellsX g ad w) (f := fun (_ : Unit) => cellsX g ad w') (post := fun (x : Int32) (_ : Unit) => x = r) B hA rfl List.perm_append_comm (fun _ _ _ => List.perm_append_comm) (run_V (Qc := fun sz => QcI D vwCl (tysG g) (cellsX g ad w') r (va_A (cellsX g ad w) sz)) (As := As) B hM (NXX_ok hX) pk hlk 0 rfl rfl hrc hrs hRm hR hn hroom hcs hd) (fun x _ hx => ?_)
  subst hx
  exact kk
theorem l_Xl (B : Bd p s m args meth c code 4 R_law D vwCl (tysG g)) (hA : ∀ q, s.heap.size ≤ q → A q) (hX : NXA sd A s) {y : MethodName} {bytes : ByteArray} {maxL n index : Nat} {rm rmc : Room} {As : List Value} {r : Int64} (hM : ∀ sz, Met l y (ws_ y bytes maxL (some .long)) rm (va_Pc (.ref (ad 99) :: As) (MPre D vwCl (tysG g) (cellsX g ad w) (NXX sd (cellsX g ad w)) sz)) (QcL D vwCl (tysG g) (cellsX g ad w') r (va_A (cellsX g ad w) sz)) 0 0 (va_A (cellsX g ad w) sz)) (pk : PkV y RX0 bytes maxL (some .long) n) (hlk : Cond.methodLink R_law index y ∈ lw_all) (hrc : rm.cells = 0) (hrs : rm.slots = 0) (hRm : R = rmc) (hR : rm.frames + 1 ≤ rmc.frames ∧ 8 + (maxL + 11) + rm.locals ≤ rmc.locals) (hn : As.length = n) {stk : List Value} {a9 : Nat} (h99 : ad 99 = a9) (hst : stk = As.reverse ++ .ref a9 :: st) (hroom : (st.map fun v => v.category).sum ≤ 8) (hcs : cells ≤ R.cells ∧ slots ≤ R.slots) (hd : D3 code pc (.invokevirtual index) pc') (kk : XJ p l e R s m args below meth c cells slots Q A D vwCl (cwL g) 4 ((ad, w'), (am, v)) pc' lv (.long r :: st)) : XJ p l e R s m args below meth c cells slots Q A D vwCl (cwL g) 4 ((ad, w), (am, v)) pc lv stk := by
  subst h99
  subst hst
  obtain ⟨hd, rfl⟩ := hd
  refine j_frl (cw' := cwL g) (w' := fun _ => ((ad, w'), (am, v))) (rest := cellsM g am v) (sub := cellsX g ad w) (f := fun (_ : Unit) => cellsX g ad w') (post := fun (x : Int64) (_ : Unit) => x = r) B hA rfl List.perm_append_comm (fun _ _ _ => List.perm_append_comm) (run_V (Qc := fun sz => QcL D vwCl (tysG g) (cellsX g ad w') r (va_A (cellsX g ad w) sz)) (As := As) B hM (NXX_ok hX) pk hlk 0 rfl rfl hrc hrs hRm hR hn hroom hcs hd) (fun x _ hx => ?_)
  subst hx
  exact kk
theorem l_Mi (B : Bd p s m args meth c code 4 R_law D vwCl (tysG g)) (hA : ∀ q, s.heap.size ≤ q → A q) {y : MethodName} {bytes : ByteArray} {maxL n index : Nat} {rm rmc : Room} {As : List Value} {r : Int32} (hM : ∀ sz, Met l y (ws_ y bytes maxL (some .int)) rm (va_Pc (.ref (am 99) :: As) (MPre D vwCl (tysG g) (cellsM g am v) NT sz)) (QcI D vwCl (tysG g) (cellsM g am v') r (va_A (cellsM g am v) sz)) 0 0 (va_A (cellsM g am v) sz)) (pk : PkV y RX1 bytes maxL (some .int) n) (hlk : Cond.methodLink R_law index y ∈ lw_all) (hrc : rm.cells = 0) (hrs : rm.slots = 0) (hRm : R = rmc) (hR : rm.frames + 1 ≤ rmc.frames ∧ 8 + (maxL + 11) + rm.locals ≤ rmc.locals) (hn : As.length = n) {stk : List Value} {a9 : Nat} (h99 : am 99 = a9) (hst : stk = As.reverse ++ .ref a9 :: st) (hroom : (st.map fun v => v.category).sum ≤ 8) (hcs : cells ≤ R.cells ∧ slots ≤ R.slots) (hd : D3 code pc (.invokevirtual index) pc') (kk : XJ p l e R s m args below meth c cells slots Q A D vwCl (cwL g) 4 ((ad, w), (am, v')) pc' lv (.int r :: st)) : XJ p l e R s m args below meth c cells slots Q A D vwCl (cwL g) 4 ((ad, w), (am, v)) pc lv stk := by
  subst h99
  subst hst
  obtain ⟨hd, rfl⟩ := hd
  refine j_fri (cw' := cwL g) (w' := fun _ => ((ad, w), (am, v'))) (rest := cellsX g ad w) (sub := cellsM g am v) (f := fun (_ : Unit) => cellsM g am v') (post := fun (x : Int32) (_ : Unit) => x = r) B hA rfl (List.Perm.refl _) (fun _ _ _ => (List.Perm.refl _)) (run_V (Qc := fun sz => QcI D vwCl (tysG g) (cellsM g am v') r (va_A (cellsM g am v) sz)) (As := As) B hM NT_ok pk hlk 0 rfl rfl hrc hrs hRm hR hn hroom hcs hd) (fun x _ hx => ?_)
  subst hx
  exact kk
theorem l_Ml (B : Bd p s m args meth c code 4 R_law D vwCl (tysG g)) (hA : ∀ q, s.heap.size ≤ q → A q) {y : MethodName} {bytes : ByteArray} {maxL n index : Nat} {rm rmc : Room} {As : List Value} {r : Int64} (hM : ∀ sz, Met l y (ws_ y bytes maxL (some .long)) rm (va_Pc (.ref (am 99) :: As) (MPre D vwCl (tysG g) (cellsM g am v) NT sz)) (QcL D vwCl (tysG g) (cellsM g am v') r (va_A (cellsM g am v) sz)) 0 0 (va_A (cellsM g am v) sz)) (pk : PkV y RX1 bytes maxL (some .long) n) (hlk : Cond.methodLink R_law index y ∈ lw_all) (hrc : rm.cells = 0) (hrs : rm.slots = 0) (hRm : R = rmc) (hR : rm.frames + 1 ≤ rmc.frames ∧ 8 + (maxL + 11) + rm.locals ≤ rmc.locals) (hn : As.length = n) {stk : List Value} {a9 : Nat} (h99 : am 99 = a9) (hst : stk = As.reverse ++ .ref a9 :: st) (hroom : (st.map fun v => v.category).sum ≤ 8) (hcs : cells ≤ R.cells ∧ slots ≤ R.slots) (hd : D3 code pc (.invokevirtual index) pc') (kk : XJ p l e R s m args below meth c cells slots Q A D vwCl (cwL g) 4 ((ad, w), (am, v')) pc' lv (.long r :: st)) : XJ p l e R s m args below meth c cells slots Q A D vwCl (cwL g) 4 ((ad, w), (am, v)) pc lv stk := by
  subst h99
  subst hst
  obtain ⟨hd, rfl⟩ := hd
  refine j_frl (cw' := cwL g) (w' := fun _ => ((ad, w), (am, v'))) (rest := cellsX g ad w) (sub := cellsM g am v) (f := fun (_ : Unit) => cellsM g am v') (post := fun (x : Int64) (_ : Unit) => x = r) B hA rfl (List.Perm.refl _) (fun _ _ _ => (List.Perm.refl _)) (run_V (Qc := fun sz => QcL D vwCl (tysG g) (cellsM g am v') r (va_A (cellsM g am v) sz)) (As := As) B hM NT_ok pk hlk 0 rfl rfl hrc hrs hRm hR hn hroom hcs hd) (fun x _ hx => ?_)
  subst hx
  exact kk
theorem l_Xa (B : Bd p s m args meth c code 4 R_law D vwCl (tysG g)) (hA : ∀ q, s.heap.size ≤ q → A q) (hX : NXA sd A s) {y : MethodName} {bytes : ByteArray} {maxL n index mc ms : Nat} {rm rmc : Room} {As : List Value} {r : Int32} (hM : ∀ sz, Met l y (ws_ y bytes maxL (some .int)) rm (va_Pc (.ref (ad 99) :: As) (MPre D vwCl (tysG g) (cellsX g ad w) (NXX sd (cellsX g ad w)) sz)) (QcA D g (ad 99) r w' (va_A (cellsX g ad w) sz)) mc ms (va_A (cellsX g ad w) sz)) (pk : PkV y RX0 bytes maxL (some .int) n) (hlk : Cond.methodLink R_law index y ∈ lw_all) (hrc : rm.cells = mc) (hrs : rm.slots = ms) (hRm : R = rmc) (hR : rm.frames + 1 ≤ rmc.frames ∧ 8 + (maxL + 11) + rm.locals ≤ rmc.locals) (hn : As.length = n) {stk : List Value} {a9 : Nat} (h99 : ad 99 = a9) (hst : stk = As.reverse ++ .ref a9 :: st) (hroom : (st.map fun v => v.category).sum ≤ 8) (hcs : cells + mc ≤ R.cells ∧ slots + ms ≤ R.slots) (hd : D3 code pc (.invokevirtual index) pc') (kk : ∀ ad' : Nat → Nat, ad' 99 = a9 → XJ p l e R s m args below meth c (cells + mc) (slots + ms) Q A D vwCl (cwL g) 4 ((ad', w'), (am, v)) pc' lv (.int r :: st)) : XJ p l e R s m args below meth c cells slots Q A D vwCl (cwL g) 4 ((ad, w), (am, v)) pc lv stk := by
  subst h99
  subst hst
  obtain ⟨hd, rfl⟩ := hd
  refine j_fri (cw' := cwL g) (w' := fun ad' : Nat → Nat => ((ad', w'), (am, v))) (rest := cellsM g am v) (sub := cellsX g ad w) (f := fun ad' => cellsX g ad' w') (post := fun (x : Int32) (ad' : Nat → Nat) => x = r ∧ ad' 99 = ad 99) B hA rfl List.perm_append_comm (fun _ _ _ => List.perm_append_comm) (run_V (Qc := fun sz => QcA D g (ad 99) r w' (va_A (cellsX g ad w) sz)) (As := As) B hM (NXX_ok hX) pk hlk 0 rfl rfl hrc hrs hRm hR hn hroom hcs hd) (fun x ad' hx => ?_)
  obtain ⟨rfl, h9⟩ := hx
  exact kk ad' h9
end LW
