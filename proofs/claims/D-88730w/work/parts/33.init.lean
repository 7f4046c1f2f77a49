set_option maxRecDepth 100000
section FI
variable {p : Program} {l : Launch} {e : Env} {R : Room} {s : State} {m : MethodId} {args : Array Value} {below : List Frame} {meth : Method} {c : Code} {cells slots : Nat} {Q : State → Prop} {A : Nat → Prop} {D : va_G} {g : Nat → ClassId} {nL : Nat} {cc : ByteArray} {own : String}
variable {ws : va_W} {pc pc' tgt : Nat} {lv : List (Nat × Value)} {st : List Value} {ρ : Type} {res : ρ} {σ τ : Type} {cw : σ → va_W} {cw' : τ → va_W} {w : σ} {w' : τ}
def PkI (y : MethodName) (bytes : ByteArray) (maxL n : Nat) : Prop := Cond.instanceMethod y ∈ lw_all ∧ Cond.initialized y.cls ∈ lw_all ∧ Cond.code y bytes maxL none ∈ lw_all ∧ y.name = "<init>" ∧ y.cls ≠ "java/lang/invoke/MethodHandle" ∧ y.cls ≠ "java/lang/invoke/VarHandle" ∧ (parseMethodDescriptor y.desc).map (fun d => d.parameters.length) = some n
theorem run_I (B : Bd p s m args meth c cc nL own D vwCl (tysG g)) {y : MethodName} {bytes : ByteArray} {maxL n index b : Nat} {rm rmc : Room} {As : List Value} {NX : Nat → State → Prop} {sub : va_W} {Qc : Nat → Array Value → State → Outcome → State → Prop} {mc ms : Nat} (hM : ∀ sz, Met l y (ws_ y bytes maxL none) rm (va_Pc (.ref b :: As) (MPre D vwCl (tysG g) sub NX sz)) (Qc sz) mc ms (va_A sub sz)) (hNX : NXok NX A s sub) (pk : PkI y bytes maxL n) (hlk : Cond.methodLink own index y ∈ lw_all) (hrc : rm.cells = mc) (hrs : rm.slots = ms) (hRm : R = rmc) (hR : rm.frames + 1 ≤ rmc.frames ∧ 8 + (maxL + 11) + rm.locals ≤ rmc.locals) (hn : As.length = n) (hroom : (st.map fun v => v.category).sum ≤ 8) (hcs : cells + mc ≤ R.cells ∧ slots + ms ≤ R.slots) (hd : decode cc pc = .ok (.invokespecial index, 3)) :
    ∀ (H : Heap) (locs : List Loc) (ls : Array Slot), va_P D vwCl sub H → va_D (fun _ => True) sub → va_S A s.heap H locs → ls.size = nL → (∀ q, va_A sub H.size q → A q) → va_Run p l e R s m args below meth c H locs cells slots mc ms (F0 m pc ls (As.reverse ++ .ref b :: st)) st (Qc H.size (Value.ref b :: As).toArray) (va_A sub H.size) := by
  intro H locs ls hP hD hS hl hF
  subst hRm
  have hts := B.2.2.2.2.1
  exact va_runI (As := As) (rest := st) ⟨B.1, B.2.1, B.2.2.1, B.2.2.2.1, B.2.2.2.2.1⟩ (hM H.size) (cwI n hts (lw_meth pk.2.2.1) rfl hrc hrs (hts _ pk.2.1) (hts _ hlk) (hts _ pk.1) pk.2.2.2.1 pk.2.2.2.2 hR) ⟨fun a U g mk q => ⟨q.1, q.2.1, q.2.2.1, va_K.moved (u := U) (U := U.calling g mk a) (Vm.Alike.refl U.vm) q.2.2.2.1, q.2.2.2.2.1, hNX.1 _ _ _ _ _ q.2.2.2.2.2⟩, fun U hU hW => ⟨rfl, by rw [hU], by rw [hU]; exact hP, va_K.moved hW.alike B.2.2.2.2.2.1, hD, hNX.2 H locs U hS hF hU hW⟩⟩ rfl hn hl rfl (lv_room hroom) hd hcs
theorem run_IN (B : Bd p s m args meth c cc nL own D vwCl (tysG g)) {y : MethodName} {bytes : ByteArray} {maxL n index b : Nat} {rm rmc : Room} {As : List Value} {NX : Nat → State → Prop} {sub : va_W} {Qc : Nat → Array Value → State → Outcome → State → Prop} {mc ms : Nat} (hM : ∀ sz, Met l y (ws_ y bytes maxL none) rm (va_Pc (.ref b :: As) (MPre D vwCl (tysG g) sub NX sz)) (Qc sz) mc ms (va_A sub sz)) (hNX : NXok NX A s sub) {host : String} (pk : PkI y bytes maxL n) (hlk : va_Nw (.methodLinkNest own index y host) s) (hrc : rm.cells = mc) (hrs : rm.slots = ms) (hRm : R = rmc) (hR : rm.frames + 1 ≤ rmc.frames ∧ 8 + (maxL + 11) + rm.locals ≤ rmc.locals) (hn : As.length = n) (hroom : (st.map fun v => v.category).sum ≤ 8) (hcs : cells + mc ≤ R.cells ∧ slots + ms ≤ R.slots) (hd : decode cc pc = .ok (.invokespecial index, 3)) :
    ∀ (H : Heap) (locs : List Loc) (ls : Array Slot), va_P D vwCl sub H → va_D (fun _ => True) sub → va_S A s.heap H locs → ls.size = nL → (∀ q, va_A sub H.size q → A q) → va_Run p l e R s m args below meth c H locs cells slots mc ms (F0 m pc ls (As.reverse ++ .ref b :: st)) st (Qc H.size (Value.ref b :: As).toArray) (va_A sub H.size) := by
  intro H locs ls hP hD hS hl hF
  subst hRm
  have hts := B.2.2.2.2.1
  exact va_runIN (As := As) (rest := st) ⟨B.1, B.2.1, B.2.2.1, B.2.2.2.1, B.2.2.2.2.1⟩ (hM H.size) ⟨va_cnB n hts (lw_meth pk.2.2.1) rfl hrc hrs hlk (hts _ pk.2.1) pk.2.2.2.2 hR, pk.2.2.2.1, hts _ pk.1⟩ ⟨fun a U g mk q => ⟨q.1, q.2.1, q.2.2.1, va_K.moved (u := U) (U := U.calling g mk a) (Vm.Alike.refl U.vm) q.2.2.2.1, q.2.2.2.2.1, hNX.1 _ _ _ _ _ q.2.2.2.2.2⟩, fun U hU hW => ⟨rfl, by rw [hU], by rw [hU]; exact hP, va_K.moved hW.alike B.2.2.2.2.2.1, hD, hNX.2 H locs U hS hF hU hW⟩⟩ rfl hn hl rfl (lv_room hroom) hd hcs
theorem run_V (B : Bd p s m args meth c cc nL own D vwCl (tysG g)) {y : MethodName} {bytes : ByteArray} {maxL n index b : Nat} {ret : Option FieldType} {rm rmc : Room} {As : List Value} {NX : Nat → State → Prop} {sub : va_W} {Qc : Nat → Array Value → State → Outcome → State → Prop} {mc ms : Nat} (hM : ∀ sz, Met l y (ws_ y bytes maxL ret) rm (va_Pc (.ref b :: As) (MPre D vwCl (tysG g) sub NX sz)) (Qc sz) mc ms (va_A sub sz)) (hNX : NXok NX A s sub) {C : String} {T : u_T} {N ci : Nat} {fs : List Value} (pk : PkV y C bytes maxL ret n) (hlk : Cond.methodLink own index y ∈ lw_all) (q0 : Nat) (he : sub[q0]? = some (b, .inr (ci, fs))) (hcl : vwCl[ci]? = some (C, T, N)) (hrc : rm.cells = mc) (hrs : rm.slots = ms) (hRm : R = rmc) (hR : rm.frames + 1 ≤ rmc.frames ∧ 8 + (maxL + 11) + rm.locals ≤ rmc.locals) (hn : As.length = n) (hroom : (st.map fun v => v.category).sum ≤ 8) (hcs : cells + mc ≤ R.cells ∧ slots + ms ≤ R.slots) (hd : decode cc pc = .ok (.invokevirtual index, 3)) :
    ∀ (H : Heap) (locs : List Loc) (ls : Array Slot), va_P D vwCl sub H → va_D (fun _ => True) sub → va_S A s.heap H locs → ls.size = nL → (∀ q, va_A sub H.size q → A q) → va_Run p l e R s m args below meth c H locs cells slots mc ms (F0 m pc ls (As.reverse ++ .ref b :: st)) st (Qc H.size (Value.ref b :: As).toArray) (va_A sub H.size) := by
  intro H locs ls hP hD hS hl hF
  subst hRm
  have hts := B.2.2.2.2.1
  exact va_runV (As := As) (rest := st) ⟨B.1, B.2.1, B.2.2.1, B.2.2.2.1, B.2.2.2.2.1⟩ (hM H.size) (cwV n hts (lw_V hlk pk.1 pk.2.1 pk.2.2.1 pk.2.2.2.1) rfl hrc hrs pk.2.2.2.2 hR) ⟨fun a U g mk q => ⟨q.1, q.2.1, q.2.2.1, va_K.moved (u := U) (U := U.calling g mk a) (Vm.Alike.refl U.vm) q.2.2.2.1, q.2.2.2.2.1, hNX.1 _ _ _ _ _ q.2.2.2.2.2⟩, va_recv B.2.2.2.2.2.1 hP hcl he, fun U hU hW => ⟨rfl, by rw [hU], by rw [hU]; exact hP, va_K.moved hW.alike B.2.2.2.2.2.1, hD, hNX.2 H locs U hS hF hU hW⟩⟩ rfl hn hl rfl (lv_room hroom) hd hcs
end FI
theorem dX2_init_0 : decode cX2_init 0 = .ok (.aload_n 0, 1) := by decide +kernel
theorem dX2_init_1 : decode cX2_init 1 = .ok (.invokespecial 1, 3) := by decide +kernel
theorem dX2_init_4 : decode cX2_init 4 = .ok (.aload_n 0, 1) := by decide +kernel
theorem dX2_init_5 : decode cX2_init 5 = .ok (.iload_n 1, 1) := by decide +kernel
theorem dX2_init_6 : decode cX2_init 6 = .ok (.putfield 7, 3) := by decide +kernel
theorem dX2_init_9 : decode cX2_init 9 = .ok (.aload_n 0, 1) := by decide +kernel
theorem dX2_init_10 : decode cX2_init 10 = .ok (.iload_n 2, 1) := by decide +kernel
theorem dX2_init_11 : decode cX2_init 11 = .ok (.putfield 13, 3) := by decide +kernel
theorem dX2_init_14 : decode cX2_init 14 = .ok (.return_, 1) := by decide +kernel
theorem pkX2_init : PkI yX2_init cX2_init 3 2 := ⟨q239, q59, q240, rfl, by decide +kernel⟩
theorem dX3_init_0 : decode cX3_init 0 = .ok (.aload_n 0, 1) := by decide +kernel
theorem dX3_init_1 : decode cX3_init 1 = .ok (.iload_n 1, 1) := by decide +kernel
theorem dX3_init_2 : decode cX3_init 2 = .ok (.iload_n 2, 1) := by decide +kernel
theorem dX3_init_3 : decode cX3_init 3 = .ok (.invokespecial 1, 3) := by decide +kernel
theorem dX3_init_6 : decode cX3_init 6 = .ok (.return_, 1) := by decide +kernel
theorem pkX3_init : PkI yX3_init cX3_init 3 2 := ⟨q236, q60, q237, rfl, by decide +kernel⟩
theorem dX4_init_0 : decode cX4_init 0 = .ok (.aload_n 0, 1) := by decide +kernel
theorem dX4_init_1 : decode cX4_init 1 = .ok (.iload_n 1, 1) := by decide +kernel
theorem dX4_init_2 : decode cX4_init 2 = .ok (.iload_n 2, 1) := by decide +kernel
theorem dX4_init_3 : decode cX4_init 3 = .ok (.invokespecial 1, 3) := by decide +kernel
theorem dX4_init_6 : decode cX4_init 6 = .ok (.return_, 1) := by decide +kernel
theorem pkX4_init : PkI yX4_init cX4_init 3 2 := ⟨q257, q61, q258, rfl, by decide +kernel⟩
theorem dX5_init_0 : decode cX5_init 0 = .ok (.aload_n 0, 1) := by decide +kernel
theorem dX5_init_1 : decode cX5_init 1 = .ok (.iload_n 1, 1) := by decide +kernel
theorem dX5_init_2 : decode cX5_init 2 = .ok (.iload_n 2, 1) := by decide +kernel
theorem dX5_init_3 : decode cX5_init 3 = .ok (.invokespecial 1, 3) := by decide +kernel
theorem dX5_init_6 : decode cX5_init 6 = .ok (.return_, 1) := by decide +kernel
theorem pkX5_init : PkI yX5_init cX5_init 3 2 := ⟨q267, q62, q268, rfl, by decide +kernel⟩
theorem dX6_init_0 : decode cX6_init 0 = .ok (.aload_n 0, 1) := by decide +kernel
theorem dX6_init_1 : decode cX6_init 1 = .ok (.iload_n 1, 1) := by decide +kernel
theorem dX6_init_2 : decode cX6_init 2 = .ok (.iload_n 2, 1) := by decide +kernel
theorem dX6_init_3 : decode cX6_init 3 = .ok (.invokespecial 1, 3) := by decide +kernel
theorem dX6_init_6 : decode cX6_init 6 = .ok (.aload_n 0, 1) := by decide +kernel
theorem dX6_init_7 : decode cX6_init 7 = .ok (.iload_n 3, 1) := by decide +kernel
theorem dX6_init_8 : decode cX6_init 8 = .ok (.putfield 7, 3) := by decide +kernel
theorem dX6_init_11 : decode cX6_init 11 = .ok (.return_, 1) := by decide +kernel
theorem pkX6_init : PkI yX6_init cX6_init 4 3 := ⟨q277, q63, q278, rfl, by decide +kernel⟩
abbrev rmX2_init : Room := { frames := 1, cells := 0, slots := 0, locals := 20 }
abbrev rmX3_init : Room := { frames := 2, cells := 0, slots := 0, locals := 42 }
abbrev rmX4_init : Room := { frames := 3, cells := 0, slots := 0, locals := 64 }
abbrev rmX5_init : Room := { frames := 3, cells := 0, slots := 0, locals := 64 }
abbrev rmX6_init : Room := { frames := 2, cells := 0, slots := 0, locals := 42 }
theorem met_X2_init_X6 (l : Launch) (D : va_G) (g : Nat → ClassId) (h : Nat) (n wt x0 x1 x2 x3 : Int32) (sz : Nat) : Met l yX2_init (ws_ yX2_init cX2_init 3 none) rmX2_init (va_Pc [.ref h, .int n, .int wt] (MPre D vwCl (tysG g) [(h, .inr (3, [.int x0, .int x1, .int x2, .int x3]))] NT sz)) (QcV D vwCl (tysG g) [(h, .inr (3, [.int n, .int wt, .int x2, .int x3]))] (va_A [(h, .inr (3, [.int x0, .int x1, .int x2, .int x3]))] sz)) 0 0 (va_A [(h, .inr (3, [.int x0, .int x1, .int x2, .int x3]))] sz) := by
  refine met_XJ (cw := (id : va_W → va_W)) (w := [(h, .inr (3, [.int x0, .int x1, .int x2, .int x3]))]) (cc := cX2_init) (lv := [(0, .ref h), (1, .int n), (2, .int wt)]) pnX2 _ (Nat.le_of_ble_eq_true rfl) rfl ?_
  intro p e s m args below meth c R Q A B hN hr hsz hA hmm hRm hQ hAe
  have hin : meth.name = "<init>" := (name_of_methodNamed hmm.1 hmm.2).1
  refine j_aload_n B ⟨dX2_init_0, rfl⟩ 0 rfl ?_
  refine j_objI B q241 q77 q78 (by rw [hRm]; exact ⟨Nat.le_of_ble_eq_true rfl, Nat.le_of_ble_eq_true rfl⟩) (Nat.le_of_ble_eq_true rfl) ⟨dX2_init_1, rfl⟩ ?_
  refine j_aload_n B ⟨dX2_init_4, rfl⟩ 0 rfl ?_
  refine j_iload_n B ⟨dX2_init_5, rfl⟩ 1 rfl ?_
  refine j_putF (T := TX6) (ci := 3) (ty := .int) B hin in_X6 tyX6 tyX6_ok nmX6 0 rfl rfl 0 (by decide) q242 rfl rfl rfl rfl rfl (Nat.le_of_ble_eq_true rfl) ⟨dX2_init_6, rfl⟩ ?_
  refine j_aload_n B ⟨dX2_init_9, rfl⟩ 0 rfl ?_
  refine j_iload_n B ⟨dX2_init_10, rfl⟩ 2 rfl ?_
  refine j_putF (T := TX6) (ci := 3) (ty := .int) B hin in_X6 tyX6 tyX6_ok nmX6 0 rfl rfl 1 (by decide) q243 rfl rfl rfl rfl rfl (Nat.le_of_ble_eq_true rfl) ⟨dX2_init_11, rfl⟩ ?_
  exact j_vretw B hr hQ ⟨dX2_init_14, rfl⟩ rfl
theorem met_X2_init_X3 (l : Launch) (D : va_G) (g : Nat → ClassId) (h : Nat) (n wt x0 x1 x2 x3 : Int32) (sz : Nat) : Met l yX2_init (ws_ yX2_init cX2_init 3 none) rmX2_init (va_Pc [.ref h, .int n, .int wt] (MPre D vwCl (tysG g) [(h, .inr (4, [.int x0, .int x1, .int x2]))] NT sz)) (QcV D vwCl (tysG g) [(h, .inr (4, [.int n, .int wt, .int x2]))] (va_A [(h, .inr (4, [.int x0, .int x1, .int x2]))] sz)) 0 0 (va_A [(h, .inr (4, [.int x0, .int x1, .int x2]))] sz) := by
  refine met_XJ (cw := (id : va_W → va_W)) (w := [(h, .inr (4, [.int x0, .int x1, .int x2]))]) (cc := cX2_init) (lv := [(0, .ref h), (1, .int n), (2, .int wt)]) pnX2 _ (Nat.le_of_ble_eq_true rfl) rfl ?_
  intro p e s m args below meth c R Q A B hN hr hsz hA hmm hRm hQ hAe
  have hin : meth.name = "<init>" := (name_of_methodNamed hmm.1 hmm.2).1
  refine j_aload_n B ⟨dX2_init_0, rfl⟩ 0 rfl ?_
  refine j_objI B q241 q77 q78 (by rw [hRm]; exact ⟨Nat.le_of_ble_eq_true rfl, Nat.le_of_ble_eq_true rfl⟩) (Nat.le_of_ble_eq_true rfl) ⟨dX2_init_1, rfl⟩ ?_
  refine j_aload_n B ⟨dX2_init_4, rfl⟩ 0 rfl ?_
  refine j_iload_n B ⟨dX2_init_5, rfl⟩ 1 rfl ?_
  refine j_putF (T := TX3) (ci := 4) (ty := .int) B hin in_X3 tyX3 tyX3_ok nmX3 0 rfl rfl 0 (by decide) q242 rfl rfl rfl rfl rfl (Nat.le_of_ble_eq_true rfl) ⟨dX2_init_6, rfl⟩ ?_
  refine j_aload_n B ⟨dX2_init_9, rfl⟩ 0 rfl ?_
  refine j_iload_n B ⟨dX2_init_10, rfl⟩ 2 rfl ?_
  refine j_putF (T := TX3) (ci := 4) (ty := .int) B hin in_X3 tyX3 tyX3_ok nmX3 0 rfl rfl 1 (by decide) q243 rfl rfl rfl rfl rfl (Nat.le_of_ble_eq_true rfl) ⟨dX2_init_11, rfl⟩ ?_
  exact j_vretw B hr hQ ⟨dX2_init_14, rfl⟩ rfl
theorem met_X2_init_X4 (l : Launch) (D : va_G) (g : Nat → ClassId) (h : Nat) (n wt x0 x1 x2 x3 : Int32) (sz : Nat) : Met l yX2_init (ws_ yX2_init cX2_init 3 none) rmX2_init (va_Pc [.ref h, .int n, .int wt] (MPre D vwCl (tysG g) [(h, .inr (5, [.int x0, .int x1, .int x2]))] NT sz)) (QcV D vwCl (tysG g) [(h, .inr (5, [.int n, .int wt, .int x2]))] (va_A [(h, .inr (5, [.int x0, .int x1, .int x2]))] sz)) 0 0 (va_A [(h, .inr (5, [.int x0, .int x1, .int x2]))] sz) := by
  refine met_XJ (cw := (id : va_W → va_W)) (w := [(h, .inr (5, [.int x0, .int x1, .int x2]))]) (cc := cX2_init) (lv := [(0, .ref h), (1, .int n), (2, .int wt)]) pnX2 _ (Nat.le_of_ble_eq_true rfl) rfl ?_
  intro p e s m args below meth c R Q A B hN hr hsz hA hmm hRm hQ hAe
  have hin : meth.name = "<init>" := (name_of_methodNamed hmm.1 hmm.2).1
  refine j_aload_n B ⟨dX2_init_0, rfl⟩ 0 rfl ?_
  refine j_objI B q241 q77 q78 (by rw [hRm]; exact ⟨Nat.le_of_ble_eq_true rfl, Nat.le_of_ble_eq_true rfl⟩) (Nat.le_of_ble_eq_true rfl) ⟨dX2_init_1, rfl⟩ ?_
  refine j_aload_n B ⟨dX2_init_4, rfl⟩ 0 rfl ?_
  refine j_iload_n B ⟨dX2_init_5, rfl⟩ 1 rfl ?_
  refine j_putF (T := TX4) (ci := 5) (ty := .int) B hin in_X4 tyX4 tyX4_ok nmX4 0 rfl rfl 0 (by decide) q242 rfl rfl rfl rfl rfl (Nat.le_of_ble_eq_true rfl) ⟨dX2_init_6, rfl⟩ ?_
  refine j_aload_n B ⟨dX2_init_9, rfl⟩ 0 rfl ?_
  refine j_iload_n B ⟨dX2_init_10, rfl⟩ 2 rfl ?_
  refine j_putF (T := TX4) (ci := 5) (ty := .int) B hin in_X4 tyX4 tyX4_ok nmX4 0 rfl rfl 1 (by decide) q243 rfl rfl rfl rfl rfl (Nat.le_of_ble_eq_true rfl) ⟨dX2_init_11, rfl⟩ ?_
  exact j_vretw B hr hQ ⟨dX2_init_14, rfl⟩ rfl
theorem met_X2_init_X5 (l : Launch) (D : va_G) (g : Nat → ClassId) (h : Nat) (n wt x0 x1 x2 x3 : Int32) (sz : Nat) : Met l yX2_init (ws_ yX2_init cX2_init 3 none) rmX2_init (va_Pc [.ref h, .int n, .int wt] (MPre D vwCl (tysG g) [(h, .inr (6, [.int x0, .int x1, .int x2]))] NT sz)) (QcV D vwCl (tysG g) [(h, .inr (6, [.int n, .int wt, .int x2]))] (va_A [(h, .inr (6, [.int x0, .int x1, .int x2]))] sz)) 0 0 (va_A [(h, .inr (6, [.int x0, .int x1, .int x2]))] sz) := by
  refine met_XJ (cw := (id : va_W → va_W)) (w := [(h, .inr (6, [.int x0, .int x1, .int x2]))]) (cc := cX2_init) (lv := [(0, .ref h), (1, .int n), (2, .int wt)]) pnX2 _ (Nat.le_of_ble_eq_true rfl) rfl ?_
  intro p e s m args below meth c R Q A B hN hr hsz hA hmm hRm hQ hAe
  have hin : meth.name = "<init>" := (name_of_methodNamed hmm.1 hmm.2).1
  refine j_aload_n B ⟨dX2_init_0, rfl⟩ 0 rfl ?_
  refine j_objI B q241 q77 q78 (by rw [hRm]; exact ⟨Nat.le_of_ble_eq_true rfl, Nat.le_of_ble_eq_true rfl⟩) (Nat.le_of_ble_eq_true rfl) ⟨dX2_init_1, rfl⟩ ?_
  refine j_aload_n B ⟨dX2_init_4, rfl⟩ 0 rfl ?_
  refine j_iload_n B ⟨dX2_init_5, rfl⟩ 1 rfl ?_
  refine j_putF (T := TX5) (ci := 6) (ty := .int) B hin in_X5 tyX5 tyX5_ok nmX5 0 rfl rfl 0 (by decide) q242 rfl rfl rfl rfl rfl (Nat.le_of_ble_eq_true rfl) ⟨dX2_init_6, rfl⟩ ?_
  refine j_aload_n B ⟨dX2_init_9, rfl⟩ 0 rfl ?_
  refine j_iload_n B ⟨dX2_init_10, rfl⟩ 2 rfl ?_
  refine j_putF (T := TX5) (ci := 6) (ty := .int) B hin in_X5 tyX5 tyX5_ok nmX5 0 rfl rfl 1 (by decide) q243 rfl rfl rfl rfl rfl (Nat.le_of_ble_eq_true rfl) ⟨dX2_init_11, rfl⟩ ?_
  exact j_vretw B hr hQ ⟨dX2_init_14, rfl⟩ rfl
theorem met_X3_init_X3 (l : Launch) (D : va_G) (g : Nat → ClassId) (h : Nat) (n wt x0 x1 x2 x3 : Int32) (sz : Nat) : Met l yX3_init (ws_ yX3_init cX3_init 3 none) rmX3_init (va_Pc [.ref h, .int n, .int wt] (MPre D vwCl (tysG g) [(h, .inr (4, [.int x0, .int x1, .int x2]))] NT sz)) (QcV D vwCl (tysG g) [(h, .inr (4, [.int n, .int wt, .int x2]))] (va_A [(h, .inr (4, [.int x0, .int x1, .int x2]))] sz)) 0 0 (va_A [(h, .inr (4, [.int x0, .int x1, .int x2]))] sz) := by
  refine met_XJ (cw := (id : va_W → va_W)) (w := [(h, .inr (4, [.int x0, .int x1, .int x2]))]) (cc := cX3_init) (lv := [(0, .ref h), (1, .int n), (2, .int wt)]) pnX3 _ (Nat.le_of_ble_eq_true rfl) rfl ?_
  intro p e s m args below meth c R Q A B hN hr hsz hA hmm hRm hQ hAe
  have hin : meth.name = "<init>" := (name_of_methodNamed hmm.1 hmm.2).1
  refine j_aload_n B ⟨dX3_init_0, rfl⟩ 0 rfl ?_
  refine j_iload_n B ⟨dX3_init_1, rfl⟩ 1 rfl ?_
  refine j_iload_n B ⟨dX3_init_2, rfl⟩ 2 rfl ?_
  refine j_frv (cw' := (id : va_W → va_W)) (w' := fun _ => [(h, .inr (4, [.int n, .int wt, .int x2]))]) (rest := []) (sub := [(h, .inr (4, [.int x0, .int x1, .int x2]))]) (f := fun (_ : Unit) => [(h, .inr (4, [.int n, .int wt, .int x2]))]) B hA rfl (List.Perm.refl _) (fun _ _ => List.Perm.refl _) (run_I (As := [.int n, .int wt]) B (met_X2_init_X3 l D g h n wt x0 x1 x2 x3) NT_ok pkX2_init q238 rfl rfl hRm ⟨Nat.le_of_ble_eq_true rfl, Nat.le_of_ble_eq_true rfl⟩ rfl (Nat.le_of_ble_eq_true rfl) ⟨Nat.zero_le _, Nat.zero_le _⟩ dX3_init_3) (fun _ _ => ?_)
  exact j_vretw B hr hQ ⟨dX3_init_6, rfl⟩ rfl
theorem met_X3_init_X4 (l : Launch) (D : va_G) (g : Nat → ClassId) (h : Nat) (n wt x0 x1 x2 x3 : Int32) (sz : Nat) : Met l yX3_init (ws_ yX3_init cX3_init 3 none) rmX3_init (va_Pc [.ref h, .int n, .int wt] (MPre D vwCl (tysG g) [(h, .inr (5, [.int x0, .int x1, .int x2]))] NT sz)) (QcV D vwCl (tysG g) [(h, .inr (5, [.int n, .int wt, .int x2]))] (va_A [(h, .inr (5, [.int x0, .int x1, .int x2]))] sz)) 0 0 (va_A [(h, .inr (5, [.int x0, .int x1, .int x2]))] sz) := by
  refine met_XJ (cw := (id : va_W → va_W)) (w := [(h, .inr (5, [.int x0, .int x1, .int x2]))]) (cc := cX3_init) (lv := [(0, .ref h), (1, .int n), (2, .int wt)]) pnX3 _ (Nat.le_of_ble_eq_true rfl) rfl ?_
  intro p e s m args below meth c R Q A B hN hr hsz hA hmm hRm hQ hAe
  have hin : meth.name = "<init>" := (name_of_methodNamed hmm.1 hmm.2).1
  refine j_aload_n B ⟨dX3_init_0, rfl⟩ 0 rfl ?_
  refine j_iload_n B ⟨dX3_init_1, rfl⟩ 1 rfl ?_
  refine j_iload_n B ⟨dX3_init_2, rfl⟩ 2 rfl ?_
  refine j_frv (cw' := (id : va_W → va_W)) (w' := fun _ => [(h, .inr (5, [.int n, .int wt, .int x2]))]) (rest := []) (sub := [(h, .inr (5, [.int x0, .int x1, .int x2]))]) (f := fun (_ : Unit) => [(h, .inr (5, [.int n, .int wt, .int x2]))]) B hA rfl (List.Perm.refl _) (fun _ _ => List.Perm.refl _) (run_I (As := [.int n, .int wt]) B (met_X2_init_X4 l D g h n wt x0 x1 x2 x3) NT_ok pkX2_init q238 rfl rfl hRm ⟨Nat.le_of_ble_eq_true rfl, Nat.le_of_ble_eq_true rfl⟩ rfl (Nat.le_of_ble_eq_true rfl) ⟨Nat.zero_le _, Nat.zero_le _⟩ dX3_init_3) (fun _ _ => ?_)
  exact j_vretw B hr hQ ⟨dX3_init_6, rfl⟩ rfl
theorem met_X3_init_X5 (l : Launch) (D : va_G) (g : Nat → ClassId) (h : Nat) (n wt x0 x1 x2 x3 : Int32) (sz : Nat) : Met l yX3_init (ws_ yX3_init cX3_init 3 none) rmX3_init (va_Pc [.ref h, .int n, .int wt] (MPre D vwCl (tysG g) [(h, .inr (6, [.int x0, .int x1, .int x2]))] NT sz)) (QcV D vwCl (tysG g) [(h, .inr (6, [.int n, .int wt, .int x2]))] (va_A [(h, .inr (6, [.int x0, .int x1, .int x2]))] sz)) 0 0 (va_A [(h, .inr (6, [.int x0, .int x1, .int x2]))] sz) := by
  refine met_XJ (cw := (id : va_W → va_W)) (w := [(h, .inr (6, [.int x0, .int x1, .int x2]))]) (cc := cX3_init) (lv := [(0, .ref h), (1, .int n), (2, .int wt)]) pnX3 _ (Nat.le_of_ble_eq_true rfl) rfl ?_
  intro p e s m args below meth c R Q A B hN hr hsz hA hmm hRm hQ hAe
  have hin : meth.name = "<init>" := (name_of_methodNamed hmm.1 hmm.2).1
  refine j_aload_n B ⟨dX3_init_0, rfl⟩ 0 rfl ?_
  refine j_iload_n B ⟨dX3_init_1, rfl⟩ 1 rfl ?_
  refine j_iload_n B ⟨dX3_init_2, rfl⟩ 2 rfl ?_
  refine j_frv (cw' := (id : va_W → va_W)) (w' := fun _ => [(h, .inr (6, [.int n, .int wt, .int x2]))]) (rest := []) (sub := [(h, .inr (6, [.int x0, .int x1, .int x2]))]) (f := fun (_ : Unit) => [(h, .inr (6, [.int n, .int wt, .int x2]))]) B hA rfl (List.Perm.refl _) (fun _ _ => List.Perm.refl _) (run_I (As := [.int n, .int wt]) B (met_X2_init_X5 l D g h n wt x0 x1 x2 x3) NT_ok pkX2_init q238 rfl rfl hRm ⟨Nat.le_of_ble_eq_true rfl, Nat.le_of_ble_eq_true rfl⟩ rfl (Nat.le_of_ble_eq_true rfl) ⟨Nat.zero_le _, Nat.zero_le _⟩ dX3_init_3) (fun _ _ => ?_)
  exact j_vretw B hr hQ ⟨dX3_init_6, rfl⟩ rfl
theorem met_X4_init_X4 (l : Launch) (D : va_G) (g : Nat → ClassId) (h : Nat) (n wt x0 x1 x2 x3 : Int32) (sz : Nat) : Met l yX4_init (ws_ yX4_init cX4_init 3 none) rmX4_init (va_Pc [.ref h, .int n, .int wt] (MPre D vwCl (tysG g) [(h, .inr (5, [.int x0, .int x1, .int x2]))] NT sz)) (QcV D vwCl (tysG g) [(h, .inr (5, [.int n, .int wt, .int x2]))] (va_A [(h, .inr (5, [.int x0, .int x1, .int x2]))] sz)) 0 0 (va_A [(h, .inr (5, [.int x0, .int x1, .int x2]))] sz) := by
  refine met_XJ (cw := (id : va_W → va_W)) (w := [(h, .inr (5, [.int x0, .int x1, .int x2]))]) (cc := cX4_init) (lv := [(0, .ref h), (1, .int n), (2, .int wt)]) pnX4 _ (Nat.le_of_ble_eq_true rfl) rfl ?_
  intro p e s m args below meth c R Q A B hN hr hsz hA hmm hRm hQ hAe
  have hin : meth.name = "<init>" := (name_of_methodNamed hmm.1 hmm.2).1
  refine j_aload_n B ⟨dX4_init_0, rfl⟩ 0 rfl ?_
  refine j_iload_n B ⟨dX4_init_1, rfl⟩ 1 rfl ?_
  refine j_iload_n B ⟨dX4_init_2, rfl⟩ 2 rfl ?_
  refine j_frv (cw' := (id : va_W → va_W)) (w' := fun _ => [(h, .inr (5, [.int n, .int wt, .int x2]))]) (rest := []) (sub := [(h, .inr (5, [.int x0, .int x1, .int x2]))]) (f := fun (_ : Unit) => [(h, .inr (5, [.int n, .int wt, .int x2]))]) B hA rfl (List.Perm.refl _) (fun _ _ => List.Perm.refl _) (run_I (As := [.int n, .int wt]) B (met_X3_init_X4 l D g h n wt x0 x1 x2 x3) NT_ok pkX3_init q259 rfl rfl hRm ⟨Nat.le_of_ble_eq_true rfl, Nat.le_of_ble_eq_true rfl⟩ rfl (Nat.le_of_ble_eq_true rfl) ⟨Nat.zero_le _, Nat.zero_le _⟩ dX4_init_3) (fun _ _ => ?_)
  exact j_vretw B hr hQ ⟨dX4_init_6, rfl⟩ rfl
theorem met_X5_init_X5 (l : Launch) (D : va_G) (g : Nat → ClassId) (h : Nat) (n wt x0 x1 x2 x3 : Int32) (sz : Nat) : Met l yX5_init (ws_ yX5_init cX5_init 3 none) rmX5_init (va_Pc [.ref h, .int n, .int wt] (MPre D vwCl (tysG g) [(h, .inr (6, [.int x0, .int x1, .int x2]))] NT sz)) (QcV D vwCl (tysG g) [(h, .inr (6, [.int n, .int wt, .int x2]))] (va_A [(h, .inr (6, [.int x0, .int x1, .int x2]))] sz)) 0 0 (va_A [(h, .inr (6, [.int x0, .int x1, .int x2]))] sz) := by
  refine met_XJ (cw := (id : va_W → va_W)) (w := [(h, .inr (6, [.int x0, .int x1, .int x2]))]) (cc := cX5_init) (lv := [(0, .ref h), (1, .int n), (2, .int wt)]) pnX5 _ (Nat.le_of_ble_eq_true rfl) rfl ?_
  intro p e s m args below meth c R Q A B hN hr hsz hA hmm hRm hQ hAe
  have hin : meth.name = "<init>" := (name_of_methodNamed hmm.1 hmm.2).1
  refine j_aload_n B ⟨dX5_init_0, rfl⟩ 0 rfl ?_
  refine j_iload_n B ⟨dX5_init_1, rfl⟩ 1 rfl ?_
  refine j_iload_n B ⟨dX5_init_2, rfl⟩ 2 rfl ?_
  refine j_frv (cw' := (id : va_W → va_W)) (w' := fun _ => [(h, .inr (6, [.int n, .int wt, .int x2]))]) (rest := []) (sub := [(h, .inr (6, [.int x0, .int x1, .int x2]))]) (f := fun (_ : Unit) => [(h, .inr (6, [.int n, .int wt, .int x2]))]) B hA rfl (List.Perm.refl _) (fun _ _ => List.Perm.refl _) (run_I (As := [.int n, .int wt]) B (met_X3_init_X5 l D g h n wt x0 x1 x2 x3) NT_ok pkX3_init q269 rfl rfl hRm ⟨Nat.le_of_ble_eq_true rfl, Nat.le_of_ble_eq_true rfl⟩ rfl (Nat.le_of_ble_eq_true rfl) ⟨Nat.zero_le _, Nat.zero_le _⟩ dX5_init_3) (fun _ _ => ?_)
  exact j_vretw B hr hQ ⟨dX5_init_6, rfl⟩ rfl
theorem met_X6_init_X6 (l : Launch) (D : va_G) (g : Nat → ClassId) (h : Nat) (n wt sd x0 x1 x2 x3 : Int32) (sz : Nat) : Met l yX6_init (ws_ yX6_init cX6_init 4 none) rmX6_init (va_Pc [.ref h, .int n, .int wt, .int sd] (MPre D vwCl (tysG g) [(h, .inr (3, [.int x0, .int x1, .int x2, .int x3]))] NT sz)) (QcV D vwCl (tysG g) [(h, .inr (3, [.int n, .int wt, .int x2, .int sd]))] (va_A [(h, .inr (3, [.int x0, .int x1, .int x2, .int x3]))] sz)) 0 0 (va_A [(h, .inr (3, [.int x0, .int x1, .int x2, .int x3]))] sz) := by
  refine met_XJ (cw := (id : va_W → va_W)) (w := [(h, .inr (3, [.int x0, .int x1, .int x2, .int x3]))]) (cc := cX6_init) (lv := [(0, .ref h), (1, .int n), (2, .int wt), (3, .int sd)]) pnX6 _ (Nat.le_of_ble_eq_true rfl) rfl ?_
  intro p e s m args below meth c R Q A B hN hr hsz hA hmm hRm hQ hAe
  have hin : meth.name = "<init>" := (name_of_methodNamed hmm.1 hmm.2).1
  refine j_aload_n B ⟨dX6_init_0, rfl⟩ 0 rfl ?_
  refine j_iload_n B ⟨dX6_init_1, rfl⟩ 1 rfl ?_
  refine j_iload_n B ⟨dX6_init_2, rfl⟩ 2 rfl ?_
  refine j_frv (cw' := (id : va_W → va_W)) (w' := fun _ => [(h, .inr (3, [.int n, .int wt, .int x2, .int x3]))]) (rest := []) (sub := [(h, .inr (3, [.int x0, .int x1, .int x2, .int x3]))]) (f := fun (_ : Unit) => [(h, .inr (3, [.int n, .int wt, .int x2, .int x3]))]) B hA rfl (List.Perm.refl _) (fun _ _ => List.Perm.refl _) (run_I (As := [.int n, .int wt]) B (met_X2_init_X6 l D g h n wt x0 x1 x2 x3) NT_ok pkX2_init q279 rfl rfl hRm ⟨Nat.le_of_ble_eq_true rfl, Nat.le_of_ble_eq_true rfl⟩ rfl (Nat.le_of_ble_eq_true rfl) ⟨Nat.zero_le _, Nat.zero_le _⟩ dX6_init_3) (fun _ _ => ?_)
  refine j_aload_n B ⟨dX6_init_6, rfl⟩ 0 rfl ?_
  refine j_iload_n B ⟨dX6_init_7, rfl⟩ 3 rfl ?_
  refine j_putF (T := TX6) (ci := 3) (ty := .int) B hin in_X6 tyX6 tyX6_ok nmX6 0 rfl rfl 3 (by decide) q280 rfl rfl rfl rfl rfl (Nat.le_of_ble_eq_true rfl) ⟨dX6_init_8, rfl⟩ ?_
  exact j_vretw B hr hQ ⟨dX6_init_11, rfl⟩ rfl
