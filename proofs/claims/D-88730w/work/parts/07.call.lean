/-! contracts over a world: before, behind; a method's entry, its ends, calls -/
def MPre (D : va_G) (cl : List vw_C) (tys : List (ClassId × FieldType)) (ws : va_W) (NX : Nat → State → Prop) (sz : Nat) (U : State) : Prop := U.heap.size = sz ∧ va_P D cl ws U.heap ∧ va_K D cl tys U ∧ va_D (fun _ => True) ws ∧ NX sz U
def MPost (D : va_G) (cl : List vw_C) (tys : List (ClassId × FieldType)) (ws : va_W) (A : Nat → Prop) (t : State) : Prop := va_P D cl ws t.heap ∧ va_K D cl tys t ∧ va_D A ws
abbrev QcI (D : va_G) (cl : List vw_C) (tys : List (ClassId × FieldType)) (ws : va_W) (r : Int32) (A : Nat → Prop) : Array Value → State → Outcome → State → Prop := va_Qi (fun (x : Int32) (_ : Unit) => x = r) (fun _ t => MPost D cl tys ws A t) A
abbrev QcL (D : va_G) (cl : List vw_C) (tys : List (ClassId × FieldType)) (ws : va_W) (r : Int64) (A : Nat → Prop) : Array Value → State → Outcome → State → Prop := va_Ql (fun (x : Int64) (_ : Unit) => x = r) (fun _ t => MPost D cl tys ws A t) A
abbrev QcV (D : va_G) (cl : List vw_C) (tys : List (ClassId × FieldType)) (ws : va_W) (A : Nat → Prop) : Array Value → State → Outcome → State → Prop := va_Qv (fun (_ : Unit) => True) (fun _ t => MPost D cl tys ws A t) A
def NT (_ : Nat) (_ : State) : Prop := True
def PkV (y : MethodName) (C : String) (bytes : ByteArray) (maxL : Nat) (ret : Option FieldType) (n : Nat) : Prop := Cond.instanceMethod y ∈ lw_all ∧ Cond.selects C y y ∈ lw_all ∧ Cond.initialized C ∈ lw_all ∧ Cond.code y bytes maxL ret ∈ lw_all ∧ y.cls = C ∧ y.cls ≠ "java/lang/invoke/MethodHandle" ∧ y.cls ≠ "java/lang/invoke/VarHandle" ∧ (parseMethodDescriptor y.desc).map (fun d => d.parameters.length) = some n
def PkS (y : MethodName) (bytes : ByteArray) (maxL : Nat) (ret : Option FieldType) (n : Nat) : Prop := Cond.static y ∈ lw_all ∧ Cond.initialized y.cls ∈ lw_all ∧ Cond.code y bytes maxL ret ∈ lw_all ∧ y.cls ≠ "java/lang/invoke/MethodHandle" ∧ y.cls ≠ "java/lang/invoke/VarHandle" ∧ (parseMethodDescriptor y.desc).map (fun d => d.parameters.length) = some n
def NXok (NX : Nat → State → Prop) (A : Nat → Prop) (s : State) (ws : va_W) : Prop := (∀ (sz : Nat) (U : State) (g : JFrame) (mk : MethodId) (a : Array Value), NX sz U → NX sz (U.calling g mk a)) ∧ ∀ (H : Heap) (locs : List Loc) (U : State), va_S A s.heap H locs → (∀ q, va_A ws H.size q → A q) → U.heap = H → s.WarmedH U.vm → NX H.size U
theorem NT_ok {A : Nat → Prop} {s : State} {ws : va_W} : NXok NT A s ws := ⟨fun _ _ _ _ _ _ => trivial, fun _ _ _ _ _ _ _ => trivial⟩
section XJC
variable {p : Program} {l : Launch} {e : Env} {R : Room} {s : State} {m : MethodId} {args : Array Value} {below : List Frame} {meth : Method} {c : Code} {cells slots : Nat} {Q : State → Prop} {A : Nat → Prop} {D : va_G} {cl : List vw_C} {tys : List (ClassId × FieldType)} {σ : Type} {cw : σ → va_W} {nL : Nat} {cc : ByteArray} {own : String}
variable {w w0 : σ} {pc pc' tgt : Nat} {lv : List (Nat × Value)} {st : List Value} {ρ : Type} {res : ρ}
theorem met_XJ {y : MethodName} {maxL : Nat} {ret : Option FieldType} {rm : Room} {QcA : (Nat → Prop) → Array Value → State → Outcome → State → Prop} {mc ms : Nat} {NX : Nat → State → Prop} {sz : Nat} (hy : plainName y.cls = true) (vs : List Value) (hv : (lg_sl vs).length ≤ maxL) (hlv : lv_args 0 vs = lv)
    (body : ∀ (p : Program) (e : Env) (s : State) (m : MethodId) (args : Array Value) (below : List Frame) (meth : Method) (c : Code) (R : Room) (Q : State → Prop) (A : Nat → Prop), Bd p s m args meth c cc maxL y.cls D cl tys → NX s.heap.size s → meth.sig.returnType = ret → s.heap.size = sz → (∀ q, s.heap.size ≤ q → A q) → (s.methodNamed? y = some m ∧ s.vm.method? m = some meth) → R = rm → Q = MQ below (QcA A) args s mc ms A → A = va_A (cw w) sz → XJ p l e R s m args below meth c 0 0 Q A D cl cw maxL w 0 lv []) :
    Met l y (ws_ y cc maxL ret) rm (va_Pc vs (MPre D cl tys (cw w) NX sz)) (QcA (va_A (cw w) sz)) mc ms (va_A (cw w) sz) := by
  refine Met.ofW (cc := cc) (maxL := maxL) (ret := ret) hy rfl ?_
  intro p e s m args below meth c s₁ B hml hv0
  obtain ⟨rfl, hsz, hP, hK, hD0, hN⟩ := hv0
  have hts := atoms_spec (ws := ws_ y cc maxL ret) B.pre
  have hts : ∀ w ∈ lw_all, w.before _ s = true := fun w h => hts w (List.mem_cons_of_mem _ h)
  have hown : s.vm.findClass y.cls = some m.cls := findClass_of_methodNamed B.named
  have hl := lv_entry vs (n := maxL) hv
  rw [lg_entry_eq]
  generalize (lg_sl vs ++ List.replicate (maxL - (lg_sl vs).length) Slot.unset).toArray = ls at hl ⊢
  rw [hlv] at hl
  exact body p e s m vs.toArray below meth c rm _ _ ⟨B.exec, B.bytes, hml, hown, hts, hK, B.notSynchronized⟩ (by rw [hsz]; exact hN) B.returns hsz (fun q h => Or.inr (by rw [← hsz]; exact h)) ⟨B.named, B.method⟩ rfl rfl rfl s.heap [] ls hP hD0.self va_S.rf hl
theorem j_iret (B : Bd p s m args meth c cc nL own D cl tys) {x r : Int32} (hr : meth.sig.returnType = some .int) (hQ : Q = MQ below (QcI D cl tys (cw w) r A) args s cells slots A) (hd : D1 cc pc .ireturn pc') (ho : some x = some r) : XJ p l e R s m args below meth c cells slots Q A D cl cw nL w pc lv [.int x] := by
  subst hQ
  cases ho
  obtain ⟨hd, rfl⟩ := hd
  exact fun H locs ls hP hD hS hl => W.iret B.1 B.2.1 hr (fun t ht hW => ⟨⟨x, (), rfl, rfl, by rw [ht]; exact hP, va_K.moved hW.alike B.2.2.2.2.2.1, hD⟩, hS.F ht⟩) hS.2.2 hd B.2.2.2.2.2.2
theorem j_iretw (B : Bd p s m args meth c cc nL own D cl tys) {x r : Int32} {w' : σ} (hr : meth.sig.returnType = some .int) (hQ : Q = MQ below (QcI D cl tys (cw w') r A) args s cells slots A) (hd : D1 cc pc .ireturn pc') (ho : some (x, w) = some (r, w')) : XJ p l e R s m args below meth c cells slots Q A D cl cw nL w pc lv [.int x] := by
  subst hQ
  cases ho
  obtain ⟨hd, rfl⟩ := hd
  exact fun H locs ls hP hD hS hl => W.iret B.1 B.2.1 hr (fun t ht hW => ⟨⟨x, (), rfl, rfl, by rw [ht]; exact hP, va_K.moved hW.alike B.2.2.2.2.2.1, hD⟩, hS.F ht⟩) hS.2.2 hd B.2.2.2.2.2.2
theorem j_zret (B : Bd p s m args meth c cc nL own D cl tys) {x r : Int32} (hr : meth.sig.returnType = some .boolean) (hb : isB x = true) (hQ : Q = MQ below (QcI D cl tys (cw w) r A) args s cells slots A) (hd : D1 cc pc .ireturn pc') (ho : some x = some r) : XJ p l e R s m args below meth c cells slots Q A D cl cw nL w pc lv [.int x] := by
  subst hQ
  cases ho
  obtain ⟨hd, rfl⟩ := hd
  exact fun H locs ls hP hD hS hl => W.zret B.1 B.2.1 hr (isB_n hb).1 (fun t ht hW => ⟨⟨x, (), rfl, rfl, by rw [ht]; exact hP, va_K.moved hW.alike B.2.2.2.2.2.1, hD⟩, hS.F ht⟩) hS.2.2 hd B.2.2.2.2.2.2
theorem j_zretw (B : Bd p s m args meth c cc nL own D cl tys) {x r : Int32} {w' : σ} (hr : meth.sig.returnType = some .boolean) (hb : isB x = true) (hQ : Q = MQ below (QcI D cl tys (cw w') r A) args s cells slots A) (hd : D1 cc pc .ireturn pc') (ho : some (x, w) = some (r, w')) : XJ p l e R s m args below meth c cells slots Q A D cl cw nL w pc lv [.int x] := by
  subst hQ
  cases ho
  obtain ⟨hd, rfl⟩ := hd
  exact fun H locs ls hP hD hS hl => W.zret B.1 B.2.1 hr (isB_n hb).1 (fun t ht hW => ⟨⟨x, (), rfl, rfl, by rw [ht]; exact hP, va_K.moved hW.alike B.2.2.2.2.2.1, hD⟩, hS.F ht⟩) hS.2.2 hd B.2.2.2.2.2.2
theorem j_lret (B : Bd p s m args meth c cc nL own D cl tys) {x r : Int64} (hr : meth.sig.returnType = some .long) (hQ : Q = MQ below (QcL D cl tys (cw w) r A) args s cells slots A) (hd : D1 cc pc .lreturn pc') (ho : some x = some r) : XJ p l e R s m args below meth c cells slots Q A D cl cw nL w pc lv [.long x] := by
  subst hQ
  cases ho
  obtain ⟨hd, rfl⟩ := hd
  exact fun H locs ls hP hD hS hl => W.lret B.1 B.2.1 hr (fun t ht hW => ⟨⟨x, (), rfl, rfl, by rw [ht]; exact hP, va_K.moved hW.alike B.2.2.2.2.2.1, hD⟩, hS.F ht⟩) hS.2.2 hd B.2.2.2.2.2.2
theorem j_lretw (B : Bd p s m args meth c cc nL own D cl tys) {x r : Int64} {w' : σ} (hr : meth.sig.returnType = some .long) (hQ : Q = MQ below (QcL D cl tys (cw w') r A) args s cells slots A) (hd : D1 cc pc .lreturn pc') (ho : some (x, w) = some (r, w')) : XJ p l e R s m args below meth c cells slots Q A D cl cw nL w pc lv [.long x] := by
  subst hQ
  cases ho
  obtain ⟨hd, rfl⟩ := hd
  exact fun H locs ls hP hD hS hl => W.lret B.1 B.2.1 hr (fun t ht hW => ⟨⟨x, (), rfl, rfl, by rw [ht]; exact hP, va_K.moved hW.alike B.2.2.2.2.2.1, hD⟩, hS.F ht⟩) hS.2.2 hd B.2.2.2.2.2.2
theorem j_vretw (B : Bd p s m args meth c cc nL own D cl tys) {w' : σ} (hr : meth.sig.returnType = none) (hQ : Q = MQ below (QcV D cl tys (cw w') A) args s cells slots A) (hd : D1 cc pc .return_ pc') (ho : some w = some w') : XJ p l e R s m args below meth c cells slots Q A D cl cw nL w pc lv [] := by
  subst hQ
  cases ho
  obtain ⟨hd, rfl⟩ := hd
  exact fun H locs ls hP hD hS hl => W.vret B.1 B.2.1 hr (fun t ht hW => ⟨⟨(), rfl, trivial, by rw [ht]; exact hP, va_K.moved hW.alike B.2.2.2.2.2.1, hD⟩, hS.F ht⟩) hS.2.2 hd B.2.2.2.2.2.2
theorem j_callVi (B : Bd p s m args meth c cc nL own D cl tys) (hA : ∀ q, s.heap.size ≤ q → A q) {y : MethodName} {bytes : ByteArray} {maxL n index : Nat} {ret : Option FieldType} {rm rmc : Room} {C : String} {T : u_T} {N ci : Nat} {fs : List Value} {b : Nat} {As : List Value} {stk : List Value} {o : Option Int32} {f : Int32 → Option ρ} {NX : Nat → State → Prop}
    (hM : ∀ (sz : Nat) (r : Int32), o = some r → Met l y (ws_ y bytes maxL ret) rm (va_Pc (.ref b :: As) (MPre D cl tys (cw w) NX sz)) (QcI D cl tys (cw w) r (va_A (cw w) sz)) 0 0 (va_A (cw w) sz))
    (hNX : NXok NX A s (cw w)) (pk : PkV y C bytes maxL ret n) (hlk : Cond.methodLink own index y ∈ lw_all) (q0 : Nat) (he : (cw w)[q0]? = some (b, .inr (ci, fs))) (hcl : cl[ci]? = some (C, T, N)) (hrc : rm.cells = 0) (hrs : rm.slots = 0) (hRm : R = rmc) (hR : rm.frames + 1 ≤ rmc.frames ∧ 8 + (maxL + 11) + rm.locals ≤ rmc.locals) (hn : As.length = n) (hst : stk = As.reverse ++ .ref b :: st) (hroom : (st.map fun v => v.category).sum ≤ 8) (hcs : cells ≤ R.cells ∧ slots ≤ R.slots) (hd : D3 cc pc (.invokevirtual index) pc') (ho : bd o f = some res) (k : ∀ (r : Int32), f r = some res → XJ p l e R s m args below meth c cells slots Q A D cl cw nL w pc' lv (.int r :: st)) : XJ p l e R s m args below meth c cells slots Q A D cl cw nL w pc lv stk := by
  obtain ⟨hd, rfl⟩ := hd
  subst hst
  subst hRm
  obtain ⟨r, ho1, ho⟩ := bd_e ho
  intro H locs ls hP hD hS hl
  have hF : ∀ q, va_A (cw w) H.size q → A q := by
    intro q h
    rcases h with ⟨k, e, h⟩ | h
    · exact hD.2 k (q, e) h
    · exact hA q (Nat.le_trans hS.1 h)
  exact va_calli (va_runV (As := As) (rest := st) ⟨B.1, B.2.1, B.2.2.1, B.2.2.2.1, B.2.2.2.2.1⟩ (hM H.size r ho1) (cwV n B.2.2.2.2.1 (lw_V hlk pk.1 pk.2.1 pk.2.2.1 pk.2.2.2.1) rfl hrc hrs pk.2.2.2.2 hR) ⟨fun a U g mk q => ⟨q.1, q.2.1, q.2.2.1, va_K.moved (u := U) (U := U.calling g mk a) (Vm.Alike.refl U.vm) q.2.2.2.1, q.2.2.2.2.1, hNX.1 _ _ _ _ _ q.2.2.2.2.2⟩, va_recv B.2.2.2.2.2.1 hP hcl he, fun U hU hW => ⟨rfl, by rw [hU], by rw [hU]; exact hP, va_K.moved hW.alike B.2.2.2.2.2.1, hD.weaken (fun _ _ _ _ => trivial), hNX.2 H locs U hS hF hU hW⟩⟩ rfl hn hl.1 rfl (lv_room hroom) hd hcs) hS (fun q _ h => hF q h) hF (fun r1 u t H1 locs1 ht hvm hw1 hB hz1 hk1 hS1 => hw1 ▸ k r ho H1 locs1 ls (by rw [← ht]; exact hB.1) (hB.2.2.weaken (fun _ _ _ h => hF _ h)) hS1 hl)
theorem j_callViw (B : Bd p s m args meth c cc nL own D cl tys) (hA : ∀ q, s.heap.size ≤ q → A q) {y : MethodName} {bytes : ByteArray} {maxL n index : Nat} {ret : Option FieldType} {rm rmc : Room} {C : String} {T : u_T} {N ci : Nat} {fs : List Value} {b : Nat} {As : List Value} {stk : List Value} {o : Option (Int32 × σ)} {f : Int32 → σ → Option ρ} {NX : Nat → State → Prop}
    (hM : ∀ (sz : Nat) (r : Int32) (w' : σ), o = some (r, w') → Met l y (ws_ y bytes maxL ret) rm (va_Pc (.ref b :: As) (MPre D cl tys (cw w) NX sz)) (QcI D cl tys (cw w') r (va_A (cw w) sz)) 0 0 (va_A (cw w) sz))
    (hNX : NXok NX A s (cw w)) (pk : PkV y C bytes maxL ret n) (hlk : Cond.methodLink own index y ∈ lw_all) (q0 : Nat) (he : (cw w)[q0]? = some (b, .inr (ci, fs))) (hcl : cl[ci]? = some (C, T, N)) (hrc : rm.cells = 0) (hrs : rm.slots = 0) (hRm : R = rmc) (hR : rm.frames + 1 ≤ rmc.frames ∧ 8 + (maxL + 11) + rm.locals ≤ rmc.locals) (hn : As.length = n) (hst : stk = As.reverse ++ .ref b :: st) (hroom : (st.map fun v => v.category).sum ≤ 8) (hcs : cells ≤ R.cells ∧ slots ≤ R.slots) (hd : D3 cc pc (.invokevirtual index) pc') (ho : bd2 o f = some res) (k : ∀ (r : Int32) (w' : σ), f r w' = some res → XJ p l e R s m args below meth c cells slots Q A D cl cw nL w' pc' lv (.int r :: st)) : XJ p l e R s m args below meth c cells slots Q A D cl cw nL w pc lv stk := by
  obtain ⟨hd, rfl⟩ := hd
  subst hst
  subst hRm
  obtain ⟨r, w', ho1, ho⟩ := bd2_e ho
  intro H locs ls hP hD hS hl
  have hF : ∀ q, va_A (cw w) H.size q → A q := by
    intro q h
    rcases h with ⟨k, e, h⟩ | h
    · exact hD.2 k (q, e) h
    · exact hA q (Nat.le_trans hS.1 h)
  exact va_calli (va_runV (As := As) (rest := st) ⟨B.1, B.2.1, B.2.2.1, B.2.2.2.1, B.2.2.2.2.1⟩ (hM H.size r w' ho1) (cwV n B.2.2.2.2.1 (lw_V hlk pk.1 pk.2.1 pk.2.2.1 pk.2.2.2.1) rfl hrc hrs pk.2.2.2.2 hR) ⟨fun a U g mk q => ⟨q.1, q.2.1, q.2.2.1, va_K.moved (u := U) (U := U.calling g mk a) (Vm.Alike.refl U.vm) q.2.2.2.1, q.2.2.2.2.1, hNX.1 _ _ _ _ _ q.2.2.2.2.2⟩, va_recv B.2.2.2.2.2.1 hP hcl he, fun U hU hW => ⟨rfl, by rw [hU], by rw [hU]; exact hP, va_K.moved hW.alike B.2.2.2.2.2.1, hD.weaken (fun _ _ _ _ => trivial), hNX.2 H locs U hS hF hU hW⟩⟩ rfl hn hl.1 rfl (lv_room hroom) hd hcs) hS (fun q _ h => hF q h) hF (fun r1 u t H1 locs1 ht hvm hw1 hB hz1 hk1 hS1 => hw1 ▸ k r w' ho H1 locs1 ls (by rw [← ht]; exact hB.1) (hB.2.2.weaken (fun _ _ _ h => hF _ h)) hS1 hl)
theorem j_callVl (B : Bd p s m args meth c cc nL own D cl tys) (hA : ∀ q, s.heap.size ≤ q → A q) {y : MethodName} {bytes : ByteArray} {maxL n index : Nat} {ret : Option FieldType} {rm rmc : Room} {C : String} {T : u_T} {N ci : Nat} {fs : List Value} {b : Nat} {As : List Value} {stk : List Value} {o : Option Int64} {f : Int64 → Option ρ} {NX : Nat → State → Prop}
    (hM : ∀ (sz : Nat) (r : Int64), o = some r → Met l y (ws_ y bytes maxL ret) rm (va_Pc (.ref b :: As) (MPre D cl tys (cw w) NX sz)) (QcL D cl tys (cw w) r (va_A (cw w) sz)) 0 0 (va_A (cw w) sz))
    (hNX : NXok NX A s (cw w)) (pk : PkV y C bytes maxL ret n) (hlk : Cond.methodLink own index y ∈ lw_all) (q0 : Nat) (he : (cw w)[q0]? = some (b, .inr (ci, fs))) (hcl : cl[ci]? = some (C, T, N)) (hrc : rm.cells = 0) (hrs : rm.slots = 0) (hRm : R = rmc) (hR : rm.frames + 1 ≤ rmc.frames ∧ 8 + (maxL + 11) + rm.locals ≤ rmc.locals) (hn : As.length = n) (hst : stk = As.reverse ++ .ref b :: st) (hroom : (st.map fun v => v.category).sum ≤ 8) (hcs : cells ≤ R.cells ∧ slots ≤ R.slots) (hd : D3 cc pc (.invokevirtual index) pc') (ho : bd o f = some res) (k : ∀ (r : Int64), f r = some res → XJ p l e R s m args below meth c cells slots Q A D cl cw nL w pc' lv (.long r :: st)) : XJ p l e R s m args below meth c cells slots Q A D cl cw nL w pc lv stk := by
  obtain ⟨hd, rfl⟩ := hd
  subst hst
  subst hRm
  obtain ⟨r, ho1, ho⟩ := bd_e ho
  intro H locs ls hP hD hS hl
  have hF : ∀ q, va_A (cw w) H.size q → A q := by
    intro q h
    rcases h with ⟨k, e, h⟩ | h
    · exact hD.2 k (q, e) h
    · exact hA q (Nat.le_trans hS.1 h)
  exact va_calll (va_runV (As := As) (rest := st) ⟨B.1, B.2.1, B.2.2.1, B.2.2.2.1, B.2.2.2.2.1⟩ (hM H.size r ho1) (cwV n B.2.2.2.2.1 (lw_V hlk pk.1 pk.2.1 pk.2.2.1 pk.2.2.2.1) rfl hrc hrs pk.2.2.2.2 hR) ⟨fun a U g mk q => ⟨q.1, q.2.1, q.2.2.1, va_K.moved (u := U) (U := U.calling g mk a) (Vm.Alike.refl U.vm) q.2.2.2.1, q.2.2.2.2.1, hNX.1 _ _ _ _ _ q.2.2.2.2.2⟩, va_recv B.2.2.2.2.2.1 hP hcl he, fun U hU hW => ⟨rfl, by rw [hU], by rw [hU]; exact hP, va_K.moved hW.alike B.2.2.2.2.2.1, hD.weaken (fun _ _ _ _ => trivial), hNX.2 H locs U hS hF hU hW⟩⟩ rfl hn hl.1 rfl (lv_room hroom) hd hcs) hS (fun q _ h => hF q h) hF (fun r1 u t H1 locs1 ht hvm hw1 hB hz1 hk1 hS1 => hw1 ▸ k r ho H1 locs1 ls (by rw [← ht]; exact hB.1) (hB.2.2.weaken (fun _ _ _ h => hF _ h)) hS1 hl)
theorem j_callVlw (B : Bd p s m args meth c cc nL own D cl tys) (hA : ∀ q, s.heap.size ≤ q → A q) {y : MethodName} {bytes : ByteArray} {maxL n index : Nat} {ret : Option FieldType} {rm rmc : Room} {C : String} {T : u_T} {N ci : Nat} {fs : List Value} {b : Nat} {As : List Value} {stk : List Value} {o : Option (Int64 × σ)} {f : Int64 → σ → Option ρ} {NX : Nat → State → Prop}
    (hM : ∀ (sz : Nat) (r : Int64) (w' : σ), o = some (r, w') → Met l y (ws_ y bytes maxL ret) rm (va_Pc (.ref b :: As) (MPre D cl tys (cw w) NX sz)) (QcL D cl tys (cw w') r (va_A (cw w) sz)) 0 0 (va_A (cw w) sz))
    (hNX : NXok NX A s (cw w)) (pk : PkV y C bytes maxL ret n) (hlk : Cond.methodLink own index y ∈ lw_all) (q0 : Nat) (he : (cw w)[q0]? = some (b, .inr (ci, fs))) (hcl : cl[ci]? = some (C, T, N)) (hrc : rm.cells = 0) (hrs : rm.slots = 0) (hRm : R = rmc) (hR : rm.frames + 1 ≤ rmc.frames ∧ 8 + (maxL + 11) + rm.locals ≤ rmc.locals) (hn : As.length = n) (hst : stk = As.reverse ++ .ref b :: st) (hroom : (st.map fun v => v.category).sum ≤ 8) (hcs : cells ≤ R.cells ∧ slots ≤ R.slots) (hd : D3 cc pc (.invokevirtual index) pc') (ho : bd2 o f = some res) (k : ∀ (r : Int64) (w' : σ), f r w' = some res → XJ p l e R s m args below meth c cells slots Q A D cl cw nL w' pc' lv (.long r :: st)) : XJ p l e R s m args below meth c cells slots Q A D cl cw nL w pc lv stk := by
  obtain ⟨hd, rfl⟩ := hd
  subst hst
  subst hRm
  obtain ⟨r, w', ho1, ho⟩ := bd2_e ho
  intro H locs ls hP hD hS hl
  have hF : ∀ q, va_A (cw w) H.size q → A q := by
    intro q h
    rcases h with ⟨k, e, h⟩ | h
    · exact hD.2 k (q, e) h
    · exact hA q (Nat.le_trans hS.1 h)
  exact va_calll (va_runV (As := As) (rest := st) ⟨B.1, B.2.1, B.2.2.1, B.2.2.2.1, B.2.2.2.2.1⟩ (hM H.size r w' ho1) (cwV n B.2.2.2.2.1 (lw_V hlk pk.1 pk.2.1 pk.2.2.1 pk.2.2.2.1) rfl hrc hrs pk.2.2.2.2 hR) ⟨fun a U g mk q => ⟨q.1, q.2.1, q.2.2.1, va_K.moved (u := U) (U := U.calling g mk a) (Vm.Alike.refl U.vm) q.2.2.2.1, q.2.2.2.2.1, hNX.1 _ _ _ _ _ q.2.2.2.2.2⟩, va_recv B.2.2.2.2.2.1 hP hcl he, fun U hU hW => ⟨rfl, by rw [hU], by rw [hU]; exact hP, va_K.moved hW.alike B.2.2.2.2.2.1, hD.weaken (fun _ _ _ _ => trivial), hNX.2 H locs U hS hF hU hW⟩⟩ rfl hn hl.1 rfl (lv_room hroom) hd hcs) hS (fun q _ h => hF q h) hF (fun r1 u t H1 locs1 ht hvm hw1 hB hz1 hk1 hS1 => hw1 ▸ k r w' ho H1 locs1 ls (by rw [← ht]; exact hB.1) (hB.2.2.weaken (fun _ _ _ h => hF _ h)) hS1 hl)
theorem j_callVvw (B : Bd p s m args meth c cc nL own D cl tys) (hA : ∀ q, s.heap.size ≤ q → A q) {y : MethodName} {bytes : ByteArray} {maxL n index : Nat} {ret : Option FieldType} {rm rmc : Room} {C : String} {T : u_T} {N ci : Nat} {fs : List Value} {b : Nat} {As : List Value} {stk : List Value} {o : Option σ} {f : σ → Option ρ} {NX : Nat → State → Prop}
    (hM : ∀ (sz : Nat) (w' : σ), o = some w' → Met l y (ws_ y bytes maxL ret) rm (va_Pc (.ref b :: As) (MPre D cl tys (cw w) NX sz)) (QcV D cl tys (cw w') (va_A (cw w) sz)) 0 0 (va_A (cw w) sz))
    (hNX : NXok NX A s (cw w)) (pk : PkV y C bytes maxL ret n) (hlk : Cond.methodLink own index y ∈ lw_all) (q0 : Nat) (he : (cw w)[q0]? = some (b, .inr (ci, fs))) (hcl : cl[ci]? = some (C, T, N)) (hrc : rm.cells = 0) (hrs : rm.slots = 0) (hRm : R = rmc) (hR : rm.frames + 1 ≤ rmc.frames ∧ 8 + (maxL + 11) + rm.locals ≤ rmc.locals) (hn : As.length = n) (hst : stk = As.reverse ++ .ref b :: st) (hroom : (st.map fun v => v.category).sum ≤ 8) (hcs : cells ≤ R.cells ∧ slots ≤ R.slots) (hd : D3 cc pc (.invokevirtual index) pc') (ho : bd o f = some res) (k : ∀ w' : σ, f w' = some res → XJ p l e R s m args below meth c cells slots Q A D cl cw nL w' pc' lv st) : XJ p l e R s m args below meth c cells slots Q A D cl cw nL w pc lv stk := by
  obtain ⟨hd, rfl⟩ := hd
  subst hst
  subst hRm
  obtain ⟨w', ho1, ho⟩ := bd_e ho
  intro H locs ls hP hD hS hl
  have hF : ∀ q, va_A (cw w) H.size q → A q := by
    intro q h
    rcases h with ⟨k, e, h⟩ | h
    · exact hD.2 k (q, e) h
    · exact hA q (Nat.le_trans hS.1 h)
  exact va_callv (va_runV (As := As) (rest := st) ⟨B.1, B.2.1, B.2.2.1, B.2.2.2.1, B.2.2.2.2.1⟩ (hM H.size w' ho1) (cwV n B.2.2.2.2.1 (lw_V hlk pk.1 pk.2.1 pk.2.2.1 pk.2.2.2.1) rfl hrc hrs pk.2.2.2.2 hR) ⟨fun a U g mk q => ⟨q.1, q.2.1, q.2.2.1, va_K.moved (u := U) (U := U.calling g mk a) (Vm.Alike.refl U.vm) q.2.2.2.1, q.2.2.2.2.1, hNX.1 _ _ _ _ _ q.2.2.2.2.2⟩, va_recv B.2.2.2.2.2.1 hP hcl he, fun U hU hW => ⟨rfl, by rw [hU], by rw [hU]; exact hP, va_K.moved hW.alike B.2.2.2.2.2.1, hD.weaken (fun _ _ _ _ => trivial), hNX.2 H locs U hS hF hU hW⟩⟩ rfl hn hl.1 rfl (lv_room hroom) hd hcs) hS (fun q _ h => hF q h) hF (fun u t H1 locs1 ht hvm hw1 hB hz1 hk1 hS1 => k w' ho H1 locs1 ls (by rw [← ht]; exact hB.1) (hB.2.2.weaken (fun _ _ _ h => hF _ h)) hS1 hl)
theorem j_callSi (B : Bd p s m args meth c cc nL own D cl tys) (hA : ∀ q, s.heap.size ≤ q → A q) {y : MethodName} {bytes : ByteArray} {maxL n index : Nat} {ret : Option FieldType} {rm rmc : Room}  {As : List Value} {stk : List Value} {o : Option Int32} {f : Int32 → Option ρ} {NX : Nat → State → Prop}
    (hM : ∀ (sz : Nat) (r : Int32), o = some r → Met l y (ws_ y bytes maxL ret) rm (va_Pc As (MPre D cl tys (cw w) NX sz)) (QcI D cl tys (cw w) r (va_A (cw w) sz)) 0 0 (va_A (cw w) sz))
    (hNX : NXok NX A s (cw w)) (pk : PkS y bytes maxL ret n) (hlk : Cond.methodLink own index y ∈ lw_all)  (hrc : rm.cells = 0) (hrs : rm.slots = 0) (hRm : R = rmc) (hR : rm.frames + 1 ≤ rmc.frames ∧ 8 + (maxL + 11) + rm.locals ≤ rmc.locals) (hn : As.length = n) (hst : stk = As.reverse ++ st) (hroom : (st.map fun v => v.category).sum ≤ 8) (hcs : cells ≤ R.cells ∧ slots ≤ R.slots) (hd : D3 cc pc (.invokestatic index) pc') (ho : bd o f = some res) (k : ∀ (r : Int32), f r = some res → XJ p l e R s m args below meth c cells slots Q A D cl cw nL w pc' lv (.int r :: st)) : XJ p l e R s m args below meth c cells slots Q A D cl cw nL w pc lv stk := by
  obtain ⟨hd, rfl⟩ := hd
  subst hst
  subst hRm
  obtain ⟨r, ho1, ho⟩ := bd_e ho
  intro H locs ls hP hD hS hl
  have hF : ∀ q, va_A (cw w) H.size q → A q := by
    intro q h
    rcases h with ⟨k, e, h⟩ | h
    · exact hD.2 k (q, e) h
    · exact hA q (Nat.le_trans hS.1 h)
  exact va_calli (va_runS (As := As) (rest := st) ⟨B.1, B.2.1, B.2.2.1, B.2.2.2.1, B.2.2.2.2.1⟩ (hM H.size r ho1) (va_cwS n B.2.2.2.2.1 (lw_S hlk pk.1 pk.2.1 pk.2.2.1) rfl hrc hrs pk.2.2.2 hR) ⟨fun a U g mk q => ⟨q.1, q.2.1, q.2.2.1, va_K.moved (u := U) (U := U.calling g mk a) (Vm.Alike.refl U.vm) q.2.2.2.1, q.2.2.2.2.1, hNX.1 _ _ _ _ _ q.2.2.2.2.2⟩, fun U hU hW => ⟨rfl, by rw [hU], by rw [hU]; exact hP, va_K.moved hW.alike B.2.2.2.2.2.1, hD.weaken (fun _ _ _ _ => trivial), hNX.2 H locs U hS hF hU hW⟩⟩ rfl hn hl.1 rfl (lv_room hroom) hd hcs) hS (fun q _ h => hF q h) hF (fun r1 u t H1 locs1 ht hvm hw1 hB hz1 hk1 hS1 => hw1 ▸ k r ho H1 locs1 ls (by rw [← ht]; exact hB.1) (hB.2.2.weaken (fun _ _ _ h => hF _ h)) hS1 hl)
theorem j_callSiw (B : Bd p s m args meth c cc nL own D cl tys) (hA : ∀ q, s.heap.size ≤ q → A q) {y : MethodName} {bytes : ByteArray} {maxL n index : Nat} {ret : Option FieldType} {rm rmc : Room}  {As : List Value} {stk : List Value} {o : Option (Int32 × σ)} {f : Int32 → σ → Option ρ} {NX : Nat → State → Prop}
    (hM : ∀ (sz : Nat) (r : Int32) (w' : σ), o = some (r, w') → Met l y (ws_ y bytes maxL ret) rm (va_Pc As (MPre D cl tys (cw w) NX sz)) (QcI D cl tys (cw w') r (va_A (cw w) sz)) 0 0 (va_A (cw w) sz))
    (hNX : NXok NX A s (cw w)) (pk : PkS y bytes maxL ret n) (hlk : Cond.methodLink own index y ∈ lw_all)  (hrc : rm.cells = 0) (hrs : rm.slots = 0) (hRm : R = rmc) (hR : rm.frames + 1 ≤ rmc.frames ∧ 8 + (maxL + 11) + rm.locals ≤ rmc.locals) (hn : As.length = n) (hst : stk = As.reverse ++ st) (hroom : (st.map fun v => v.category).sum ≤ 8) (hcs : cells ≤ R.cells ∧ slots ≤ R.slots) (hd : D3 cc pc (.invokestatic index) pc') (ho : bd2 o f = some res) (k : ∀ (r : Int32) (w' : σ), f r w' = some res → XJ p l e R s m args below meth c cells slots Q A D cl cw nL w' pc' lv (.int r :: st)) : XJ p l e R s m args below meth c cells slots Q A D cl cw nL w pc lv stk := by
  obtain ⟨hd, rfl⟩ := hd
  subst hst
  subst hRm
  obtain ⟨r, w', ho1, ho⟩ := bd2_e ho
  intro H locs ls hP hD hS hl
  have hF : ∀ q, va_A (cw w) H.size q → A q := by
    intro q h
    rcases h with ⟨k, e, h⟩ | h
    · exact hD.2 k (q, e) h
    · exact hA q (Nat.le_trans hS.1 h)
  exact va_calli (va_runS (As := As) (rest := st) ⟨B.1, B.2.1, B.2.2.1, B.2.2.2.1, B.2.2.2.2.1⟩ (hM H.size r w' ho1) (va_cwS n B.2.2.2.2.1 (lw_S hlk pk.1 pk.2.1 pk.2.2.1) rfl hrc hrs pk.2.2.2 hR) ⟨fun a U g mk q => ⟨q.1, q.2.1, q.2.2.1, va_K.moved (u := U) (U := U.calling g mk a) (Vm.Alike.refl U.vm) q.2.2.2.1, q.2.2.2.2.1, hNX.1 _ _ _ _ _ q.2.2.2.2.2⟩, fun U hU hW => ⟨rfl, by rw [hU], by rw [hU]; exact hP, va_K.moved hW.alike B.2.2.2.2.2.1, hD.weaken (fun _ _ _ _ => trivial), hNX.2 H locs U hS hF hU hW⟩⟩ rfl hn hl.1 rfl (lv_room hroom) hd hcs) hS (fun q _ h => hF q h) hF (fun r1 u t H1 locs1 ht hvm hw1 hB hz1 hk1 hS1 => hw1 ▸ k r w' ho H1 locs1 ls (by rw [← ht]; exact hB.1) (hB.2.2.weaken (fun _ _ _ h => hF _ h)) hS1 hl)
theorem j_callSl (B : Bd p s m args meth c cc nL own D cl tys) (hA : ∀ q, s.heap.size ≤ q → A q) {y : MethodName} {bytes : ByteArray} {maxL n index : Nat} {ret : Option FieldType} {rm rmc : Room}  {As : List Value} {stk : List Value} {o : Option Int64} {f : Int64 → Option ρ} {NX : Nat → State → Prop}
    (hM : ∀ (sz : Nat) (r : Int64), o = some r → Met l y (ws_ y bytes maxL ret) rm (va_Pc As (MPre D cl tys (cw w) NX sz)) (QcL D cl tys (cw w) r (va_A (cw w) sz)) 0 0 (va_A (cw w) sz))
    (hNX : NXok NX A s (cw w)) (pk : PkS y bytes maxL ret n) (hlk : Cond.methodLink own index y ∈ lw_all)  (hrc : rm.cells = 0) (hrs : rm.slots = 0) (hRm : R = rmc) (hR : rm.frames + 1 ≤ rmc.frames ∧ 8 + (maxL + 11) + rm.locals ≤ rmc.locals) (hn : As.length = n) (hst : stk = As.reverse ++ st) (hroom : (st.map fun v => v.category).sum ≤ 8) (hcs : cells ≤ R.cells ∧ slots ≤ R.slots) (hd : D3 cc pc (.invokestatic index) pc') (ho : bd o f = some res) (k : ∀ (r : Int64), f r = some res → XJ p l e R s m args below meth c cells slots Q A D cl cw nL w pc' lv (.long r :: st)) : XJ p l e R s m args below meth c cells slots Q A D cl cw nL w pc lv stk := by
  obtain ⟨hd, rfl⟩ := hd
  subst hst
  subst hRm
  obtain ⟨r, ho1, ho⟩ := bd_e ho
  intro H locs ls hP hD hS hl
  have hF : ∀ q, va_A (cw w) H.size q → A q := by
    intro q h
    rcases h with ⟨k, e, h⟩ | h
    · exact hD.2 k (q, e) h
    · exact hA q (Nat.le_trans hS.1 h)
  exact va_calll (va_runS (As := As) (rest := st) ⟨B.1, B.2.1, B.2.2.1, B.2.2.2.1, B.2.2.2.2.1⟩ (hM H.size r ho1) (va_cwS n B.2.2.2.2.1 (lw_S hlk pk.1 pk.2.1 pk.2.2.1) rfl hrc hrs pk.2.2.2 hR) ⟨fun a U g mk q => ⟨q.1, q.2.1, q.2.2.1, va_K.moved (u := U) (U := U.calling g mk a) (Vm.Alike.refl U.vm) q.2.2.2.1, q.2.2.2.2.1, hNX.1 _ _ _ _ _ q.2.2.2.2.2⟩, fun U hU hW => ⟨rfl, by rw [hU], by rw [hU]; exact hP, va_K.moved hW.alike B.2.2.2.2.2.1, hD.weaken (fun _ _ _ _ => trivial), hNX.2 H locs U hS hF hU hW⟩⟩ rfl hn hl.1 rfl (lv_room hroom) hd hcs) hS (fun q _ h => hF q h) hF (fun r1 u t H1 locs1 ht hvm hw1 hB hz1 hk1 hS1 => hw1 ▸ k r ho H1 locs1 ls (by rw [← ht]; exact hB.1) (hB.2.2.weaken (fun _ _ _ h => hF _ h)) hS1 hl)
theorem j_callSlw (B : Bd p s m args meth c cc nL own D cl tys) (hA : ∀ q, s.heap.size ≤ q → A q) {y : MethodName} {bytes : ByteArray} {maxL n index : Nat} {ret : Option FieldType} {rm rmc : Room}  {As : List Value} {stk : List Value} {o : Option (Int64 × σ)} {f : Int64 → σ → Option ρ} {NX : Nat → State → Prop}
    (hM : ∀ (sz : Nat) (r : Int64) (w' : σ), o = some (r, w') → Met l y (ws_ y bytes maxL ret) rm (va_Pc As (MPre D cl tys (cw w) NX sz)) (QcL D cl tys (cw w') r (va_A (cw w) sz)) 0 0 (va_A (cw w) sz))
    (hNX : NXok NX A s (cw w)) (pk : PkS y bytes maxL ret n) (hlk : Cond.methodLink own index y ∈ lw_all)  (hrc : rm.cells = 0) (hrs : rm.slots = 0) (hRm : R = rmc) (hR : rm.frames + 1 ≤ rmc.frames ∧ 8 + (maxL + 11) + rm.locals ≤ rmc.locals) (hn : As.length = n) (hst : stk = As.reverse ++ st) (hroom : (st.map fun v => v.category).sum ≤ 8) (hcs : cells ≤ R.cells ∧ slots ≤ R.slots) (hd : D3 cc pc (.invokestatic index) pc') (ho : bd2 o f = some res) (k : ∀ (r : Int64) (w' : σ), f r w' = some res → XJ p l e R s m args below meth c cells slots Q A D cl cw nL w' pc' lv (.long r :: st)) : XJ p l e R s m args below meth c cells slots Q A D cl cw nL w pc lv stk := by
  obtain ⟨hd, rfl⟩ := hd
  subst hst
  subst hRm
  obtain ⟨r, w', ho1, ho⟩ := bd2_e ho
  intro H locs ls hP hD hS hl
  have hF : ∀ q, va_A (cw w) H.size q → A q := by
    intro q h
    rcases h with ⟨k, e, h⟩ | h
    · exact hD.2 k (q, e) h
    · exact hA q (Nat.le_trans hS.1 h)
  exact va_calll (va_runS (As := As) (rest := st) ⟨B.1, B.2.1, B.2.2.1, B.2.2.2.1, B.2.2.2.2.1⟩ (hM H.size r w' ho1) (va_cwS n B.2.2.2.2.1 (lw_S hlk pk.1 pk.2.1 pk.2.2.1) rfl hrc hrs pk.2.2.2 hR) ⟨fun a U g mk q => ⟨q.1, q.2.1, q.2.2.1, va_K.moved (u := U) (U := U.calling g mk a) (Vm.Alike.refl U.vm) q.2.2.2.1, q.2.2.2.2.1, hNX.1 _ _ _ _ _ q.2.2.2.2.2⟩, fun U hU hW => ⟨rfl, by rw [hU], by rw [hU]; exact hP, va_K.moved hW.alike B.2.2.2.2.2.1, hD.weaken (fun _ _ _ _ => trivial), hNX.2 H locs U hS hF hU hW⟩⟩ rfl hn hl.1 rfl (lv_room hroom) hd hcs) hS (fun q _ h => hF q h) hF (fun r1 u t H1 locs1 ht hvm hw1 hB hz1 hk1 hS1 => hw1 ▸ k r w' ho H1 locs1 ls (by rw [← ht]; exact hB.1) (hB.2.2.weaken (fun _ _ _ h => hF _ h)) hS1 hl)
theorem j_callSvw (B : Bd p s m args meth c cc nL own D cl tys) (hA : ∀ q, s.heap.size ≤ q → A q) {y : MethodName} {bytes : ByteArray} {maxL n index : Nat} {ret : Option FieldType} {rm rmc : Room}  {As : List Value} {stk : List Value} {o : Option σ} {f : σ → Option ρ} {NX : Nat → State → Prop}
    (hM : ∀ (sz : Nat) (w' : σ), o = some w' → Met l y (ws_ y bytes maxL ret) rm (va_Pc As (MPre D cl tys (cw w) NX sz)) (QcV D cl tys (cw w') (va_A (cw w) sz)) 0 0 (va_A (cw w) sz))
    (hNX : NXok NX A s (cw w)) (pk : PkS y bytes maxL ret n) (hlk : Cond.methodLink own index y ∈ lw_all)  (hrc : rm.cells = 0) (hrs : rm.slots = 0) (hRm : R = rmc) (hR : rm.frames + 1 ≤ rmc.frames ∧ 8 + (maxL + 11) + rm.locals ≤ rmc.locals) (hn : As.length = n) (hst : stk = As.reverse ++ st) (hroom : (st.map fun v => v.category).sum ≤ 8) (hcs : cells ≤ R.cells ∧ slots ≤ R.slots) (hd : D3 cc pc (.invokestatic index) pc') (ho : bd o f = some res) (k : ∀ w' : σ, f w' = some res → XJ p l e R s m args below meth c cells slots Q A D cl cw nL w' pc' lv st) : XJ p l e R s m args below meth c cells slots Q A D cl cw nL w pc lv stk := by
  obtain ⟨hd, rfl⟩ := hd
  subst hst
  subst hRm
  obtain ⟨w', ho1, ho⟩ := bd_e ho
  intro H locs ls hP hD hS hl
  have hF : ∀ q, va_A (cw w) H.size q → A q := by
    intro q h
    rcases h with ⟨k, e, h⟩ | h
    · exact hD.2 k (q, e) h
    · exact hA q (Nat.le_trans hS.1 h)
  exact va_callv (va_runS (As := As) (rest := st) ⟨B.1, B.2.1, B.2.2.1, B.2.2.2.1, B.2.2.2.2.1⟩ (hM H.size w' ho1) (va_cwS n B.2.2.2.2.1 (lw_S hlk pk.1 pk.2.1 pk.2.2.1) rfl hrc hrs pk.2.2.2 hR) ⟨fun a U g mk q => ⟨q.1, q.2.1, q.2.2.1, va_K.moved (u := U) (U := U.calling g mk a) (Vm.Alike.refl U.vm) q.2.2.2.1, q.2.2.2.2.1, hNX.1 _ _ _ _ _ q.2.2.2.2.2⟩, fun U hU hW => ⟨rfl, by rw [hU], by rw [hU]; exact hP, va_K.moved hW.alike B.2.2.2.2.2.1, hD.weaken (fun _ _ _ _ => trivial), hNX.2 H locs U hS hF hU hW⟩⟩ rfl hn hl.1 rfl (lv_room hroom) hd hcs) hS (fun q _ h => hF q h) hF (fun u t H1 locs1 ht hvm hw1 hB hz1 hk1 hS1 => k w' ho H1 locs1 ls (by rw [← ht]; exact hB.1) (hB.2.2.weaken (fun _ _ _ h => hF _ h)) hS1 hl)
end XJC
