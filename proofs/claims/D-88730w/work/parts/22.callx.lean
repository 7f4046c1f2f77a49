set_option maxRecDepth 100000
/-! further calls: inherited and overriding methods (by va_CU), super, nest mates; each answers an int or a boolean and changes nothing -/
section CX
variable {p : Program} {l : Launch} {e : Env} {R : Room} {s : State} {m : MethodId} {args : Array Value} {below : List Frame} {meth : Method} {c : Code} {cells slots : Nat} {Q : State → Prop} {A : Nat → Prop} {D : va_G} {cl : List vw_C} {tys : List (ClassId × FieldType)} {σ : Type} {cw : σ → va_W} {nL : Nat} {cc : ByteArray} {own : String}
variable {w w0 : σ} {pc pc' tgt : Nat} {lv : List (Nat × Value)} {st : List Value} {ρ : Type} {res : ρ}
theorem j_runi (B : Bd p s m args meth c cc nL own D cl tys) (hA : ∀ q, s.heap.size ≤ q → A q) {a : Array Value} {stk : List Value} {o : Option Int32} {f : Int32 → Option ρ} (hpc : pc' = pc + 3)
    (hrun : ∀ (H : Heap) (locs : List Loc) (ls : Array Slot) (r : Int32), va_P D cl (cw w) H → va_D A (cw w) → va_S A s.heap H locs → ls.size = nL → (∀ q, va_A (cw w) H.size q → A q) → o = some r → va_Run p l e R s m args below meth c H locs cells slots 0 0 (F0 m pc ls stk) st (QcI D cl tys (cw w) r (va_A (cw w) H.size) a) (va_A (cw w) H.size))
    (ho : bd o f = some res) (k : ∀ r : Int32, f r = some res → XJ p l e R s m args below meth c cells slots Q A D cl cw nL w pc' lv (.int r :: st)) : XJ p l e R s m args below meth c cells slots Q A D cl cw nL w pc lv stk := by
  subst hpc
  obtain ⟨r, ho1, ho⟩ := bd_e ho
  intro H locs ls hP hD hS hl
  have hF : ∀ q, va_A (cw w) H.size q → A q := by
    intro q h
    rcases h with ⟨k, e, h⟩ | h
    · exact hD.2 k (q, e) h
    · exact hA q (Nat.le_trans hS.1 h)
  exact va_calli (hrun H locs ls r hP hD hS hl.1 hF ho1) hS (fun q _ h => hF q h) hF (fun r1 u t H1 locs1 ht hvm hw1 hB hz1 hk1 hS1 => hw1 ▸ k r ho H1 locs1 ls (by rw [← ht]; exact hB.1) (hB.2.2.weaken (fun _ _ _ h => hF _ h)) hS1 hl)
theorem cuX {C owner : String} {index maxL n : Nat} {x y : MethodName} {bytes : ByteArray} {ret : Option FieldType} {rm : Room} (hts : ∀ w ∈ lw_all, w.before args s = true) (h1 : (Cond.methodLink own index x).before args s = true) (h2 : (Cond.sameMethod x.cls owner x.name x.desc).before args s = true) (h3 : va_Decl s ⟨owner, x.name, x.desc⟩) (h4 : (Cond.selects C x y).before args s = true) (h5 : Cond.instanceMethod y ∈ lw_all) (h6 : Cond.initialized y.cls ∈ lw_all) (h7 : Cond.code y bytes maxL ret ∈ lw_all) (hrc : rm.cells = 0) (hrs : rm.slots = 0)
    (hd : owner ≠ "java/lang/invoke/MethodHandle" ∧ owner ≠ "java/lang/invoke/VarHandle" ∧ (parseMethodDescriptor x.desc).map (fun d => d.parameters.length) = some n) (hR : rm.frames + 1 ≤ R.frames ∧ 8 + (maxL + 11) + rm.locals ≤ R.locals) : va_CU R s args own C owner index x y bytes maxL ret (ws_ y bytes maxL ret) rm 0 0 n := by
  refine ⟨⟨hrc, hrs, hR.1, hR.2, pay_in hts (lw_meth h7), List.mem_cons_self⟩, hts _ h7, hts _ h6, ⟨hd.1, hd.2.1⟩, fun sig h => ?_, h1, h2, h3, h4, hts _ h5⟩
  have h2 := hd.2.2
  rw [h] at h2
  exact (Option.some.inj h2).symm
theorem j_callUi (B : Bd p s m args meth c cc nL own D cl tys) (hA : ∀ q, s.heap.size ≤ q → A q) {x y : MethodName} {bytes : ByteArray} {maxL n index : Nat} {ret : Option FieldType} {rm rmc : Room} {C owner : String} {T : u_T} {N ci : Nat} {fs : List Value} {b : Nat} {As : List Value} {stk : List Value} {o : Option Int32} {f : Int32 → Option ρ} {NX : Nat → State → Prop}
    (hM : ∀ (sz : Nat) (r : Int32), o = some r → Met l y (ws_ y bytes maxL ret) rm (va_Pc (.ref b :: As) (MPre D cl tys (cw w) NX sz)) (QcI D cl tys (cw w) r (va_A (cw w) sz)) 0 0 (va_A (cw w) sz))
    (hNX : NXok NX A s (cw w)) (hcu : va_CU rmc s args own C owner index x y bytes maxL ret (ws_ y bytes maxL ret) rm 0 0 n) (q0 : Nat) (he : (cw w)[q0]? = some (b, .inr (ci, fs))) (hcl : cl[ci]? = some (C, T, N)) (hRm : R = rmc) (hn : As.length = n) (hst : stk = As.reverse ++ .ref b :: st) (hroom : (st.map fun v => v.category).sum ≤ 8) (hcs : cells ≤ R.cells ∧ slots ≤ R.slots) (hd : D3 cc pc (.invokevirtual index) pc') (ho : bd o f = some res) (k : ∀ (r : Int32), f r = some res → XJ p l e R s m args below meth c cells slots Q A D cl cw nL w pc' lv (.int r :: st)) : XJ p l e R s m args below meth c cells slots Q A D cl cw nL w pc lv stk := by
  obtain ⟨hd, rfl⟩ := hd
  subst hst
  subst hRm
  refine j_runi (a := (Value.ref b :: As).toArray) B hA rfl (fun H locs ls r hP hD hS hl hF ho1 => ?_) ho k
  exact va_runU (As := As) (rest := st) ⟨B.1, B.2.1, B.2.2.1, B.2.2.2.1, B.2.2.2.2.1⟩ (hM H.size r ho1) hcu ⟨fun a U g mk q => ⟨q.1, q.2.1, q.2.2.1, va_K.moved (u := U) (U := U.calling g mk a) (Vm.Alike.refl U.vm) q.2.2.2.1, q.2.2.2.2.1, hNX.1 _ _ _ _ _ q.2.2.2.2.2⟩, va_recv B.2.2.2.2.2.1 hP hcl he, fun U hU hW => ⟨rfl, by rw [hU], by rw [hU]; exact hP, va_K.moved hW.alike B.2.2.2.2.2.1, hD.weaken (fun _ _ _ _ => trivial), hNX.2 H locs U hS hF hU hW⟩⟩ rfl hn hl rfl (lv_room hroom) hd hcs
theorem j_callNi (B : Bd p s m args meth c cc nL own D cl tys) (hA : ∀ q, s.heap.size ≤ q → A q) {y : MethodName} {bytes : ByteArray} {maxL n index : Nat} {ret : Option FieldType} {rm rmc : Room} {C host : String} {T : u_T} {N ci : Nat} {fs : List Value} {b : Nat} {As : List Value} {stk : List Value} {o : Option Int32} {f : Int32 → Option ρ} {NX : Nat → State → Prop}
    (hM : ∀ (sz : Nat) (r : Int32), o = some r → Met l y (ws_ y bytes maxL ret) rm (va_Pc (.ref b :: As) (MPre D cl tys (cw w) NX sz)) (QcI D cl tys (cw w) r (va_A (cw w) sz)) 0 0 (va_A (cw w) sz))
    (hNX : NXok NX A s (cw w)) (pk : PkV y C bytes maxL ret n) (hlk : va_Nw (.methodLinkNest own index y host) s) (q0 : Nat) (he : (cw w)[q0]? = some (b, .inr (ci, fs))) (hcl : cl[ci]? = some (C, T, N)) (hrc : rm.cells = 0) (hrs : rm.slots = 0) (hRm : R = rmc) (hR : rm.frames + 1 ≤ rmc.frames ∧ 8 + (maxL + 11) + rm.locals ≤ rmc.locals) (hn : As.length = n) (hst : stk = As.reverse ++ .ref b :: st) (hroom : (st.map fun v => v.category).sum ≤ 8) (hcs : cells ≤ R.cells ∧ slots ≤ R.slots) (hd : D3 cc pc (.invokevirtual index) pc') (ho : bd o f = some res) (k : ∀ (r : Int32), f r = some res → XJ p l e R s m args below meth c cells slots Q A D cl cw nL w pc' lv (.int r :: st)) : XJ p l e R s m args below meth c cells slots Q A D cl cw nL w pc lv stk := by
  obtain ⟨hd, rfl⟩ := hd
  subst hst
  subst hRm
  have hts := B.2.2.2.2.1
  obtain ⟨hp1, hp2, hp3, hp4, hp5, hp6⟩ := pk
  subst hp5
  refine j_runi (a := (Value.ref b :: As).toArray) B hA rfl (fun H locs ls r hP hD hS hl hF ho1 => ?_) ho k
  exact va_runVN (As := As) (rest := st) ⟨B.1, B.2.1, B.2.2.1, B.2.2.2.1, B.2.2.2.2.1⟩ (hM H.size r ho1) ⟨va_cnB n hts (lw_meth hp4) rfl hrc hrs hlk (hts _ hp3) hp6 hR, hts _ hp1, hts _ hp2⟩ ⟨fun a U g mk q => ⟨q.1, q.2.1, q.2.2.1, va_K.moved (u := U) (U := U.calling g mk a) (Vm.Alike.refl U.vm) q.2.2.2.1, q.2.2.2.2.1, hNX.1 _ _ _ _ _ q.2.2.2.2.2⟩, va_recv B.2.2.2.2.2.1 hP hcl he, fun U hU hW => ⟨rfl, by rw [hU], by rw [hU]; exact hP, va_K.moved hW.alike B.2.2.2.2.2.1, hD.weaken (fun _ _ _ _ => trivial), hNX.2 H locs U hS hF hU hW⟩⟩ rfl hn hl rfl (lv_room hroom) hd hcs
theorem j_callSUi (B : Bd p s m args meth c cc nL own D cl tys) (hA : ∀ q, s.heap.size ≤ q → A q) {y : MethodName} {bytes : ByteArray} {maxL n index : Nat} {ret : Option FieldType} {rm rmc : Room} {C : String} {T : u_T} {N ci : Nat} {fs : List Value} {b : Nat} {As : List Value} {stk : List Value} {o : Option Int32} {f : Int32 → Option ρ} {NX : Nat → State → Prop}
    (hM : ∀ (sz : Nat) (r : Int32), o = some r → Met l y (ws_ y bytes maxL ret) rm (va_Pc (.ref b :: As) (MPre D cl tys (cw w) NX sz)) (QcI D cl tys (cw w) r (va_A (cw w) sz)) 0 0 (va_A (cw w) sz))
    (hNX : NXok NX A s (cw w)) (h1 : Cond.methodLink own index y ∈ lw_all) (h2 : Cond.sameMethod y.cls y.cls y.name y.desc ∈ lw_all) (h3 : Cond.superclass own y.cls ∈ lw_all) (h4 : Cond.instanceMethod y ∈ lw_all) (h5 : Cond.initialized y.cls ∈ lw_all) (h6 : Cond.code y bytes maxL ret ∈ lw_all) (h7 : y.name ≠ "<init>" ∧ (parseMethodDescriptor y.desc).map (fun d => d.parameters.length) = some n) (q0 : Nat) (he : (cw w)[q0]? = some (b, .inr (ci, fs))) (hcl : cl[ci]? = some (C, T, N)) (hrc : rm.cells = 0) (hrs : rm.slots = 0) (hRm : R = rmc) (hR : rm.frames + 1 ≤ rmc.frames ∧ 8 + (maxL + 11) + rm.locals ≤ rmc.locals) (hn : As.length = n) (hst : stk = As.reverse ++ .ref b :: st) (hroom : (st.map fun v => v.category).sum ≤ 8) (hcs : cells ≤ R.cells ∧ slots ≤ R.slots) (hd : D3 cc pc (.invokespecial index) pc') (ho : bd o f = some res) (k : ∀ (r : Int32), f r = some res → XJ p l e R s m args below meth c cells slots Q A D cl cw nL w pc' lv (.int r :: st)) : XJ p l e R s m args below meth c cells slots Q A D cl cw nL w pc lv stk := by
  obtain ⟨hd, rfl⟩ := hd
  subst hst
  subst hRm
  have hts := B.2.2.2.2.1
  have hcu : va_CS R s args own index y bytes maxL ret (ws_ y bytes maxL ret) rm 0 0 n := by
    refine ⟨⟨hrc, hrs, hR.1, hR.2, pay_in hts (lw_meth h6), List.mem_cons_self⟩, hts _ h1, hts _ h2, hts _ h3, hts _ h4, hts _ h5, hts _ h6, h7.1, fun sig h => ?_⟩
    have h2 := h7.2
    rw [h] at h2
    exact (Option.some.inj h2).symm
  refine j_runi (a := (Value.ref b :: As).toArray) B hA rfl (fun H locs ls r hP hD hS hl hF ho1 => ?_) ho k
  exact va_runSU (As := As) (rest := st) ((B.2.2.2.2.2.1).1 ci _ hcl).2 ⟨B.1, B.2.1, B.2.2.1, B.2.2.2.1, B.2.2.2.2.1⟩ (hM H.size r ho1) hcu ⟨fun a U g mk q => ⟨q.1, q.2.1, q.2.2.1, va_K.moved (u := U) (U := U.calling g mk a) (Vm.Alike.refl U.vm) q.2.2.2.1, q.2.2.2.2.1, hNX.1 _ _ _ _ _ q.2.2.2.2.2⟩, va_recv B.2.2.2.2.2.1 hP hcl he, fun U hU hW => ⟨rfl, by rw [hU], by rw [hU]; exact hP, va_K.moved hW.alike B.2.2.2.2.2.1, hD.weaken (fun _ _ _ _ => trivial), hNX.2 H locs U hS hF hU hW⟩⟩ rfl hn hl rfl (lv_room hroom) hd hcs
theorem sel_up {C : String} {x x' y : MethodName} {owner : String} (h1 : (Cond.selects C x' y).before args s = true) (h2 : (Cond.sameMethod x.cls owner x.name x.desc).before args s = true) (hx : x' = ⟨owner, x.name, x.desc⟩) (hmh : owner ≠ "java/lang/invoke/MethodHandle" ∧ owner ≠ "java/lang/invoke/VarHandle") : (Cond.selects C x y).before args s = true := by
  obtain ⟨c0, r, m0, q1, q2, q3, q4, k0, hk, hki⟩ := Cond.selects_spec h1
  obtain ⟨c1, ck, r1, g1, g2, g3, g4, g5⟩ := Cond.sameMethod_found h2
  subst hx
  have hr : r = r1 := by
    have h9 := State.methodFound?_of_named g5 hmh
    exact Option.some.inj (q2.symm.trans h9)
  subst hr
  have h1' := h1
  simp only [Cond.before, Cond.holds, Cond.value, q1, q2, q3] at h1' ⊢
  simpa [g4] using h1'
/-- super.m(..) where the superclass has m from its own superclass -/
theorem callSUx {T : State} {locs : List Loc} {cells slots : Nat} (X : Stand p l e R s m args below meth c T locs cells slots) (hexec : p.tables.exec = Jvm.exec) {index : Nat} {x y : MethodName} {bytes : ByteArray} {maxL : Nat} {ret : Option FieldType}
    (hown : s.vm.findClass own = some m.cls) (hlink : (Cond.methodLink own index x).before args s = true) (hsame : (Cond.sameMethod x.cls y.cls x.name x.desc).before args s = true) (hsup : (Cond.superclass own x.cls).before args s = true) (hsup2 : (Cond.superclass x.cls y.cls).before args s = true)
    (hxy : y.name = x.name ∧ y.desc = x.desc) (hinst : (Cond.instanceMethod y).before args s = true) (hcode : (Cond.code y bytes maxL ret).before args s = true) (hno : x.name ≠ "<init>")
    {W : Nat} {Pre : Pt → Array Value → Prop} {Post : Pt → Array Value → Option Value → Pt → Prop} (hK : Back l R p e below s args y 3 W Pre Post)
    {b : Addr} {cellB : Cell} {kB : Class} (hcell : T.heap[b]? = some cellB) (hobj : cellB.vm.isStatics = false) (hkB : s.vm.classes[cellB.cls]? = some kB)
    {g : JFrame} (hg : g.method = m) (hsize : g.locals.size = c.maxLocals) {argsL rest : List Value} (hlen : ∀ sig, parseMethodDescriptor y.desc = some sig → argsL.length = sig.parameters.length)
    (hstack : g.stack = argsL.reverse ++ .ref b :: rest) (hW : 2 * g.monitorRoom + (rest.map fun v => v.category).sum ≤ W) (hdg : decode c.code g.pc = .ok (.invokespecial index, 3))
    (hpre : ∀ vm₁, s.WarmedH vm₁ → Pre ⟨T.setVm vm₁, locs, cells, slots⟩ (Value.ref b :: argsL).toArray) :
    ∃ (v : Option Value) (vm₁ : Vm) (B : Pt), s.WarmedH vm₁ ∧ Stand p l e R s m args below meth c B.U B.locs B.cells B.slots ∧ Post ⟨T.setVm vm₁, locs, cells, slots⟩ (Value.ref b :: argsL).toArray v B ∧
      ∀ target, Steps p.tables e below (B.U.setTop { g with pc := g.pc + 3, stack := v.toList ++ rest }) target → Steps p.tables e below (T.setTop g) target := by
  obtain ⟨mk, methM, hnamed, hmethM, hstM, habM⟩ := Cond.instanceMethod_spec hinst
  obtain ⟨methM', cM, hmethM', -, -, -, -, -, -, hsigM⟩ := Cond.code_spec hnamed hcode
  cases hmethM.symm.trans hmethM'
  obtain ⟨ps, dk, kp, hps, hdk, hkp, hsuper, -, -, hnid⟩ := Cond.superclass_spec hown hsup
  obtain ⟨ps2, dk2, kp2, hps2, hdk2, hkp2, hsuper2, -, -, -⟩ := Cond.superclass_spec hps hsup2
  have hn : s.methodNamed? ⟨y.cls, x.name, x.desc⟩ = some mk := by rw [← hxy.1, ← hxy.2]; exact hnamed
  have hpm : ps2 = mk.cls := Option.some.inj (hps2.symm.trans (findClass_of_methodNamed hnamed))
  have hsz : 0 < s.vm.classes.size := Nat.lt_of_le_of_lt (Nat.zero_le _) (Array.getElem?_eq_some_iff.mp hkp2).1
  have hsub : s.vm.isSubclass ps mk.cls = true := by
    rw [← hpm]
    obtain ⟨z, hz⟩ : ∃ z, s.vm.classes.size = z + 1 := ⟨s.vm.classes.size - 1, by omega⟩
    simp [Vm.isSubclass, hz, Vm.isSubclassAux, hdk2, hsuper2]
  obtain ⟨vm₁, X₁, hstep₁⟩ := X.invokespecialUp hexec hown hlink hsame hn hmethM hstM habM hno hdk hnid hps hsuper hsub (a := b) (cell := cellB) hcell
    (fun z h => by rw [h] at hobj; cases hobj) hkB (g := g) hg (argsL := argsL) (rest := rest) (hlen _ hsigM) hstack hdg
  obtain ⟨v, B, X', hpost, hsteps⟩ := hK m meth c ⟨T.setVm vm₁, locs, cells, slots⟩ { g with stack := rest } (.invokespecial index) mk (Value.ref b :: argsL).toArray X₁ hg hsize hdg hW (X₁.named hnamed) (hpre vm₁ X₁.warmed)
  exact ⟨v, vm₁, B, X₁.warmed, X', hpost, fun target h => hstep₁ _ (by rw [doInvoke_state]; exact hsteps.trans h)⟩
theorem j_callSVi (B : Bd p s m args meth c cc nL own D cl tys) (hA : ∀ q, s.heap.size ≤ q → A q) {x y : MethodName} {bytes : ByteArray} {maxL n index : Nat} {ret : Option FieldType} {rm rmc : Room} {C : String} {T : u_T} {N ci : Nat} {fs : List Value} {b : Nat} {As : List Value} {stk : List Value} {o : Option Int32} {f : Int32 → Option ρ} {NX : Nat → State → Prop}
    (hM : ∀ (sz : Nat) (r : Int32), o = some r → Met l y (ws_ y bytes maxL ret) rm (va_Pc (.ref b :: As) (MPre D cl tys (cw w) NX sz)) (QcI D cl tys (cw w) r (va_A (cw w) sz)) 0 0 (va_A (cw w) sz))
    (hNX : NXok NX A s (cw w)) (h1 : Cond.methodLink own index x ∈ lw_all) (h2 : Cond.sameMethod x.cls y.cls x.name x.desc ∈ lw_all) (h3 : Cond.superclass own x.cls ∈ lw_all) (h30 : Cond.superclass x.cls y.cls ∈ lw_all) (h4 : Cond.instanceMethod y ∈ lw_all) (h5 : Cond.initialized y.cls ∈ lw_all) (h6 : Cond.code y bytes maxL ret ∈ lw_all) (hxy : y.name = x.name ∧ y.desc = x.desc) (h7 : x.name ≠ "<init>" ∧ (parseMethodDescriptor y.desc).map (fun d => d.parameters.length) = some n) (q0 : Nat) (he : (cw w)[q0]? = some (b, .inr (ci, fs))) (hcl : cl[ci]? = some (C, T, N)) (hrc : rm.cells = 0) (hrs : rm.slots = 0) (hRm : R = rmc) (hR : rm.frames + 1 ≤ rmc.frames ∧ 8 + (maxL + 11) + rm.locals ≤ rmc.locals) (hn : As.length = n) (hst : stk = As.reverse ++ .ref b :: st) (hroom : (st.map fun v => v.category).sum ≤ 8) (hcs : cells ≤ R.cells ∧ slots ≤ R.slots) (hd : D3 cc pc (.invokespecial index) pc') (ho : bd o f = some res) (k : ∀ (r : Int32), f r = some res → XJ p l e R s m args below meth c cells slots Q A D cl cw nL w pc' lv (.int r :: st)) : XJ p l e R s m args below meth c cells slots Q A D cl cw nL w pc lv stk := by
  obtain ⟨hd, rfl⟩ := hd
  subst hst
  subst hRm
  have hts := B.2.2.2.2.1
  have hlen : ∀ sig, parseMethodDescriptor y.desc = some sig → n = sig.parameters.length := by
    intro sig h
    have h2 := h7.2
    rw [h] at h2
    exact (Option.some.inj h2).symm
  refine j_runi (a := (Value.ref b :: As).toArray) B hA rfl (fun H locs ls r hP hD hS hl hF ho1 => ?_) ho k
  have hFB : FrameBlind (va_Pc (.ref b :: As) (MPre D cl tys (cw w) NX H.size)) := fun a U g mk q => ⟨q.1, q.2.1, q.2.2.1, va_K.moved (u := U) (U := U.calling g mk a) (Vm.Alike.refl U.vm) q.2.2.2.1, q.2.2.2.2.1, hNX.1 _ _ _ _ _ q.2.2.2.2.2⟩
  have hK : Back l R p e below s args y 3 8 (PreOf R 0 0 _) (PostOf _ 0 0 _) := back_of (bytes := bytes) (maxL := maxL) (ret := ret) (hM H.size r ho1) hFB hrc hrs hR.1 hR.2 (pay_in hts (lw_meth h6)) List.mem_cons_self (fun a' U hW => word_at hW (Or.inl (by first | rfl | simp [Cond.onTables, Cond.keeps, Cond.steady])) (hts _ h5))
  obtain ⟨cellB, hcB, hoB, hclB⟩ := va_recv B.2.2.2.2.2.1 hP hcl he
  obtain ⟨hfc, kB, hkB, -⟩ := ((B.2.2.2.2.2.1).1 ci _ hcl).2
  have hcc := Option.some.inj (hfc.symm.trans hclB)
  rw [hcc] at hkB
  intro T hT X
  obtain ⟨v, vm₁, ⟨U', l2, c2, s2⟩, hW₁, X', ⟨g', mk, t, L, e1, e2, hq, g1, hL, g2, g3⟩, st⟩ := callSUx X B.1 (bytes := bytes) (maxL := maxL) (ret := ret) B.2.2.2.1 (hts _ h1) (hts _ h2) (hts _ h3) (hts _ h30) hxy (hts _ h4) (hts _ h6) h7.1 hK (by rw [hT]; exact hcB) hoB hkB (g := F0 m pc ls (As.reverse ++ .ref b :: st)) rfl (hl.trans B.2.2.1.symm) (argsL := As) (rest := st) (fun sig h => hn.trans (hlen sig h)) rfl (lv_room hroom) (by rw [B.2.1]; exact hd)
    (fun vm₁ hW₁ => ⟨hcs.1, hcs.2, ⟨rfl, by show T.heap.size = _; rw [hT], by show va_P _ _ _ T.heap; rw [hT]; exact hP, va_K.moved hW₁.alike B.2.2.2.2.2.1, hD.weaken (fun _ _ _ _ => trivial), hNX.2 H locs (T.setVm vm₁) hS hF hT hW₁⟩⟩)
  dsimp only [Pt.U, Pt.locs, Pt.cells, Pt.slots] at X' e1 e2 g1 g2 g3 st
  subst g1; subst g2; subst g3
  exact ⟨v, (T.setVm vm₁).calling g' mk (Value.ref b :: As).toArray, t, U', L, hT, X', hL, e1, e2, hq, st⟩
theorem met_XJF {y : MethodName} {maxL : Nat} {ret : Option FieldType} {rm : Room} {QcA : (Nat → Prop) → Array Value → State → Outcome → State → Prop} {mc ms : Nat} {NX : Nat → State → Prop} {sz : Nat} (hy : plainFor y = true) (vs : List Value) (hv : (lg_sl vs).length ≤ maxL) (hlv : lv_args 0 vs = lv)
    (body : ∀ (p : Program) (e : Env) (s : State) (m : MethodId) (args : Array Value) (below : List Frame) (meth : Method) (c : Code) (R : Room) (Q : State → Prop) (A : Nat → Prop), Bd p s m args meth c cc maxL y.cls D cl tys → NX s.heap.size s → meth.sig.returnType = ret → s.heap.size = sz → (∀ q, s.heap.size ≤ q → A q) → (s.methodNamed? y = some m ∧ s.vm.method? m = some meth) → R = rm → Q = MQ below (QcA A) args s mc ms A → A = va_A (cw w) sz → XJ p l e R s m args below meth c 0 0 Q A D cl cw maxL w 0 lv []) :
    Met l y (ws_ y cc maxL ret) rm (va_Pc vs (MPre D cl tys (cw w) NX sz)) (QcA (va_A (cw w) sz)) mc ms (va_A (cw w) sz) := by
  refine va_MetF (cc := cc) (maxL := maxL) (ret := ret) hy rfl ?_
  intro p e s m args below meth c s₁ B hml hv0
  obtain ⟨rfl, hsz, hP, hK, hD0, hN⟩ := hv0
  have hts := atoms_spec (ws := ws_ y cc maxL ret) B.pre
  have hts : ∀ w ∈ lw_all, w.before _ s = true := fun w h => hts w (List.mem_cons_of_mem _ h)
  have hown : s.vm.findClass y.cls = some m.cls := findClass_of_methodNamed B.named
  have hl := lv_entry vs (n := maxL) hv
  rw [lg_entry_eq]
  generalize (lg_sl vs ++ List.replicate (maxL - (lg_sl vs).length) Slot.unset).toArray = ls at hl ⊢
  rw [hlv] at hl
  exact body p e s m vs.toArray below meth c rm _ _ ⟨B.exec, B.bytes, hml, hown, hts, hK, B.notSynchronized⟩ (by rw [hsz]; exact hN) B.returns hsz (fun q h => Or.inr (by rw [← hsz]; exact h)) ⟨B.named, B.method⟩ rfl rfl rfl s.heap [] ls hP hD0.self va_S.rf hl
end CX
