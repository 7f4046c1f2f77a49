/-! XJ: the machine at pc, locals lv, stack st, heap as the pure world w says; a row an instruction. 'o = some res' runs along: what the method's own word says of the rest. -/
def D1 (cc : ByteArray) (pc : Nat) (i : Instr) (pc' : Nat) : Prop := decode cc pc = .ok (i, 1) ∧ pc' = pc + 1
def D2 (cc : ByteArray) (pc : Nat) (i : Instr) (pc' : Nat) : Prop := decode cc pc = .ok (i, 2) ∧ pc' = pc + 2
def D3 (cc : ByteArray) (pc : Nat) (i : Instr) (pc' : Nat) : Prop := decode cc pc = .ok (i, 3) ∧ pc' = pc + 3
def DJ (cc : ByteArray) (pc : Nat) (i : Int → Instr) (tgt pc' : Nat) : Prop := ∃ off : Int, decode cc pc = .ok (i off, 3) ∧ (pc : Int) + off = (tgt : Int) ∧ pc' = pc + 3
section XJS
variable {p : Program} {l : Launch} {e : Env} {R : Room} {s : State} {m : MethodId} {args : Array Value} {below : List Frame} {meth : Method} {c : Code} {cells slots : Nat} {Q : State → Prop} {A : Nat → Prop} {D : va_G} {cl : List vw_C} {tys : List (ClassId × FieldType)} {σ : Type} {cw : σ → va_W} {nL : Nat} {cc : ByteArray} {own : String}
variable {w : σ} {pc pc' tgt : Nat} {lv : List (Nat × Value)} {st : List Value} {ρ : Type} {res : ρ}
def XJ (p : Program) (l : Launch) (e : Env) (R : Room) (s : State) (m : MethodId) (args : Array Value) (below : List Frame) (meth : Method) (c : Code) (cells slots : Nat) (Q : State → Prop) (A : Nat → Prop) (D : va_G) (cl : List vw_C) {σ : Type} (cw : σ → va_W) (nL : Nat) (w : σ) (pc : Nat) (lv : List (Nat × Value)) (st : List Value) : Prop :=
  ∀ (H : Heap) (locs : List Loc) (ls : Array Slot), va_P D cl (cw w) H → va_D A (cw w) → va_S A s.heap H locs → lv_has ls nL lv → W p l e R s m args below meth c H locs cells slots Q (F0 m pc ls st)
def Bd (p : Program) (s : State) (m : MethodId) (args : Array Value) (meth : Method) (c : Code) (cc : ByteArray) (nL : Nat) (own : String) (D : va_G) (cl : List vw_C) (tys : List (ClassId × FieldType)) : Prop :=
  p.tables.exec = Jvm.exec ∧ c.code = cc ∧ c.maxLocals = nL ∧ s.vm.findClass own = some m.cls ∧ (∀ w ∈ lw_all, w.before args s = true) ∧ va_K D cl tys s ∧ meth.locks = false
theorem j_iconst (B : Bd p s m args meth c cc nL own D cl tys) {n : Int} {v : Int32} (hd : D1 cc pc (.iconst n) pc') (hv : Int32.ofInt n = v) (k : XJ p l e R s m args below meth c cells slots Q A D cl cw nL w pc' lv (.int v :: st)) : XJ p l e R s m args below meth c cells slots Q A D cl cw nL w pc lv st := by
  obtain ⟨hd, rfl⟩ := hd
  exact fun H locs ls hP hD hS hl => lv_iconst B.1 B.2.1 hd hv (k H locs ls hP hD hS hl)
theorem j_bipush (B : Bd p s m args meth c cc nL own D cl tys) {n : Int} {v : Int32} (hd : D2 cc pc (.bipush n) pc') (hv : (Int8.ofInt n).toInt32 = v) (k : XJ p l e R s m args below meth c cells slots Q A D cl cw nL w pc' lv (.int v :: st)) : XJ p l e R s m args below meth c cells slots Q A D cl cw nL w pc lv st := by
  obtain ⟨hd, rfl⟩ := hd
  exact fun H locs ls hP hD hS hl => lv_bipush B.1 B.2.1 hd hv (k H locs ls hP hD hS hl)
theorem j_sipush (B : Bd p s m args meth c cc nL own D cl tys) {n : Int} {v : Int32} (hd : D3 cc pc (.sipush n) pc') (hv : (Int16.ofInt n).toInt32 = v) (k : XJ p l e R s m args below meth c cells slots Q A D cl cw nL w pc' lv (.int v :: st)) : XJ p l e R s m args below meth c cells slots Q A D cl cw nL w pc lv st := by
  obtain ⟨hd, rfl⟩ := hd
  exact fun H locs ls hP hD hS hl => lv_sipush B.1 B.2.1 hd hv (k H locs ls hP hD hS hl)
theorem j_lconst (B : Bd p s m args meth c cc nL own D cl tys) {n : Fin 2} {v : Int64} (hd : D1 cc pc (.lconst n) pc') (hv : Int64.ofNat (n : Nat) = v) (k : XJ p l e R s m args below meth c cells slots Q A D cl cw nL w pc' lv (.long v :: st)) : XJ p l e R s m args below meth c cells slots Q A D cl cw nL w pc lv st := by
  obtain ⟨hd, rfl⟩ := hd
  exact fun H locs ls hP hD hS hl => lv_lconst B.1 B.2.1 hd hv (k H locs ls hP hD hS hl)
theorem j_ldc2 (B : Bd p s m args meth c cc nL own D cl tys) {i : Nat} {v : Int64} (hd : D3 cc pc (.ldc2_w i) pc') (hv : Cond.constantLong own i v ∈ lw_all) (k : XJ p l e R s m args below meth c cells slots Q A D cl cw nL w pc' lv (.long v :: st)) : XJ p l e R s m args below meth c cells slots Q A D cl cw nL w pc lv st := by
  obtain ⟨hd, rfl⟩ := hd
  exact fun H locs ls hP hD hS hl => lv_ldc2 B.1 B.2.1 B.2.2.2.1 (B.2.2.2.2.1 _ hv) hd (k H locs ls hP hD hS hl)
theorem j_ldc (B : Bd p s m args meth c cc nL own D cl tys) {i : Nat} {v : Int32} (hd : D2 cc pc (.ldc i) pc') (hv : Cond.constant own i v ∈ lw_all) (k : XJ p l e R s m args below meth c cells slots Q A D cl cw nL w pc' lv (.int v :: st)) : XJ p l e R s m args below meth c cells slots Q A D cl cw nL w pc lv st := by
  obtain ⟨hd, rfl⟩ := hd
  exact fun H locs ls hP hD hS hl => lv_ldc B.1 B.2.1 B.2.2.2.1 (B.2.2.2.2.1 _ hv) hd (k H locs ls hP hD hS hl)
theorem j_ldcw (B : Bd p s m args meth c cc nL own D cl tys) {i : Nat} {v : Int32} (hd : D3 cc pc (.ldc_w i) pc') (hv : Cond.constant own i v ∈ lw_all) (k : XJ p l e R s m args below meth c cells slots Q A D cl cw nL w pc' lv (.int v :: st)) : XJ p l e R s m args below meth c cells slots Q A D cl cw nL w pc lv st := by
  obtain ⟨hd, rfl⟩ := hd
  exact fun H locs ls hP hD hS hl => lv_ldcw B.1 B.2.1 B.2.2.2.1 (B.2.2.2.2.1 _ hv) hd (k H locs ls hP hD hS hl)
theorem j_iload_n (B : Bd p s m args meth c cc nL own D cl tys) {n : Fin 4} {x : Int32} (hd : D1 cc pc (.iload_n n) pc') (q : Nat) (hq : lv[q]? = some ((n : Nat), .int x)) (k : XJ p l e R s m args below meth c cells slots Q A D cl cw nL w pc' lv (.int x :: st)) : XJ p l e R s m args below meth c cells slots Q A D cl cw nL w pc lv st := by
  obtain ⟨hd, rfl⟩ := hd
  exact fun H locs ls hP hD hS hl => lv_iload_n B.1 B.2.1 hd rfl (lv_at hl q hq) (k H locs ls hP hD hS hl)
theorem j_iload (B : Bd p s m args meth c cc nL own D cl tys) {i : Nat} {x : Int32} (hd : D2 cc pc (.iload i) pc') (q : Nat) (hq : lv[q]? = some (i, .int x)) (k : XJ p l e R s m args below meth c cells slots Q A D cl cw nL w pc' lv (.int x :: st)) : XJ p l e R s m args below meth c cells slots Q A D cl cw nL w pc lv st := by
  obtain ⟨hd, rfl⟩ := hd
  exact fun H locs ls hP hD hS hl => lv_iload B.1 B.2.1 hd (lv_at hl q hq) (k H locs ls hP hD hS hl)
theorem j_lload_n (B : Bd p s m args meth c cc nL own D cl tys) {n : Fin 4} {x : Int64} (hd : D1 cc pc (.lload_n n) pc') (q : Nat) (hq : lv[q]? = some ((n : Nat), .long x)) (k : XJ p l e R s m args below meth c cells slots Q A D cl cw nL w pc' lv (.long x :: st)) : XJ p l e R s m args below meth c cells slots Q A D cl cw nL w pc lv st := by
  obtain ⟨hd, rfl⟩ := hd
  exact fun H locs ls hP hD hS hl => lv_lload_n B.1 B.2.1 hd rfl (lv_at hl q hq) (k H locs ls hP hD hS hl)
theorem j_lload (B : Bd p s m args meth c cc nL own D cl tys) {i : Nat} {x : Int64} (hd : D2 cc pc (.lload i) pc') (q : Nat) (hq : lv[q]? = some (i, .long x)) (k : XJ p l e R s m args below meth c cells slots Q A D cl cw nL w pc' lv (.long x :: st)) : XJ p l e R s m args below meth c cells slots Q A D cl cw nL w pc lv st := by
  obtain ⟨hd, rfl⟩ := hd
  exact fun H locs ls hP hD hS hl => lv_lload B.1 B.2.1 hd (lv_at hl q hq) (k H locs ls hP hD hS hl)
theorem j_aload_n (B : Bd p s m args meth c cc nL own D cl tys) {n : Fin 4} {x : Nat} (hd : D1 cc pc (.aload_n n) pc') (q : Nat) (hq : lv[q]? = some ((n : Nat), .ref x)) (k : XJ p l e R s m args below meth c cells slots Q A D cl cw nL w pc' lv (.ref x :: st)) : XJ p l e R s m args below meth c cells slots Q A D cl cw nL w pc lv st := by
  obtain ⟨hd, rfl⟩ := hd
  exact fun H locs ls hP hD hS hl => lv_aload_n B.1 B.2.1 hd rfl (lv_at hl q hq) (k H locs ls hP hD hS hl)
theorem j_aload (B : Bd p s m args meth c cc nL own D cl tys) {i : Nat} {x : Nat} (hd : D2 cc pc (.aload i) pc') (q : Nat) (hq : lv[q]? = some (i, .ref x)) (k : XJ p l e R s m args below meth c cells slots Q A D cl cw nL w pc' lv (.ref x :: st)) : XJ p l e R s m args below meth c cells slots Q A D cl cw nL w pc lv st := by
  obtain ⟨hd, rfl⟩ := hd
  exact fun H locs ls hP hD hS hl => lv_aload B.1 B.2.1 hd (lv_at hl q hq) (k H locs ls hP hD hS hl)
def ls1 (lv : List (Nat × Value)) (i : Nat) (v : Value) : List (Nat × Value) := (i, v) :: lv.filter (fun q => !(q.1 == i) && !(q.1 + 1 == i && q.2.category == 2))
def ls2 (lv : List (Nat × Value)) (i : Nat) (v : Value) : List (Nat × Value) := (i, v) :: lv.filter (fun q => !(q.1 == i) && (!(q.1 == i + 1) && !(q.1 + 1 == i && q.2.category == 2)))
theorem j_istore_n (B : Bd p s m args meth c cc nL own D cl tys) {n : Fin 4} {x : Int32} {f : Int32 → Option ρ} {lv' : Int32 → List (Nat × Value)} (hd : D1 cc pc (.istore_n n) pc') (ks : List Nat) (hn : (n : Nat) < nL) (hl' : ∀ v : Int32, lv_pick (ls1 lv (n : Nat) (.int v)) ks = lv' v) (ho : nm x f = some res) (k : ∀ v : Int32, f v = some res → XJ p l e R s m args below meth c cells slots Q A D cl cw nL w pc' (lv' v) st) : XJ p l e R s m args below meth c cells slots Q A D cl cw nL w pc lv (.int x :: st) := by
  obtain ⟨hd, rfl⟩ := hd
  exact fun H locs ls hP hD hS hl => lv_istore_n B.1 B.2.1 hd rfl hl hn rfl (fun ls' hl2 => k x ho H locs ls' hP hD hS (lv_sub hl2 ks (hl' x)))
theorem j_istore (B : Bd p s m args meth c cc nL own D cl tys) {n : Nat} {x : Int32} {f : Int32 → Option ρ} {lv' : Int32 → List (Nat × Value)} (hd : D2 cc pc (.istore n) pc') (ks : List Nat) (hn : n < nL) (hl' : ∀ v : Int32, lv_pick (ls1 lv n (.int v)) ks = lv' v) (ho : nm x f = some res) (k : ∀ v : Int32, f v = some res → XJ p l e R s m args below meth c cells slots Q A D cl cw nL w pc' (lv' v) st) : XJ p l e R s m args below meth c cells slots Q A D cl cw nL w pc lv (.int x :: st) := by
  obtain ⟨hd, rfl⟩ := hd
  exact fun H locs ls hP hD hS hl => lv_istore B.1 B.2.1 hd hl hn rfl (fun ls' hl2 => k x ho H locs ls' hP hD hS (lv_sub hl2 ks (hl' x)))
theorem j_lstore_n (B : Bd p s m args meth c cc nL own D cl tys) {n : Fin 4} {x : Int64} {f : Int64 → Option ρ} {lv' : Int64 → List (Nat × Value)} (hd : D1 cc pc (.lstore_n n) pc') (ks : List Nat) (hn : (n : Nat) + 1 < nL) (hl' : ∀ v : Int64, lv_pick (ls2 lv (n : Nat) (.long v)) ks = lv' v) (ho : nm x f = some res) (k : ∀ v : Int64, f v = some res → XJ p l e R s m args below meth c cells slots Q A D cl cw nL w pc' (lv' v) st) : XJ p l e R s m args below meth c cells slots Q A D cl cw nL w pc lv (.long x :: st) := by
  obtain ⟨hd, rfl⟩ := hd
  exact fun H locs ls hP hD hS hl => lv_lstore_n B.1 B.2.1 hd rfl hl hn rfl (fun ls' hl2 => k x ho H locs ls' hP hD hS (lv_sub hl2 ks (hl' x)))
theorem j_lstore (B : Bd p s m args meth c cc nL own D cl tys) {n : Nat} {x : Int64} {f : Int64 → Option ρ} {lv' : Int64 → List (Nat × Value)} (hd : D2 cc pc (.lstore n) pc') (ks : List Nat) (hn : n + 1 < nL) (hl' : ∀ v : Int64, lv_pick (ls2 lv n (.long v)) ks = lv' v) (ho : nm x f = some res) (k : ∀ v : Int64, f v = some res → XJ p l e R s m args below meth c cells slots Q A D cl cw nL w pc' (lv' v) st) : XJ p l e R s m args below meth c cells slots Q A D cl cw nL w pc lv (.long x :: st) := by
  obtain ⟨hd, rfl⟩ := hd
  exact fun H locs ls hP hD hS hl => lv_lstore B.1 B.2.1 hd hl hn rfl (fun ls' hl2 => k x ho H locs ls' hP hD hS (lv_sub hl2 ks (hl' x)))
theorem j_astore_n (B : Bd p s m args meth c cc nL own D cl tys) {n : Fin 4} {x : Nat} {lv' : List (Nat × Value)} (hd : D1 cc pc (.astore_n n) pc') (ks : List Nat) (hn : (n : Nat) < nL) (hl' : lv_pick (ls1 lv (n : Nat) (.ref x)) ks = lv') (k : XJ p l e R s m args below meth c cells slots Q A D cl cw nL w pc' lv' st) : XJ p l e R s m args below meth c cells slots Q A D cl cw nL w pc lv (.ref x :: st) := by
  obtain ⟨hd, rfl⟩ := hd
  exact fun H locs ls hP hD hS hl => lv_astore_n B.1 B.2.1 hd rfl hl hn rfl (fun ls' hl2 => k H locs ls' hP hD hS (lv_sub hl2 ks hl'))
theorem j_astore (B : Bd p s m args meth c cc nL own D cl tys) {n : Nat} {x : Nat} {lv' : List (Nat × Value)} (hd : D2 cc pc (.astore n) pc') (ks : List Nat) (hn : n < nL) (hl' : lv_pick (ls1 lv n (.ref x)) ks = lv') (k : XJ p l e R s m args below meth c cells slots Q A D cl cw nL w pc' lv' st) : XJ p l e R s m args below meth c cells slots Q A D cl cw nL w pc lv (.ref x :: st) := by
  obtain ⟨hd, rfl⟩ := hd
  exact fun H locs ls hP hD hS hl => lv_astore B.1 B.2.1 hd hl hn rfl (fun ls' hl2 => k H locs ls' hP hD hS (lv_sub hl2 ks hl'))
theorem j_iinc (B : Bd p s m args meth c cc nL own D cl tys) {i : Nat} {n : Int} {d x : Int32} {f : Int32 → Option ρ} {lv' : Int32 → List (Nat × Value)} (hd : D3 cc pc (.iinc i n) pc') (q : Nat) (hq : lv[q]? = some (i, .int x)) (hdn : Int32.ofInt n = d) (ks : List Nat) (hn : i < nL) (hl' : ∀ v : Int32, lv_pick (ls1 lv i (.int v)) ks = lv' v) (ho : nm (x + d) f = some res) (k : ∀ v : Int32, f v = some res → XJ p l e R s m args below meth c cells slots Q A D cl cw nL w pc' (lv' v) st) : XJ p l e R s m args below meth c cells slots Q A D cl cw nL w pc lv st := by
  obtain ⟨hd, rfl⟩ := hd
  exact fun H locs ls hP hD hS hl => lv_iinc B.1 B.2.1 hd hl hq (by rw [hdn]) hn rfl (fun ls' hl2 => k (x + d) ho H locs ls' hP hD hS (lv_sub hl2 ks (hl' _)))
theorem j_lsub {lv' : List (Nat × Value)} (ks : List Nat) (hl' : lv_pick lv ks = lv') (k : XJ p l e R s m args below meth c cells slots Q A D cl cw nL w pc lv' st) : XJ p l e R s m args below meth c cells slots Q A D cl cw nL w pc lv st := fun H locs ls hP hD hS hl => k H locs ls hP hD hS (lv_sub hl ks hl')
theorem j_iadd (B : Bd p s m args meth c cc nL own D cl tys) {x y : Int32} (hd : D1 cc pc .iadd pc') (k : XJ p l e R s m args below meth c cells slots Q A D cl cw nL w pc' lv (.int (x + y) :: st)) : XJ p l e R s m args below meth c cells slots Q A D cl cw nL w pc lv (.int y :: .int x :: st) := by
  obtain ⟨hd, rfl⟩ := hd
  exact fun H locs ls hP hD hS hl => lv_iadd B.1 B.2.1 hd (k H locs ls hP hD hS hl)
theorem j_isub (B : Bd p s m args meth c cc nL own D cl tys) {x y : Int32} (hd : D1 cc pc .isub pc') (k : XJ p l e R s m args below meth c cells slots Q A D cl cw nL w pc' lv (.int (x - y) :: st)) : XJ p l e R s m args below meth c cells slots Q A D cl cw nL w pc lv (.int y :: .int x :: st) := by
  obtain ⟨hd, rfl⟩ := hd
  exact fun H locs ls hP hD hS hl => lv_isub B.1 B.2.1 hd (k H locs ls hP hD hS hl)
theorem j_imul (B : Bd p s m args meth c cc nL own D cl tys) {x y : Int32} (hd : D1 cc pc .imul pc') (k : XJ p l e R s m args below meth c cells slots Q A D cl cw nL w pc' lv (.int (x * y) :: st)) : XJ p l e R s m args below meth c cells slots Q A D cl cw nL w pc lv (.int y :: .int x :: st) := by
  obtain ⟨hd, rfl⟩ := hd
  exact fun H locs ls hP hD hS hl => lv_imul B.1 B.2.1 hd (k H locs ls hP hD hS hl)
theorem j_iand (B : Bd p s m args meth c cc nL own D cl tys) {x y : Int32} (hd : D1 cc pc .iand pc') (k : XJ p l e R s m args below meth c cells slots Q A D cl cw nL w pc' lv (.int (x &&& y) :: st)) : XJ p l e R s m args below meth c cells slots Q A D cl cw nL w pc lv (.int y :: .int x :: st) := by
  obtain ⟨hd, rfl⟩ := hd
  exact fun H locs ls hP hD hS hl => lv_iand B.1 B.2.1 hd (k H locs ls hP hD hS hl)
theorem j_ior (B : Bd p s m args meth c cc nL own D cl tys) {x y : Int32} (hd : D1 cc pc .ior pc') (k : XJ p l e R s m args below meth c cells slots Q A D cl cw nL w pc' lv (.int (x ||| y) :: st)) : XJ p l e R s m args below meth c cells slots Q A D cl cw nL w pc lv (.int y :: .int x :: st) := by
  obtain ⟨hd, rfl⟩ := hd
  exact fun H locs ls hP hD hS hl => lv_ior B.1 B.2.1 hd (k H locs ls hP hD hS hl)
theorem j_ixor (B : Bd p s m args meth c cc nL own D cl tys) {x y : Int32} (hd : D1 cc pc .ixor pc') (k : XJ p l e R s m args below meth c cells slots Q A D cl cw nL w pc' lv (.int (x ^^^ y) :: st)) : XJ p l e R s m args below meth c cells slots Q A D cl cw nL w pc lv (.int y :: .int x :: st) := by
  obtain ⟨hd, rfl⟩ := hd
  exact fun H locs ls hP hD hS hl => lv_ixor B.1 B.2.1 hd (k H locs ls hP hD hS hl)
theorem j_ishl (B : Bd p s m args meth c cc nL own D cl tys) {x y : Int32} (hd : D1 cc pc .ishl pc') (k : XJ p l e R s m args below meth c cells slots Q A D cl cw nL w pc' lv (.int (x <<< (y &&& 31)) :: st)) : XJ p l e R s m args below meth c cells slots Q A D cl cw nL w pc lv (.int y :: .int x :: st) := by
  obtain ⟨hd, rfl⟩ := hd
  exact fun H locs ls hP hD hS hl => lv_ishl B.1 B.2.1 hd (k H locs ls hP hD hS hl)
theorem j_ishr (B : Bd p s m args meth c cc nL own D cl tys) {x y : Int32} (hd : D1 cc pc .ishr pc') (k : XJ p l e R s m args below meth c cells slots Q A D cl cw nL w pc' lv (.int (x >>> (y &&& 31)) :: st)) : XJ p l e R s m args below meth c cells slots Q A D cl cw nL w pc lv (.int y :: .int x :: st) := by
  obtain ⟨hd, rfl⟩ := hd
  exact fun H locs ls hP hD hS hl => lv_ishr B.1 B.2.1 hd (k H locs ls hP hD hS hl)
theorem j_idiv (B : Bd p s m args meth c cc nL own D cl tys) {x y : Int32} (hd : D1 cc pc .idiv pc') (hne : ¬ y = 0) (k : XJ p l e R s m args below meth c cells slots Q A D cl cw nL w pc' lv (.int (x / y) :: st)) : XJ p l e R s m args below meth c cells slots Q A D cl cw nL w pc lv (.int y :: .int x :: st) := by
  obtain ⟨hd, rfl⟩ := hd
  exact fun H locs ls hP hD hS hl => lv_idiv B.1 B.2.1 hd hne (k H locs ls hP hD hS hl)
theorem j_idivG (B : Bd p s m args meth c cc nL own D cl tys) {x y : Int32} {f : Int32 → Option ρ} (hd : D1 cc pc .idiv pc') (ho : rd (!decide (y = 0)) (x / y) f = some res) (k : ∀ v : Int32, f v = some res → XJ p l e R s m args below meth c cells slots Q A D cl cw nL w pc' lv (.int v :: st)) : XJ p l e R s m args below meth c cells slots Q A D cl cw nL w pc lv (.int y :: .int x :: st) := by
  obtain ⟨hne, ho⟩ := rd_e ho
  exact j_idiv B hd (by simpa using hne) (k _ ho)
theorem j_irem (B : Bd p s m args meth c cc nL own D cl tys) {x y : Int32} (hd : D1 cc pc .irem pc') (hne : ¬ y = 0) (k : XJ p l e R s m args below meth c cells slots Q A D cl cw nL w pc' lv (.int (x - x / y * y) :: st)) : XJ p l e R s m args below meth c cells slots Q A D cl cw nL w pc lv (.int y :: .int x :: st) := by
  obtain ⟨hd, rfl⟩ := hd
  exact fun H locs ls hP hD hS hl => lv_irem B.1 B.2.1 hd hne (k H locs ls hP hD hS hl)
theorem j_iremG (B : Bd p s m args meth c cc nL own D cl tys) {x y : Int32} {f : Int32 → Option ρ} (hd : D1 cc pc .irem pc') (ho : rd (!decide (y = 0)) (x - x / y * y) f = some res) (k : ∀ v : Int32, f v = some res → XJ p l e R s m args below meth c cells slots Q A D cl cw nL w pc' lv (.int v :: st)) : XJ p l e R s m args below meth c cells slots Q A D cl cw nL w pc lv (.int y :: .int x :: st) := by
  obtain ⟨hne, ho⟩ := rd_e ho
  exact j_irem B hd (by simpa using hne) (k _ ho)
theorem j_ladd (B : Bd p s m args meth c cc nL own D cl tys) {x y : Int64} (hd : D1 cc pc .ladd pc') (k : XJ p l e R s m args below meth c cells slots Q A D cl cw nL w pc' lv (.long (x + y) :: st)) : XJ p l e R s m args below meth c cells slots Q A D cl cw nL w pc lv (.long y :: .long x :: st) := by
  obtain ⟨hd, rfl⟩ := hd
  exact fun H locs ls hP hD hS hl => lv_ladd B.1 B.2.1 hd (k H locs ls hP hD hS hl)
theorem j_lsubt (B : Bd p s m args meth c cc nL own D cl tys) {x y : Int64} (hd : D1 cc pc .lsub pc') (k : XJ p l e R s m args below meth c cells slots Q A D cl cw nL w pc' lv (.long (x - y) :: st)) : XJ p l e R s m args below meth c cells slots Q A D cl cw nL w pc lv (.long y :: .long x :: st) := by
  obtain ⟨hd, rfl⟩ := hd
  exact fun H locs ls hP hD hS hl => lv_lsub B.1 B.2.1 hd (k H locs ls hP hD hS hl)
theorem j_lmul (B : Bd p s m args meth c cc nL own D cl tys) {x y : Int64} (hd : D1 cc pc .lmul pc') (k : XJ p l e R s m args below meth c cells slots Q A D cl cw nL w pc' lv (.long (x * y) :: st)) : XJ p l e R s m args below meth c cells slots Q A D cl cw nL w pc lv (.long y :: .long x :: st) := by
  obtain ⟨hd, rfl⟩ := hd
  exact fun H locs ls hP hD hS hl => lv_lmul B.1 B.2.1 hd (k H locs ls hP hD hS hl)
theorem j_land (B : Bd p s m args meth c cc nL own D cl tys) {x y : Int64} (hd : D1 cc pc .land pc') (k : XJ p l e R s m args below meth c cells slots Q A D cl cw nL w pc' lv (.long (x &&& y) :: st)) : XJ p l e R s m args below meth c cells slots Q A D cl cw nL w pc lv (.long y :: .long x :: st) := by
  obtain ⟨hd, rfl⟩ := hd
  exact fun H locs ls hP hD hS hl => lv_land B.1 B.2.1 hd (k H locs ls hP hD hS hl)
theorem j_lor (B : Bd p s m args meth c cc nL own D cl tys) {x y : Int64} (hd : D1 cc pc .lor pc') (k : XJ p l e R s m args below meth c cells slots Q A D cl cw nL w pc' lv (.long (x ||| y) :: st)) : XJ p l e R s m args below meth c cells slots Q A D cl cw nL w pc lv (.long y :: .long x :: st) := by
  obtain ⟨hd, rfl⟩ := hd
  exact fun H locs ls hP hD hS hl => lv_lor B.1 B.2.1 hd (k H locs ls hP hD hS hl)
theorem j_ldivG (B : Bd p s m args meth c cc nL own D cl tys) {x y : Int64} {f : Int64 → Option ρ} (hd : D1 cc pc .ldiv pc') (ho : rd (!decide (y = 0)) (x / y) f = some res) (k : ∀ v : Int64, f v = some res → XJ p l e R s m args below meth c cells slots Q A D cl cw nL w pc' lv (.long v :: st)) : XJ p l e R s m args below meth c cells slots Q A D cl cw nL w pc lv (.long y :: .long x :: st) := by
  obtain ⟨hd, rfl⟩ := hd
  obtain ⟨hne, ho⟩ := rd_e ho
  exact fun H locs ls hP hD hS hl => lv_ldiv B.1 B.2.1 hd (by simpa using hne) (k _ ho H locs ls hP hD hS hl)
theorem j_lremG (B : Bd p s m args meth c cc nL own D cl tys) {x y : Int64} {f : Int64 → Option ρ} (hd : D1 cc pc .lrem pc') (ho : rd (!decide (y = 0)) (x - x / y * y) f = some res) (k : ∀ v : Int64, f v = some res → XJ p l e R s m args below meth c cells slots Q A D cl cw nL w pc' lv (.long v :: st)) : XJ p l e R s m args below meth c cells slots Q A D cl cw nL w pc lv (.long y :: .long x :: st) := by
  obtain ⟨hd, rfl⟩ := hd
  obtain ⟨hne, ho⟩ := rd_e ho
  exact fun H locs ls hP hD hS hl => lv_lrem B.1 B.2.1 hd (by simpa using hne) (k _ ho H locs ls hP hD hS hl)
theorem j_ineg (B : Bd p s m args meth c cc nL own D cl tys) {x : Int32} (hd : D1 cc pc .ineg pc') (k : XJ p l e R s m args below meth c cells slots Q A D cl cw nL w pc' lv (.int (-x) :: st)) : XJ p l e R s m args below meth c cells slots Q A D cl cw nL w pc lv (.int x :: st) := by
  obtain ⟨hd, rfl⟩ := hd
  exact fun H locs ls hP hD hS hl => lv_ineg B.1 B.2.1 hd (k H locs ls hP hD hS hl)
theorem j_lneg (B : Bd p s m args meth c cc nL own D cl tys) {x : Int64} (hd : D1 cc pc .lneg pc') (k : XJ p l e R s m args below meth c cells slots Q A D cl cw nL w pc' lv (.long (-x) :: st)) : XJ p l e R s m args below meth c cells slots Q A D cl cw nL w pc lv (.long x :: st) := by
  obtain ⟨hd, rfl⟩ := hd
  exact fun H locs ls hP hD hS hl => lv_lneg B.1 B.2.1 hd (k H locs ls hP hD hS hl)
theorem j_i2l (B : Bd p s m args meth c cc nL own D cl tys) {x : Int32} (hd : D1 cc pc .i2l pc') (k : XJ p l e R s m args below meth c cells slots Q A D cl cw nL w pc' lv (.long (x.toInt64) :: st)) : XJ p l e R s m args below meth c cells slots Q A D cl cw nL w pc lv (.int x :: st) := by
  obtain ⟨hd, rfl⟩ := hd
  exact fun H locs ls hP hD hS hl => lv_i2l B.1 B.2.1 hd rfl (k H locs ls hP hD hS hl)
theorem j_l2i (B : Bd p s m args meth c cc nL own D cl tys) {x : Int64} (hd : D1 cc pc .l2i pc') (k : XJ p l e R s m args below meth c cells slots Q A D cl cw nL w pc' lv (.int (x.toInt32) :: st)) : XJ p l e R s m args below meth c cells slots Q A D cl cw nL w pc lv (.long x :: st) := by
  obtain ⟨hd, rfl⟩ := hd
  exact fun H locs ls hP hD hS hl => lv_l2i B.1 B.2.1 hd rfl (k H locs ls hP hD hS hl)
theorem j_i2b (B : Bd p s m args meth c cc nL own D cl tys) {x : Int32} (hd : D1 cc pc .i2b pc') (k : XJ p l e R s m args below meth c cells slots Q A D cl cw nL w pc' lv (.int (x.toInt8.toInt32) :: st)) : XJ p l e R s m args below meth c cells slots Q A D cl cw nL w pc lv (.int x :: st) := by
  obtain ⟨hd, rfl⟩ := hd
  exact fun H locs ls hP hD hS hl => lv_i2b B.1 B.2.1 hd rfl (k H locs ls hP hD hS hl)
theorem j_lshl (B : Bd p s m args meth c cc nL own D cl tys) {x : Int64} {y : Int32} (hd : D1 cc pc .lshl pc') (k : XJ p l e R s m args below meth c cells slots Q A D cl cw nL w pc' lv (.long (x <<< (y.toInt64 &&& 63)) :: st)) : XJ p l e R s m args below meth c cells slots Q A D cl cw nL w pc lv (.int y :: .long x :: st) := by
  obtain ⟨hd, rfl⟩ := hd
  exact fun H locs ls hP hD hS hl => lv_lshl B.1 B.2.1 hd rfl (k H locs ls hP hD hS hl)
theorem j_lshr (B : Bd p s m args meth c cc nL own D cl tys) {x : Int64} {y : Int32} (hd : D1 cc pc .lshr pc') (k : XJ p l e R s m args below meth c cells slots Q A D cl cw nL w pc' lv (.long (x >>> (y.toInt64 &&& 63)) :: st)) : XJ p l e R s m args below meth c cells slots Q A D cl cw nL w pc lv (.int y :: .long x :: st) := by
  obtain ⟨hd, rfl⟩ := hd
  exact fun H locs ls hP hD hS hl => lv_lshr B.1 B.2.1 hd rfl (k H locs ls hP hD hS hl)
theorem j_dup (B : Bd p s m args meth c cc nL own D cl tys) {v : Value} (hd : D1 cc pc .dup pc') (hc : v.category = 1) (k : XJ p l e R s m args below meth c cells slots Q A D cl cw nL w pc' lv (v :: v :: st)) : XJ p l e R s m args below meth c cells slots Q A D cl cw nL w pc lv (v :: st) := by
  obtain ⟨hd, rfl⟩ := hd
  exact fun H locs ls hP hD hS hl => lv_dup B.1 B.2.1 hd hc (k H locs ls hP hD hS hl)
theorem j_pop (B : Bd p s m args meth c cc nL own D cl tys) {v : Value} (hd : D1 cc pc .pop pc') (hc : v.category = 1) (k : XJ p l e R s m args below meth c cells slots Q A D cl cw nL w pc' lv st) : XJ p l e R s m args below meth c cells slots Q A D cl cw nL w pc lv (v :: st) := by
  obtain ⟨hd, rfl⟩ := hd
  exact fun H locs ls hP hD hS hl => lv_pop B.1 B.2.1 hd hc (k H locs ls hP hD hS hl)
theorem j_dup2 (B : Bd p s m args meth c cc nL own D cl tys) {v u : Value} (hd : D1 cc pc .dup2 pc') (hc : v.category = 1) (hu : u.category = 1) (k : XJ p l e R s m args below meth c cells slots Q A D cl cw nL w pc' lv (v :: u :: v :: u :: st)) : XJ p l e R s m args below meth c cells slots Q A D cl cw nL w pc lv (v :: u :: st) := by
  obtain ⟨hd, rfl⟩ := hd
  exact fun H locs ls hP hD hS hl => lv_dup2_11 B.1 B.2.1 hd hc hu (k H locs ls hP hD hS hl)
theorem j_goto (B : Bd p s m args meth c cc nL own D cl tys) (hd : DJ cc pc .goto tgt pc') (k : XJ p l e R s m args below meth c cells slots Q A D cl cw nL w tgt lv st) : XJ p l e R s m args below meth c cells slots Q A D cl cw nL w pc lv st := by
  obtain ⟨off, hd, ht, rfl⟩ := hd
  exact fun H locs ls hP hD hS hl => lv_goto B.1 B.2.1 hd ht (k H locs ls hP hD hS hl)
theorem j_icmp_eq (B : Bd p s m args meth c cc nL own D cl tys) {x y : Int32} {dc : Decidable (x = y)} {a b : Option ρ} (hd : DJ cc pc (.if_icmp .eq) tgt pc') (ho : (@ite _ (x = y) dc a b) = some res) (kt : x = y → a = some res → XJ p l e R s m args below meth c cells slots Q A D cl cw nL w tgt lv st) (kf : ¬ (x = y) → b = some res → XJ p l e R s m args below meth c cells slots Q A D cl cw nL w pc' lv st) : XJ p l e R s m args below meth c cells slots Q A D cl cw nL w pc lv (.int y :: .int x :: st) := by
  obtain ⟨off, hd, ht, rfl⟩ := hd
  exact fun H locs ls hP hD hS hl => lv_icmp_eq B.1 B.2.1 hd ht (fun h => kt h (by rw [if_pos h] at ho; exact ho) H locs ls hP hD hS hl) (fun h => kf h (by rw [if_neg h] at ho; exact ho) H locs ls hP hD hS hl)
theorem j_if_eq (B : Bd p s m args meth c cc nL own D cl tys) {x : Int32} {dc : Decidable (x = 0)} {a b : Option ρ} (hd : DJ cc pc (.ifCond .eq) tgt pc') (ho : (@ite _ (x = 0) dc a b) = some res) (kt : x = 0 → a = some res → XJ p l e R s m args below meth c cells slots Q A D cl cw nL w tgt lv st) (kf : ¬ (x = 0) → b = some res → XJ p l e R s m args below meth c cells slots Q A D cl cw nL w pc' lv st) : XJ p l e R s m args below meth c cells slots Q A D cl cw nL w pc lv (.int x :: st) := by
  obtain ⟨off, hd, ht, rfl⟩ := hd
  exact fun H locs ls hP hD hS hl => lv_if_eq B.1 B.2.1 hd ht (fun h => kt h (by rw [if_pos h] at ho; exact ho) H locs ls hP hD hS hl) (fun h => kf h (by rw [if_neg h] at ho; exact ho) H locs ls hP hD hS hl)
theorem j_icmp_ne (B : Bd p s m args meth c cc nL own D cl tys) {x y : Int32} {dc : Decidable (x = y)} {a b : Option ρ} (hd : DJ cc pc (.if_icmp .ne) tgt pc') (ho : (@ite _ (x = y) dc a b) = some res) (kt : ¬ (x = y) → b = some res → XJ p l e R s m args below meth c cells slots Q A D cl cw nL w tgt lv st) (kf : x = y → a = some res → XJ p l e R s m args below meth c cells slots Q A D cl cw nL w pc' lv st) : XJ p l e R s m args below meth c cells slots Q A D cl cw nL w pc lv (.int y :: .int x :: st) := by
  obtain ⟨off, hd, ht, rfl⟩ := hd
  exact fun H locs ls hP hD hS hl => lv_icmp_ne B.1 B.2.1 hd ht (fun h => kt h (by rw [if_neg h] at ho; exact ho) H locs ls hP hD hS hl) (fun h => kf h (by rw [if_pos h] at ho; exact ho) H locs ls hP hD hS hl)
theorem j_if_ne (B : Bd p s m args meth c cc nL own D cl tys) {x : Int32} {dc : Decidable (x = 0)} {a b : Option ρ} (hd : DJ cc pc (.ifCond .ne) tgt pc') (ho : (@ite _ (x = 0) dc a b) = some res) (kt : ¬ (x = 0) → b = some res → XJ p l e R s m args below meth c cells slots Q A D cl cw nL w tgt lv st) (kf : x = 0 → a = some res → XJ p l e R s m args below meth c cells slots Q A D cl cw nL w pc' lv st) : XJ p l e R s m args below meth c cells slots Q A D cl cw nL w pc lv (.int x :: st) := by
  obtain ⟨off, hd, ht, rfl⟩ := hd
  exact fun H locs ls hP hD hS hl => lv_if_ne B.1 B.2.1 hd ht (fun h => kt h (by rw [if_neg h] at ho; exact ho) H locs ls hP hD hS hl) (fun h => kf h (by rw [if_pos h] at ho; exact ho) H locs ls hP hD hS hl)
theorem j_icmp_lt (B : Bd p s m args meth c cc nL own D cl tys) {x y : Int32} {dc : Decidable (x < y)} {a b : Option ρ} (hd : DJ cc pc (.if_icmp .lt) tgt pc') (ho : (@ite _ (x < y) dc a b) = some res) (kt : x < y → a = some res → XJ p l e R s m args below meth c cells slots Q A D cl cw nL w tgt lv st) (kf : ¬ (x < y) → b = some res → XJ p l e R s m args below meth c cells slots Q A D cl cw nL w pc' lv st) : XJ p l e R s m args below meth c cells slots Q A D cl cw nL w pc lv (.int y :: .int x :: st) := by
  obtain ⟨off, hd, ht, rfl⟩ := hd
  exact fun H locs ls hP hD hS hl => lv_icmp_lt B.1 B.2.1 hd ht (fun h => kt h (by rw [if_pos h] at ho; exact ho) H locs ls hP hD hS hl) (fun h => kf h (by rw [if_neg h] at ho; exact ho) H locs ls hP hD hS hl)
theorem j_if_lt (B : Bd p s m args meth c cc nL own D cl tys) {x : Int32} {dc : Decidable (x < 0)} {a b : Option ρ} (hd : DJ cc pc (.ifCond .lt) tgt pc') (ho : (@ite _ (x < 0) dc a b) = some res) (kt : x < 0 → a = some res → XJ p l e R s m args below meth c cells slots Q A D cl cw nL w tgt lv st) (kf : ¬ (x < 0) → b = some res → XJ p l e R s m args below meth c cells slots Q A D cl cw nL w pc' lv st) : XJ p l e R s m args below meth c cells slots Q A D cl cw nL w pc lv (.int x :: st) := by
  obtain ⟨off, hd, ht, rfl⟩ := hd
  exact fun H locs ls hP hD hS hl => lv_if_lt B.1 B.2.1 hd ht (fun h => kt h (by rw [if_pos h] at ho; exact ho) H locs ls hP hD hS hl) (fun h => kf h (by rw [if_neg h] at ho; exact ho) H locs ls hP hD hS hl)
theorem j_icmp_ge (B : Bd p s m args meth c cc nL own D cl tys) {x y : Int32} {dc : Decidable (y ≤ x)} {a b : Option ρ} (hd : DJ cc pc (.if_icmp .ge) tgt pc') (ho : (@ite _ (y ≤ x) dc a b) = some res) (kt : y ≤ x → a = some res → XJ p l e R s m args below meth c cells slots Q A D cl cw nL w tgt lv st) (kf : ¬ (y ≤ x) → b = some res → XJ p l e R s m args below meth c cells slots Q A D cl cw nL w pc' lv st) : XJ p l e R s m args below meth c cells slots Q A D cl cw nL w pc lv (.int y :: .int x :: st) := by
  obtain ⟨off, hd, ht, rfl⟩ := hd
  exact fun H locs ls hP hD hS hl => lv_icmp_ge B.1 B.2.1 hd ht (fun h => kt h (by rw [if_pos h] at ho; exact ho) H locs ls hP hD hS hl) (fun h => kf h (by rw [if_neg h] at ho; exact ho) H locs ls hP hD hS hl)
theorem j_if_ge (B : Bd p s m args meth c cc nL own D cl tys) {x : Int32} {dc : Decidable (0 ≤ x)} {a b : Option ρ} (hd : DJ cc pc (.ifCond .ge) tgt pc') (ho : (@ite _ (0 ≤ x) dc a b) = some res) (kt : 0 ≤ x → a = some res → XJ p l e R s m args below meth c cells slots Q A D cl cw nL w tgt lv st) (kf : ¬ (0 ≤ x) → b = some res → XJ p l e R s m args below meth c cells slots Q A D cl cw nL w pc' lv st) : XJ p l e R s m args below meth c cells slots Q A D cl cw nL w pc lv (.int x :: st) := by
  obtain ⟨off, hd, ht, rfl⟩ := hd
  exact fun H locs ls hP hD hS hl => lv_if_ge B.1 B.2.1 hd ht (fun h => kt h (by rw [if_pos h] at ho; exact ho) H locs ls hP hD hS hl) (fun h => kf h (by rw [if_neg h] at ho; exact ho) H locs ls hP hD hS hl)
theorem j_icmp_gt (B : Bd p s m args meth c cc nL own D cl tys) {x y : Int32} {dc : Decidable (y < x)} {a b : Option ρ} (hd : DJ cc pc (.if_icmp .gt) tgt pc') (ho : (@ite _ (y < x) dc a b) = some res) (kt : y < x → a = some res → XJ p l e R s m args below meth c cells slots Q A D cl cw nL w tgt lv st) (kf : ¬ (y < x) → b = some res → XJ p l e R s m args below meth c cells slots Q A D cl cw nL w pc' lv st) : XJ p l e R s m args below meth c cells slots Q A D cl cw nL w pc lv (.int y :: .int x :: st) := by
  obtain ⟨off, hd, ht, rfl⟩ := hd
  exact fun H locs ls hP hD hS hl => lv_icmp_gt B.1 B.2.1 hd ht (fun h => kt h (by rw [if_pos h] at ho; exact ho) H locs ls hP hD hS hl) (fun h => kf h (by rw [if_neg h] at ho; exact ho) H locs ls hP hD hS hl)
theorem j_if_gt (B : Bd p s m args meth c cc nL own D cl tys) {x : Int32} {dc : Decidable (0 < x)} {a b : Option ρ} (hd : DJ cc pc (.ifCond .gt) tgt pc') (ho : (@ite _ (0 < x) dc a b) = some res) (kt : 0 < x → a = some res → XJ p l e R s m args below meth c cells slots Q A D cl cw nL w tgt lv st) (kf : ¬ (0 < x) → b = some res → XJ p l e R s m args below meth c cells slots Q A D cl cw nL w pc' lv st) : XJ p l e R s m args below meth c cells slots Q A D cl cw nL w pc lv (.int x :: st) := by
  obtain ⟨off, hd, ht, rfl⟩ := hd
  exact fun H locs ls hP hD hS hl => lv_if_gt B.1 B.2.1 hd ht (fun h => kt h (by rw [if_pos h] at ho; exact ho) H locs ls hP hD hS hl) (fun h => kf h (by rw [if_neg h] at ho; exact ho) H locs ls hP hD hS hl)
theorem j_icmp_le (B : Bd p s m args meth c cc nL own D cl tys) {x y : Int32} {dc : Decidable (x ≤ y)} {a b : Option ρ} (hd : DJ cc pc (.if_icmp .le) tgt pc') (ho : (@ite _ (x ≤ y) dc a b) = some res) (kt : x ≤ y → a = some res → XJ p l e R s m args below meth c cells slots Q A D cl cw nL w tgt lv st) (kf : ¬ (x ≤ y) → b = some res → XJ p l e R s m args below meth c cells slots Q A D cl cw nL w pc' lv st) : XJ p l e R s m args below meth c cells slots Q A D cl cw nL w pc lv (.int y :: .int x :: st) := by
  obtain ⟨off, hd, ht, rfl⟩ := hd
  exact fun H locs ls hP hD hS hl => lv_icmp_le B.1 B.2.1 hd ht (fun h => kt h (by rw [if_pos h] at ho; exact ho) H locs ls hP hD hS hl) (fun h => kf h (by rw [if_neg h] at ho; exact ho) H locs ls hP hD hS hl)
theorem j_if_le (B : Bd p s m args meth c cc nL own D cl tys) {x : Int32} {dc : Decidable (x ≤ 0)} {a b : Option ρ} (hd : DJ cc pc (.ifCond .le) tgt pc') (ho : (@ite _ (x ≤ 0) dc a b) = some res) (kt : x ≤ 0 → a = some res → XJ p l e R s m args below meth c cells slots Q A D cl cw nL w tgt lv st) (kf : ¬ (x ≤ 0) → b = some res → XJ p l e R s m args below meth c cells slots Q A D cl cw nL w pc' lv st) : XJ p l e R s m args below meth c cells slots Q A D cl cw nL w pc lv (.int x :: st) := by
  obtain ⟨off, hd, ht, rfl⟩ := hd
  exact fun H locs ls hP hD hS hl => lv_if_le B.1 B.2.1 hd ht (fun h => kt h (by rw [if_pos h] at ho; exact ho) H locs ls hP hD hS hl) (fun h => kf h (by rw [if_neg h] at ho; exact ho) H locs ls hP hD hS hl)
theorem j_lcmp_ge (B : Bd p s m args meth c cc nL own D cl tys) {x y : Int64} {pc1 : Nat} {dc : Decidable (y ≤ x)} {a b : Option ρ} (hc : D1 cc pc .lcmp pc1) (hd : DJ cc pc1 (.ifCond .ge) tgt pc') (ho : (@ite _ (y ≤ x) dc a b) = some res) (kt : y ≤ x → a = some res → XJ p l e R s m args below meth c cells slots Q A D cl cw nL w tgt lv st) (kf : ¬ (y ≤ x) → b = some res → XJ p l e R s m args below meth c cells slots Q A D cl cw nL w pc' lv st) : XJ p l e R s m args below meth c cells slots Q A D cl cw nL w pc lv (.long y :: .long x :: st) := by
  obtain ⟨hc, rfl⟩ := hc
  obtain ⟨off, hd, ht, rfl⟩ := hd
  exact fun H locs ls hP hD hS hl => W.lcmp B.1 B.2.1 hc (lv_if_ge B.1 B.2.1 hd ht (fun h => kt ((lg_cmp_ge x y).mp h) (by rw [if_pos ((lg_cmp_ge x y).mp h)] at ho; exact ho) H locs ls hP hD hS hl) (fun h => kf (fun z => h ((lg_cmp_ge x y).mpr z)) (by rw [if_neg (fun z => h ((lg_cmp_ge x y).mpr z))] at ho; exact ho) H locs ls hP hD hS hl))
theorem j_lcmp_le (B : Bd p s m args meth c cc nL own D cl tys) {x y : Int64} {pc1 : Nat} {dc : Decidable (x ≤ y)} {a b : Option ρ} (hc : D1 cc pc .lcmp pc1) (hd : DJ cc pc1 (.ifCond .le) tgt pc') (ho : (@ite _ (x ≤ y) dc a b) = some res) (kt : x ≤ y → a = some res → XJ p l e R s m args below meth c cells slots Q A D cl cw nL w tgt lv st) (kf : ¬ (x ≤ y) → b = some res → XJ p l e R s m args below meth c cells slots Q A D cl cw nL w pc' lv st) : XJ p l e R s m args below meth c cells slots Q A D cl cw nL w pc lv (.long y :: .long x :: st) := by
  obtain ⟨hc, rfl⟩ := hc
  obtain ⟨off, hd, ht, rfl⟩ := hd
  exact fun H locs ls hP hD hS hl => W.lcmp B.1 B.2.1 hc (lv_if_le B.1 B.2.1 hd ht (fun h => kt ((lg_cmp_le x y).mp h) (by rw [if_pos ((lg_cmp_le x y).mp h)] at ho; exact ho) H locs ls hP hD hS hl) (fun h => kf (fun z => h ((lg_cmp_le x y).mpr z)) (by rw [if_neg (fun z => h ((lg_cmp_le x y).mpr z))] at ho; exact ho) H locs ls hP hD hS hl))
theorem j_lcmp_gt (B : Bd p s m args meth c cc nL own D cl tys) {x y : Int64} {pc1 : Nat} {dc : Decidable (y < x)} {a b : Option ρ} (hc : D1 cc pc .lcmp pc1) (hd : DJ cc pc1 (.ifCond .gt) tgt pc') (ho : (@ite _ (y < x) dc a b) = some res) (kt : y < x → a = some res → XJ p l e R s m args below meth c cells slots Q A D cl cw nL w tgt lv st) (kf : ¬ (y < x) → b = some res → XJ p l e R s m args below meth c cells slots Q A D cl cw nL w pc' lv st) : XJ p l e R s m args below meth c cells slots Q A D cl cw nL w pc lv (.long y :: .long x :: st) := by
  obtain ⟨hc, rfl⟩ := hc
  obtain ⟨off, hd, ht, rfl⟩ := hd
  exact fun H locs ls hP hD hS hl => W.lcmp B.1 B.2.1 hc (lv_if_gt B.1 B.2.1 hd ht (fun h => kt ((lg_cmp_gt x y).mp h) (by rw [if_pos ((lg_cmp_gt x y).mp h)] at ho; exact ho) H locs ls hP hD hS hl) (fun h => kf (fun z => h ((lg_cmp_gt x y).mpr z)) (by rw [if_neg (fun z => h ((lg_cmp_gt x y).mpr z))] at ho; exact ho) H locs ls hP hD hS hl))
theorem j_lcmp_lt (B : Bd p s m args meth c cc nL own D cl tys) {x y : Int64} {pc1 : Nat} {dc : Decidable (x < y)} {a b : Option ρ} (hc : D1 cc pc .lcmp pc1) (hd : DJ cc pc1 (.ifCond .lt) tgt pc') (ho : (@ite _ (x < y) dc a b) = some res) (kt : x < y → a = some res → XJ p l e R s m args below meth c cells slots Q A D cl cw nL w tgt lv st) (kf : ¬ (x < y) → b = some res → XJ p l e R s m args below meth c cells slots Q A D cl cw nL w pc' lv st) : XJ p l e R s m args below meth c cells slots Q A D cl cw nL w pc lv (.long y :: .long x :: st) := by
  obtain ⟨hc, rfl⟩ := hc
  obtain ⟨off, hd, ht, rfl⟩ := hd
  exact fun H locs ls hP hD hS hl => W.lcmp B.1 B.2.1 hc (lv_if_lt B.1 B.2.1 hd ht (fun h => kt ((lg_cmp_lt x y).mp h) (by rw [if_pos ((lg_cmp_lt x y).mp h)] at ho; exact ho) H locs ls hP hD hS hl) (fun h => kf (fun z => h ((lg_cmp_lt x y).mpr z)) (by rw [if_neg (fun z => h ((lg_cmp_lt x y).mpr z))] at ho; exact ho) H locs ls hP hD hS hl))
theorem j_lcmp_eq (B : Bd p s m args meth c cc nL own D cl tys) {x y : Int64} {pc1 : Nat} {dc : Decidable (x = y)} {a b : Option ρ} (hc : D1 cc pc .lcmp pc1) (hd : DJ cc pc1 (.ifCond .eq) tgt pc') (ho : (@ite _ (x = y) dc a b) = some res) (kt : x = y → a = some res → XJ p l e R s m args below meth c cells slots Q A D cl cw nL w tgt lv st) (kf : ¬ (x = y) → b = some res → XJ p l e R s m args below meth c cells slots Q A D cl cw nL w pc' lv st) : XJ p l e R s m args below meth c cells slots Q A D cl cw nL w pc lv (.long y :: .long x :: st) := by
  obtain ⟨hc, rfl⟩ := hc
  obtain ⟨off, hd, ht, rfl⟩ := hd
  exact fun H locs ls hP hD hS hl => W.lcmp B.1 B.2.1 hc (lv_if_eq B.1 B.2.1 hd ht (fun h => kt ((lg_cmp_eq x y).mp h) (by rw [if_pos ((lg_cmp_eq x y).mp h)] at ho; exact ho) H locs ls hP hD hS hl) (fun h => kf (fun z => h ((lg_cmp_eq x y).mpr z)) (by rw [if_neg (fun z => h ((lg_cmp_eq x y).mpr z))] at ho; exact ho) H locs ls hP hD hS hl))
theorem j_lcmp_ne (B : Bd p s m args meth c cc nL own D cl tys) {x y : Int64} {pc1 : Nat} {dc : Decidable (x = y)} {a b : Option ρ} (hc : D1 cc pc .lcmp pc1) (hd : DJ cc pc1 (.ifCond .ne) tgt pc') (ho : (@ite _ (x = y) dc a b) = some res) (kt : ¬ (x = y) → b = some res → XJ p l e R s m args below meth c cells slots Q A D cl cw nL w tgt lv st) (kf : x = y → a = some res → XJ p l e R s m args below meth c cells slots Q A D cl cw nL w pc' lv st) : XJ p l e R s m args below meth c cells slots Q A D cl cw nL w pc lv (.long y :: .long x :: st) := by
  obtain ⟨hc, rfl⟩ := hc
  obtain ⟨off, hd, ht, rfl⟩ := hd
  exact fun H locs ls hP hD hS hl => W.lcmp B.1 B.2.1 hc (lv_if_ne B.1 B.2.1 hd ht (fun h => kt (fun z => h ((lg_cmp_eq x y).mpr z)) (by rw [if_neg (fun z => h ((lg_cmp_eq x y).mpr z))] at ho; exact ho) H locs ls hP hD hS hl) (fun h => kf ((lg_cmp_eq x y).mp h) (by rw [if_pos ((lg_cmp_eq x y).mp h)] at ho; exact ho) H locs ls hP hD hS hl))
theorem j_get (B : Bd p s m args meth c cc nL own D cl tys) {C : String} {T : u_T} {N ci index : Nat} {fs : List Value} {a : Nat} {v : Value} (hin : ∀ w ∈ u_ws C T N, w ∈ lw_all) (q0 : Nat) (he : (cw w)[q0]? = some (a, .inr (ci, fs))) (hc : cl[ci]? = some (C, T, N)) (k : Nat) (hk : k < N) (hlink : Cond.fieldLink own index (T k).1 (T k).2.1 (T k).2.2.1 ∈ lw_all) (hv : fs[k]? = some v) (hd : D3 cc pc (.getfield index) pc') (kk : XJ p l e R s m args below meth c cells slots Q A D cl cw nL w pc' lv (v :: st)) : XJ p l e R s m args below meth c cells slots Q A D cl cw nL w pc lv (.ref a :: st) := by
  obtain ⟨hd, rfl⟩ := hd
  exact fun H locs ls hP hD hS hl => va_get B.1 B.2.1 B.2.2.2.2.1 hin B.2.2.2.1 B.2.2.2.2.2.1 hP q0 he hc k hk (B.2.2.2.2.1 _ hlink) (fun _ h => h) hv hd (kk H locs ls hP hD hS hl)
theorem j_getN (B : Bd p s m args meth c cc nL own D cl tys) {C host : String} {T : u_T} {N ci index : Nat} {fs : List Value} {a : Nat} {v : Value} (hin : ∀ w ∈ u_ws C T N, w ∈ lw_all) (q0 : Nat) (he : (cw w)[q0]? = some (a, .inr (ci, fs))) (hc : cl[ci]? = some (C, T, N)) (k : Nat) (hk : k < N) (hlink : va_Nw (.fieldLinkNest own index (T k).1 (T k).2.1 (T k).2.2.1 host) s) (hv : fs[k]? = some v) (hd : D3 cc pc (.getfield index) pc') (kk : XJ p l e R s m args below meth c cells slots Q A D cl cw nL w pc' lv (v :: st)) : XJ p l e R s m args below meth c cells slots Q A D cl cw nL w pc lv (.ref a :: st) := by
  obtain ⟨hd, rfl⟩ := hd
  exact fun H locs ls hP hD hS hl => va_getN B.1 B.2.1 B.2.2.2.2.1 hin B.2.2.2.1 B.2.2.2.2.2.1 hP q0 he hc k hk (hlink.use rfl) (fun _ h => h) hv hd (kk H locs ls hP hD hS hl)
theorem j_put (B : Bd p s m args meth c cc nL own D cl tys) {C : String} {T : u_T} {N ci index : Nat} {fs : List Value} {a : Nat} {v : Value} {w1 : σ} {f : σ → Option ρ} {ty : FieldType} (hin : ∀ w ∈ u_ws C T N, w ∈ lw_all) (ty0 : Nat → FieldType) (hty : ∀ k, k < N → parseFieldDescriptor (T k).2.2.1 = some (ty0 k)) (hnm : ∀ a, a < N → ∀ b, b < N → a ≠ b → (T a).2.1 ≠ (T b).2.1) (q0 : Nat) (he : (cw w)[q0]? = some (a, .inr (ci, fs))) (hc : cl[ci]? = some (C, T, N)) (k : Nat) (hk : k < N) (hlink : Cond.fieldLink own index (T k).1 (T k).2.1 (T k).2.2.1 ∈ lw_all) (hfin : (T k).2.2.2 = false) (hty1 : ty0 k = ty) (hn : narrow ty v = v) (hfit : fits ty v = true) (hl : k < fs.length) (hw : (cw w).set q0 (a, .inr (ci, fs.set k v)) = cw w1) (hd : D3 cc pc (.putfield index) pc') (ho : nm w1 f = some res) (kk : ∀ w' : σ, f w' = some res → XJ p l e R s m args below meth c cells slots Q A D cl cw nL w' pc' lv st) : XJ p l e R s m args below meth c cells slots Q A D cl cw nL w pc lv (v :: .ref a :: st) := by
  obtain ⟨hd, rfl⟩ := hd
  exact fun H locs ls hP hD hS hl2 => va_put B.1 B.2.1 B.2.2.2.2.1 hin ty0 hty hnm B.2.2.2.1 B.2.2.2.2.2.1 hP hD hS q0 he hc k hk (B.2.2.2.2.1 _ hlink) (fun _ h => h) hfin (by rw [hty k hk, hty1]) hn hfit hl hd (fun H1 locs1 hP1 hD1 hS1 => kk w1 ho H1 locs1 ls (by rw [← hw]; exact hP1) (by rw [← hw]; exact hD1) hS1 hl2)
theorem j_putN (B : Bd p s m args meth c cc nL own D cl tys) {C host : String} {T : u_T} {N ci index : Nat} {fs : List Value} {a : Nat} {v : Value} {w1 : σ} {f : σ → Option ρ} {ty : FieldType} (hin : ∀ w ∈ u_ws C T N, w ∈ lw_all) (ty0 : Nat → FieldType) (hty : ∀ k, k < N → parseFieldDescriptor (T k).2.2.1 = some (ty0 k)) (hnm : ∀ a, a < N → ∀ b, b < N → a ≠ b → (T a).2.1 ≠ (T b).2.1) (q0 : Nat) (he : (cw w)[q0]? = some (a, .inr (ci, fs))) (hc : cl[ci]? = some (C, T, N)) (k : Nat) (hk : k < N) (hlink : va_Nw (.fieldLinkNest own index (T k).1 (T k).2.1 (T k).2.2.1 host) s) (hfin : (T k).2.2.2 = false) (hty1 : ty0 k = ty) (hn : narrow ty v = v) (hfit : fits ty v = true) (hl : k < fs.length) (hw : (cw w).set q0 (a, .inr (ci, fs.set k v)) = cw w1) (hd : D3 cc pc (.putfield index) pc') (ho : nm w1 f = some res) (kk : ∀ w' : σ, f w' = some res → XJ p l e R s m args below meth c cells slots Q A D cl cw nL w' pc' lv st) : XJ p l e R s m args below meth c cells slots Q A D cl cw nL w pc lv (v :: .ref a :: st) := by
  obtain ⟨hd, rfl⟩ := hd
  exact fun H locs ls hP hD hS hl2 => va_putN B.1 B.2.1 B.2.2.2.2.1 hin ty0 hty hnm B.2.2.2.1 B.2.2.2.2.2.1 hP hD hS q0 he hc k hk (hlink.use rfl) (fun _ h => h) hfin (by rw [hty k hk, hty1]) hn hfit hl hd (fun H1 locs1 hP1 hD1 hS1 => kk w1 ho H1 locs1 ls (by rw [← hw]; exact hP1) (by rw [← hw]; exact hD1) hS1 hl2)
theorem j_iald (B : Bd p s m args meth c cc nL own D cl tys) {a : Nat} {cA : ClassId} {n : Nat} {f : Nat → Int32} {i : Int32} {g : Int32 → Option ρ} (q0 t0 : Nat) (ha : (cw w)[q0]? = some (a, .inl (cA, n, .inl f))) (ht : tys[t0]? = some (cA, .int)) (hd : D1 cc pc .iaload pc') (ho : rd (inb i n) (f i.toNatClampNeg) g = some res) (k : ∀ v : Int32, g v = some res → XJ p l e R s m args below meth c cells slots Q A D cl cw nL w pc' lv (.int v :: st)) : XJ p l e R s m args below meth c cells slots Q A D cl cw nL w pc lv (.int i :: .ref a :: st) := by
  obtain ⟨hd, rfl⟩ := hd
  obtain ⟨hb, ho⟩ := rd_e ho
  exact fun H locs ls hP hD hS hl => va_iald B.1 B.2.1 B.2.2.2.2.2.1 hP q0 t0 ha ht (inb_in hb) hd (k _ ho H locs ls hP hD hS hl)
theorem j_bald (B : Bd p s m args meth c cc nL own D cl tys) {a : Nat} {cA : ClassId} {n : Nat} {f : Nat → Int32} {i : Int32} {g : Int32 → Option ρ} (q0 t0 : Nat) (ha : (cw w)[q0]? = some (a, .inl (cA, n, .inl f))) (ht : tys[t0]? = some (cA, .byte)) (hd : D1 cc pc .baload pc') (ho : rd (inb i n) (f i.toNatClampNeg) g = some res) (k : ∀ v : Int32, g v = some res → XJ p l e R s m args below meth c cells slots Q A D cl cw nL w pc' lv (.int v :: st)) : XJ p l e R s m args below meth c cells slots Q A D cl cw nL w pc lv (.int i :: .ref a :: st) := by
  obtain ⟨hd, rfl⟩ := hd
  obtain ⟨hb, ho⟩ := rd_e ho
  exact fun H locs ls hP hD hS hl => va_bald B.1 B.2.1 B.2.2.2.2.2.1 hP q0 t0 ha ht (inb_in hb) hd (k _ ho H locs ls hP hD hS hl)
theorem j_zald (B : Bd p s m args meth c cc nL own D cl tys) {a : Nat} {cA : ClassId} {n : Nat} {f : Nat → Int32} {i : Int32} {g : Int32 → Option ρ} (q0 t0 : Nat) (ha : (cw w)[q0]? = some (a, .inl (cA, n, .inl f))) (ht : tys[t0]? = some (cA, .boolean)) (hd : D1 cc pc .baload pc') (ho : rd (inb i n) (f i.toNatClampNeg) g = some res) (k : ∀ v : Int32, g v = some res → XJ p l e R s m args below meth c cells slots Q A D cl cw nL w pc' lv (.int v :: st)) : XJ p l e R s m args below meth c cells slots Q A D cl cw nL w pc lv (.int i :: .ref a :: st) := by
  obtain ⟨hd, rfl⟩ := hd
  obtain ⟨hb, ho⟩ := rd_e ho
  exact fun H locs ls hP hD hS hl => va_zald B.1 B.2.1 B.2.2.2.2.2.1 hP q0 t0 ha ht (inb_in hb) hd (k _ ho H locs ls hP hD hS hl)
theorem j_lald (B : Bd p s m args meth c cc nL own D cl tys) {a : Nat} {cA : ClassId} {n : Nat} {f : Nat → Int64} {i : Int32} {g : Int64 → Option ρ} (q0 t0 : Nat) (ha : (cw w)[q0]? = some (a, .inl (cA, n, .inr (.inl f)))) (ht : tys[t0]? = some (cA, .long)) (hd : D1 cc pc .laload pc') (ho : rd (inb i n) (f i.toNatClampNeg) g = some res) (k : ∀ v : Int64, g v = some res → XJ p l e R s m args below meth c cells slots Q A D cl cw nL w pc' lv (.long v :: st)) : XJ p l e R s m args below meth c cells slots Q A D cl cw nL w pc lv (.int i :: .ref a :: st) := by
  obtain ⟨hd, rfl⟩ := hd
  obtain ⟨hb, ho⟩ := rd_e ho
  exact fun H locs ls hP hD hS hl => va_lald B.1 B.2.1 B.2.2.2.2.2.1 hP q0 t0 ha ht (inb_in hb) hd (k _ ho H locs ls hP hD hS hl)
theorem j_iast (B : Bd p s m args meth c cc nL own D cl tys) {a : Nat} {cA : ClassId} {n : Nat} {f : Nat → Int32} {i : Int32} {x : Int32} {w1 : σ} {g : σ → Option ρ} (q0 t0 : Nat) (ha : (cw w)[q0]? = some (a, .inl (cA, n, .inl f))) (ht : tys[t0]? = some (cA, .int)) (hw : (cw w).set q0 (a, .inl (cA, n, .inl (upd f i.toNatClampNeg x))) = cw w1) (hd : D1 cc pc .iastore pc') (ho : rd (inb i n) w1 g = some res) (k : ∀ w' : σ, g w' = some res → XJ p l e R s m args below meth c cells slots Q A D cl cw nL w' pc' lv st) : XJ p l e R s m args below meth c cells slots Q A D cl cw nL w pc lv (.int x :: .int i :: .ref a :: st) := by
  obtain ⟨hd, rfl⟩ := hd
  obtain ⟨hb, ho⟩ := rd_e ho
  exact fun H locs ls hP hD hS hl => va_iast B.1 B.2.1 B.2.2.2.2.2.1 hP hD hS q0 t0 ha ht (inb_in hb) hd (fun H1 locs1 hP1 hD1 hS1 => k w1 ho H1 locs1 ls (by rw [← hw]; exact hP1) (by rw [← hw]; exact hD1) hS1 hl)
theorem j_bast (B : Bd p s m args meth c cc nL own D cl tys) {a : Nat} {cA : ClassId} {n : Nat} {f : Nat → Int32} {i : Int32} {x : Int32} {w1 : σ} {g : σ → Option ρ} (q0 t0 : Nat) (ha : (cw w)[q0]? = some (a, .inl (cA, n, .inl f))) (ht : tys[t0]? = some (cA, .byte)) (hw : (cw w).set q0 (a, .inl (cA, n, .inl (upd f i.toNatClampNeg (vp_nar .byte x)))) = cw w1) (hd : D1 cc pc .bastore pc') (ho : rd (inb i n) w1 g = some res) (k : ∀ w' : σ, g w' = some res → XJ p l e R s m args below meth c cells slots Q A D cl cw nL w' pc' lv st) : XJ p l e R s m args below meth c cells slots Q A D cl cw nL w pc lv (.int x :: .int i :: .ref a :: st) := by
  obtain ⟨hd, rfl⟩ := hd
  obtain ⟨hb, ho⟩ := rd_e ho
  exact fun H locs ls hP hD hS hl => va_bast B.1 B.2.1 B.2.2.2.2.2.1 hP hD hS q0 t0 ha ht (inb_in hb) hd (fun H1 locs1 hP1 hD1 hS1 => k w1 ho H1 locs1 ls (by rw [← hw]; exact hP1) (by rw [← hw]; exact hD1) hS1 hl)
theorem j_zast (B : Bd p s m args meth c cc nL own D cl tys) {a : Nat} {cA : ClassId} {n : Nat} {f : Nat → Int32} {i : Int32} {x : Int32} {w1 : σ} {g : σ → Option ρ} (q0 t0 : Nat) (ha : (cw w)[q0]? = some (a, .inl (cA, n, .inl f))) (ht : tys[t0]? = some (cA, .boolean)) (hw : (cw w).set q0 (a, .inl (cA, n, .inl (upd f i.toNatClampNeg (vp_nar .boolean x)))) = cw w1) (hd : D1 cc pc .bastore pc') (ho : rd (inb i n) w1 g = some res) (k : ∀ w' : σ, g w' = some res → XJ p l e R s m args below meth c cells slots Q A D cl cw nL w' pc' lv st) : XJ p l e R s m args below meth c cells slots Q A D cl cw nL w pc lv (.int x :: .int i :: .ref a :: st) := by
  obtain ⟨hd, rfl⟩ := hd
  obtain ⟨hb, ho⟩ := rd_e ho
  exact fun H locs ls hP hD hS hl => va_zast B.1 B.2.1 B.2.2.2.2.2.1 hP hD hS q0 t0 ha ht (inb_in hb) hd (fun H1 locs1 hP1 hD1 hS1 => k w1 ho H1 locs1 ls (by rw [← hw]; exact hP1) (by rw [← hw]; exact hD1) hS1 hl)
theorem j_last (B : Bd p s m args meth c cc nL own D cl tys) {a : Nat} {cA : ClassId} {n : Nat} {f : Nat → Int64} {i : Int32} {x : Int64} {w1 : σ} {g : σ → Option ρ} (q0 t0 : Nat) (ha : (cw w)[q0]? = some (a, .inl (cA, n, .inr (.inl f)))) (ht : tys[t0]? = some (cA, .long)) (hw : (cw w).set q0 (a, .inl (cA, n, .inr (.inl (vp_updL f i.toNatClampNeg x)))) = cw w1) (hd : D1 cc pc .lastore pc') (ho : rd (inb i n) w1 g = some res) (k : ∀ w' : σ, g w' = some res → XJ p l e R s m args below meth c cells slots Q A D cl cw nL w' pc' lv st) : XJ p l e R s m args below meth c cells slots Q A D cl cw nL w pc lv (.long x :: .int i :: .ref a :: st) := by
  obtain ⟨hd, rfl⟩ := hd
  obtain ⟨hb, ho⟩ := rd_e ho
  exact fun H locs ls hP hD hS hl => va_last B.1 B.2.1 B.2.2.2.2.2.1 hP hD hS q0 t0 ha ht (inb_in hb) hd (fun H1 locs1 hP1 hD1 hS1 => k w1 ho H1 locs1 ls (by rw [← hw]; exact hP1) (by rw [← hw]; exact hD1) hS1 hl)
theorem j_alen (B : Bd p s m args meth c cc nL own D cl tys) {a : Nat} {cA : ClassId} {x : vp_A} {ty : FieldType} {v : Int32} (q0 t0 : Nat) (ha : (cw w)[q0]? = some (a, .inl (cA, x))) (ht : tys[t0]? = some (cA, ty)) (hv : Int32.ofNat x.1 = v) (hd : D1 cc pc .arraylength pc') (k : XJ p l e R s m args below meth c cells slots Q A D cl cw nL w pc' lv (.int v :: st)) : XJ p l e R s m args below meth c cells slots Q A D cl cw nL w pc lv (.ref a :: st) := by
  obtain ⟨hd, rfl⟩ := hd
  exact fun H locs ls hP hD hS hl => va_alen B.1 B.2.1 B.2.2.2.2.2.1 hP q0 t0 ha ht hv hd (k H locs ls hP hD hS hl)
theorem j_tswIn (B : Bd p s m args meth c cc nL own D cl tys) {d lo hi : Int} {offs : Array Int} {len : Nat} {x : Int32} {off : Int} (hd : decode cc pc = .ok (.tableswitch d lo hi offs, len)) (v : Int32) (hx : x = v) (h1 : ¬ v.toInt < lo) (h2 : ¬ hi < v.toInt) (ho : offs[(v.toInt - lo).toNat]? = some off) (ht : (pc : Int) + off = (tgt : Int)) (k : XJ p l e R s m args below meth c cells slots Q A D cl cw nL w tgt lv st) : XJ p l e R s m args below meth c cells slots Q A D cl cw nL w pc lv (.int x :: st) := by
  subst hx
  exact fun H locs ls hP hD hS hl => lv_tableIn B.1 B.2.1 hd h1 h2 ho ht (k H locs ls hP hD hS hl)
theorem j_tswOut (B : Bd p s m args meth c cc nL own D cl tys) {d lo hi : Int} {offs : Array Int} {len : Nat} {x : Int32} (hd : decode cc pc = .ok (.tableswitch d lo hi offs, len)) (h : x.toInt < lo ∨ hi < x.toInt) (ht : (pc : Int) + d = (tgt : Int)) (k : XJ p l e R s m args below meth c cells slots Q A D cl cw nL w tgt lv st) : XJ p l e R s m args below meth c cells slots Q A D cl cw nL w pc lv (.int x :: st) := fun H locs ls hP hD hS hl => lv_tableOut B.1 B.2.1 hd h ht (k H locs ls hP hD hS hl)
def DC (cc : ByteArray) (pc : Nat) (v : Int32) (pc' : Nat) : Prop := (∃ n : Int, D1 cc pc (.iconst n) pc' ∧ Int32.ofInt n = v) ∨ (∃ n : Int, D2 cc pc (.bipush n) pc' ∧ (Int8.ofInt n).toInt32 = v) ∨ (∃ n : Int, D3 cc pc (.sipush n) pc' ∧ (Int16.ofInt n).toInt32 = v)
theorem j_const (B : Bd p s m args meth c cc nL own D cl tys) {v : Int32} (hd : DC cc pc v pc') (k : XJ p l e R s m args below meth c cells slots Q A D cl cw nL w pc' lv (.int v :: st)) : XJ p l e R s m args below meth c cells slots Q A D cl cw nL w pc lv st := by
  rcases hd with ⟨n, hd, hv⟩ | ⟨n, hd, hv⟩ | ⟨n, hd, hv⟩
  · exact j_iconst B hd hv k
  · exact j_bipush B hd hv k
  · exact j_sipush B hd hv k
theorem sw_e {cnd : Prop} {dc : Decidable cnd} {a b : Option ρ} (ho : (@ite _ cnd dc a b) = some res) : (cnd ∧ a = some res) ∨ (¬ cnd ∧ b = some res) := by
  by_cases h : cnd
  · rw [if_pos h] at ho; exact Or.inl ⟨h, ho⟩
  · rw [if_neg h] at ho; exact Or.inr ⟨h, ho⟩
def irm (x y : Int32) : Int32 := x - x / y * y
def lrm (x y : Int64) : Int64 := x - x / y * y
theorem j_irm (B : Bd p s m args meth c cc nL own D cl tys) {x y : Int32} (hd : D1 cc pc .irem pc') (hne : ¬ y = 0) (k : XJ p l e R s m args below meth c cells slots Q A D cl cw nL w pc' lv (.int (irm x y) :: st)) : XJ p l e R s m args below meth c cells slots Q A D cl cw nL w pc lv (.int y :: .int x :: st) := j_irem B hd hne k
theorem j_irmG (B : Bd p s m args meth c cc nL own D cl tys) {x y : Int32} {f : Int32 → Option ρ} (hd : D1 cc pc .irem pc') (ho : rd (!decide (y = 0)) (irm x y) f = some res) (k : ∀ v : Int32, f v = some res → XJ p l e R s m args below meth c cells slots Q A D cl cw nL w pc' lv (.int v :: st)) : XJ p l e R s m args below meth c cells slots Q A D cl cw nL w pc lv (.int y :: .int x :: st) := j_iremG B hd ho k
theorem j_lrmG (B : Bd p s m args meth c cc nL own D cl tys) {x y : Int64} {f : Int64 → Option ρ} (hd : D1 cc pc .lrem pc') (ho : rd (!decide (y = 0)) (lrm x y) f = some res) (k : ∀ v : Int64, f v = some res → XJ p l e R s m args below meth c cells slots Q A D cl cw nL w pc' lv (.long v :: st)) : XJ p l e R s m args below meth c cells slots Q A D cl cw nL w pc lv (.long y :: .long x :: st) := j_lremG B hd ho k
end XJS
