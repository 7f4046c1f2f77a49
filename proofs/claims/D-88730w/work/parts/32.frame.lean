set_option maxRecDepth 100000
/-! worlds as sets of cells: permuted, parts of them, framed calls; making cells -/
theorem P_mem {D : va_G} {cl : List vw_C} {ws : va_W} {H : Heap} : va_P D cl ws H ↔ ∀ q ∈ ws, va_at D cl q H := by
  constructor
  · intro h q hq
    obtain ⟨k, hk⟩ := List.mem_iff_getElem?.mp hq
    exact h k q hk
  · intro h k q hq
    exact h q (List.mem_of_getElem? hq)
theorem D_nodup {A : Nat → Prop} {ws : va_W} : va_D A ws ↔ (ws.map Prod.fst).Nodup ∧ ∀ q ∈ ws, A q.1 := by
  constructor
  · intro h
    refine ⟨?_, ?_⟩
    · rw [List.nodup_iff_pairwise_ne, List.pairwise_iff_getElem]
      intro i j hi hj hij he
      simp only [List.length_map] at hi hj
      simp only [List.getElem_map] at he
      have := h.1 i j ws[i] ws[j] (List.getElem?_eq_getElem hi) (List.getElem?_eq_getElem hj) he
      omega
    · intro q hq
      obtain ⟨k, hk⟩ := List.mem_iff_getElem?.mp hq
      exact h.2 k q hk
  · intro h
    refine ⟨?_, fun k q hq => h.2 q (List.mem_of_getElem? hq)⟩
    intro i j p q hi hj he
    obtain ⟨hi', hi2⟩ := List.getElem?_eq_some_iff.mp hi
    obtain ⟨hj', hj2⟩ := List.getElem?_eq_some_iff.mp hj
    have h1 := h.1
    rw [List.nodup_iff_pairwise_ne, List.pairwise_iff_getElem] at h1
    rcases Nat.lt_trichotomy i j with hlt | heq | hgt
    · have h2 := h1 i j (by simpa using hi') (by simpa using hj') hlt
      simp only [List.getElem_map] at h2
      rw [hi2, hj2] at h2
      exact absurd he h2
    · exact heq
    · have h2 := h1 j i (by simpa using hj') (by simpa using hi') hgt
      simp only [List.getElem_map] at h2
      rw [hi2, hj2] at h2
      exact absurd he.symm h2
theorem P_perm {D : va_G} {cl : List vw_C} {ws ws' : va_W} {H : Heap} (hp : ws.Perm ws') (h : va_P D cl ws H) : va_P D cl ws' H := P_mem.mpr fun q hq => P_mem.mp h q (hp.mem_iff.mpr hq)
theorem D_perm {A : Nat → Prop} {ws ws' : va_W} (hp : ws.Perm ws') (h : va_D A ws) : va_D A ws' := by
  rw [D_nodup] at h ⊢
  exact ⟨(hp.map Prod.fst).nodup_iff.mp h.1, fun q hq => h.2 q (hp.mem_iff.mpr hq)⟩
theorem P_subl {D : va_G} {cl : List vw_C} {ws ws' : va_W} {H : Heap} (hp : ws'.Sublist ws) (h : va_P D cl ws H) : va_P D cl ws' H := P_mem.mpr fun q hq => P_mem.mp h q (hp.mem hq)
theorem D_subl {A : Nat → Prop} {ws ws' : va_W} (hp : ws'.Sublist ws) (h : va_D A ws) : va_D A ws' := by
  rw [D_nodup] at h ⊢
  exact ⟨(hp.map Prod.fst).nodup h.1, fun q hq => h.2 q (hp.mem hq)⟩
theorem P_lt {D : va_G} {cl : List vw_C} {ws : va_W} {H : Heap} (h : va_P D cl ws H) {q : Nat × va_E} (hq : q ∈ ws) : q.1 < H.size := by
  obtain ⟨k, hk⟩ := List.mem_iff_getElem?.mp hq
  exact (h k q hk).lt
theorem A_mem {ws : va_W} {sz q : Nat} : va_A ws sz q ↔ (∃ e, (q, e) ∈ ws) ∨ sz ≤ q := by
  constructor
  · rintro (⟨k, e, h⟩ | h)
    · exact Or.inl ⟨e, List.mem_of_getElem? h⟩
    · exact Or.inr h
  · rintro (⟨e, h⟩ | h)
    · obtain ⟨k, hk⟩ := List.mem_iff_getElem?.mp h
      exact Or.inl ⟨k, e, hk⟩
    · exact Or.inr h
theorem frame_free {A : Nat → Prop} {ws rest sub : va_W} {H0 H : Heap} {locs : List Loc} (hp : ws.Perm (rest ++ sub)) (hD : va_D A ws) (hS : va_S A H0 H locs) (hA : ∀ q, H0.size ≤ q → A q) : ∀ q, va_A sub H.size q → A q := by
  intro q h
  rcases A_mem.mp h with ⟨e, h⟩ | h
  · exact (D_nodup.mp hD).2 (q, e) (hp.mem_iff.mpr (List.mem_append_right _ h))
  · exact hA q (Nat.le_trans hS.1 h)
theorem frame_join {A : Nat → Prop} {D : va_G} {cl : List vw_C} {ws rest sub sub' ws' : va_W} {H H1 : Heap} (hp : ws.Perm (rest ++ sub)) (hp' : (rest ++ sub').Perm ws') (hP : va_P D cl ws H) (hD : va_D A ws) (hF : ∀ q, va_A sub H.size q → A q) (hP1 : va_P D cl sub' H1) (hD1 : va_D (va_A sub H.size) sub') (hk : ∀ q : Nat, q < H.size → ¬ va_A sub H.size q → H1[q]? = H[q]?) : va_P D cl ws' H1 ∧ va_D A ws' := by
  have hP2 := P_perm hp hP
  have hD2 := D_perm hp hD
  have hND := (D_nodup.mp hD2)
  have hap : ∀ q ∈ rest, q.1 < H.size ∧ ¬ va_A sub H.size q.1 := by
    intro q hq
    have hlt := P_lt hP2 (List.mem_append_left _ hq)
    refine ⟨hlt, fun h => ?_⟩
    rcases A_mem.mp h with ⟨e, h⟩ | h
    · have h1 := hND.1
      rw [List.map_append, List.nodup_append] at h1
      exact h1.2.2 q.1 (List.mem_map_of_mem hq) q.1 (List.mem_map.mpr ⟨(q.1, e), h, rfl⟩) rfl
    · omega
  refine ⟨P_perm hp' (P_mem.mpr fun q hq => ?_), D_perm hp' (D_nodup.mpr ⟨?_, ?_⟩)⟩
  · rcases List.mem_append.mp hq with h | h
    · obtain ⟨g1, g2⟩ := hap q h
      exact (P_mem.mp hP2 q (List.mem_append_left _ h)).kept (hk q.1 g1 g2)
    · exact P_mem.mp hP1 q h
  · rw [List.map_append, List.nodup_append]
    have h1 := hND.1
    rw [List.map_append, List.nodup_append] at h1
    refine ⟨h1.1, (D_nodup.mp hD1).1, ?_⟩
    intro a ha b hb hab
    subst hab
    obtain ⟨x, hx, rfl⟩ := List.mem_map.mp ha
    obtain ⟨y, hy, he⟩ := List.mem_map.mp hb
    refine (hap x hx).2 ?_
    rw [← he]
    exact (D_nodup.mp hD1).2 y hy
  · intro q hq
    rcases List.mem_append.mp hq with h | h
    · exact hND.2 q (List.mem_append_left _ h)
    · exact hF _ ((D_nodup.mp hD1).2 q h)
theorem RA_eq {U : State} {cA cB : ClassId} {ty : FieldType} (h : va_RA U cA ty) (h' : va_RA U cB ty) : cA = cB := by
  cases ty with
  | object C =>
    obtain ⟨_, _, _, _, _, h4⟩ := h
    obtain ⟨_, _, _, _, _, h4'⟩ := h'
    exact Option.some.inj (h4.symm.trans h4')
  | _ =>
    have h1 : U.vm.findClass _ = some cA := h
    have h2 : U.vm.findClass _ = some cB := h'
    exact Option.some.inj (h1.symm.trans h2)
abbrev XJw (p : Program) (l : Launch) (e : Env) (R : Room) (s : State) (m : MethodId) (args : Array Value) (below : List Frame) (meth : Method) (c : Code) (cells slots : Nat) (Q : State → Prop) (A : Nat → Prop) (D : va_G) (nL : Nat) (ws : va_W) (pc : Nat) (lv : List (Nat × Value)) (st : List Value) : Prop := XJ p l e R s m args below meth c cells slots Q A D vwCl (id : va_W → va_W) nL ws pc lv st
section FR
variable {p : Program} {l : Launch} {e : Env} {R : Room} {s : State} {m : MethodId} {args : Array Value} {below : List Frame} {meth : Method} {c : Code} {cells slots : Nat} {Q : State → Prop} {A : Nat → Prop} {D : va_G} {g : Nat → ClassId} {nL : Nat} {cc : ByteArray} {own : String}
variable {ws : va_W} {pc pc' tgt : Nat} {lv : List (Nat × Value)} {st : List Value} {ρ : Type} {res : ρ} {σ τ : Type} {cw : σ → va_W} {cw' : τ → va_W} {w : σ} {w' : τ}
theorem j_cast (hp : (cw w).Perm (cw' w')) (k : XJ p l e R s m args below meth c cells slots Q A D vwCl cw' nL w' pc lv st) : XJ p l e R s m args below meth c cells slots Q A D vwCl cw nL w pc lv st := fun H locs ls hP hD hS hl => k H locs ls (P_perm hp hP) (D_perm hp hD) hS hl
theorem j_drop (hp : (cw' w').Sublist (cw w)) (k : XJ p l e R s m args below meth c cells slots Q A D vwCl cw' nL w' pc lv st) : XJ p l e R s m args below meth c cells slots Q A D vwCl cw nL w pc lv st := fun H locs ls hP hD hS hl => k H locs ls (P_subl hp hP) (D_subl hp hD) hS hl
theorem j_widen {k n : Nat} (h1 : cells ≤ k) (h2 : slots ≤ n) (kk : XJ p l e R s m args below meth c k n Q A D vwCl cw nL w pc lv st) : XJ p l e R s m args below meth c cells slots Q A D vwCl cw nL w pc lv st := fun H locs ls hP hD hS hl => W.widen h1 h2 (kk H locs ls hP hD hS hl)
theorem j_newa (B : Bd p s m args meth c cc nL own D vwCl (tysG g)) (hA : ∀ q, s.heap.size ≤ q → A q) {atype : ArrayType} (harr : Cond.arrayClass (newarray.typeOf atype) ∈ lw_all) {ty : FieldType} (hty : newarray.typeOf atype = ty) (gi : Nat) (hgi : (tysG g)[gi]? = some (g gi, ty)) {n : Int32} {N' : Nat} {a0 : vp_A} (ha : ∀ cA : ClassId, vp_cell cA a0 = arrV cA N' (fun _ => defaultValue ty)) (hn : ¬ n < 0) (hN : n.toNatClampNeg = N') (hbytes : N' * componentBytes ty ≤ 536870912) (hcells : cells + 1 ≤ R.cells) (hslots : slots + N' ≤ R.slots) (hd : D2 cc pc (.newarray atype) pc')
    (kk : ∀ q : Nat, XJw p l e R s m args below meth c (cells + 1) (slots + N') Q A D nL (cw w ++ [(q, .inl (g gi, a0))]) pc' lv (.ref q :: st)) : XJ p l e R s m args below meth c cells slots Q A D vwCl cw nL w pc lv (.int n :: st) := by
  obtain ⟨hd, rfl⟩ := hd
  intro H locs ls hP hD hS hl
  refine va_newa B.1 B.2.1 (B.2.2.2.2.1 _ harr) hty B.2.2.2.2.2.1 hP hD hS hA ha hn hN hbytes hcells hslots hd (fun q cA H1 hK1 hP1 hD1 hS1 => ?_)
  have hc : cA = g gi := by
    have h1 := (hK1.2 (tysG g).length (cA, ty) (by rw [List.getElem?_append_right (Nat.le_refl _), Nat.sub_self]; rfl)).2
    have h2 := (B.2.2.2.2.2.1.2 gi _ hgi).2
    exact RA_eq h1 h2
  subst hc
  exact kk q H1 locs ls hP1 hD1 hS1 hl
theorem j_newq (B : Bd p s m args meth c cc nL own D vwCl (tysG g)) (hA : ∀ q, s.heap.size ≤ q → A q) {C : String} {index : Nat} (hcl : Cond.classLink own index C ∈ lw_all) (hov : va_AO C s) (gi : Nat) (hgi : (tysG g)[gi]? = some (g gi, .object C)) {n : Int32} {N' : Nat} (hn : ¬ n < 0) (hN : n.toNatClampNeg = N') (hbytes : N' * 4 ≤ 536870912) (hcells : cells + 1 ≤ R.cells) (hslots : slots + N' ≤ R.slots) (hd : D3 cc pc (.anewarray index) pc')
    (kk : ∀ q : Nat, XJw p l e R s m args below meth c (cells + 1) (slots + N') Q A D nL (cw w ++ [(q, .inl (g gi, N', .inr (.inr (.inr (.inr (fun _ => none))))))]) pc' lv (.ref q :: st)) : XJ p l e R s m args below meth c cells slots Q A D vwCl cw nL w pc lv (.int n :: st) := by
  obtain ⟨hd, rfl⟩ := hd
  intro H locs ls hP hD hS hl
  refine va_newq B.1 B.2.1 B.2.2.2.1 (B.2.2.2.2.1 _ hcl) hov B.2.2.2.2.2.1 hP hD hS hA hn hN hbytes hcells hslots hd (fun q cA H1 hK1 hP1 hD1 hS1 => ?_)
  have hc : cA = g gi := by
    have h1 := (hK1.2 (tysG g).length (cA, .object C) (by rw [List.getElem?_append_right (Nat.le_refl _), Nat.sub_self]; rfl)).2
    have h2 := (B.2.2.2.2.2.1.2 gi _ hgi).2
    exact RA_eq h1 h2
  subst hc
  exact kk q H1 locs ls hP1 hD1 hS1 hl
theorem j_new (B : Bd p s m args meth c cc nL own D vwCl (tysG g)) (hA : ∀ q, s.heap.size ≤ q → A q) {C : String} {T : u_T} {N ci index : Nat} (hin : ∀ w ∈ u_ws C T N, w ∈ lw_all) (ty : Nat → FieldType) (hty : ∀ k, k < N → parseFieldDescriptor (T k).2.2.1 = some (ty k)) (hcl : Cond.classLink own index C ∈ lw_all) (hinst : Cond.instantiable C N ∈ lw_all) (hini : Cond.initialized C ∈ lw_all) (hc : vwCl[ci]? = some (C, T, N)) {fs : List Value} (hfs : ∀ j, j < N → defaultValue (ty j) = vp_V fs j) (hcells : cells + 1 ≤ R.cells) (hslots : slots + N ≤ R.slots) (hd : D3 cc pc (.new index) pc')
    (kk : ∀ q : Nat, XJw p l e R s m args below meth c (cells + 1) (slots + N) Q A D nL (cw w ++ [(q, .inr (ci, fs))]) pc' lv (.ref q :: st)) : XJ p l e R s m args below meth c cells slots Q A D vwCl cw nL w pc lv st := by
  obtain ⟨hd, rfl⟩ := hd
  intro H locs ls hP hD hS hl
  exact va_new B.1 B.2.1 B.2.2.2.2.1 hin ty hty B.2.2.2.1 (B.2.2.2.2.1 _ hcl) (B.2.2.2.2.1 _ hinst) (B.2.2.2.2.1 _ hini) B.2.2.2.2.2.1 hP hD hS hA hc hfs hcells hslots hd (fun q H1 hP1 hD1 hS1 => kk q H1 locs ls hP1 hD1 hS1 hl)
theorem j_putF (B : Bd p s m args meth c cc nL own D vwCl (tysG g)) (hin2 : meth.name = "<init>") {C : String} {T : u_T} {N ci index : Nat} {fs : List Value} {a : Nat} {v : Value} {ty : FieldType} (hin : ∀ w ∈ u_ws C T N, w ∈ lw_all) (ty0 : Nat → FieldType) (hty : ∀ k, k < N → parseFieldDescriptor (T k).2.2.1 = some (ty0 k)) (hnm : ∀ a, a < N → ∀ b, b < N → a ≠ b → (T a).2.1 ≠ (T b).2.1) (q0 : Nat) (he : (cw w)[q0]? = some (a, .inr (ci, fs))) (hc : vwCl[ci]? = some (C, T, N)) (k : Nat) (hk : k < N) (hlink : Cond.fieldLink own index (T k).1 (T k).2.1 (T k).2.2.1 ∈ lw_all) (hfin : (T k).2.2.2 = true) (hdecl : (T k).1 = own) (hty1 : ty0 k = ty) (hn : narrow ty v = v) (hfit : fits ty v = true) (hl : k < fs.length) (hd : D3 cc pc (.putfield index) pc')
    (kk : XJw p l e R s m args below meth c cells slots Q A D nL ((cw w).set q0 (a, .inr (ci, fs.set k v))) pc' lv st) : XJ p l e R s m args below meth c cells slots Q A D vwCl cw nL w pc lv (v :: .ref a :: st) := by
  obtain ⟨hd, rfl⟩ := hd
  exact fun H locs ls hP hD hS hl2 => va_putF B.1 B.2.1 B.2.2.2.2.1 hin ty0 hty hnm B.2.2.2.1 B.2.2.2.2.2.1 hP hD hS q0 he hc k hk (B.2.2.2.2.1 _ hlink) (fun _ h => h) hfin hin2 hdecl (by rw [hty k hk, hty1]) hn hfit hl hd (fun H1 locs1 hP1 hD1 hS1 => kk H1 locs1 ls hP1 hD1 hS1 hl2)
theorem j_putI (B : Bd p s m args meth c cc nL own D vwCl (tysG g)) {C : String} {T : u_T} {N ci index : Nat} {fs : List Value} {a : Nat} {v : Value} {ty : FieldType} (hin : ∀ w ∈ u_ws C T N, w ∈ lw_all) (ty0 : Nat → FieldType) (hty : ∀ k, k < N → parseFieldDescriptor (T k).2.2.1 = some (ty0 k)) (hnm : ∀ a, a < N → ∀ b, b < N → a ≠ b → (T a).2.1 ≠ (T b).2.1) (q0 : Nat) (he : (cw w)[q0]? = some (a, .inr (ci, fs))) (hc : vwCl[ci]? = some (C, T, N)) (k : Nat) (hk : k < N) (hlink : Cond.fieldLink own index (T k).1 (T k).2.1 (T k).2.2.1 ∈ lw_all) (hfin : (T k).2.2.2 = false) (hty1 : ty0 k = ty) (hn : narrow ty v = v) (hfit : fits ty v = true) (hl : k < fs.length) (hd : D3 cc pc (.putfield index) pc')
    (kk : XJw p l e R s m args below meth c cells slots Q A D nL ((cw w).set q0 (a, .inr (ci, fs.set k v))) pc' lv st) : XJ p l e R s m args below meth c cells slots Q A D vwCl cw nL w pc lv (v :: .ref a :: st) := by
  obtain ⟨hd, rfl⟩ := hd
  exact fun H locs ls hP hD hS hl2 => va_put B.1 B.2.1 B.2.2.2.2.1 hin ty0 hty hnm B.2.2.2.1 B.2.2.2.2.2.1 hP hD hS q0 he hc k hk (B.2.2.2.2.1 _ hlink) (fun _ h => h) hfin (by rw [hty k hk, hty1]) hn hfit hl hd (fun H1 locs1 hP1 hD1 hS1 => kk H1 locs1 ls hP1 hD1 hS1 hl2)
theorem j_objI (B : Bd p s m args meth c cc nL own D vwCl (tysG g)) {a index : Nat} (hlink : Cond.methodLink own index Lib.objectInit ∈ lw_all) (hinst : Cond.instanceMethod Lib.objectInit ∈ lw_all) (hcode : Cond.code Lib.objectInit ⟨#[0xb1]⟩ 1 none ∈ lw_all) (hR : 1 ≤ R.frames ∧ 20 ≤ R.locals) (hroom : (st.map fun v => v.category).sum ≤ 8) (hd : D3 cc pc (.invokespecial index) pc') (kk : XJ p l e R s m args below meth c cells slots Q A D vwCl cw nL w pc' lv st) : XJ p l e R s m args below meth c cells slots Q A D vwCl cw nL w pc lv (.ref a :: st) := by
  obtain ⟨hd, rfl⟩ := hd
  exact fun H locs ls hP hD hS hl => W.objInit B.1 B.2.1 B.2.2.2.1 (B.2.2.2.2.1 _ hlink) (B.2.2.2.2.1 _ hinst) (B.2.2.2.2.1 _ hcode) rfl (by rw [B.2.2.1]; exact hl.1) rfl hd hR.1 (by show 2 * 0 + _ + 12 ≤ _; omega) (kk H locs ls hP hD hS hl)
/-- a call whose world is a part of ours: nothing is answered; it may make cells -/
theorem j_frv (B : Bd p s m args meth c cc nL own D vwCl (tysG g)) (hA : ∀ q, s.heap.size ≤ q → A q) {S : Type} {post : S → Prop} {f : S → va_W} {rest sub : va_W} {a : Array Value} {stk : List Value} {mc ms : Nat} {w' : S → τ} (hpc : pc' = pc + 3) (hp : (cw w).Perm (rest ++ sub)) (hp' : ∀ u, post u → (rest ++ f u).Perm (cw' (w' u)))
    (hrun : ∀ (H : Heap) (locs : List Loc) (ls : Array Slot), va_P D vwCl sub H → va_D (fun _ => True) sub → va_S A s.heap H locs → ls.size = nL → (∀ q, va_A sub H.size q → A q) → va_Run p l e R s m args below meth c H locs cells slots mc ms (F0 m pc ls stk) st (va_Qv post (fun u t => MPost D vwCl (tysG g) (f u) (va_A sub H.size) t) (va_A sub H.size) a) (va_A sub H.size))
    (k : ∀ u, post u → XJ p l e R s m args below meth c (cells + mc) (slots + ms) Q A D vwCl cw' nL (w' u) pc' lv st) : XJ p l e R s m args below meth c cells slots Q A D vwCl cw nL w pc lv stk := by
  subst hpc
  intro H locs ls hP hD hS hl
  have hF := frame_free hp hD hS hA
  have hPs := P_subl (List.sublist_append_right rest sub) (P_perm hp hP)
  have hDs := D_subl (List.sublist_append_right rest sub) (D_perm hp hD)
  refine va_callv (hrun H locs ls hPs (hDs.weaken fun _ _ _ _ => trivial) hS hl.1 hF) hS (fun q _ h => hF q h) hF (fun u t H1 locs1 ht hvm hw1 hB hz1 hk1 hS1 => ?_)
  obtain ⟨hP2, hD2⟩ := frame_join hp (hp' u hw1) hP hD hF (by rw [← ht]; exact hB.1) hB.2.2 hk1
  exact k u hw1 H1 locs1 ls hP2 hD2 hS1 hl
theorem j_fri (B : Bd p s m args meth c cc nL own D vwCl (tysG g)) (hA : ∀ q, s.heap.size ≤ q → A q) {S : Type} {post : Int32 → S → Prop} {f : S → va_W} {rest sub : va_W} {a : Array Value} {stk : List Value} {mc ms : Nat} {w' : S → τ} (hpc : pc' = pc + 3) (hp : (cw w).Perm (rest ++ sub)) (hp' : ∀ r u, post r u → (rest ++ f u).Perm (cw' (w' u)))
    (hrun : ∀ (H : Heap) (locs : List Loc) (ls : Array Slot), va_P D vwCl sub H → va_D (fun _ => True) sub → va_S A s.heap H locs → ls.size = nL → (∀ q, va_A sub H.size q → A q) → va_Run p l e R s m args below meth c H locs cells slots mc ms (F0 m pc ls stk) st (va_Qi post (fun u t => MPost D vwCl (tysG g) (f u) (va_A sub H.size) t) (va_A sub H.size) a) (va_A sub H.size))
    (k : ∀ r u, post r u → XJ p l e R s m args below meth c (cells + mc) (slots + ms) Q A D vwCl cw' nL (w' u) pc' lv (.int r :: st)) : XJ p l e R s m args below meth c cells slots Q A D vwCl cw nL w pc lv stk := by
  subst hpc
  intro H locs ls hP hD hS hl
  have hF := frame_free hp hD hS hA
  have hPs := P_subl (List.sublist_append_right rest sub) (P_perm hp hP)
  have hDs := D_subl (List.sublist_append_right rest sub) (D_perm hp hD)
  refine va_calli (hrun H locs ls hPs (hDs.weaken fun _ _ _ _ => trivial) hS hl.1 hF) hS (fun q _ h => hF q h) hF (fun r u t H1 locs1 ht hvm hw1 hB hz1 hk1 hS1 => ?_)
  obtain ⟨hP2, hD2⟩ := frame_join hp (hp' r u hw1) hP hD hF (by rw [← ht]; exact hB.1) hB.2.2 hk1
  exact k r u hw1 H1 locs1 ls hP2 hD2 hS1 hl
theorem j_frl (B : Bd p s m args meth c cc nL own D vwCl (tysG g)) (hA : ∀ q, s.heap.size ≤ q → A q) {S : Type} {post : Int64 → S → Prop} {f : S → va_W} {rest sub : va_W} {a : Array Value} {stk : List Value} {mc ms : Nat} {w' : S → τ} (hpc : pc' = pc + 3) (hp : (cw w).Perm (rest ++ sub)) (hp' : ∀ r u, post r u → (rest ++ f u).Perm (cw' (w' u)))
    (hrun : ∀ (H : Heap) (locs : List Loc) (ls : Array Slot), va_P D vwCl sub H → va_D (fun _ => True) sub → va_S A s.heap H locs → ls.size = nL → (∀ q, va_A sub H.size q → A q) → va_Run p l e R s m args below meth c H locs cells slots mc ms (F0 m pc ls stk) st (va_Ql post (fun u t => MPost D vwCl (tysG g) (f u) (va_A sub H.size) t) (va_A sub H.size) a) (va_A sub H.size))
    (k : ∀ r u, post r u → XJ p l e R s m args below meth c (cells + mc) (slots + ms) Q A D vwCl cw' nL (w' u) pc' lv (.long r :: st)) : XJ p l e R s m args below meth c cells slots Q A D vwCl cw nL w pc lv stk := by
  subst hpc
  intro H locs ls hP hD hS hl
  have hF := frame_free hp hD hS hA
  have hPs := P_subl (List.sublist_append_right rest sub) (P_perm hp hP)
  have hDs := D_subl (List.sublist_append_right rest sub) (D_perm hp hD)
  refine va_calll (hrun H locs ls hPs (hDs.weaken fun _ _ _ _ => trivial) hS hl.1 hF) hS (fun q _ h => hF q h) hF (fun r u t H1 locs1 ht hvm hw1 hB hz1 hk1 hS1 => ?_)
  obtain ⟨hP2, hD2⟩ := frame_join hp (hp' r u hw1) hP hD hF (by rw [← ht]; exact hB.1) hB.2.2 hk1
  exact k r u hw1 H1 locs1 ls hP2 hD2 hS1 hl
theorem j_frr (B : Bd p s m args meth c cc nL own D vwCl (tysG g)) (hA : ∀ q, s.heap.size ≤ q → A q) {S : Type} {post : S → Prop} {f : S → va_W} {ra : S → Nat} {rest sub : va_W} {a : Array Value} {stk : List Value} {mc ms : Nat} {w' : S → τ} (hpc : pc' = pc + 3) (hp : (cw w).Perm (rest ++ sub)) (hp' : ∀ u, post u → (rest ++ f u).Perm (cw' (w' u)))
    (hrun : ∀ (H : Heap) (locs : List Loc) (ls : Array Slot), va_P D vwCl sub H → va_D (fun _ => True) sub → va_S A s.heap H locs → ls.size = nL → (∀ q, va_A sub H.size q → A q) → va_Run p l e R s m args below meth c H locs cells slots mc ms (F0 m pc ls stk) st (va_Qr post (fun u z t => z = ra u ∧ MPost D vwCl (tysG g) (f u) (va_A sub H.size) t) (va_A sub H.size) a) (va_A sub H.size))
    (k : ∀ u, post u → XJ p l e R s m args below meth c (cells + mc) (slots + ms) Q A D vwCl cw' nL (w' u) pc' lv (.ref (ra u) :: st)) : XJ p l e R s m args below meth c cells slots Q A D vwCl cw nL w pc lv stk := by
  subst hpc
  intro H locs ls hP hD hS hl
  have hF := frame_free hp hD hS hA
  have hPs := P_subl (List.sublist_append_right rest sub) (P_perm hp hP)
  have hDs := D_subl (List.sublist_append_right rest sub) (D_perm hp hD)
  refine va_callr (hrun H locs ls hPs (hDs.weaken fun _ _ _ _ => trivial) hS hl.1 hF) hS (fun q _ h => hF q h) hF (fun u z t H1 locs1 ht hvm hw1 hB hz1 hk1 hS1 => ?_)
  obtain ⟨hz, hB⟩ := hB
  subst hz
  obtain ⟨hP2, hD2⟩ := frame_join hp (hp' u hw1) hP hD hF (by rw [← ht]; exact hB.1) hB.2.2 hk1
  exact k u hw1 H1 locs1 ls hP2 hD2 hS1 hl
end FR
