set_option maxRecDepth 100000
section FS
variable {p : Program} {l : Launch} {e : Env} {R : Room} {s : State} {m : MethodId} {args : Array Value} {below : List Frame} {meth : Method} {c : Code} {cells slots : Nat} {Q : State → Prop} {A : Nat → Prop} {D : va_G} {g : Nat → ClassId} {nL : Nat} {cc : ByteArray} {own : String}
variable {ws : va_W} {pc pc' tgt : Nat} {lv : List (Nat × Value)} {st : List Value} {ρ : Type} {res : ρ} {σ τ : Type} {cw : σ → va_W} {cw' : τ → va_W} {w : σ} {w' : τ}
theorem j_vretS {S : Type} {post : S → Prop} {f : S → va_W} {kc ks : Nat} (u : S) (B : Bd p s m args meth c cc nL own D vwCl (tysG g)) (hr : meth.sig.returnType = none) (hQ : Q = MQ below (va_Qv post (fun u t => MPost D vwCl (tysG g) (f u) A t) A) args s kc ks A) (h1 : cells ≤ kc) (h2 : slots ≤ ks) (hu : post u) (hw : cw w = f u) (hd : D1 cc pc .return_ pc') : XJ p l e R s m args below meth c cells slots Q A D vwCl cw nL w pc lv [] := by
  refine j_widen h1 h2 ?_
  subst hQ
  obtain ⟨hd, rfl⟩ := hd
  exact fun H locs ls hP hD hS hl => W.vret B.1 B.2.1 hr (fun t ht hW => ⟨⟨u, rfl, hu, by rw [ht, ← hw]; exact hP, va_K.moved hW.alike B.2.2.2.2.2.1, by rw [← hw]; exact hD⟩, hS.F ht⟩) hS.2.2 hd B.2.2.2.2.2.2
theorem j_iretS {S : Type} {post : Int32 → S → Prop} {f : S → va_W} {kc ks : Nat} {x : Int32} (u : S) (B : Bd p s m args meth c cc nL own D vwCl (tysG g)) (hr : meth.sig.returnType = some .int) (hQ : Q = MQ below (va_Qi post (fun u t => MPost D vwCl (tysG g) (f u) A t) A) args s kc ks A) (h1 : cells ≤ kc) (h2 : slots ≤ ks) (hu : post x u) (hw : cw w = f u) (hd : D1 cc pc .ireturn pc') : XJ p l e R s m args below meth c cells slots Q A D vwCl cw nL w pc lv [.int x] := by
  refine j_widen h1 h2 ?_
  subst hQ
  obtain ⟨hd, rfl⟩ := hd
  exact fun H locs ls hP hD hS hl => W.iret B.1 B.2.1 hr (fun t ht hW => ⟨⟨x, u, rfl, hu, by rw [ht, ← hw]; exact hP, va_K.moved hW.alike B.2.2.2.2.2.1, by rw [← hw]; exact hD⟩, hS.F ht⟩) hS.2.2 hd B.2.2.2.2.2.2
theorem j_aretS {S : Type} {post : S → Prop} {f : S → va_W} {ra : S → Nat} {kc ks x : Nat} {rt : FieldType} (u : S) (B : Bd p s m args meth c cc nL own D vwCl (tysG g)) (hr : meth.sig.returnType = some rt) (hrt : (∃ n, rt = .object n) ∨ ∃ t, rt = .array t) (hQ : Q = MQ below (va_Qr post (fun u z t => z = ra u ∧ MPost D vwCl (tysG g) (f u) A t) A) args s kc ks A) (h1 : cells ≤ kc) (h2 : slots ≤ ks) (hu : post u) (hx : x = ra u) (hw : cw w = f u) (hd : D1 cc pc .areturn pc') : XJ p l e R s m args below meth c cells slots Q A D vwCl cw nL w pc lv [.ref x] := by
  refine j_widen h1 h2 ?_
  subst hQ
  obtain ⟨hd, rfl⟩ := hd
  exact fun H locs ls hP hD hS hl => W.aret B.1 B.2.1 hr hrt (by simp [Value.isRef]) (fun t ht hW => ⟨⟨u, x, rfl, hu, hx, by rw [ht, ← hw]; exact hP, va_K.moved hW.alike B.2.2.2.2.2.1, by rw [← hw]; exact hD⟩, hS.F ht⟩) hS.2.2 hd B.2.2.2.2.2.2
theorem j_eqw {ws' : va_W} (h : cw w = ws') (k : XJw p l e R s m args below meth c cells slots Q A D nL ws' pc lv st) : XJ p l e R s m args below meth c cells slots Q A D vwCl cw nL w pc lv st := by
  subst h
  exact k
end FS
theorem dX7_init_0 : decode cX7_init 0 = .ok (.aload_n 0, 1) := by decide +kernel
theorem dX7_init_1 : decode cX7_init 1 = .ok (.invokespecial 3, 3) := by decide +kernel
theorem dX7_init_4 : decode cX7_init 4 = .ok (.aload_n 0, 1) := by decide +kernel
theorem dX7_init_5 : decode cX7_init 5 = .ok (.bipush 9, 2) := by decide +kernel
theorem dX7_init_7 : decode cX7_init 7 = .ok (.newarray .int, 2) := by decide +kernel
theorem dX7_init_9 : decode cX7_init 9 = .ok (.putfield 9, 3) := by decide +kernel
theorem dX7_init_12 : decode cX7_init 12 = .ok (.aload_n 0, 1) := by decide +kernel
theorem dX7_init_13 : decode cX7_init 13 = .ok (.iload_n 1, 1) := by decide +kernel
theorem dX7_init_14 : decode cX7_init 14 = .ok (.putfield 15, 3) := by decide +kernel
theorem dX7_init_17 : decode cX7_init 17 = .ok (.aload_n 0, 1) := by decide +kernel
theorem dX7_init_18 : decode cX7_init 18 = .ok (.iload_n 2, 1) := by decide +kernel
theorem dX7_init_19 : decode cX7_init 19 = .ok (.putfield 19, 3) := by decide +kernel
theorem dX7_init_22 : decode cX7_init 22 = .ok (.aload_n 0, 1) := by decide +kernel
theorem dX7_init_23 : decode cX7_init 23 = .ok (.iload_n 3, 1) := by decide +kernel
theorem dX7_init_24 : decode cX7_init 24 = .ok (.putfield 22, 3) := by decide +kernel
theorem dX7_init_27 : decode cX7_init 27 = .ok (.aload_n 0, 1) := by decide +kernel
theorem dX7_init_28 : decode cX7_init 28 = .ok (.iload 4, 2) := by decide +kernel
theorem dX7_init_30 : decode cX7_init 30 = .ok (.putfield 25, 3) := by decide +kernel
theorem dX7_init_33 : decode cX7_init 33 = .ok (.iconst 0, 1) := by decide +kernel
theorem dX7_init_34 : decode cX7_init 34 = .ok (.istore 5, 2) := by decide +kernel
theorem dX7_init_36 : decode cX7_init 36 = .ok (.iload 5, 2) := by decide +kernel
theorem dX7_init_38 : decode cX7_init 38 = .ok (.bipush 8, 2) := by decide +kernel
theorem dX7_init_40 : decode cX7_init 40 = .ok (.if_icmp .gt 17, 3) := by decide +kernel
theorem dX7_init_43 : decode cX7_init 43 = .ok (.aload_n 0, 1) := by decide +kernel
theorem dX7_init_44 : decode cX7_init 44 = .ok (.getfield 9, 3) := by decide +kernel
theorem dX7_init_47 : decode cX7_init 47 = .ok (.iload 5, 2) := by decide +kernel
theorem dX7_init_49 : decode cX7_init 49 = .ok (.iconst (-1), 1) := by decide +kernel
theorem dX7_init_50 : decode cX7_init 50 = .ok (.iastore, 1) := by decide +kernel
theorem dX7_init_51 : decode cX7_init 51 = .ok (.iinc 5 1, 3) := by decide +kernel
theorem dX7_init_54 : decode cX7_init 54 = .ok (.goto (-18), 3) := by decide +kernel
theorem dX7_init_57 : decode cX7_init 57 = .ok (.return_, 1) := by decide +kernel
theorem pkX7_init : PkI yX7_init cX7_init 6 4 := ⟨q294, q64, q295, rfl, by decide +kernel⟩
theorem dX8_init_0 : decode cX8_init 0 = .ok (.aload_n 0, 1) := by decide +kernel
theorem dX8_init_1 : decode cX8_init 1 = .ok (.aload_n 1, 1) := by decide +kernel
theorem dX8_init_2 : decode cX8_init 2 = .ok (.putfield 3, 3) := by decide +kernel
theorem dX8_init_5 : decode cX8_init 5 = .ok (.aload_n 0, 1) := by decide +kernel
theorem dX8_init_6 : decode cX8_init 6 = .ok (.invokespecial 9, 3) := by decide +kernel
theorem dX8_init_9 : decode cX8_init 9 = .ok (.aload_n 0, 1) := by decide +kernel
theorem dX8_init_10 : decode cX8_init 10 = .ok (.iconst 3, 1) := by decide +kernel
theorem dX8_init_11 : decode cX8_init 11 = .ok (.newarray .int, 2) := by decide +kernel
theorem dX8_init_13 : decode cX8_init 13 = .ok (.putfield 15, 3) := by decide +kernel
theorem dX8_init_16 : decode cX8_init 16 = .ok (.aload_n 0, 1) := by decide +kernel
theorem dX8_init_17 : decode cX8_init 17 = .ok (.iconst 3, 1) := by decide +kernel
theorem dX8_init_18 : decode cX8_init 18 = .ok (.newarray .int, 2) := by decide +kernel
theorem dX8_init_20 : decode cX8_init 20 = .ok (.putfield 19, 3) := by decide +kernel
theorem dX8_init_23 : decode cX8_init 23 = .ok (.aload_n 0, 1) := by decide +kernel
theorem dX8_init_24 : decode cX8_init 24 = .ok (.iconst 3, 1) := by decide +kernel
theorem dX8_init_25 : decode cX8_init 25 = .ok (.newarray .int, 2) := by decide +kernel
theorem dX8_init_27 : decode cX8_init 27 = .ok (.putfield 22, 3) := by decide +kernel
theorem dX8_init_30 : decode cX8_init 30 = .ok (.aload_n 0, 1) := by decide +kernel
theorem dX8_init_31 : decode cX8_init 31 = .ok (.iconst 3, 1) := by decide +kernel
theorem dX8_init_32 : decode cX8_init 32 = .ok (.newarray .boolean, 2) := by decide +kernel
theorem dX8_init_34 : decode cX8_init 34 = .ok (.putfield 25, 3) := by decide +kernel
theorem dX8_init_37 : decode cX8_init 37 = .ok (.return_, 1) := by decide +kernel
theorem pkX8_init : PkI yX8_init cX8_init 2 1 := ⟨q526, q66, q527, rfl, by decide +kernel⟩
abbrev rmX7_init : Room := { frames := 1, cells := 1, slots := 9, locals := 20 }
def cr0 (i : Nat) : Nat → Int32 := fun j => if j < i then -1 else 0
theorem cr0_up (i : Nat) : upd (cr0 i) i (-1) = cr0 (i + 1) := by
  funext j
  unfold upd cr0
  by_cases h : j = i
  · subst h; simp
  · rw [if_neg h]
    by_cases h2 : j < i
    · rw [if_pos h2, if_pos (by omega)]
    · rw [if_neg h2, if_neg (by omega)]
theorem met_X7_init (l : Launch) (D : va_G) (g : Nat → ClassId) (h : Nat) (a1 a2 a3 a4 : Int32) (sz : Nat) : Met l yX7_init (ws_ yX7_init cX7_init 6 none) rmX7_init (va_Pc [.ref h, .int a1, .int a2, .int a3, .int a4] (MPre D vwCl (tysG g) [(h, .inr (1, [.int 0, .int 0, .int 0, .int 0, .null, .int 0]))] NT sz)) (va_Qv (fun _ : Nat => True) (fun u t => MPost D vwCl (tysG g) ((fun q : Nat => [(h, .inr (1, [.int a1, .int a2, .int a3, .int a4, .ref q, .int 0])), (q, .inl (g 0, 9, .inl (cr0 9)))]) u) (va_A [(h, .inr (1, [.int 0, .int 0, .int 0, .int 0, .null, .int 0]))] sz) t) (va_A [(h, .inr (1, [.int 0, .int 0, .int 0, .int 0, .null, .int 0]))] sz)) 1 9 (va_A [(h, .inr (1, [.int 0, .int 0, .int 0, .int 0, .null, .int 0]))] sz) := by
  refine met_XJ (l := l) (D := D) (cl := vwCl) (tys := tysG g) (y := yX7_init) (maxL := 6) (ret := none) (rm := rmX7_init) (mc := 1) (ms := 9) (NX := NT) (sz := sz) (QcA := fun A => (va_Qv (fun _ : Nat => True) (fun u t => MPost D vwCl (tysG g) ((fun q : Nat => [(h, .inr (1, [.int a1, .int a2, .int a3, .int a4, .ref q, .int 0])), (q, .inl (g 0, 9, .inl (cr0 9)))]) u) A t) A)) (cw := (id : va_W → va_W)) (w := [(h, .inr (1, [.int 0, .int 0, .int 0, .int 0, .null, .int 0]))]) (cc := cX7_init) (lv := [(0, .ref h), (1, .int a1), (2, .int a2), (3, .int a3), (4, .int a4)]) pnX7 [.ref h, .int a1, .int a2, .int a3, .int a4] (Nat.le_of_ble_eq_true rfl) rfl ?_
  intro p e s m args below meth c R Q A B hN hr hsz hA hmm hRm hQ hAe
  have hin : meth.name = "<init>" := (name_of_methodNamed hmm.1 hmm.2).1
  refine j_aload_n B ⟨dX7_init_0, rfl⟩ 0 rfl ?_
  refine j_objI B q296 q77 q78 (by rw [hRm]; exact ⟨Nat.le_of_ble_eq_true rfl, Nat.le_of_ble_eq_true rfl⟩) (Nat.le_of_ble_eq_true rfl) ⟨dX7_init_1, rfl⟩ ?_
  refine j_aload_n B ⟨dX7_init_4, rfl⟩ 0 rfl ?_
  refine j_bipush (v := 9) B ⟨dX7_init_5, rfl⟩ (by decide) ?_
  refine j_newa (atype := .int) (ty := .int) (N' := 9) (a0 := (9, .inl (fun _ => 0))) B hA q215 rfl 0 rfl (fun _ => rfl) (by decide) (by decide) (by decide) (by rw [hRm]; exact Nat.le_of_ble_eq_true rfl) (by rw [hRm]; exact Nat.le_of_ble_eq_true rfl) ⟨dX7_init_7, rfl⟩ (fun q0 => ?_)
  refine j_putF (T := TX7) (ci := 1) (ty := tyX7 4) B hin in_X7 tyX7 tyX7_ok nmX7 0 rfl rfl 4 (by decide) q305 rfl rfl rfl rfl rfl (Nat.le_of_ble_eq_true rfl) ⟨dX7_init_9, rfl⟩ ?_
  refine j_aload_n B ⟨dX7_init_12, rfl⟩ 0 rfl ?_
  refine j_iload_n B ⟨dX7_init_13, rfl⟩ 1 rfl ?_
  refine j_putF (T := TX7) (ci := 1) (ty := tyX7 0) B hin in_X7 tyX7 tyX7_ok nmX7 0 rfl rfl 0 (by decide) q297 rfl rfl rfl rfl rfl (Nat.le_of_ble_eq_true rfl) ⟨dX7_init_14, rfl⟩ ?_
  refine j_aload_n B ⟨dX7_init_17, rfl⟩ 0 rfl ?_
  refine j_iload_n B ⟨dX7_init_18, rfl⟩ 2 rfl ?_
  refine j_putF (T := TX7) (ci := 1) (ty := tyX7 1) B hin in_X7 tyX7 tyX7_ok nmX7 0 rfl rfl 1 (by decide) q299 rfl rfl rfl rfl rfl (Nat.le_of_ble_eq_true rfl) ⟨dX7_init_19, rfl⟩ ?_
  refine j_aload_n B ⟨dX7_init_22, rfl⟩ 0 rfl ?_
  refine j_iload_n B ⟨dX7_init_23, rfl⟩ 3 rfl ?_
  refine j_putF (T := TX7) (ci := 1) (ty := tyX7 2) B hin in_X7 tyX7 tyX7_ok nmX7 0 rfl rfl 2 (by decide) q301 rfl rfl rfl rfl rfl (Nat.le_of_ble_eq_true rfl) ⟨dX7_init_24, rfl⟩ ?_
  refine j_aload_n B ⟨dX7_init_27, rfl⟩ 0 rfl ?_
  refine j_iload B ⟨dX7_init_28, rfl⟩ 4 rfl ?_
  refine j_putF (T := TX7) (ci := 1) (ty := tyX7 3) B hin in_X7 tyX7 tyX7_ok nmX7 0 rfl rfl 3 (by decide) q303 rfl rfl rfl rfl rfl (Nat.le_of_ble_eq_true rfl) ⟨dX7_init_30, rfl⟩ ?_
  refine j_iconst (v := 0) B ⟨dX7_init_33, rfl⟩ (by decide) ?_
  have loop : ∀ (n i : Nat), i + n = 9 → XJw p l e R s m args below meth c 1 9 Q A D 6 [(h, .inr (1, [.int a1, .int a2, .int a3, .int a4, .ref q0, .int 0])), (q0, .inl (g 0, 9, .inl (cr0 i)))] 36 [(0, .ref h), (5, .int (nI i))] [] := by
    intro n
    induction n with
    | zero =>
      intro i hi
      have hi : i = 9 := by omega
      subst hi
      refine j_iload B ⟨dX7_init_36, rfl⟩ 1 rfl ?_
      refine j_bipush (v := 8) B ⟨dX7_init_38, rfl⟩ (by decide) ?_
      refine j_icmp_gt (a := some ()) (b := none) (res := ()) (tgt := 57) (dc := inferInstance) B ⟨17, dX7_init_40, by decide, rfl⟩ rfl (fun _ _ => ?_) (fun h => absurd (by decide) h)
      exact j_vretS (post := fun _ : Nat => True) (f := (fun q : Nat => [(h, .inr (1, [.int a1, .int a2, .int a3, .int a4, .ref q, .int 0])), (q, .inl (g 0, 9, .inl (cr0 9)))])) q0 B hr hQ (Nat.le_refl _) (Nat.le_refl _) trivial rfl ⟨dX7_init_57, rfl⟩
    | succ n ih =>
      intro i hi
      refine j_iload B ⟨dX7_init_36, rfl⟩ 1 rfl ?_
      refine j_bipush (v := 8) B ⟨dX7_init_38, rfl⟩ (by decide) ?_
      have hle : ¬ (8 : Int32) < nI i := nI_nlt (a := 8) (b := i) (by omega) (by decide)
      refine j_icmp_gt (a := none) (b := some ()) (res := ()) (tgt := 57) (dc := inferInstance) B ⟨17, dX7_init_40, by decide, rfl⟩ (if_neg hle) (fun _ h => by cases h) (fun _ _ => ?_)
      refine j_aload_n B ⟨dX7_init_43, rfl⟩ 0 rfl ?_
      refine j_get (T := TX7) (ci := 1) B in_X7 0 rfl rfl 4 (by decide) q305 rfl ⟨dX7_init_44, rfl⟩ ?_
      refine j_iload B ⟨dX7_init_47, rfl⟩ 1 rfl ?_
      refine j_iconst (v := -1) B ⟨dX7_init_49, rfl⟩ (by decide) ?_
      refine j_iast (w1 := [(h, .inr (1, [.int a1, .int a2, .int a3, .int a4, .ref q0, .int 0])), (q0, .inl (g 0, 9, .inl (cr0 (i + 1))))]) (g := fun w' => some w') (res := [(h, .inr (1, [.int a1, .int a2, .int a3, .int a4, .ref q0, .int 0])), (q0, .inl (g 0, 9, .inl (cr0 (i + 1))))]) B 1 0 rfl rfl ?_ ⟨dX7_init_50, rfl⟩ ?_ (fun w' hw => ?_)
      · show _ = ([(h, .inr (1, [.int a1, .int a2, .int a3, .int a4, .ref q0, .int 0])), (q0, .inl (g 0, 9, .inl (cr0 (i + 1))))] : va_W)
        rw [← cr0_up, nI_clamp (by omega)]
        rfl
      · have hb : inb (nI i) 9 = true := by
          have h1 : ¬ nI i < 0 := nI_pos (by omega)
          simp [inb, h1, nI_clamp (show i < 2 ^ 31 by omega)]
          omega
        rw [rd, if_pos hb]
      · cases hw
        refine j_iinc (d := 1) (f := fun v => some v) (res := nI i + 1) (lv' := fun v => [(0, .ref h), (5, .int v)]) B ⟨dX7_init_51, rfl⟩ 1 rfl (by decide) [1, 0] (by decide) (fun _ => rfl) rfl (fun v hv => ?_)
        cases hv
        refine j_goto (tgt := 36) B ⟨-18, dX7_init_54, by decide, rfl⟩ ?_
        have := ih (i + 1) (by omega)
        rw [nI_1]
        exact this
  refine j_istore (f := fun v => some v) (res := (0 : Int32)) (lv' := fun v => [(0, .ref h), (5, .int v)]) B ⟨dX7_init_34, rfl⟩ [1, 0] (by decide) (fun _ => rfl) rfl (fun v hv => ?_)
  cases hv
  have h0 : cr0 0 = fun _ => 0 := by funext j; simp [cr0]
  have h1 := loop 9 0 rfl
  rw [h0] at h1
  exact h1
abbrev rmX8_init : Room := { frames := 1, cells := 4, slots := 12, locals := 20 }
theorem met_X8_init (l : Launch) (D : va_G) (g : Nat → ClassId) (h o : Nat) (sz : Nat) : Met l yX8_init (ws_ yX8_init cX8_init 2 none) rmX8_init (va_Pc [.ref h, .ref o] (MPre D vwCl (tysG g) [(h, .inr (2, [.int 0, .int 0, .int 0, .null, .null, .null, .null, .null]))] NT sz)) (va_Qv (fun _ : Nat × Nat × Nat × Nat => True) (fun u t => MPost D vwCl (tysG g) ((fun u : Nat × Nat × Nat × Nat => [(h, .inr (2, [.int 0, .int 0, .int 0, .ref u.1, .ref u.2.1, .ref u.2.2.1, .ref u.2.2.2, .ref o])), (u.1, .inl (g 0, 3, .inl (fun _ => 0))), (u.2.1, .inl (g 0, 3, .inl (fun _ => 0))), (u.2.2.1, .inl (g 0, 3, .inl (fun _ => 0))), (u.2.2.2, .inl (g 2, 3, .inl (fun _ => 0)))]) u) (va_A [(h, .inr (2, [.int 0, .int 0, .int 0, .null, .null, .null, .null, .null]))] sz) t) (va_A [(h, .inr (2, [.int 0, .int 0, .int 0, .null, .null, .null, .null, .null]))] sz)) 4 12 (va_A [(h, .inr (2, [.int 0, .int 0, .int 0, .null, .null, .null, .null, .null]))] sz) := by
  refine met_XJ (l := l) (D := D) (cl := vwCl) (tys := tysG g) (y := yX8_init) (maxL := 2) (ret := none) (rm := rmX8_init) (mc := 4) (ms := 12) (NX := NT) (sz := sz) (QcA := fun A => (va_Qv (fun _ : Nat × Nat × Nat × Nat => True) (fun u t => MPost D vwCl (tysG g) ((fun u : Nat × Nat × Nat × Nat => [(h, .inr (2, [.int 0, .int 0, .int 0, .ref u.1, .ref u.2.1, .ref u.2.2.1, .ref u.2.2.2, .ref o])), (u.1, .inl (g 0, 3, .inl (fun _ => 0))), (u.2.1, .inl (g 0, 3, .inl (fun _ => 0))), (u.2.2.1, .inl (g 0, 3, .inl (fun _ => 0))), (u.2.2.2, .inl (g 2, 3, .inl (fun _ => 0)))]) u) A t) A)) (cw := (id : va_W → va_W)) (w := [(h, .inr (2, [.int 0, .int 0, .int 0, .null, .null, .null, .null, .null]))]) (cc := cX8_init) (lv := [(0, .ref h), (1, .ref o)]) pnX8 [.ref h, .ref o] (Nat.le_of_ble_eq_true rfl) rfl ?_
  intro p e s m args below meth c R Q A B hN hr hsz hA hmm hRm hQ hAe
  have hin : meth.name = "<init>" := (name_of_methodNamed hmm.1 hmm.2).1
  refine j_aload_n B ⟨dX8_init_0, rfl⟩ 0 rfl ?_
  refine j_aload_n B ⟨dX8_init_1, rfl⟩ 1 rfl ?_
  refine j_putF (T := TX8) (ci := 2) (ty := tyX8 7) B hin in_X8 tyX8 tyX8_ok nmX8 0 rfl rfl 7 (by decide) q542 rfl rfl rfl rfl rfl (Nat.le_of_ble_eq_true rfl) ⟨dX8_init_2, rfl⟩ ?_
  refine j_aload_n B ⟨dX8_init_5, rfl⟩ 0 rfl ?_
  refine j_objI B q528 q77 q78 (by rw [hRm]; exact ⟨Nat.le_of_ble_eq_true rfl, Nat.le_of_ble_eq_true rfl⟩) (Nat.le_of_ble_eq_true rfl) ⟨dX8_init_6, rfl⟩ ?_
  refine j_aload_n B ⟨dX8_init_9, rfl⟩ 0 rfl ?_
  refine j_iconst (v := 3) B ⟨dX8_init_10, rfl⟩ (by decide) ?_
  refine j_newa (atype := .int) (ty := .int) (N' := 3) (a0 := (3, .inl (fun _ => 0))) B hA q215 rfl 0 rfl (fun _ => rfl) (by decide) (by decide) (by decide) (by rw [hRm]; exact Nat.le_of_ble_eq_true rfl) (by rw [hRm]; exact Nat.le_of_ble_eq_true rfl) ⟨dX8_init_11, rfl⟩ (fun q0 => ?_)
  refine j_putF (T := TX8) (ci := 2) (ty := tyX8 3) B hin in_X8 tyX8 tyX8_ok nmX8 0 rfl rfl 3 (by decide) q534 rfl rfl rfl rfl rfl (Nat.le_of_ble_eq_true rfl) ⟨dX8_init_13, rfl⟩ ?_
  refine j_aload_n B ⟨dX8_init_16, rfl⟩ 0 rfl ?_
  refine j_iconst (v := 3) B ⟨dX8_init_17, rfl⟩ (by decide) ?_
  refine j_newa (atype := .int) (ty := .int) (N' := 3) (a0 := (3, .inl (fun _ => 0))) B hA q215 rfl 0 rfl (fun _ => rfl) (by decide) (by decide) (by decide) (by rw [hRm]; exact Nat.le_of_ble_eq_true rfl) (by rw [hRm]; exact Nat.le_of_ble_eq_true rfl) ⟨dX8_init_18, rfl⟩ (fun q1 => ?_)
  refine j_putF (T := TX8) (ci := 2) (ty := tyX8 4) B hin in_X8 tyX8 tyX8_ok nmX8 0 rfl rfl 4 (by decide) q536 rfl rfl rfl rfl rfl (Nat.le_of_ble_eq_true rfl) ⟨dX8_init_20, rfl⟩ ?_
  refine j_aload_n B ⟨dX8_init_23, rfl⟩ 0 rfl ?_
  refine j_iconst (v := 3) B ⟨dX8_init_24, rfl⟩ (by decide) ?_
  refine j_newa (atype := .int) (ty := .int) (N' := 3) (a0 := (3, .inl (fun _ => 0))) B hA q215 rfl 0 rfl (fun _ => rfl) (by decide) (by decide) (by decide) (by rw [hRm]; exact Nat.le_of_ble_eq_true rfl) (by rw [hRm]; exact Nat.le_of_ble_eq_true rfl) ⟨dX8_init_25, rfl⟩ (fun q2 => ?_)
  refine j_putF (T := TX8) (ci := 2) (ty := tyX8 5) B hin in_X8 tyX8 tyX8_ok nmX8 0 rfl rfl 5 (by decide) q538 rfl rfl rfl rfl rfl (Nat.le_of_ble_eq_true rfl) ⟨dX8_init_27, rfl⟩ ?_
  refine j_aload_n B ⟨dX8_init_30, rfl⟩ 0 rfl ?_
  refine j_iconst (v := 3) B ⟨dX8_init_31, rfl⟩ (by decide) ?_
  refine j_newa (atype := .boolean) (ty := .boolean) (N' := 3) (a0 := (3, .inl (fun _ => 0))) B hA q218 rfl 2 rfl (fun _ => rfl) (by decide) (by decide) (by decide) (by rw [hRm]; exact Nat.le_of_ble_eq_true rfl) (by rw [hRm]; exact Nat.le_of_ble_eq_true rfl) ⟨dX8_init_32, rfl⟩ (fun q3 => ?_)
  refine j_putF (T := TX8) (ci := 2) (ty := tyX8 6) B hin in_X8 tyX8 tyX8_ok nmX8 0 rfl rfl 6 (by decide) q540 rfl rfl rfl rfl rfl (Nat.le_of_ble_eq_true rfl) ⟨dX8_init_34, rfl⟩ ?_
  exact j_vretS (post := fun _ : Nat × Nat × Nat × Nat => True) (f := (fun u : Nat × Nat × Nat × Nat => [(h, .inr (2, [.int 0, .int 0, .int 0, .ref u.1, .ref u.2.1, .ref u.2.2.1, .ref u.2.2.2, .ref o])), (u.1, .inl (g 0, 3, .inl (fun _ => 0))), (u.2.1, .inl (g 0, 3, .inl (fun _ => 0))), (u.2.2.1, .inl (g 0, 3, .inl (fun _ => 0))), (u.2.2.2, .inl (g 2, 3, .inl (fun _ => 0)))])) (q0, q1, q2, q3) B hr hQ (Nat.le_of_ble_eq_true rfl) (Nat.le_of_ble_eq_true rfl) trivial rfl ⟨dX8_init_37, rfl⟩
