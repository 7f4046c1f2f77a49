set_option maxRecDepth 100000
theorem dJ1_length_0 : decode cJ1_length 0 = .ok (.aload_n 0, 1) := by decide +kernel
theorem dJ1_length_1 : decode cJ1_length 1 = .ok (.getfield 9, 3) := by decide +kernel
theorem dJ1_length_4 : decode cJ1_length 4 = .ok (.arraylength, 1) := by decide +kernel
theorem dJ1_length_5 : decode cJ1_length 5 = .ok (.aload_n 0, 1) := by decide +kernel
theorem dJ1_length_6 : decode cJ1_length 6 = .ok (.invokevirtual 335, 3) := by decide +kernel
theorem dJ1_length_9 : decode cJ1_length 9 = .ok (.ishr, 1) := by decide +kernel
theorem dJ1_length_10 : decode cJ1_length 10 = .ok (.ireturn, 1) := by decide +kernel
theorem dJ1_coder_0 : decode cJ1_coder 0 = .ok (.getstatic 38, 3) := by decide +kernel
theorem dJ1_coder_3 : decode cJ1_coder 3 = .ok (.ifCond .eq 10, 3) := by decide +kernel
theorem dJ1_coder_6 : decode cJ1_coder 6 = .ok (.aload_n 0, 1) := by decide +kernel
theorem dJ1_coder_7 : decode cJ1_coder 7 = .ok (.getfield 15, 3) := by decide +kernel
theorem dJ1_coder_10 : decode cJ1_coder 10 = .ok (.goto 4, 3) := by decide +kernel
theorem dJ1_coder_13 : decode cJ1_coder 13 = .ok (.iconst 1, 1) := by decide +kernel
theorem dJ1_coder_14 : decode cJ1_coder 14 = .ok (.ireturn, 1) := by decide +kernel
theorem dJ1_charAt_0 : decode cJ1_charAt 0 = .ok (.aload_n 0, 1) := by decide +kernel
theorem dJ1_charAt_1 : decode cJ1_charAt 1 = .ok (.invokevirtual 492, 3) := by decide +kernel
theorem dJ1_charAt_4 : decode cJ1_charAt 4 = .ok (.ifCond .eq 12, 3) := by decide +kernel
theorem dJ1_charAt_7 : decode cJ1_charAt 7 = .ok (.aload_n 0, 1) := by decide +kernel
theorem dJ1_charAt_8 : decode cJ1_charAt 8 = .ok (.getfield 9, 3) := by decide +kernel
theorem dJ1_charAt_11 : decode cJ1_charAt 11 = .ok (.iload_n 1, 1) := by decide +kernel
theorem dJ1_charAt_12 : decode cJ1_charAt 12 = .ok (.invokestatic 495, 3) := by decide +kernel
theorem dJ1_charAt_15 : decode cJ1_charAt 15 = .ok (.ireturn, 1) := by decide +kernel
theorem dJ1_isLatin1_0 : decode cJ1_isLatin1 0 = .ok (.getstatic 38, 3) := by decide +kernel
theorem dJ1_isLatin1_3 : decode cJ1_isLatin1 3 = .ok (.ifCond .eq 14, 3) := by decide +kernel
theorem dJ1_isLatin1_6 : decode cJ1_isLatin1 6 = .ok (.aload_n 0, 1) := by decide +kernel
theorem dJ1_isLatin1_7 : decode cJ1_isLatin1 7 = .ok (.getfield 15, 3) := by decide +kernel
theorem dJ1_isLatin1_10 : decode cJ1_isLatin1 10 = .ok (.ifCond .ne 7, 3) := by decide +kernel
theorem dJ1_isLatin1_13 : decode cJ1_isLatin1 13 = .ok (.iconst 1, 1) := by decide +kernel
theorem dJ1_isLatin1_14 : decode cJ1_isLatin1 14 = .ok (.goto 4, 3) := by decide +kernel
theorem dJ1_isLatin1_17 : decode cJ1_isLatin1 17 = .ok (.iconst 0, 1) := by decide +kernel
theorem dJ1_isLatin1_18 : decode cJ1_isLatin1 18 = .ok (.ireturn, 1) := by decide +kernel
theorem dJ1_checkIndex_0 : decode cJ1_checkIndex 0 = .ok (.iload_n 0, 1) := by decide +kernel
theorem dJ1_checkIndex_1 : decode cJ1_checkIndex 1 = .ok (.iload_n 1, 1) := by decide +kernel
theorem dJ1_checkIndex_2 : decode cJ1_checkIndex 2 = .ok (.getstatic 1053, 3) := by decide +kernel
theorem dJ1_checkIndex_5 : decode cJ1_checkIndex 5 = .ok (.invokestatic 1059, 3) := by decide +kernel
theorem dJ1_checkIndex_8 : decode cJ1_checkIndex 8 = .ok (.pop, 1) := by decide +kernel
theorem dJ1_checkIndex_9 : decode cJ1_checkIndex 9 = .ok (.return_, 1) := by decide +kernel
theorem dJ2_charAt_0 : decode cJ2_charAt 0 = .ok (.iload_n 1, 1) := by decide +kernel
theorem dJ2_charAt_1 : decode cJ2_charAt 1 = .ok (.aload_n 0, 1) := by decide +kernel
theorem dJ2_charAt_2 : decode cJ2_charAt 2 = .ok (.arraylength, 1) := by decide +kernel
theorem dJ2_charAt_3 : decode cJ2_charAt 3 = .ok (.invokestatic 9, 3) := by decide +kernel
theorem dJ2_charAt_6 : decode cJ2_charAt 6 = .ok (.aload_n 0, 1) := by decide +kernel
theorem dJ2_charAt_7 : decode cJ2_charAt 7 = .ok (.iload_n 1, 1) := by decide +kernel
theorem dJ2_charAt_8 : decode cJ2_charAt 8 = .ok (.baload, 1) := by decide +kernel
theorem dJ2_charAt_9 : decode cJ2_charAt 9 = .ok (.sipush 255, 3) := by decide +kernel
theorem dJ2_charAt_12 : decode cJ2_charAt 12 = .ok (.iand, 1) := by decide +kernel
theorem dJ2_charAt_13 : decode cJ2_charAt 13 = .ok (.i2c, 1) := by decide +kernel
theorem dJ2_charAt_14 : decode cJ2_charAt 14 = .ok (.ireturn, 1) := by decide +kernel
theorem dJ3_checkIndex_0 : decode cJ3_checkIndex 0 = .ok (.iload_n 0, 1) := by decide +kernel
theorem dJ3_checkIndex_1 : decode cJ3_checkIndex 1 = .ok (.ifCond .lt 8, 3) := by decide +kernel
theorem dJ3_checkIndex_4 : decode cJ3_checkIndex 4 = .ok (.iload_n 0, 1) := by decide +kernel
theorem dJ3_checkIndex_5 : decode cJ3_checkIndex 5 = .ok (.iload_n 1, 1) := by decide +kernel
theorem dJ3_checkIndex_6 : decode cJ3_checkIndex 6 = .ok (.if_icmp .lt 10, 3) := by decide +kernel
theorem dJ3_checkIndex_9 : decode cJ3_checkIndex 9 = .ok (.aload_n 2, 1) := by decide +kernel
theorem dJ3_checkIndex_10 : decode cJ3_checkIndex 10 = .ok (.iload_n 0, 1) := by decide +kernel
theorem dJ3_checkIndex_11 : decode cJ3_checkIndex 11 = .ok (.iload_n 1, 1) := by decide +kernel
theorem dJ3_checkIndex_12 : decode cJ3_checkIndex 12 = .ok (.invokestatic 95, 3) := by decide +kernel
theorem dJ3_checkIndex_15 : decode cJ3_checkIndex 15 = .ok (.athrow, 1) := by decide +kernel
theorem dJ3_checkIndex_16 : decode cJ3_checkIndex 16 = .ok (.iload_n 0, 1) := by decide +kernel
theorem dJ3_checkIndex_17 : decode cJ3_checkIndex 17 = .ok (.ireturn, 1) := by decide +kernel
section ST
variable {p : Program} {l : Launch} {e : Env} {R : Room} {s : State} {m : MethodId} {args : Array Value} {below : List Frame} {meth : Method} {c : Code} {cells slots : Nat} {Q : State → Prop} {A : Nat → Prop} {D : va_G} {g : Nat → ClassId} {sd : Nat → Nat} {ad : Nat → Nat} {nL : Nat} {cc : ByteArray}
variable {w : Wd} {pc pc' : Nat} {lv : List (Nat × Value)} {st : List Value} {ρ : Type} {res : ρ}
variable {own : String} {j index : Nat}
def tLen (t : Nat) : Nat := if t = 100 then 7 else 5
def tOff (t : Nat) : Nat := if t = 100 then 0 else 7
theorem j_ldcwS (B : Bd p s m args meth c cc nL RX0 D vwCl (tysG g)) {tx : String} {k : Nat} (hZ : vk_R "DawnEights" index tx (sd k) s) (hd : D3 cc pc (.ldc_w index) pc') (kk : XJ p l e R s m args below meth c cells slots Q A D vwCl (cellsX g ad) nL w pc' lv (.ref (sd k) :: st)) : XJ p l e R s m args below meth c cells slots Q A D vwCl (cellsX g ad) nL w pc lv st := by
  obtain ⟨hd, rfl⟩ := hd
  intro H locs ls hP hD hS hl T hT X
  obtain ⟨t, a1, b1⟩ := kk H locs ls hP hD hS hl T hT X
  exact ⟨t, X.ldcStringW B.1 B.2.2.2.1 (text := tx) (a := sd k) hZ.1 hZ.2 (g := F0 m pc ls st) rfl (by rw [B.2.1]; exact hd) t a1, b1⟩
theorem gsT100 (B : Bd p s m args meth c cc nL RX0 D vwCl (tysG g)) (hX : NXA sd A s) (hd : D3 cc pc (.getstatic 324) pc') (kk : XJ p l e R s m args below meth c cells slots Q A D vwCl (cellsX g ad) nL w pc' lv (.ref (sd 100) :: st)) : XJ p l e R s m args below meth c cells slots Q A D vwCl (cellsX g ad) nL w pc lv st := by
  obtain ⟨hd, rfl⟩ := hd
  exact fun H locs ls hP hD hS hl => va_gets B.1 B.2.1 hX.2.1.2.2.2.1.1 hS B.2.2.2.1 (B.2.2.2.2.1 _ q633) (fun _ h => h) hd (kk H locs ls hP hD hS hl)
theorem gsT101 (B : Bd p s m args meth c cc nL RX0 D vwCl (tysG g)) (hX : NXA sd A s) (hd : D3 cc pc (.getstatic 352) pc') (kk : XJ p l e R s m args below meth c cells slots Q A D vwCl (cellsX g ad) nL w pc' lv (.ref (sd 101) :: st)) : XJ p l e R s m args below meth c cells slots Q A D vwCl (cellsX g ad) nL w pc lv st := by
  obtain ⟨hd, rfl⟩ := hd
  exact fun H locs ls hP hD hS hl => va_gets B.1 B.2.1 hX.2.1.2.2.2.2.1 hS B.2.2.2.1 (B.2.2.2.2.1 _ q622) (fun _ h => h) hd (kk H locs ls hP hD hS hl)
theorem lenT (B : Bd p s m args meth c cc nL own D vwCl (tysG g)) (hX : NXA sd A s) {f : Int32 → Option ρ} (hd : D1 cc pc .arraylength pc') (ho : gd (decide (j = 100 ∨ j = 101)) (nm (Int32.ofNat (tLen j)) f) = some res) (kk : ∀ v : Int32, f v = some res → XJ p l e R s m args below meth c cells slots Q A D vwCl (cellsX g ad) nL w pc' lv (.int v :: st)) : XJ p l e R s m args below meth c cells slots Q A D vwCl (cellsX g ad) nL w pc lv (.ref (sd j) :: st) := by
  obtain ⟨hd, rfl⟩ := hd
  obtain ⟨hj, ho⟩ := gd_e ho
  rcases of_decide_eq_true hj with rfl | rfl
  · exact fun H locs ls hP hD hS hl => va_tlen B.1 B.2.1 hX.2.1.2.2.2.1.2 hS rfl hd (kk _ ho H locs ls hP hD hS hl)
  · exact fun H locs ls hP hD hS hl => va_tlen B.1 B.2.1 hX.2.1.2.2.2.2.2 hS rfl hd (kk _ ho H locs ls hP hD hS hl)
theorem alT (B : Bd p s m args meth c cc nL own D vwCl (tysG g)) (hX : NXA sd A s) {i : Int32} {f : Nat → Option ρ} (hd : D1 cc pc .aaload pc') (ho : rd (decide (j = 100 ∨ j = 101) && inb i (tLen j)) (tOff j + i.toNatClampNeg) f = some res) (kk : ∀ k : Nat, f k = some res → XJ p l e R s m args below meth c cells slots Q A D vwCl (cellsX g ad) nL w pc' lv (.ref (sd k) :: st)) : XJ p l e R s m args below meth c cells slots Q A D vwCl (cellsX g ad) nL w pc lv (.int i :: .ref (sd j) :: st) := by
  obtain ⟨hd, rfl⟩ := hd
  obtain ⟨hj, ho⟩ := rd_e ho
  rw [Bool.and_eq_true] at hj
  obtain ⟨hj, hb⟩ := hj
  rcases of_decide_eq_true hj with rfl | rfl
  · exact fun H locs ls hP hD hS hl => vb_tq B.1 B.2.1 hX.2.1.2.2.2.1.2 hS (inb_in hb) rfl hd ((by have h := kk _ ho H locs ls hP hD hS hl; simpa [tOff] using h))
  · exact fun H locs ls hP hD hS hl => vb_tq B.1 B.2.1 hX.2.1.2.2.2.2.2 hS (inb_in hb) rfl hd (kk _ ho H locs ls hP hD hS hl)
end ST
abbrev rmJ1_coder : Room := { frames := 0, cells := 0, slots := 0, locals := 0 }
abbrev rmJ1_isLatin1 : Room := { frames := 0, cells := 0, slots := 0, locals := 0 }
abbrev rmJ3_checkIndex : Room := { frames := 0, cells := 0, slots := 0, locals := 0 }
theorem met_J1_coder (l : Launch) (D : va_G) (g : Nat → ClassId) (ad sd : Nat → Nat) (w : Wd) (i sz : Nat) (hi : i < 17) : Met l yJ1_coder (ws_ yJ1_coder cJ1_coder 1 (some .byte)) rmJ1_coder (va_Pc [.ref (sd i)] (MPre D vwCl (tysG g) (cellsX g ad w) (NXX sd (cellsX g ad w)) sz)) (QcI D vwCl (tysG g) (cellsX g ad w) 0 (va_A (cellsX g ad w) sz)) 0 0 (va_A (cellsX g ad w) sz) := by
  refine met_XJF (cw := cellsX g ad) (w := w) (cc := cJ1_coder) (lv := [(0, .ref (sd i))]) (by decide +kernel) _ (Nat.le_of_ble_eq_true rfl) rfl ?_
  intro p e s m args below meth c R Q A B hN hr hsz hA hmm hRm hQ hAe
  have hX : NXA sd A s := by rw [hAe, ← hsz]; exact hN
  have hts := B.2.2.2.2.1
  intro H locs ls hP hD hS hl
  refine va_gets B.1 B.2.1 hX.2.1.2.1 hS B.2.2.2.1 (hts _ q582) (fun _ h => h) dJ1_coder_0 ?_
  refine lv_if_eq (tgt := 13) B.1 B.2.1 dJ1_coder_3 (by decide) (fun h => absurd h (by decide)) (fun _ => ?_)
  refine lv_aload_n B.1 B.2.1 dJ1_coder_6 rfl (lv_at hl 0 rfl) ?_
  refine vk_getf B.1 B.2.1 (hX.2.1.1.1 i hi).2.1 hS B.2.2.2.1 (hts _ q1206) (fun _ h => h) dJ1_coder_7 ?_
  refine lv_goto (tgt := 14) B.1 B.2.1 dJ1_coder_10 (by decide) ?_
  subst hQ
  exact W.zret B.1 B.2.1 hr rfl (fun t ht hW => ⟨⟨_, (), rfl, rfl, by rw [ht]; exact hP, va_K.moved hW.alike B.2.2.2.2.2.1, hD⟩, hS.F ht⟩) hS.2.2 dJ1_coder_14 B.2.2.2.2.2.2
theorem met_J1_isLatin1 (l : Launch) (D : va_G) (g : Nat → ClassId) (ad sd : Nat → Nat) (w : Wd) (i sz : Nat) (hi : i < 17) : Met l yJ1_isLatin1 (ws_ yJ1_isLatin1 cJ1_isLatin1 1 (some .boolean)) rmJ1_isLatin1 (va_Pc [.ref (sd i)] (MPre D vwCl (tysG g) (cellsX g ad w) (NXX sd (cellsX g ad w)) sz)) (QcI D vwCl (tysG g) (cellsX g ad w) 1 (va_A (cellsX g ad w) sz)) 0 0 (va_A (cellsX g ad w) sz) := by
  refine met_XJF (cw := cellsX g ad) (w := w) (cc := cJ1_isLatin1) (lv := [(0, .ref (sd i))]) (by decide +kernel) _ (Nat.le_of_ble_eq_true rfl) rfl ?_
  intro p e s m args below meth c R Q A B hN hr hsz hA hmm hRm hQ hAe
  have hX : NXA sd A s := by rw [hAe, ← hsz]; exact hN
  have hts := B.2.2.2.2.1
  intro H locs ls hP hD hS hl
  refine va_gets B.1 B.2.1 hX.2.1.2.1 hS B.2.2.2.1 (hts _ q582) (fun _ h => h) dJ1_isLatin1_0 ?_
  refine lv_if_eq (tgt := 17) B.1 B.2.1 dJ1_isLatin1_3 (by decide) (fun h => absurd h (by decide)) (fun _ => ?_)
  refine lv_aload_n B.1 B.2.1 dJ1_isLatin1_6 rfl (lv_at hl 0 rfl) ?_
  refine vk_getf B.1 B.2.1 (hX.2.1.1.1 i hi).2.1 hS B.2.2.2.1 (hts _ q1206) (fun _ h => h) dJ1_isLatin1_7 ?_
  refine lv_if_ne (tgt := 17) B.1 B.2.1 dJ1_isLatin1_10 (by decide) (fun h => absurd rfl h) (fun _ => ?_)
  refine lv_iconst (v := 1) B.1 B.2.1 dJ1_isLatin1_13 (by decide) ?_
  refine lv_goto (tgt := 18) B.1 B.2.1 dJ1_isLatin1_14 (by decide) ?_
  subst hQ
  exact W.zret B.1 B.2.1 hr rfl (fun t ht hW => ⟨⟨_, (), rfl, rfl, by rw [ht]; exact hP, va_K.moved hW.alike B.2.2.2.2.2.1, hD⟩, hS.F ht⟩) hS.2.2 dJ1_isLatin1_18 B.2.2.2.2.2.2
theorem met_J3_checkIndex (l : Launch) (D : va_G) (g : Nat → ClassId) (ad sd : Nat → Nat) (w : Wd) (i n : Int32) (v : Option Nat) (sz : Nat) (h0 : ¬ i < 0) (h1 : i < n) : Met l yJ3_checkIndex (ws_ yJ3_checkIndex cJ3_checkIndex 3 (some .int)) rmJ3_checkIndex (va_Pc [.int i, .int n, va_rf v] (MPre D vwCl (tysG g) (cellsX g ad w) (NXX sd (cellsX g ad w)) sz)) (QcI D vwCl (tysG g) (cellsX g ad w) i (va_A (cellsX g ad w) sz)) 0 0 (va_A (cellsX g ad w) sz) := by
  refine met_XJF (cw := cellsX g ad) (w := w) (cc := cJ3_checkIndex) (lv := [(0, .int i), (1, .int n), (2, va_rf v)]) (by decide +kernel) _ (by cases v <;> exact Nat.le_of_ble_eq_true rfl) (by cases v <;> rfl) ?_
  intro p e s m args below meth c R Q A B hN hr hsz hA hmm hRm hQ hAe
  intro H locs ls hP hD hS hl
  refine lv_iload_n B.1 B.2.1 dJ3_checkIndex_0 rfl (lv_at hl 0 rfl) ?_
  refine lv_if_lt (tgt := 9) B.1 B.2.1 dJ3_checkIndex_1 (by decide) (fun h => absurd h h0) (fun _ => ?_)
  refine lv_iload_n B.1 B.2.1 dJ3_checkIndex_4 rfl (lv_at hl 0 rfl) ?_
  refine lv_iload_n B.1 B.2.1 dJ3_checkIndex_5 rfl (lv_at hl 1 rfl) ?_
  refine lv_icmp_lt (tgt := 16) B.1 B.2.1 dJ3_checkIndex_6 (by decide) (fun _ => ?_) (fun h => absurd h1 h)
  refine lv_iload_n B.1 B.2.1 dJ3_checkIndex_16 rfl (lv_at hl 0 rfl) ?_
  subst hQ
  exact W.iret B.1 B.2.1 hr (fun t ht hW => ⟨⟨_, (), rfl, rfl, by rw [ht]; exact hP, va_K.moved hW.alike B.2.2.2.2.2.1, hD⟩, hS.F ht⟩) hS.2.2 dJ3_checkIndex_17 B.2.2.2.2.2.2
theorem pkJ1_coder : PkV yJ1_coder RJ1 cJ1_coder 1 (some .byte) 0 := ⟨q579, q580, q67, q581, by decide +kernel⟩
theorem pkJ1_isLatin1 : PkV yJ1_isLatin1 RJ1 cJ1_isLatin1 1 (some .boolean) 0 := ⟨q589, q590, q67, q591, by decide +kernel⟩
theorem pkJ1_length : PkV yJ1_length RJ1 cJ1_length 1 (some .int) 0 := ⟨q575, q576, q67, q577, by decide +kernel⟩
theorem pkJ1_charAt : PkV yJ1_charAt RJ1 cJ1_charAt 2 (some .char) 1 := ⟨q585, q586, q67, q587, by decide +kernel⟩
theorem pkJ1_checkIndex : PkS yJ1_checkIndex cJ1_checkIndex 2 (none) 2 := ⟨q596, q67, q597, by decide +kernel⟩
theorem pkJ2_charAt : PkS yJ2_charAt cJ2_charAt 2 (some .char) 2 := ⟨q593, q68, q594, by decide +kernel⟩
theorem pkJ3_checkIndex : PkS yJ3_checkIndex cJ3_checkIndex 3 (some .int) 3 := ⟨q601, q69, q602, by decide +kernel⟩
abbrev rmJ1_checkIndex : Room := { frames := 1, cells := 0, slots := 0, locals := 22 }
abbrev rmJ2_charAt : Room := { frames := 2, cells := 0, slots := 0, locals := 43 }
abbrev rmJ1_charAt : Room := { frames := 3, cells := 0, slots := 0, locals := 64 }
abbrev rmJ1_length : Room := { frames := 1, cells := 0, slots := 0, locals := 20 }
section ST2
variable {p : Program} {l : Launch} {e : Env} {R : Room} {s : State} {m : MethodId} {args : Array Value} {below : List Frame} {meth : Method} {c : Code} {cells slots : Nat} {Q : State → Prop} {A : Nat → Prop} {D : va_G} {g : Nat → ClassId} {sd : Nat → Nat} {ad : Nat → Nat} {nL : Nat} {cc : ByteArray}
variable {w : Wd} {pc pc' : Nat} {lv : List (Nat × Value)} {st : List Value} {ρ : Type} {res : ρ}
variable {own : String} {j index : Nat}
theorem j_callKi (B : Bd p s m args meth c cc nL own D vwCl (tysG g)) (hA : ∀ q, s.heap.size ≤ q → A q) {y : MethodName} {bytes : ByteArray} {maxL n index : Nat} {ret : Option FieldType} {rm rmc : Room} {C : String} {b : Nat} {As : List Value} {stk : List Value} {o : Option Int32} {f : Int32 → Option ρ} {NX : Nat → State → Prop}
    (hM : ∀ (sz : Nat) (r : Int32), o = some r → Met l y (ws_ y bytes maxL ret) rm (va_Pc (.ref b :: As) (MPre D vwCl (tysG g) (cellsX g ad w) NX sz)) (QcI D vwCl (tysG g) (cellsX g ad w) r (va_A (cellsX g ad w) sz)) 0 0 (va_A (cellsX g ad w) sz))
    (hNX : NXok NX A s (cellsX g ad w)) (pk : PkV y C bytes maxL ret n) (hlk : Cond.methodLink own index y ∈ lw_all) (hrecv : ∀ (H : Heap) (locs : List Loc), va_S A s.heap H locs → ∃ cell : Cell, H[b]? = some cell ∧ cell.vm.isStatics = false ∧ s.vm.findClass C = some cell.cls) (hrc : rm.cells = 0) (hrs : rm.slots = 0) (hRm : R = rmc) (hR : rm.frames + 1 ≤ rmc.frames ∧ 8 + (maxL + 11) + rm.locals ≤ rmc.locals) (hn : As.length = n) (hst : stk = As.reverse ++ .ref b :: st) (hroom : (st.map fun v => v.category).sum ≤ 8) (hcs : cells ≤ R.cells ∧ slots ≤ R.slots) (hd : D3 cc pc (.invokevirtual index) pc') (ho : bd o f = some res) (k : ∀ (r : Int32), f r = some res → XJ p l e R s m args below meth c cells slots Q A D vwCl (cellsX g ad) nL w pc' lv (.int r :: st)) : XJ p l e R s m args below meth c cells slots Q A D vwCl (cellsX g ad) nL w pc lv stk := by
  obtain ⟨hd, rfl⟩ := hd
  subst hst
  subst hRm
  refine j_runi (a := (Value.ref b :: As).toArray) B hA rfl (fun H locs ls r hP hD hS hl hF ho1 => ?_) ho k
  exact va_runV (As := As) (rest := st) ⟨B.1, B.2.1, B.2.2.1, B.2.2.2.1, B.2.2.2.2.1⟩ (hM H.size r ho1) (cwV n B.2.2.2.2.1 (lw_V hlk pk.1 pk.2.1 pk.2.2.1 pk.2.2.2.1) rfl hrc hrs pk.2.2.2.2 hR) ⟨fun a U g mk q => ⟨q.1, q.2.1, q.2.2.1, va_K.moved (u := U) (U := U.calling g mk a) (Vm.Alike.refl U.vm) q.2.2.2.1, q.2.2.2.2.1, hNX.1 _ _ _ _ _ q.2.2.2.2.2⟩, hrecv H locs hS, fun U hU hW => ⟨rfl, by rw [hU], by rw [hU]; exact hP, va_K.moved hW.alike B.2.2.2.2.2.1, hD.weaken (fun _ _ _ _ => trivial), hNX.2 H locs U hS hF hU hW⟩⟩ rfl hn hl rfl (lv_room hroom) hd hcs
end ST2
theorem met_J1_checkIndex (l : Launch) (D : va_G) (g : Nat → ClassId) (ad sd : Nat → Nat) (w : Wd) (i n : Int32) (sz : Nat) (h0 : ¬ i < 0) (h1 : i < n) : Met l yJ1_checkIndex (ws_ yJ1_checkIndex cJ1_checkIndex 2 none) rmJ1_checkIndex (va_Pc [.int i, .int n] (MPre D vwCl (tysG g) (cellsX g ad w) (NXX sd (cellsX g ad w)) sz)) (QcV D vwCl (tysG g) (cellsX g ad w) (va_A (cellsX g ad w) sz)) 0 0 (va_A (cellsX g ad w) sz) := by
  refine met_XJF (cw := cellsX g ad) (w := w) (cc := cJ1_checkIndex) (lv := [(0, .int i), (1, .int n)]) (by decide +kernel) _ (Nat.le_of_ble_eq_true rfl) rfl ?_
  intro p e s m args below meth c R Q A B hN hr hsz hA hmm hRm hQ hAe
  have hX : NXA sd A s := by rw [hAe, ← hsz]; exact hN
  have hts := B.2.2.2.2.1
  refine j_iload_n B ⟨dJ1_checkIndex_0, rfl⟩ 0 rfl ?_
  refine j_iload_n B ⟨dJ1_checkIndex_1, rfl⟩ 1 rfl ?_
  have key : ∀ v : Option Nat, XJ p l e R s m args below meth c 0 0 Q A D vwCl (cellsX g ad) 2 w 5 [(0, .int i), (1, .int n)] [va_rf v, .int n, .int i] := by
    intro v
    refine j_callSi (As := [.int i, .int n, va_rf v]) (o := some i) (f := fun _ => some ()) (res := ()) B hA (fun sz r h => by cases h; exact met_J3_checkIndex l D g ad sd w i n v sz h0 h1) (NXX_ok hX) pkJ3_checkIndex q600 rfl rfl hRm ⟨Nat.le_of_ble_eq_true rfl, Nat.le_of_ble_eq_true rfl⟩ rfl rfl (Nat.le_of_ble_eq_true rfl) ⟨Nat.zero_le _, Nat.zero_le _⟩ ⟨dJ1_checkIndex_5, rfl⟩ rfl (fun r _ => ?_)
    refine j_pop B ⟨dJ1_checkIndex_8, rfl⟩ rfl ?_
    exact j_vretw B hr hQ ⟨dJ1_checkIndex_9, rfl⟩ rfl
  intro H locs ls hP hD hS hl
  rcases hX.2.1.2.2.1 with hz | ⟨t, hz⟩
  · exact va_gets B.1 B.2.1 hz hS B.2.2.2.1 (hts _ q598) (fun _ h => h) dJ1_checkIndex_2 (key none H locs ls hP hD hS hl)
  · exact va_gets B.1 B.2.1 hz hS B.2.2.2.1 (hts _ q598) (fun _ h => h) dJ1_checkIndex_2 (key (some t) H locs ls hP hD hS hl)
theorem slen_lt : ∀ i : Nat, slens.getD i 0 < 2 ^ 31 := by
  intro i
  by_cases h : i < 17
  · exact co_dec (P := fun i => slens.getD i 0 < 2 ^ 31) (N := 17) (by decide) h
  · rw [List.getD_eq_getElem?_getD, List.getElem?_eq_none (by simp [slens]; omega)]; decide
theorem inb_lt {k : Int32} {n : Nat} (hn : n < 2 ^ 31) (h : inb k n = true) : ¬ k < 0 ∧ k < Int32.ofNat n := by
  obtain ⟨j, hj, rfl⟩ := vp_in_of (inb_in h) hn
  exact ⟨nI_pos (by omega), nI_lt hj hn⟩
def sch (i j : Nat) : Int32 := (sbyts.getD i []).getD j 0 &&& 255
theorem met_J2_charAt (l : Launch) (D : va_G) (g : Nat → ClassId) (ad sd : Nat → Nat) (w : Wd) (i : Nat) (k : Int32) (sz : Nat) (hi : i < 17) (hk : inb k (slens.getD i 0) = true) : Met l yJ2_charAt (ws_ yJ2_charAt cJ2_charAt 2 (some .char)) rmJ2_charAt (va_Pc [.ref (sd (20 + i)), .int k] (MPre D vwCl (tysG g) (cellsX g ad w) (NXX sd (cellsX g ad w)) sz)) (QcI D vwCl (tysG g) (cellsX g ad w) (sch i k.toNatClampNeg) (va_A (cellsX g ad w) sz)) 0 0 (va_A (cellsX g ad w) sz) := by
  refine met_XJF (cw := cellsX g ad) (w := w) (cc := cJ2_charAt) (lv := [(0, .ref (sd (20 + i))), (1, .int k)]) (by decide +kernel) _ (Nat.le_of_ble_eq_true rfl) rfl ?_
  intro p e s m args below meth c R Q A B hN hr hsz hA hmm hRm hQ hAe
  have hX : NXA sd A s := by rw [hAe, ← hsz]; exact hN
  have hts := B.2.2.2.2.1
  obtain ⟨h0, h1⟩ := inb_lt (slen_lt i) hk
  refine j_iload_n B ⟨dJ2_charAt_0, rfl⟩ 1 rfl ?_
  refine j_aload_n B ⟨dJ2_charAt_1, rfl⟩ 0 rfl ?_
  have k1 : XJ p l e R s m args below meth c 0 0 Q A D vwCl (cellsX g ad) 2 w 3 [(0, .ref (sd (20 + i))), (1, .int k)] [.int (Int32.ofNat (slens.getD i 0)), .int k] := by
    refine j_callSvw (As := [.int k, .int (Int32.ofNat (slens.getD i 0))]) (o := some w) (f := fun w' => some w') (res := w) B hA (fun sz r h => by cases h; exact met_J1_checkIndex l D g ad sd w k _ sz h0 h1) (NXX_ok hX) pkJ1_checkIndex q595 rfl rfl hRm ⟨Nat.le_of_ble_eq_true rfl, Nat.le_of_ble_eq_true rfl⟩ rfl rfl (Nat.le_of_ble_eq_true rfl) ⟨Nat.zero_le _, Nat.zero_le _⟩ ⟨dJ2_charAt_3, rfl⟩ rfl (fun w' hw => ?_)
    cases hw
    refine j_aload_n B ⟨dJ2_charAt_6, rfl⟩ 0 rfl ?_
    refine j_iload_n B ⟨dJ2_charAt_7, rfl⟩ 1 rfl ?_
    intro H locs ls hP hD hS hl
    refine va_tb B.1 B.2.1 (hX.2.1.1.1 i hi).2.2.2 hS (inb_in hk) rfl dJ2_charAt_8 ?_
    refine lv_sipush (v := 255) B.1 B.2.1 dJ2_charAt_9 (by decide) ?_
    refine lv_iand B.1 B.2.1 dJ2_charAt_12 ?_
    refine lv_i2c B.1 B.2.1 dJ2_charAt_13 (sc_c2 _) ?_
    subst hQ
    exact W.zret B.1 B.2.1 hr (sc_nar _) (fun t ht hW => ⟨⟨_, (), rfl, rfl, by rw [ht]; exact hP, va_K.moved hW.alike B.2.2.2.2.2.1, hD⟩, hS.F ht⟩) hS.2.2 dJ2_charAt_14 B.2.2.2.2.2.2
  intro H locs ls hP hD hS hl
  exact va_tlen B.1 B.2.1 (hX.2.1.1.1 i hi).2.2.2 hS rfl dJ2_charAt_2 (k1 H locs ls hP hD hS hl)
def sS_charAt (i : Nat) (k : Int32) : Option Int32 := gd (decide (i < 17) && inb k (slens.getD i 0)) (some (sch i k.toNatClampNeg))
def sS_length (i : Nat) : Option Int32 := gd (decide (i < 17)) (some (Int32.ofNat (slens.getD i 0)))
theorem met_J1_charAt (l : Launch) (D : va_G) (g : Nat → ClassId) (ad sd : Nat → Nat) (w : Wd) (i : Nat) (k : Int32) (sz : Nat) (r : Int32) (ho : sS_charAt i k = some r) : Met l yJ1_charAt (ws_ yJ1_charAt cJ1_charAt 2 (some .char)) rmJ1_charAt (va_Pc [.ref (sd i), .int k] (MPre D vwCl (tysG g) (cellsX g ad w) (NXX sd (cellsX g ad w)) sz)) (QcI D vwCl (tysG g) (cellsX g ad w) r (va_A (cellsX g ad w) sz)) 0 0 (va_A (cellsX g ad w) sz) := by
  obtain ⟨hg, ho⟩ := gd_e ho
  cases ho
  simp only [Bool.and_eq_true, decide_eq_true_eq] at hg
  obtain ⟨hi, hk⟩ := hg
  refine met_XJF (cw := cellsX g ad) (w := w) (cc := cJ1_charAt) (lv := [(0, .ref (sd i)), (1, .int k)]) (by decide +kernel) _ (Nat.le_of_ble_eq_true rfl) rfl ?_
  intro p e s m args below meth c R Q A B hN hr hsz hA hmm hRm hQ hAe
  have hX : NXA sd A s := by rw [hAe, ← hsz]; exact hN
  have hts := B.2.2.2.2.1
  refine j_aload_n B ⟨dJ1_charAt_0, rfl⟩ 0 rfl ?_
  refine j_callKi (As := []) (o := some 1) (f := fun r => some r) (res := (1 : Int32)) B hA (fun sz r h => by cases h; exact met_J1_isLatin1 l D g ad sd w i sz hi) (NXX_ok hX) pkJ1_isLatin1 q588 (fun H locs hS => vk_recv (i := i) hX.2.1.1 hi hS) rfl rfl hRm ⟨Nat.le_of_ble_eq_true rfl, Nat.le_of_ble_eq_true rfl⟩ rfl rfl (Nat.le_of_ble_eq_true rfl) ⟨Nat.zero_le _, Nat.zero_le _⟩ ⟨dJ1_charAt_1, rfl⟩ rfl (fun r hr1 => ?_)
  cases hr1
  refine j_if_eq (a := none) (b := some ()) (res := ()) (tgt := 16) (dc := inferInstance) B ⟨12, dJ1_charAt_4, by decide, rfl⟩ rfl (fun _ h => by cases h) (fun _ _ => ?_)
  refine j_aload_n B ⟨dJ1_charAt_7, rfl⟩ 0 rfl ?_
  have k1 : XJ p l e R s m args below meth c 0 0 Q A D vwCl (cellsX g ad) 2 w 11 [(0, .ref (sd i)), (1, .int k)] [.ref (sd (20 + i))] := by
    refine j_iload_n B ⟨dJ1_charAt_11, rfl⟩ 1 rfl ?_
    refine j_callSi (As := [.ref (sd (20 + i)), .int k]) (o := some (sch i k.toNatClampNeg)) (f := fun r => some r) (res := sch i k.toNatClampNeg) B hA (fun sz r h => by cases h; exact met_J2_charAt l D g ad sd w i k sz hi hk) (NXX_ok hX) pkJ2_charAt q592 rfl rfl hRm ⟨Nat.le_of_ble_eq_true rfl, Nat.le_of_ble_eq_true rfl⟩ rfl rfl (Nat.le_of_ble_eq_true rfl) ⟨Nat.zero_le _, Nat.zero_le _⟩ ⟨dJ1_charAt_12, rfl⟩ rfl (fun r hr1 => ?_)
    cases hr1
    subst hQ
    intro H locs ls hP hD hS hl
    exact W.zret B.1 B.2.1 hr (sc_nar _) (fun t ht hW => ⟨⟨_, (), rfl, rfl, by rw [ht]; exact hP, va_K.moved hW.alike B.2.2.2.2.2.1, hD⟩, hS.F ht⟩) hS.2.2 dJ1_charAt_15 B.2.2.2.2.2.2
  intro H locs ls hP hD hS hl
  exact vk_getf B.1 B.2.1 (hX.2.1.1.1 i hi).2.2.1 hS B.2.2.2.1 (hts _ q1205) (fun _ h => h) dJ1_charAt_8 (k1 H locs ls hP hD hS hl)
theorem met_J1_length (l : Launch) (D : va_G) (g : Nat → ClassId) (ad sd : Nat → Nat) (w : Wd) (i : Nat) (sz : Nat) (r : Int32) (ho : sS_length i = some r) : Met l yJ1_length (ws_ yJ1_length cJ1_length 1 (some .int)) rmJ1_length (va_Pc [.ref (sd i)] (MPre D vwCl (tysG g) (cellsX g ad w) (NXX sd (cellsX g ad w)) sz)) (QcI D vwCl (tysG g) (cellsX g ad w) r (va_A (cellsX g ad w) sz)) 0 0 (va_A (cellsX g ad w) sz) := by
  obtain ⟨hi, ho⟩ := gd_e ho
  cases ho
  rw [decide_eq_true_eq] at hi
  refine met_XJF (cw := cellsX g ad) (w := w) (cc := cJ1_length) (lv := [(0, .ref (sd i))]) (by decide +kernel) _ (Nat.le_of_ble_eq_true rfl) rfl ?_
  intro p e s m args below meth c R Q A B hN hr hsz hA hmm hRm hQ hAe
  have hX : NXA sd A s := by rw [hAe, ← hsz]; exact hN
  have hts := B.2.2.2.2.1
  refine j_aload_n B ⟨dJ1_length_0, rfl⟩ 0 rfl ?_
  have k1 : XJ p l e R s m args below meth c 0 0 Q A D vwCl (cellsX g ad) 1 w 5 [(0, .ref (sd i))] [.int (Int32.ofNat (slens.getD i 0))] := by
    refine j_aload_n B ⟨dJ1_length_5, rfl⟩ 0 rfl ?_
    refine j_callKi (As := []) (o := some 0) (f := fun r => some r) (res := (0 : Int32)) B hA (fun sz r h => by cases h; exact met_J1_coder l D g ad sd w i sz hi) (NXX_ok hX) pkJ1_coder q578 (fun H locs hS => vk_recv (i := i) hX.2.1.1 hi hS) rfl rfl hRm ⟨Nat.le_of_ble_eq_true rfl, Nat.le_of_ble_eq_true rfl⟩ rfl rfl (Nat.le_of_ble_eq_true rfl) ⟨Nat.zero_le _, Nat.zero_le _⟩ ⟨dJ1_length_6, rfl⟩ rfl (fun r hr1 => ?_)
    cases hr1
    refine j_ishr B ⟨dJ1_length_9, rfl⟩ ?_
    have e0 : Int32.ofNat (slens.getD i 0) >>> ((0 : Int32) &&& 31) = Int32.ofNat (slens.getD i 0) := sc_shr0 (slen_lt i)
    rw [e0]
    exact j_iret B hr hQ ⟨dJ1_length_10, rfl⟩ rfl
  intro H locs ls hP hD hS hl
  refine vk_getf B.1 B.2.1 (hX.2.1.1.1 i hi).2.2.1 hS B.2.2.2.1 (hts _ q1205) (fun _ h => h) dJ1_length_1 ?_
  exact va_tlen B.1 B.2.1 (hX.2.1.1.1 i hi).2.2.2 hS rfl dJ1_length_4 (k1 H locs ls hP hD hS hl)
section ST3
variable {p : Program} {l : Launch} {e : Env} {R : Room} {s : State} {m : MethodId} {args : Array Value} {below : List Frame} {meth : Method} {c : Code} {cells slots : Nat} {Q : State → Prop} {A : Nat → Prop} {D : va_G} {g : Nat → ClassId} {sd : Nat → Nat} {ad : Nat → Nat} {nL : Nat} {cc : ByteArray}
variable {w : Wd} {pc pc' : Nat} {lv : List (Nat × Value)} {st : List Value} {ρ : Type} {res : ρ}
variable {own : String} {j index : Nat}
theorem cS_length (B : Bd p s m args meth c cc nL RX0 D vwCl (tysG g)) (hA : ∀ q, s.heap.size ≤ q → A q) (hX : NXA sd A s) {rmc : Room} {f : Int32 → Option ρ} (hRm : R = rmc) (hR : 1 + 1 ≤ rmc.frames ∧ 8 + (1 + 11) + 20 ≤ rmc.locals) (hroom : (st.map fun v => v.category).sum ≤ 8) (hcs : cells ≤ R.cells ∧ slots ≤ R.slots) (hd : D3 cc pc (.invokevirtual 296) pc') (ho : bd (sS_length j) f = some res) (k : ∀ (r : Int32), f r = some res → XJ p l e R s m args below meth c cells slots Q A D vwCl (cellsX g ad) nL w pc' lv (.int r :: st)) : XJ p l e R s m args below meth c cells slots Q A D vwCl (cellsX g ad) nL w pc lv (.ref (sd j) :: st) := by
  obtain ⟨r0, hr0, ho0⟩ := bd_e ho
  have hj : j < 17 := by
    obtain ⟨hg, -⟩ := gd_e hr0
    simp only [Bool.and_eq_true, decide_eq_true_eq] at hg
    exact hg
  exact j_callKi (n := 0) (As := []) (rm := rmJ1_length) B hA (met_J1_length l D g ad sd w j) (NXX_ok hX) pkJ1_length q574 (fun H locs hS => vk_recv (i := j) hX.2.1.1 hj hS) rfl rfl hRm hR rfl rfl hroom hcs hd ho k
theorem cS_charAt (B : Bd p s m args meth c cc nL RX0 D vwCl (tysG g)) (hA : ∀ q, s.heap.size ≤ q → A q) (hX : NXA sd A s) {rmc : Room} {a1 : Int32} {f : Int32 → Option ρ} (hRm : R = rmc) (hR : 3 + 1 ≤ rmc.frames ∧ 8 + (2 + 11) + 64 ≤ rmc.locals) (hroom : (st.map fun v => v.category).sum ≤ 8) (hcs : cells ≤ R.cells ∧ slots ≤ R.slots) (hd : D3 cc pc (.invokevirtual 307) pc') (ho : bd (sS_charAt j a1) f = some res) (k : ∀ (r : Int32), f r = some res → XJ p l e R s m args below meth c cells slots Q A D vwCl (cellsX g ad) nL w pc' lv (.int r :: st)) : XJ p l e R s m args below meth c cells slots Q A D vwCl (cellsX g ad) nL w pc lv (.int a1 :: .ref (sd j) :: st) := by
  obtain ⟨r0, hr0, ho0⟩ := bd_e ho
  have hj : j < 17 := by
    obtain ⟨hg, -⟩ := gd_e hr0
    simp only [Bool.and_eq_true, decide_eq_true_eq] at hg
    exact hg.1
  exact j_callKi (n := 1) (As := [.int a1]) (rm := rmJ1_charAt) B hA (met_J1_charAt l D g ad sd w j a1) (NXX_ok hX) pkJ1_charAt q584 (fun H locs hS => vk_recv (i := j) hX.2.1.1 hj hS) rfl rfl hRm hR rfl rfl hroom hcs hd ho k
end ST3
