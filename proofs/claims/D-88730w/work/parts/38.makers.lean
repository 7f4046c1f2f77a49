set_option maxRecDepth 100000
section MD
variable {p : Program} {l : Launch} {e : Env} {R : Room} {s : State} {m : MethodId} {args : Array Value} {below : List Frame} {meth : Method} {c : Code} {cells slots : Nat} {Q : State → Prop} {A : Nat → Prop} {D : va_G} {g : Nat → ClassId} {sd : Nat → Nat} {ad : Nat → Nat} {nL : Nat} {cc : ByteArray}
variable {w : Wd} {pc pc' : Nat} {lv : List (Nat × Value)} {st : List Value} {ρ : Type} {res : ρ}
theorem j_made (B : Bd p s m args meth c cc nL RX0 D vwCl (tysG g)) (hA : ∀ q, s.heap.size ≤ q → A q) (hX : NXA sd A s) {rmc : Room} {a1 a2 : Int32} {f : Wd → Option ρ} (hRm : R = rmc) (hR : rmX0_made.frames + 1 ≤ rmc.frames ∧ 8 + (3 + 11) + rmX0_made.locals ≤ rmc.locals) (hroom : (st.map fun v => v.category).sum ≤ 8) (hcs : cells + 1 ≤ R.cells ∧ slots + 4 ≤ R.slots) (hd : D3 cc pc (.invokevirtual 144) pc') (ho : rd (decide (w.1 4 ≤ w.1 1)) (addO w (kcls a1) (w.2.1 90 2) a2 a1) f = some res)
    (kk : ∀ (ad' : Nat → Nat) (w' : Wd), (∀ i, i < 100 → ad' i = ad i) → f w' = some res → XJ p l e R s m args below meth c (cells + 1) (slots + 4) Q A D vwCl (cellsX g ad') nL w' pc' lv (.ref (ad' (102 + 10 * w.1 1)) :: st)) : XJ p l e R s m args below meth c cells slots Q A D vwCl (cellsX g ad) nL w pc lv (.int a2 :: .int a1 :: .ref (ad 99) :: st) := by
  obtain ⟨hgd, ho⟩ := rd_e ho
  have hgd := of_decide_eq_true hgd
  obtain ⟨hd, rfl⟩ := hd
  refine j_frr (cw' := fun z : (Nat → Nat) × Wd => cellsX g z.1 z.2) (w' := fun u => (adU ad (102 + 10 * w.1 1) u, addO w (kcls a1) (w.2.1 90 2) a2 a1)) (rest := []) (sub := cellsX g ad w) (f := fun u => cellsX g (adU ad (102 + 10 * w.1 1) u) (addO w (kcls a1) (w.2.1 90 2) a2 a1)) (ra := fun u => u) (post := fun _ : Nat => True) B hA rfl (List.Perm.refl _) (fun u _ => List.Perm.refl _) (run_V (Qc := fun sz => va_Qr (fun _ : Nat => True) (fun u z t => z = u ∧ MPost D vwCl (tysG g) (cellsX g (adU ad (102 + 10 * w.1 1) u) (addO w (kcls a1) (w.2.1 90 2) a2 a1)) (va_A (cellsX g ad w) sz) t) (va_A (cellsX g ad w) sz)) (As := [.int a1, .int a2]) B (met_X0_made l D g ad sd w a1 a2 hgd) (NXX_ok hX) pkX0_made q229 0 rfl rfl rfl rfl hRm hR rfl hroom hcs hd) (fun u _ => ?_)
  have h := kk (adU ad (102 + 10 * w.1 1) u) (addO w (kcls a1) (w.2.1 90 2) a2 a1) (fun i hi => adU_ne (by omega)) ho
  rw [adU_eq] at h
  exact h
end MD
theorem eX0_oar_0 : D1 cX0_oar 0 (.iload_n 1) 1 := ⟨by decide +kernel, rfl⟩
theorem eX0_oar_1 : D1 cX0_oar 1 (.i2l) 2 := ⟨by decide +kernel, rfl⟩
theorem eX0_oar_2 : D1 cX0_oar 2 (.lconst 0) 3 := ⟨by decide +kernel, rfl⟩
theorem eX0_oar_3 : D3 cX0_oar 3 (.ldc2_w 138) 6 := ⟨by decide +kernel, rfl⟩
theorem eX0_oar_6 : D3 cX0_oar 6 (.invokestatic 103) 9 := ⟨by decide +kernel, rfl⟩
theorem eX0_oar_9 : DJ cX0_oar 9 (.ifCond .eq) 26 12 := ⟨17, by decide +kernel, by decide, rfl⟩
theorem eX0_oar_12 : D1 cX0_oar 12 (.iload_n 2) 13 := ⟨by decide +kernel, rfl⟩
theorem eX0_oar_13 : D1 cX0_oar 13 (.i2l) 14 := ⟨by decide +kernel, rfl⟩
theorem eX0_oar_14 : D3 cX0_oar 14 (.ldc2_w 140) 17 := ⟨by decide +kernel, rfl⟩
theorem eX0_oar_17 : D3 cX0_oar 17 (.ldc2_w 142) 20 := ⟨by decide +kernel, rfl⟩
theorem eX0_oar_20 : D3 cX0_oar 20 (.invokestatic 103) 23 := ⟨by decide +kernel, rfl⟩
theorem eX0_oar_23 : DJ cX0_oar 23 (.ifCond .ne) 29 26 := ⟨6, by decide +kernel, by decide, rfl⟩
theorem eX0_oar_26 : DC cX0_oar 26 (-2) 28 := Or.inr (Or.inl ⟨-2, ⟨by decide +kernel, rfl⟩, by decide⟩)
theorem eX0_oar_28 : D1 cX0_oar 28 (.ireturn) 29 := ⟨by decide +kernel, rfl⟩
theorem eX0_oar_29 : D1 cX0_oar 29 (.aload_n 0) 30 := ⟨by decide +kernel, rfl⟩
theorem eX0_oar_30 : D3 cX0_oar 30 (.getfield 100) 33 := ⟨by decide +kernel, rfl⟩
theorem eX0_oar_33 : DC cX0_oar 33 (16) 35 := Or.inr (Or.inl ⟨16, ⟨by decide +kernel, rfl⟩, by decide⟩)
theorem eX0_oar_35 : DJ cX0_oar 35 (.if_icmp .ne) 41 38 := ⟨6, by decide +kernel, by decide, rfl⟩
theorem eX0_oar_38 : DC cX0_oar 38 (-4) 40 := Or.inr (Or.inl ⟨-4, ⟨by decide +kernel, rfl⟩, by decide⟩)
theorem eX0_oar_40 : D1 cX0_oar 40 (.ireturn) 41 := ⟨by decide +kernel, rfl⟩
theorem eX0_oar_41 : D1 cX0_oar 41 (.aload_n 0) 42 := ⟨by decide +kernel, rfl⟩
theorem eX0_oar_42 : D3 cX0_oar 42 (.getfield 13) 45 := ⟨by decide +kernel, rfl⟩
theorem eX0_oar_45 : D1 cX0_oar 45 (.aload_n 0) 46 := ⟨by decide +kernel, rfl⟩
theorem eX0_oar_46 : D3 cX0_oar 46 (.getfield 100) 49 := ⟨by decide +kernel, rfl⟩
theorem eX0_oar_49 : D1 cX0_oar 49 (.aload_n 0) 50 := ⟨by decide +kernel, rfl⟩
theorem eX0_oar_50 : D1 cX0_oar 50 (.iload_n 1) 51 := ⟨by decide +kernel, rfl⟩
theorem eX0_oar_51 : D1 cX0_oar 51 (.iload_n 2) 52 := ⟨by decide +kernel, rfl⟩
theorem eX0_oar_52 : D3 cX0_oar 52 (.invokevirtual 144) 55 := ⟨by decide +kernel, rfl⟩
theorem eX0_oar_55 : D1 cX0_oar 55 (.aastore) 56 := ⟨by decide +kernel, rfl⟩
theorem eX0_oar_56 : D1 cX0_oar 56 (.aload_n 0) 57 := ⟨by decide +kernel, rfl⟩
theorem eX0_oar_57 : D1 cX0_oar 57 (.dup) 58 := ⟨by decide +kernel, rfl⟩
theorem eX0_oar_58 : D3 cX0_oar 58 (.getfield 100) 61 := ⟨by decide +kernel, rfl⟩
theorem eX0_oar_61 : DC cX0_oar 61 (1) 62 := Or.inl ⟨1, ⟨by decide +kernel, rfl⟩, by decide⟩
theorem eX0_oar_62 : D1 cX0_oar 62 (.iadd) 63 := ⟨by decide +kernel, rfl⟩
theorem eX0_oar_63 : D3 cX0_oar 63 (.putfield 100) 66 := ⟨by decide +kernel, rfl⟩
theorem eX0_oar_66 : D1 cX0_oar 66 (.aload_n 0) 67 := ⟨by decide +kernel, rfl⟩
theorem eX0_oar_67 : D3 cX0_oar 67 (.getfield 100) 70 := ⟨by decide +kernel, rfl⟩
theorem eX0_oar_70 : DC cX0_oar 70 (1) 71 := Or.inl ⟨1, ⟨by decide +kernel, rfl⟩, by decide⟩
theorem eX0_oar_71 : D1 cX0_oar 71 (.isub) 72 := ⟨by decide +kernel, rfl⟩
theorem eX0_oar_72 : D1 cX0_oar 72 (.ireturn) 73 := ⟨by decide +kernel, rfl⟩
theorem eX0_boat_0 : D1 cX0_boat 0 (.iload_n 1) 1 := ⟨by decide +kernel, rfl⟩
theorem eX0_boat_1 : D1 cX0_boat 1 (.i2l) 2 := ⟨by decide +kernel, rfl⟩
theorem eX0_boat_2 : D1 cX0_boat 2 (.lconst 0) 3 := ⟨by decide +kernel, rfl⟩
theorem eX0_boat_3 : D3 cX0_boat 3 (.ldc2_w 138) 6 := ⟨by decide +kernel, rfl⟩
theorem eX0_boat_6 : D3 cX0_boat 6 (.invokestatic 103) 9 := ⟨by decide +kernel, rfl⟩
theorem eX0_boat_9 : DJ cX0_boat 9 (.ifCond .eq) 52 12 := ⟨43, by decide +kernel, by decide, rfl⟩
theorem eX0_boat_12 : D1 cX0_boat 12 (.iload_n 2) 13 := ⟨by decide +kernel, rfl⟩
theorem eX0_boat_13 : D1 cX0_boat 13 (.i2l) 14 := ⟨by decide +kernel, rfl⟩
theorem eX0_boat_14 : D3 cX0_boat 14 (.ldc2_w 140) 17 := ⟨by decide +kernel, rfl⟩
theorem eX0_boat_17 : D3 cX0_boat 17 (.ldc2_w 142) 20 := ⟨by decide +kernel, rfl⟩
theorem eX0_boat_20 : D3 cX0_boat 20 (.invokestatic 103) 23 := ⟨by decide +kernel, rfl⟩
theorem eX0_boat_23 : DJ cX0_boat 23 (.ifCond .eq) 52 26 := ⟨29, by decide +kernel, by decide, rfl⟩
theorem eX0_boat_26 : D1 cX0_boat 26 (.iload_n 3) 27 := ⟨by decide +kernel, rfl⟩
theorem eX0_boat_27 : D1 cX0_boat 27 (.i2l) 28 := ⟨by decide +kernel, rfl⟩
theorem eX0_boat_28 : D1 cX0_boat 28 (.iload_n 2) 29 := ⟨by decide +kernel, rfl⟩
theorem eX0_boat_29 : D1 cX0_boat 29 (.i2l) 30 := ⟨by decide +kernel, rfl⟩
theorem eX0_boat_30 : D3 cX0_boat 30 (.ldc2_w 142) 33 := ⟨by decide +kernel, rfl⟩
theorem eX0_boat_33 : D3 cX0_boat 33 (.invokestatic 103) 36 := ⟨by decide +kernel, rfl⟩
theorem eX0_boat_36 : DJ cX0_boat 36 (.ifCond .eq) 52 39 := ⟨16, by decide +kernel, by decide, rfl⟩
theorem eX0_boat_39 : D2 cX0_boat 39 (.iload 4) 41 := ⟨by decide +kernel, rfl⟩
theorem eX0_boat_41 : D1 cX0_boat 41 (.i2l) 42 := ⟨by decide +kernel, rfl⟩
theorem eX0_boat_42 : D1 cX0_boat 42 (.lconst 1) 43 := ⟨by decide +kernel, rfl⟩
theorem eX0_boat_43 : D3 cX0_boat 43 (.ldc2_w 148) 46 := ⟨by decide +kernel, rfl⟩
theorem eX0_boat_46 : D3 cX0_boat 46 (.invokestatic 103) 49 := ⟨by decide +kernel, rfl⟩
theorem eX0_boat_49 : DJ cX0_boat 49 (.ifCond .ne) 55 52 := ⟨6, by decide +kernel, by decide, rfl⟩
theorem eX0_boat_52 : DC cX0_boat 52 (-2) 54 := Or.inr (Or.inl ⟨-2, ⟨by decide +kernel, rfl⟩, by decide⟩)
theorem eX0_boat_54 : D1 cX0_boat 54 (.ireturn) 55 := ⟨by decide +kernel, rfl⟩
theorem eX0_boat_55 : D1 cX0_boat 55 (.aload_n 0) 56 := ⟨by decide +kernel, rfl⟩
theorem eX0_boat_56 : D3 cX0_boat 56 (.getfield 107) 59 := ⟨by decide +kernel, rfl⟩
theorem eX0_boat_59 : DC cX0_boat 59 (8) 61 := Or.inr (Or.inl ⟨8, ⟨by decide +kernel, rfl⟩, by decide⟩)
theorem eX0_boat_61 : DJ cX0_boat 61 (.if_icmp .ne) 67 64 := ⟨6, by decide +kernel, by decide, rfl⟩
theorem eX0_boat_64 : DC cX0_boat 64 (-4) 66 := Or.inr (Or.inl ⟨-4, ⟨by decide +kernel, rfl⟩, by decide⟩)
theorem eX0_boat_66 : D1 cX0_boat 66 (.ireturn) 67 := ⟨by decide +kernel, rfl⟩
theorem eX0_boat_67 : D1 cX0_boat 67 (.aload_n 0) 68 := ⟨by decide +kernel, rfl⟩
theorem eX0_boat_68 : D3 cX0_boat 68 (.getfield 19) 71 := ⟨by decide +kernel, rfl⟩
theorem eX0_boat_71 : D1 cX0_boat 71 (.aload_n 0) 72 := ⟨by decide +kernel, rfl⟩
theorem eX0_boat_72 : D3 cX0_boat 72 (.getfield 107) 75 := ⟨by decide +kernel, rfl⟩
theorem eX0_boat_75 : D3 cX0_boat 75 (.new 17) 78 := ⟨by decide +kernel, rfl⟩
theorem eX0_boat_78 : D1 cX0_boat 78 (.dup) 79 := ⟨by decide +kernel, rfl⟩
theorem eX0_boat_79 : D1 cX0_boat 79 (.iload_n 1) 80 := ⟨by decide +kernel, rfl⟩
theorem eX0_boat_80 : D1 cX0_boat 80 (.iload_n 2) 81 := ⟨by decide +kernel, rfl⟩
theorem eX0_boat_81 : D1 cX0_boat 81 (.iload_n 3) 82 := ⟨by decide +kernel, rfl⟩
theorem eX0_boat_82 : D2 cX0_boat 82 (.iload 4) 84 := ⟨by decide +kernel, rfl⟩
theorem eX0_boat_84 : D3 cX0_boat 84 (.invokespecial 150) 87 := ⟨by decide +kernel, rfl⟩
theorem eX0_boat_87 : D1 cX0_boat 87 (.aastore) 88 := ⟨by decide +kernel, rfl⟩
theorem eX0_boat_88 : D1 cX0_boat 88 (.aload_n 0) 89 := ⟨by decide +kernel, rfl⟩
theorem eX0_boat_89 : D1 cX0_boat 89 (.dup) 90 := ⟨by decide +kernel, rfl⟩
theorem eX0_boat_90 : D3 cX0_boat 90 (.getfield 107) 93 := ⟨by decide +kernel, rfl⟩
theorem eX0_boat_93 : DC cX0_boat 93 (1) 94 := Or.inl ⟨1, ⟨by decide +kernel, rfl⟩, by decide⟩
theorem eX0_boat_94 : D1 cX0_boat 94 (.iadd) 95 := ⟨by decide +kernel, rfl⟩
theorem eX0_boat_95 : D3 cX0_boat 95 (.putfield 107) 98 := ⟨by decide +kernel, rfl⟩
theorem eX0_boat_98 : D1 cX0_boat 98 (.aload_n 0) 99 := ⟨by decide +kernel, rfl⟩
theorem eX0_boat_99 : D3 cX0_boat 99 (.getfield 107) 102 := ⟨by decide +kernel, rfl⟩
theorem eX0_boat_102 : DC cX0_boat 102 (1) 103 := Or.inl ⟨1, ⟨by decide +kernel, rfl⟩, by decide⟩
theorem eX0_boat_103 : D1 cX0_boat 103 (.isub) 104 := ⟨by decide +kernel, rfl⟩
theorem eX0_boat_104 : D1 cX0_boat 104 (.ireturn) 105 := ⟨by decide +kernel, rfl⟩
theorem eX0_rule_0 : D1 cX0_rule 0 (.aload_n 0) 1 := ⟨by decide +kernel, rfl⟩
theorem eX0_rule_1 : D3 cX0_rule 1 (.getfield 363) 4 := ⟨by decide +kernel, rfl⟩
theorem eX0_rule_4 : DC cX0_rule 4 (10) 6 := Or.inr (Or.inl ⟨10, ⟨by decide +kernel, rfl⟩, by decide⟩)
theorem eX0_rule_6 : DJ cX0_rule 6 (.if_icmp .ne) 12 9 := ⟨6, by decide +kernel, by decide, rfl⟩
theorem eX0_rule_9 : DC cX0_rule 9 (-4) 11 := Or.inr (Or.inl ⟨-4, ⟨by decide +kernel, rfl⟩, by decide⟩)
theorem eX0_rule_11 : D1 cX0_rule 11 (.ireturn) 12 := ⟨by decide +kernel, rfl⟩
theorem eX0_rule_12 : D3 cX0_rule 12 (.new 55) 15 := ⟨by decide +kernel, rfl⟩
theorem eX0_rule_15 : D1 cX0_rule 15 (.dup) 16 := ⟨by decide +kernel, rfl⟩
theorem eX0_rule_16 : D1 cX0_rule 16 (.aload_n 0) 17 := ⟨by decide +kernel, rfl⟩
theorem eX0_rule_17 : D3 cX0_rule 17 (.invokespecial 366) 20 := ⟨by decide +kernel, rfl⟩
theorem eX0_rule_20 : D1 cX0_rule 20 (.astore_n 1) 21 := ⟨by decide +kernel, rfl⟩
theorem eX0_rule_21 : D1 cX0_rule 21 (.aload_n 0) 22 := ⟨by decide +kernel, rfl⟩
theorem eX0_rule_22 : D1 cX0_rule 22 (.aload_n 1) 23 := ⟨by decide +kernel, rfl⟩
theorem eX0_rule_23 : D3 cX0_rule 23 (.invokevirtual 369) 26 := ⟨by decide +kernel, rfl⟩
theorem eX0_rule_26 : D1 cX0_rule 26 (.aload_n 0) 27 := ⟨by decide +kernel, rfl⟩
theorem eX0_rule_27 : DC cX0_rule 27 (0) 28 := Or.inl ⟨0, ⟨by decide +kernel, rfl⟩, by decide⟩
theorem eX0_rule_28 : D3 cX0_rule 28 (.putfield 291) 31 := ⟨by decide +kernel, rfl⟩
theorem eX0_rule_31 : D1 cX0_rule 31 (.aload_n 0) 32 := ⟨by decide +kernel, rfl⟩
theorem eX0_rule_32 : D3 cX0_rule 32 (.getfield 301) 35 := ⟨by decide +kernel, rfl⟩
theorem eX0_rule_35 : DJ cX0_rule 35 (.ifCond .eq) 46 38 := ⟨11, by decide +kernel, by decide, rfl⟩
theorem eX0_rule_38 : DC cX0_rule 38 (-10) 40 := Or.inr (Or.inl ⟨-10, ⟨by decide +kernel, rfl⟩, by decide⟩)
theorem eX0_rule_40 : D1 cX0_rule 40 (.aload_n 0) 41 := ⟨by decide +kernel, rfl⟩
theorem eX0_rule_41 : D3 cX0_rule 41 (.getfield 294) 44 := ⟨by decide +kernel, rfl⟩
theorem eX0_rule_44 : D1 cX0_rule 44 (.isub) 45 := ⟨by decide +kernel, rfl⟩
theorem eX0_rule_45 : D1 cX0_rule 45 (.ireturn) 46 := ⟨by decide +kernel, rfl⟩
theorem eX0_rule_46 : D1 cX0_rule 46 (.aload_n 0) 47 := ⟨by decide +kernel, rfl⟩
theorem eX0_rule_47 : D3 cX0_rule 47 (.getfield 57) 50 := ⟨by decide +kernel, rfl⟩
theorem eX0_rule_50 : D1 cX0_rule 50 (.aload_n 0) 51 := ⟨by decide +kernel, rfl⟩
theorem eX0_rule_51 : D3 cX0_rule 51 (.getfield 363) 54 := ⟨by decide +kernel, rfl⟩
theorem eX0_rule_54 : D1 cX0_rule 54 (.aload_n 1) 55 := ⟨by decide +kernel, rfl⟩
theorem eX0_rule_55 : D1 cX0_rule 55 (.aastore) 56 := ⟨by decide +kernel, rfl⟩
theorem eX0_rule_56 : D1 cX0_rule 56 (.aload_n 0) 57 := ⟨by decide +kernel, rfl⟩
theorem eX0_rule_57 : D1 cX0_rule 57 (.dup) 58 := ⟨by decide +kernel, rfl⟩
theorem eX0_rule_58 : D3 cX0_rule 58 (.getfield 363) 61 := ⟨by decide +kernel, rfl⟩
theorem eX0_rule_61 : DC cX0_rule 61 (1) 62 := Or.inl ⟨1, ⟨by decide +kernel, rfl⟩, by decide⟩
theorem eX0_rule_62 : D1 cX0_rule 62 (.iadd) 63 := ⟨by decide +kernel, rfl⟩
theorem eX0_rule_63 : D3 cX0_rule 63 (.putfield 363) 66 := ⟨by decide +kernel, rfl⟩
theorem eX0_rule_66 : D1 cX0_rule 66 (.aload_n 0) 67 := ⟨by decide +kernel, rfl⟩
theorem eX0_rule_67 : D3 cX0_rule 67 (.getfield 363) 70 := ⟨by decide +kernel, rfl⟩
theorem eX0_rule_70 : DC cX0_rule 70 (1) 71 := Or.inl ⟨1, ⟨by decide +kernel, rfl⟩, by decide⟩
theorem eX0_rule_71 : D1 cX0_rule 71 (.isub) 72 := ⟨by decide +kernel, rfl⟩
theorem eX0_rule_72 : D1 cX0_rule 72 (.ireturn) 73 := ⟨by decide +kernel, rfl⟩
def sX_oar (w : Wd) (a1 : Int32) (a2 : Int32) : Option (Int32 × Wd) :=
  bd (sX_in (Int32.toInt64 a1) (0 : Int64) (4 : Int64)) fun v1 => if v1 = 0 then (some ((-2 : Int32), w)) else (bd (sX_in (Int32.toInt64 a2) (30 : Int64) (150 : Int64)) fun v2 => if v2 = 0 then (some ((-2 : Int32), w)) else (if (w.2.1 90 2) = (16 : Int32) then (some ((-4 : Int32), w)) else (rd (decide (w.1 4 ≤ w.1 1)) (addO w (kcls a1) (w.2.1 90 2) a2 a1) fun w3 => rd (inb (w.2.1 90 2) 16 && (oOk w3 (w.1 1) && (decide (Int32.toNatClampNeg (w.2.1 90 2) = w3.1 4) && decide ((w.1 1) = w3.1 4)))) (incA w3 4) fun w4 => nm (stG w4 90 2 ((w4.2.1 90 2) + (1 : Int32))) fun w5 => some (((w5.2.1 90 2) - (1 : Int32)), w5))))
abbrev rmX0_oar : Room := { frames := 5, cells := 1, slots := 4, locals := 108 }
theorem pkX0_oar : PkV yX0_oar RX0 cX0_oar 3 (some .int) 2 := ⟨q220, q221, q57, q222, by decide +kernel⟩
set_option maxHeartbeats 4000000 in
theorem met_X0_oar (l : Launch) (D : va_G) (g : Nat → ClassId) (ad sd : Nat → Nat) (w : Wd) (a1 : Int32) (a2 : Int32) (r : Int32) (wr : Wd) (ho : sX_oar w a1 a2 = some (r, wr)) (sz : Nat) : Met l yX0_oar (ws_ yX0_oar cX0_oar 3 (some .int)) rmX0_oar (va_Pc [.ref (ad 99), .int a1, .int a2] (MPre D vwCl (tysG g) (cellsX g ad w) (NXX sd (cellsX g ad w)) sz)) (QcA D g (ad 99) r wr (va_A (cellsX g ad w) sz)) 1 4 (va_A (cellsX g ad w) sz) := by
  refine met_XJ (l := l) (D := D) (cl := vwCl) (tys := tysG g) (y := yX0_oar) (maxL := 3) (ret := some .int) (rm := rmX0_oar) (mc := 1) (ms := 4) (NX := NXX sd (cellsX g ad w)) (sz := sz) (QcA := fun A => QcA D g (ad 99) r wr A) (cw := cellsX g ad) (w := w) (cc := cX0_oar) (lv := [(0, .ref (ad 99)), (1, .int a1), (2, .int a2)]) pnX0 [.ref (ad 99), .int a1, .int a2] (Nat.le_of_ble_eq_true rfl) rfl ?_
  intro p e s m args below meth c R Q A B hN hr hsz hA hmm hRm hQ hAe
  have hX : NXA sd A s := by rw [hAe, ← hsz]; exact hN
  unfold sX_oar at ho
  refine j_iload_n B eX0_oar_0 1 rfl ?_
  refine j_i2l B eX0_oar_1 ?_
  refine j_lconst (v := 0) B eX0_oar_2 rfl ?_
  refine j_ldc2 B eX0_oar_3 q223 ?_
  refine j_callSi (As := [.long (Int32.toInt64 a1), .long (0 : Int64), .long (4 : Int64)]) B hA (met_X0_in l D _ _ _ (Int32.toInt64 a1) (0 : Int64) (4 : Int64)) NT_ok pkX0_in q224 rfl rfl hRm ⟨Nat.le_of_ble_eq_true rfl, Nat.le_of_ble_eq_true rfl⟩ rfl rfl (Nat.le_of_ble_eq_true rfl) ⟨Nat.zero_le _, Nat.zero_le _⟩ eX0_oar_6 ho (fun v1 ho => ?_)
  refine j_if_eq B eX0_oar_9 ho (fun _ ho => ?_) (fun _ ho => ?_)
  · refine j_const B eX0_oar_26 ?_
    exact j_iretA B hr hQ rfl (Nat.le_of_ble_eq_true rfl) (Nat.le_of_ble_eq_true rfl) eX0_oar_28 ho
  · refine j_iload_n B eX0_oar_12 2 rfl ?_
    refine j_i2l B eX0_oar_13 ?_
    refine j_ldc2 B eX0_oar_14 q227 ?_
    refine j_ldc2 B eX0_oar_17 q228 ?_
    refine j_callSi (As := [.long (Int32.toInt64 a2), .long (30 : Int64), .long (150 : Int64)]) B hA (met_X0_in l D _ _ _ (Int32.toInt64 a2) (30 : Int64) (150 : Int64)) NT_ok pkX0_in q224 rfl rfl hRm ⟨Nat.le_of_ble_eq_true rfl, Nat.le_of_ble_eq_true rfl⟩ rfl rfl (Nat.le_of_ble_eq_true rfl) ⟨Nat.zero_le _, Nat.zero_le _⟩ eX0_oar_20 ho (fun v2 ho => ?_)
    refine j_if_ne B eX0_oar_23 ho (fun _ ho => ?_) (fun _ ho => ?_)
    · refine j_aload_n B eX0_oar_29 0 rfl ?_
      refine gfX_2 B eX0_oar_30 ?_
      refine j_const B eX0_oar_33 ?_
      refine j_icmp_ne B eX0_oar_35 ho (fun _ ho => ?_) (fun _ ho => ?_)
      · refine j_aload_n B eX0_oar_41 0 rfl ?_
        refine gfX_0 B eX0_oar_42 ?_
        refine j_aload_n B eX0_oar_45 0 rfl ?_
        refine gfX_2 B eX0_oar_46 ?_
        refine j_aload_n B eX0_oar_49 0 rfl ?_
        refine j_iload_n B eX0_oar_50 1 rfl ?_
        refine j_iload_n B eX0_oar_51 2 rfl ?_
        refine j_made B hA hX hRm ⟨Nat.le_of_ble_eq_true rfl, Nat.le_of_ble_eq_true rfl⟩ (Nat.le_of_ble_eq_true rfl) (by rw [hRm]; exact ⟨Nat.le_of_ble_eq_true rfl, Nat.le_of_ble_eq_true rfl⟩) eX0_oar_52 ho (fun ad w3 hlow ho => ?_)
        rw [← hlow 99 (by decide), ← hlow 0 (by decide)]
        have h99 := hlow 99 (by decide)
        refine astO B hX eX0_oar_55 ho (fun w4 ho => ?_)
        refine j_aload_n B eX0_oar_56 0 rfl ?_
        refine j_dup B eX0_oar_57 rfl ?_
        refine gfX_2 B eX0_oar_58 ?_
        refine j_const B eX0_oar_61 ?_
        refine j_iadd B eX0_oar_62 ?_
        refine pfX_2 B eX0_oar_63 ho (fun w5 ho => ?_)
        refine j_aload_n B eX0_oar_66 0 rfl ?_
        refine gfX_2 B eX0_oar_67 ?_
        refine j_const B eX0_oar_70 ?_
        refine j_isub B eX0_oar_71 ?_
        exact j_iretA B hr hQ h99 (Nat.le_of_ble_eq_true rfl) (Nat.le_of_ble_eq_true rfl) eX0_oar_72 ho
      · refine j_const B eX0_oar_38 ?_
        exact j_iretA B hr hQ rfl (Nat.le_of_ble_eq_true rfl) (Nat.le_of_ble_eq_true rfl) eX0_oar_40 ho
    · refine j_const B eX0_oar_26 ?_
      exact j_iretA B hr hQ rfl (Nat.le_of_ble_eq_true rfl) (Nat.le_of_ble_eq_true rfl) eX0_oar_28 ho
def sX_boat (w : Wd) (a1 : Int32) (a2 : Int32) (a3 : Int32) (a4 : Int32) : Option (Int32 × Wd) :=
  bd (sX_in (Int32.toInt64 a1) (0 : Int64) (4 : Int64)) fun v1 => if v1 = 0 then (some ((-2 : Int32), w)) else (bd (sX_in (Int32.toInt64 a2) (30 : Int64) (150 : Int64)) fun v2 => if v2 = 0 then (some ((-2 : Int32), w)) else (bd (sX_in (Int32.toInt64 a3) (Int32.toInt64 a2) (150 : Int64)) fun v3 => if v3 = 0 then (some ((-2 : Int32), w)) else (bd (sX_in (Int32.toInt64 a4) (1 : Int64) (99 : Int64)) fun v4 => if v4 = 0 then (some ((-2 : Int32), w)) else (if (w.2.1 90 3) = (8 : Int32) then (some ((-4 : Int32), w)) else (rd (decide (w.1 3 ≤ w.1 0)) (addB w a1 a2 a3 a4) fun w5 => rd (inb (w.2.1 90 3) 8 && (decide ((w.1 0) < w5.1 0) && (decide (Int32.toNatClampNeg (w.2.1 90 3) = w5.1 3) && decide ((w.1 0) = w5.1 3)))) (incA w5 3) fun w6 => nm (stG w6 90 3 ((w6.2.1 90 3) + (1 : Int32))) fun w7 => some (((w7.2.1 90 3) - (1 : Int32)), w7))))))
abbrev rmX0_boat : Room := { frames := 2, cells := 2, slots := 15, locals := 45 }
theorem pkX0_boat : PkV yX0_boat RX0 cX0_boat 5 (some .int) 4 := ⟨q288, q289, q57, q290, by decide +kernel⟩
set_option maxHeartbeats 4000000 in
theorem met_X0_boat (l : Launch) (D : va_G) (g : Nat → ClassId) (ad sd : Nat → Nat) (w : Wd) (a1 : Int32) (a2 : Int32) (a3 : Int32) (a4 : Int32) (r : Int32) (wr : Wd) (ho : sX_boat w a1 a2 a3 a4 = some (r, wr)) (sz : Nat) : Met l yX0_boat (ws_ yX0_boat cX0_boat 5 (some .int)) rmX0_boat (va_Pc [.ref (ad 99), .int a1, .int a2, .int a3, .int a4] (MPre D vwCl (tysG g) (cellsX g ad w) (NXX sd (cellsX g ad w)) sz)) (QcA D g (ad 99) r wr (va_A (cellsX g ad w) sz)) 2 15 (va_A (cellsX g ad w) sz) := by
  refine met_XJ (l := l) (D := D) (cl := vwCl) (tys := tysG g) (y := yX0_boat) (maxL := 5) (ret := some .int) (rm := rmX0_boat) (mc := 2) (ms := 15) (NX := NXX sd (cellsX g ad w)) (sz := sz) (QcA := fun A => QcA D g (ad 99) r wr A) (cw := cellsX g ad) (w := w) (cc := cX0_boat) (lv := [(0, .ref (ad 99)), (1, .int a1), (2, .int a2), (3, .int a3), (4, .int a4)]) pnX0 [.ref (ad 99), .int a1, .int a2, .int a3, .int a4] (Nat.le_of_ble_eq_true rfl) rfl ?_
  intro p e s m args below meth c R Q A B hN hr hsz hA hmm hRm hQ hAe
  have hX : NXA sd A s := by rw [hAe, ← hsz]; exact hN
  unfold sX_boat at ho
  refine j_iload_n B eX0_boat_0 1 rfl ?_
  refine j_i2l B eX0_boat_1 ?_
  refine j_lconst (v := 0) B eX0_boat_2 rfl ?_
  refine j_ldc2 B eX0_boat_3 q223 ?_
  refine j_callSi (As := [.long (Int32.toInt64 a1), .long (0 : Int64), .long (4 : Int64)]) B hA (met_X0_in l D _ _ _ (Int32.toInt64 a1) (0 : Int64) (4 : Int64)) NT_ok pkX0_in q224 rfl rfl hRm ⟨Nat.le_of_ble_eq_true rfl, Nat.le_of_ble_eq_true rfl⟩ rfl rfl (Nat.le_of_ble_eq_true rfl) ⟨Nat.zero_le _, Nat.zero_le _⟩ eX0_boat_6 ho (fun v1 ho => ?_)
  refine j_if_eq B eX0_boat_9 ho (fun _ ho => ?_) (fun _ ho => ?_)
  · refine j_const B eX0_boat_52 ?_
    exact j_iretA B hr hQ rfl (Nat.le_of_ble_eq_true rfl) (Nat.le_of_ble_eq_true rfl) eX0_boat_54 ho
  · refine j_iload_n B eX0_boat_12 2 rfl ?_
    refine j_i2l B eX0_boat_13 ?_
    refine j_ldc2 B eX0_boat_14 q227 ?_
    refine j_ldc2 B eX0_boat_17 q228 ?_
    refine j_callSi (As := [.long (Int32.toInt64 a2), .long (30 : Int64), .long (150 : Int64)]) B hA (met_X0_in l D _ _ _ (Int32.toInt64 a2) (30 : Int64) (150 : Int64)) NT_ok pkX0_in q224 rfl rfl hRm ⟨Nat.le_of_ble_eq_true rfl, Nat.le_of_ble_eq_true rfl⟩ rfl rfl (Nat.le_of_ble_eq_true rfl) ⟨Nat.zero_le _, Nat.zero_le _⟩ eX0_boat_20 ho (fun v2 ho => ?_)
    refine j_if_eq B eX0_boat_23 ho (fun _ ho => ?_) (fun _ ho => ?_)
    · refine j_const B eX0_boat_52 ?_
      exact j_iretA B hr hQ rfl (Nat.le_of_ble_eq_true rfl) (Nat.le_of_ble_eq_true rfl) eX0_boat_54 ho
    · refine j_iload_n B eX0_boat_26 3 rfl ?_
      refine j_i2l B eX0_boat_27 ?_
      refine j_iload_n B eX0_boat_28 2 rfl ?_
      refine j_i2l B eX0_boat_29 ?_
      refine j_ldc2 B eX0_boat_30 q228 ?_
      refine j_callSi (As := [.long (Int32.toInt64 a3), .long (Int32.toInt64 a2), .long (150 : Int64)]) B hA (met_X0_in l D _ _ _ (Int32.toInt64 a3) (Int32.toInt64 a2) (150 : Int64)) NT_ok pkX0_in q224 rfl rfl hRm ⟨Nat.le_of_ble_eq_true rfl, Nat.le_of_ble_eq_true rfl⟩ rfl rfl (Nat.le_of_ble_eq_true rfl) ⟨Nat.zero_le _, Nat.zero_le _⟩ eX0_boat_33 ho (fun v3 ho => ?_)
      refine j_if_eq B eX0_boat_36 ho (fun _ ho => ?_) (fun _ ho => ?_)
      · refine j_const B eX0_boat_52 ?_
        exact j_iretA B hr hQ rfl (Nat.le_of_ble_eq_true rfl) (Nat.le_of_ble_eq_true rfl) eX0_boat_54 ho
      · refine j_iload B eX0_boat_39 4 rfl ?_
        refine j_i2l B eX0_boat_41 ?_
        refine j_lconst (v := 1) B eX0_boat_42 rfl ?_
        refine j_ldc2 B eX0_boat_43 q291 ?_
        refine j_callSi (As := [.long (Int32.toInt64 a4), .long (1 : Int64), .long (99 : Int64)]) B hA (met_X0_in l D _ _ _ (Int32.toInt64 a4) (1 : Int64) (99 : Int64)) NT_ok pkX0_in q224 rfl rfl hRm ⟨Nat.le_of_ble_eq_true rfl, Nat.le_of_ble_eq_true rfl⟩ rfl rfl (Nat.le_of_ble_eq_true rfl) ⟨Nat.zero_le _, Nat.zero_le _⟩ eX0_boat_46 ho (fun v4 ho => ?_)
        refine j_if_ne B eX0_boat_49 ho (fun _ ho => ?_) (fun _ ho => ?_)
        · refine j_aload_n B eX0_boat_55 0 rfl ?_
          refine gfX_3 B eX0_boat_56 ?_
          refine j_const B eX0_boat_59 ?_
          refine j_icmp_ne B eX0_boat_61 ho (fun _ ho => ?_) (fun _ ho => ?_)
          · refine j_aload_n B eX0_boat_67 0 rfl ?_
            refine gfX_1 B eX0_boat_68 ?_
            refine j_aload_n B eX0_boat_71 0 rfl ?_
            refine gfX_3 B eX0_boat_72 ?_
            obtain ⟨hgd, ho⟩ := rd_e ho
            have hgd := of_decide_eq_true hgd
            refine j_new (T := TX7) (ci := 1) (fs := [.int 0, .int 0, .int 0, .int 0, .null, .int 0]) B hA in_X7 tyX7 tyX7_ok q81 q292 q64 rfl (by decide) (by rw [hRm]; exact Nat.le_of_ble_eq_true rfl) (by rw [hRm]; exact Nat.le_of_ble_eq_true rfl) eX0_boat_75 (fun q => ?_)
            refine j_dup B eX0_boat_78 rfl ?_
            refine j_iload_n B eX0_boat_79 1 rfl ?_
            refine j_iload_n B eX0_boat_80 2 rfl ?_
            refine j_iload_n B eX0_boat_81 3 rfl ?_
            refine j_iload B eX0_boat_82 4 rfl ?_
            refine j_frv (cw' := fun z : (Nat → Nat) × Wd => cellsX g z.1 z.2) (w' := fun u => (adB ad (w.1 0) q u, addB w a1 a2 a3 a4)) (rest := cellsX g ad w) (sub := [(q, .inr (1, [.int 0, .int 0, .int 0, .int 0, .null, .int 0]))]) (f := (fun u : Nat => [(q, .inr (1, [.int a1, .int a2, .int a3, .int a4, .ref u, .int 0])), (u, .inl (g 0, 9, .inl (cr0 9)))])) B hA rfl (List.Perm.refl _) (fun u _ => addB_perm hgd) (run_I (As := [.int a1, .int a2, .int a3, .int a4]) B (met_X7_init l D g q a1 a2 a3 a4) NT_ok pkX7_init q293 rfl rfl hRm ⟨Nat.le_of_ble_eq_true rfl, Nat.le_of_ble_eq_true rfl⟩ rfl (Nat.le_of_ble_eq_true rfl) (by rw [hRm]; exact ⟨Nat.le_of_ble_eq_true rfl, Nat.le_of_ble_eq_true rfl⟩) eX0_boat_84.1) (fun u _ => ?_)
            have hlow : ∀ i, i < 100 → adB ad (w.1 0) q u i = ad i := fun i hi => by show (if _ then _ else if _ then _ else _) = _; rw [if_neg (by omega), if_neg (by omega)]
            have hself : adB ad (w.1 0) q u (100 + 10 * w.1 0) = q := if_pos rfl
            refine j_cast (cw' := cellsX g (adB ad (w.1 0) q u)) (w' := addB w a1 a2 a3 a4) (List.Perm.refl _) ?_
            generalize adB ad (w.1 0) q u = adn at hlow hself ⊢
            rw [← hself, ← hlow 99 (by decide), ← hlow 1 (by decide)]
            have h99 := hlow 99 (by decide)
            clear hlow hself
            revert adn
            intro ad h99
            generalize addB w a1 a2 a3 a4 = w5 at ho ⊢
            refine astB B eX0_boat_87 ho (fun w6 ho => ?_)
            refine j_aload_n B eX0_boat_88 0 rfl ?_
            refine j_dup B eX0_boat_89 rfl ?_
            refine gfX_3 B eX0_boat_90 ?_
            refine j_const B eX0_boat_93 ?_
            refine j_iadd B eX0_boat_94 ?_
            refine pfX_3 B eX0_boat_95 ho (fun w7 ho => ?_)
            refine j_aload_n B eX0_boat_98 0 rfl ?_
            refine gfX_3 B eX0_boat_99 ?_
            refine j_const B eX0_boat_102 ?_
            refine j_isub B eX0_boat_103 ?_
            exact j_iretA B hr hQ h99 (Nat.le_of_ble_eq_true rfl) (Nat.le_of_ble_eq_true rfl) eX0_boat_104 ho
          · refine j_const B eX0_boat_64 ?_
            exact j_iretA B hr hQ rfl (Nat.le_of_ble_eq_true rfl) (Nat.le_of_ble_eq_true rfl) eX0_boat_66 ho
        · refine j_const B eX0_boat_52 ?_
          exact j_iretA B hr hQ rfl (Nat.le_of_ble_eq_true rfl) (Nat.le_of_ble_eq_true rfl) eX0_boat_54 ho
def sX_rule (w : Wd)  : Option (Int32 × Wd) :=
  if (w.2.1 90 20) = (10 : Int32) then (some ((-4 : Int32), w)) else (rd (decide (w.1 5 ≤ w.1 2)) (addR w) fun w1 => bd (sX_read w1 (w.1 2)) fun w2 => nm (stG w2 90 22 (0 : Int32)) fun w3 => if (w3.2.1 90 24) = 0 then (rd (inb (w3.2.1 90 20) 10 && (decide ((w.1 2) < w3.1 2) && (decide (Int32.toNatClampNeg (w3.2.1 90 20) = w3.1 5) && decide ((w.1 2) = w3.1 5)))) (incA w3 5) fun w4 => nm (stG w4 90 20 ((w4.2.1 90 20) + (1 : Int32))) fun w5 => some (((w5.2.1 90 20) - (1 : Int32)), w5)) else (some (((-10 : Int32) - (w3.2.1 90 23)), dropR w3)))
abbrev rmX0_rule : Room := { frames := 8, cells := 5, slots := 20, locals := 177 }
theorem pkX0_rule : PkV yX0_rule RX0 cX0_rule 2 (some .int) 0 := ⟨q521, q522, q57, q523, by decide +kernel⟩
set_option maxHeartbeats 4000000 in
theorem met_X0_rule (l : Launch) (D : va_G) (g : Nat → ClassId) (ad sd : Nat → Nat) (w : Wd)  (r : Int32) (wr : Wd) (ho : sX_rule w = some (r, wr)) (sz : Nat) : Met l yX0_rule (ws_ yX0_rule cX0_rule 2 (some .int)) rmX0_rule (va_Pc [.ref (ad 99)] (MPre D vwCl (tysG g) (cellsX g ad w) (NXX sd (cellsX g ad w)) sz)) (QcA D g (ad 99) r wr (va_A (cellsX g ad w) sz)) 5 20 (va_A (cellsX g ad w) sz) := by
  refine met_XJ (l := l) (D := D) (cl := vwCl) (tys := tysG g) (y := yX0_rule) (maxL := 2) (ret := some .int) (rm := rmX0_rule) (mc := 5) (ms := 20) (NX := NXX sd (cellsX g ad w)) (sz := sz) (QcA := fun A => QcA D g (ad 99) r wr A) (cw := cellsX g ad) (w := w) (cc := cX0_rule) (lv := [(0, .ref (ad 99))]) pnX0 [.ref (ad 99)] (Nat.le_of_ble_eq_true rfl) rfl ?_
  intro p e s m args below meth c R Q A B hN hr hsz hA hmm hRm hQ hAe
  have hX : NXA sd A s := by rw [hAe, ← hsz]; exact hN
  unfold sX_rule at ho
  refine j_aload_n B eX0_rule_0 0 rfl ?_
  refine gfX_20 B eX0_rule_1 ?_
  refine j_const B eX0_rule_4 ?_
  refine j_icmp_ne B eX0_rule_6 ho (fun _ ho => ?_) (fun _ ho => ?_)
  · obtain ⟨hgd, ho⟩ := rd_e ho
    have hgd := of_decide_eq_true hgd
    refine j_new (T := TX8) (ci := 2) (fs := [.int 0, .int 0, .int 0, .null, .null, .null, .null, .null]) B hA in_X8 tyX8 tyX8_ok q83 q524 q66 rfl (by decide) (by rw [hRm]; exact Nat.le_of_ble_eq_true rfl) (by rw [hRm]; exact Nat.le_of_ble_eq_true rfl) eX0_rule_12 (fun q => ?_)
    refine j_dup B eX0_rule_15 rfl ?_
    refine j_aload_n B eX0_rule_16 0 rfl ?_
    refine j_frv (cw' := fun z : (Nat → Nat) × Wd => cellsX g z.1 z.2) (w' := fun u => (adR ad (w.1 2) q u.1 u.2.1 u.2.2.1 u.2.2.2, addR w)) (rest := cellsX g ad w) (sub := [(q, .inr (2, [.int 0, .int 0, .int 0, .null, .null, .null, .null, .null]))]) (f := (fun u : Nat × Nat × Nat × Nat => [(q, .inr (2, [.int 0, .int 0, .int 0, .ref u.1, .ref u.2.1, .ref u.2.2.1, .ref u.2.2.2, .ref (ad 99)])), (u.1, .inl (g 0, 3, .inl (fun _ => 0))), (u.2.1, .inl (g 0, 3, .inl (fun _ => 0))), (u.2.2.1, .inl (g 0, 3, .inl (fun _ => 0))), (u.2.2.2, .inl (g 2, 3, .inl (fun _ => 0)))])) B hA rfl (List.Perm.refl _) (fun u _ => addR_perm hgd) (run_IN (As := [.ref (ad 99)]) B (met_X8_init l D g q (ad 99)) NT_ok pkX8_init (hX.1 _ nq525) rfl rfl hRm ⟨Nat.le_of_ble_eq_true rfl, Nat.le_of_ble_eq_true rfl⟩ rfl (Nat.le_of_ble_eq_true rfl) (by rw [hRm]; exact ⟨Nat.le_of_ble_eq_true rfl, Nat.le_of_ble_eq_true rfl⟩) eX0_rule_17.1) (fun u _ => ?_)
    have hlow : ∀ i, i < 100 → adR ad (w.1 2) q u.1 u.2.1 u.2.2.1 u.2.2.2 i = ad i := fun i hi => by show (if _ then _ else if _ then _ else if _ then _ else if _ then _ else if _ then _ else _) = _; rw [if_neg (by omega), if_neg (by omega), if_neg (by omega), if_neg (by omega), if_neg (by omega)]
    have hself : adR ad (w.1 2) q u.1 u.2.1 u.2.2.1 u.2.2.2 (103 + 10 * w.1 2) = q := if_pos rfl
    refine j_cast (cw' := cellsX g (adR ad (w.1 2) q u.1 u.2.1 u.2.2.1 u.2.2.2)) (w' := addR w) (List.Perm.refl _) ?_
    generalize adR ad (w.1 2) q u.1 u.2.1 u.2.2.1 u.2.2.2 = adn at hlow hself ⊢
    rw [← hself, ← hlow 99 (by decide)]
    have h99 := hlow 99 (by decide)
    clear hlow hself
    revert adn
    intro ad h99
    generalize addR w = w1 at ho ⊢
    refine j_astore_n (lv' := [(0, .ref (ad 99)), (1, .ref (ad (103 + 10 * (w.1 2))))]) B eX0_rule_20 [1, 0] (by decide) rfl ?_
    refine j_aload_n B eX0_rule_21 0 rfl ?_
    refine j_aload_n B eX0_rule_22 1 rfl ?_
    refine j_callVvw (As := [.ref (ad (103 + 10 * (w.1 2)))]) B hA (met_X0_read l D g ad sd w1 (w.1 2)) (NXX_ok hX) pkX0_read q560 0 rfl rfl rfl rfl hRm ⟨Nat.le_of_ble_eq_true rfl, Nat.le_of_ble_eq_true rfl⟩ rfl rfl (Nat.le_of_ble_eq_true rfl) (by rw [hRm]; exact ⟨Nat.le_of_ble_eq_true rfl, Nat.le_of_ble_eq_true rfl⟩) eX0_rule_23 ho (fun w2 ho => ?_)
    refine j_aload_n B eX0_rule_26 0 rfl ?_
    refine j_const B eX0_rule_27 ?_
    refine pfX_22 B eX0_rule_28 ho (fun w3 ho => ?_)
    refine j_aload_n B eX0_rule_31 0 rfl ?_
    refine gfX_24 B eX0_rule_32 ?_
    refine j_if_eq B eX0_rule_35 ho (fun _ ho => ?_) (fun _ ho => ?_)
    · refine j_aload_n B eX0_rule_46 0 rfl ?_
      refine gfX_19 B eX0_rule_47 ?_
      refine j_aload_n B eX0_rule_50 0 rfl ?_
      refine gfX_20 B eX0_rule_51 ?_
      refine j_aload_n B eX0_rule_54 1 rfl ?_
      refine astR B eX0_rule_55 ho (fun w4 ho => ?_)
      refine j_aload_n B eX0_rule_56 0 rfl ?_
      refine j_dup B eX0_rule_57 rfl ?_
      refine gfX_20 B eX0_rule_58 ?_
      refine j_const B eX0_rule_61 ?_
      refine j_iadd B eX0_rule_62 ?_
      refine pfX_20 B eX0_rule_63 ho (fun w5 ho => ?_)
      refine j_aload_n B eX0_rule_66 0 rfl ?_
      refine gfX_20 B eX0_rule_67 ?_
      refine j_const B eX0_rule_70 ?_
      refine j_isub B eX0_rule_71 ?_
      exact j_iretA B hr hQ h99 (Nat.le_of_ble_eq_true rfl) (Nat.le_of_ble_eq_true rfl) eX0_rule_72 ho
    · refine j_const B eX0_rule_38 ?_
      refine j_aload_n B eX0_rule_40 0 rfl ?_
      refine gfX_23 B eX0_rule_41 ?_
      refine j_isub B eX0_rule_44 ?_
      refine j_drop (cw' := cellsX g ad) (w' := dropR w3) dropR_subl ?_
      exact j_iretA B hr hQ h99 (Nat.le_of_ble_eq_true rfl) (Nat.le_of_ble_eq_true rfl) eX0_rule_45 ho
  · refine j_const B eX0_rule_9 ?_
    exact j_iretA B hr hQ rfl (Nat.le_of_ble_eq_true rfl) (Nat.le_of_ble_eq_true rfl) eX0_rule_11 ho
