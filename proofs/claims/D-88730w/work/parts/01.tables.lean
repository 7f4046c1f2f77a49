-- ===== PART A: goes FIRST, ahead of the names: the tables' words, and 'selects' of the private methods out of them =====
/-- a private method of a class that the tables say can be made, by its rows of tables_1 -/
def lw_okq (q : MethodName × Nat) : Prop := (q.1.cls ≠ "java/lang/invoke/MethodHandle" ∧ q.1.cls ≠ "java/lang/invoke/VarHandle") ∧ Cond.instantiable q.1.cls q.2 ∈ tables_1 ∧ Cond.privateMethod q.1 ∈ tables_1 ∧ Cond.instanceMethod q.1 ∈ tables_1
set_option maxRecDepth 100000
theorem lw_t1 {w : Cond} (h : w ∈ tables_1_1) : w ∈ tables_1 := List.mem_append_left _ h
theorem lw_t2 {w : Cond} (h : w ∈ tables_1_2) : w ∈ tables_1 := List.mem_append_right _ (List.mem_append_left _ h)
theorem lw_t3 {w : Cond} (h : w ∈ tables_1_3) : w ∈ tables_1 := List.mem_append_right _ (List.mem_append_right _ (List.mem_append_left _ h))
theorem lw_t4 {w : Cond} (h : w ∈ tables_1_4) : w ∈ tables_1 := List.mem_append_right _ (List.mem_append_right _ (List.mem_append_right _ (List.mem_append_left _ h)))
theorem lw_t5 {w : Cond} (h : w ∈ tables_1_5) : w ∈ tables_1 := List.mem_append_right _ (List.mem_append_right _ (List.mem_append_right _ (List.mem_append_right _ h)))
theorem lw_p0 : lw_okq (⟨"DawnEights", "made", "(II)LDawnEights$Oar;"⟩, 42) := ⟨⟨by decide +kernel, by decide +kernel⟩, lw_t1 (List.mem_of_getElem? (i := 16) rfl), lw_t1 (List.mem_of_getElem? (i := 174) rfl), lw_t1 (List.mem_of_getElem? (i := 175) rfl)⟩
theorem lw_p1 : lw_okq (⟨"DawnEights", "isOar", "(I)Z"⟩, 42) := ⟨⟨by decide +kernel, by decide +kernel⟩, lw_t1 (List.mem_of_getElem? (i := 16) rfl), lw_t2 (List.mem_of_getElem? (i := 30) rfl), lw_t2 (List.mem_of_getElem? (i := 31) rfl)⟩
theorem lw_p2 : lw_okq (⟨"DawnEights", "isSeat", "(II)Z"⟩, 42) := ⟨⟨by decide +kernel, by decide +kernel⟩, lw_t1 (List.mem_of_getElem? (i := 16) rfl), lw_t2 (List.mem_of_getElem? (i := 38) rfl), lw_t2 (List.mem_of_getElem? (i := 39) rfl)⟩
theorem lw_p3 : lw_okq (⟨"DawnEights", "isBoat", "(I)Z"⟩, 42) := ⟨⟨by decide +kernel, by decide +kernel⟩, lw_t1 (List.mem_of_getElem? (i := 16) rfl), lw_t2 (List.mem_of_getElem? (i := 42) rfl), lw_t2 (List.mem_of_getElem? (i := 43) rfl)⟩
theorem lw_p4 : lw_okq (⟨"DawnEights", "leaves", "(I)V"⟩, 42) := ⟨⟨by decide +kernel, by decide +kernel⟩, lw_t1 (List.mem_of_getElem? (i := 16) rfl), lw_t2 (List.mem_of_getElem? (i := 62) rfl), lw_t2 (List.mem_of_getElem? (i := 63) rfl)⟩
theorem lw_p5 : lw_okq (⟨"DawnEights", "findParts", "()V"⟩, 42) := ⟨⟨by decide +kernel, by decide +kernel⟩, lw_t1 (List.mem_of_getElem? (i := 16) rfl), lw_t2 (List.mem_of_getElem? (i := 109) rfl), lw_t2 (List.mem_of_getElem? (i := 110) rfl)⟩
theorem lw_p6 : lw_okq (⟨"DawnEights", "isBig", "(I)Z"⟩, 42) := ⟨⟨by decide +kernel, by decide +kernel⟩, lw_t1 (List.mem_of_getElem? (i := 16) rfl), lw_t2 (List.mem_of_getElem? (i := 121) rfl), lw_t2 (List.mem_of_getElem? (i := 122) rfl)⟩
theorem lw_p7 : lw_okq (⟨"DawnEights", "layOut", "(I)V"⟩, 42) := ⟨⟨by decide +kernel, by decide +kernel⟩, lw_t1 (List.mem_of_getElem? (i := 16) rfl), lw_t2 (List.mem_of_getElem? (i := 125) rfl), lw_t2 (List.mem_of_getElem? (i := 126) rfl)⟩
theorem lw_p8 : lw_okq (⟨"DawnEights", "add", "(III)V"⟩, 42) := ⟨⟨by decide +kernel, by decide +kernel⟩, lw_t1 (List.mem_of_getElem? (i := 16) rfl), lw_t2 (List.mem_of_getElem? (i := 129) rfl), lw_t2 (List.mem_of_getElem? (i := 130) rfl)⟩
theorem lw_p9 : lw_okq (⟨"DawnEights", "solve", "()V"⟩, 42) := ⟨⟨by decide +kernel, by decide +kernel⟩, lw_t1 (List.mem_of_getElem? (i := 16) rfl), lw_t2 (List.mem_of_getElem? (i := 136) rfl), lw_t2 (List.mem_of_getElem? (i := 137) rfl)⟩
theorem lw_p10 : lw_okq (⟨"DawnEights", "strengthOf", "(I)J"⟩, 42) := ⟨⟨by decide +kernel, by decide +kernel⟩, lw_t1 (List.mem_of_getElem? (i := 16) rfl), lw_t2 (List.mem_of_getElem? (i := 140) rfl), lw_t2 (List.mem_of_getElem? (i := 141) rfl)⟩
theorem lw_p11 : lw_okq (⟨"DawnEights", "workOut", "(LDawnEights$Boat;)V"⟩, 42) := ⟨⟨by decide +kernel, by decide +kernel⟩, lw_t1 (List.mem_of_getElem? (i := 16) rfl), lw_t2 (List.mem_of_getElem? (i := 170) rfl), lw_t2 (List.mem_of_getElem? (i := 171) rfl)⟩
theorem lw_p12 : lw_okq (⟨"DawnEights", "mayCome", "(LDawnEights$Boat;I)Z"⟩, 42) := ⟨⟨by decide +kernel, by decide +kernel⟩, lw_t1 (List.mem_of_getElem? (i := 16) rfl), lw_t2 (List.mem_of_getElem? (i := 175) rfl), lw_t2 (List.mem_of_getElem? (i := 176) rfl)⟩
theorem lw_p13 : lw_okq (⟨"DawnEights", "costOf", "(LDawnEights$Boat;II)I"⟩, 42) := ⟨⟨by decide +kernel, by decide +kernel⟩, lw_t1 (List.mem_of_getElem? (i := 16) rfl), lw_t2 (List.mem_of_getElem? (i := 192) rfl), lw_t2 (List.mem_of_getElem? (i := 193) rfl)⟩
theorem lw_p14 : lw_okq (⟨"DawnEights", "read", "(LDawnEights$Rule;)V"⟩, 42) := ⟨⟨by decide +kernel, by decide +kernel⟩, lw_t1 (List.mem_of_getElem? (i := 16) rfl), lw_t3 (List.mem_of_getElem? (i := 25) rfl), lw_t3 (List.mem_of_getElem? (i := 26) rfl)⟩
theorem lw_p15 : lw_okq (⟨"DawnEights", "now", "()I"⟩, 42) := ⟨⟨by decide +kernel, by decide +kernel⟩, lw_t1 (List.mem_of_getElem? (i := 16) rfl), lw_t3 (List.mem_of_getElem? (i := 29) rfl), lw_t3 (List.mem_of_getElem? (i := 30) rfl)⟩
def lw_privs_1 : List (MethodName × Nat) := [(⟨"DawnEights", "made", "(II)LDawnEights$Oar;"⟩, 42), (⟨"DawnEights", "isOar", "(I)Z"⟩, 42), (⟨"DawnEights", "isSeat", "(II)Z"⟩, 42), (⟨"DawnEights", "isBoat", "(I)Z"⟩, 42), (⟨"DawnEights", "leaves", "(I)V"⟩, 42), (⟨"DawnEights", "findParts", "()V"⟩, 42), (⟨"DawnEights", "isBig", "(I)Z"⟩, 42), (⟨"DawnEights", "layOut", "(I)V"⟩, 42), (⟨"DawnEights", "add", "(III)V"⟩, 42), (⟨"DawnEights", "solve", "()V"⟩, 42), (⟨"DawnEights", "strengthOf", "(I)J"⟩, 42), (⟨"DawnEights", "workOut", "(LDawnEights$Boat;)V"⟩, 42), (⟨"DawnEights", "mayCome", "(LDawnEights$Boat;I)Z"⟩, 42), (⟨"DawnEights", "costOf", "(LDawnEights$Boat;II)I"⟩, 42), (⟨"DawnEights", "read", "(LDawnEights$Rule;)V"⟩, 42), (⟨"DawnEights", "now", "()I"⟩, 42)]
theorem lw_r1 : ∀ q ∈ lw_privs_1, lw_okq q := List.forall_mem_cons.mpr ⟨lw_p0, List.forall_mem_cons.mpr ⟨lw_p1, List.forall_mem_cons.mpr ⟨lw_p2, List.forall_mem_cons.mpr ⟨lw_p3, List.forall_mem_cons.mpr ⟨lw_p4, List.forall_mem_cons.mpr ⟨lw_p5, List.forall_mem_cons.mpr ⟨lw_p6, List.forall_mem_cons.mpr ⟨lw_p7, List.forall_mem_cons.mpr ⟨lw_p8, List.forall_mem_cons.mpr ⟨lw_p9, List.forall_mem_cons.mpr ⟨lw_p10, List.forall_mem_cons.mpr ⟨lw_p11, List.forall_mem_cons.mpr ⟨lw_p12, List.forall_mem_cons.mpr ⟨lw_p13, List.forall_mem_cons.mpr ⟨lw_p14, List.forall_mem_cons.mpr ⟨lw_p15, fun _ h => absurd h List.not_mem_nil⟩⟩⟩⟩⟩⟩⟩⟩⟩⟩⟩⟩⟩⟩⟩⟩
theorem lw_p16 : lw_okq (⟨"DawnEights", "signs", "(Ljava/lang/String;)V"⟩, 42) := ⟨⟨by decide +kernel, by decide +kernel⟩, lw_t1 (List.mem_of_getElem? (i := 16) rfl), lw_t3 (List.mem_of_getElem? (i := 35) rfl), lw_t3 (List.mem_of_getElem? (i := 36) rfl)⟩
theorem lw_p17 : lw_okq (⟨"DawnEights", "word", "([Ljava/lang/String;I)I"⟩, 42) := ⟨⟨by decide +kernel, by decide +kernel⟩, lw_t1 (List.mem_of_getElem? (i := 16) rfl), lw_t3 (List.mem_of_getElem? (i := 89) rfl), lw_t3 (List.mem_of_getElem? (i := 90) rfl)⟩
theorem lw_p18 : lw_okq (⟨"DawnEights", "test", "(LDawnEights$Rule;)V"⟩, 42) := ⟨⟨by decide +kernel, by decide +kernel⟩, lw_t1 (List.mem_of_getElem? (i := 16) rfl), lw_t3 (List.mem_of_getElem? (i := 94) rfl), lw_t3 (List.mem_of_getElem? (i := 95) rfl)⟩
theorem lw_p19 : lw_okq (⟨"DawnEights", "ruling", "(LDawnEights$Boat;I)I"⟩, 42) := ⟨⟨by decide +kernel, by decide +kernel⟩, lw_t1 (List.mem_of_getElem? (i := 16) rfl), lw_t3 (List.mem_of_getElem? (i := 108) rfl), lw_t3 (List.mem_of_getElem? (i := 109) rfl)⟩
theorem lw_p20 : lw_okq (⟨"DawnEights$Rule", "value", "(ILDawnEights$Boat;I)I"⟩, 8) := ⟨⟨by decide +kernel, by decide +kernel⟩, lw_t2 (List.mem_of_getElem? (i := 228) rfl), lw_t3 (List.mem_of_getElem? (i := 116) rfl), lw_t3 (List.mem_of_getElem? (i := 117) rfl)⟩
theorem lw_p21 : lw_okq (⟨"DawnEights", "hasYoung", "(LDawnEights$Boat;)Z"⟩, 42) := ⟨⟨by decide +kernel, by decide +kernel⟩, lw_t1 (List.mem_of_getElem? (i := 16) rfl), lw_t3 (List.mem_of_getElem? (i := 121) rfl), lw_t3 (List.mem_of_getElem? (i := 122) rfl)⟩
theorem lw_p22 : lw_okq (⟨"DawnEights", "mayGo", "(II)I"⟩, 42) := ⟨⟨by decide +kernel, by decide +kernel⟩, lw_t1 (List.mem_of_getElem? (i := 16) rfl), lw_t3 (List.mem_of_getElem? (i := 139) rfl), lw_t3 (List.mem_of_getElem? (i := 140) rfl)⟩
theorem lw_p23 : lw_okq (⟨"DawnEights", "ashore", "(LDawnEights$Boat;I)I"⟩, 42) := ⟨⟨by decide +kernel, by decide +kernel⟩, lw_t1 (List.mem_of_getElem? (i := 16) rfl), lw_t3 (List.mem_of_getElem? (i := 143) rfl), lw_t3 (List.mem_of_getElem? (i := 144) rfl)⟩
theorem lw_p24 : lw_okq (⟨"DawnEights", "mean", "(LDawnEights$Boat;)I"⟩, 42) := ⟨⟨by decide +kernel, by decide +kernel⟩, lw_t1 (List.mem_of_getElem? (i := 16) rfl), lw_t3 (List.mem_of_getElem? (i := 147) rfl), lw_t3 (List.mem_of_getElem? (i := 148) rfl)⟩
theorem lw_p25 : lw_okq (⟨"DawnEights", "outsBetween", "(III)I"⟩, 42) := ⟨⟨by decide +kernel, by decide +kernel⟩, lw_t1 (List.mem_of_getElem? (i := 16) rfl), lw_t3 (List.mem_of_getElem? (i := 168) rfl), lw_t3 (List.mem_of_getElem? (i := 169) rfl)⟩
theorem lw_p26 : lw_okq (⟨"DawnEights", "clash", "(II)Z"⟩, 42) := ⟨⟨by decide +kernel, by decide +kernel⟩, lw_t1 (List.mem_of_getElem? (i := 16) rfl), lw_t3 (List.mem_of_getElem? (i := 189) rfl), lw_t3 (List.mem_of_getElem? (i := 190) rfl)⟩
theorem lw_p27 : lw_okq (⟨"DawnEights", "shares", "(LDawnEights$Boat;LDawnEights$Boat;)Z"⟩, 42) := ⟨⟨by decide +kernel, by decide +kernel⟩, lw_t1 (List.mem_of_getElem? (i := 16) rfl), lw_t3 (List.mem_of_getElem? (i := 196) rfl), lw_t3 (List.mem_of_getElem? (i := 197) rfl)⟩
theorem lw_p28 : lw_okq (⟨"DawnEightsModel", "isOar", "(I)Z"⟩, 53) := ⟨⟨by decide +kernel, by decide +kernel⟩, lw_t3 (List.mem_of_getElem? (i := 219) rfl), lw_t4 (List.mem_of_getElem? (i := 164) rfl), lw_t4 (List.mem_of_getElem? (i := 165) rfl)⟩
theorem lw_p29 : lw_okq (⟨"DawnEightsModel", "isSeat", "(II)Z"⟩, 53) := ⟨⟨by decide +kernel, by decide +kernel⟩, lw_t3 (List.mem_of_getElem? (i := 219) rfl), lw_t4 (List.mem_of_getElem? (i := 172) rfl), lw_t4 (List.mem_of_getElem? (i := 173) rfl)⟩
theorem lw_p30 : lw_okq (⟨"DawnEightsModel", "isBoat", "(I)Z"⟩, 53) := ⟨⟨by decide +kernel, by decide +kernel⟩, lw_t3 (List.mem_of_getElem? (i := 219) rfl), lw_t4 (List.mem_of_getElem? (i := 176) rfl), lw_t4 (List.mem_of_getElem? (i := 177) rfl)⟩
theorem lw_p31 : lw_okq (⟨"DawnEightsModel", "seatsOf", "(I)I"⟩, 53) := ⟨⟨by decide +kernel, by decide +kernel⟩, lw_t3 (List.mem_of_getElem? (i := 219) rfl), lw_t4 (List.mem_of_getElem? (i := 180) rfl), lw_t4 (List.mem_of_getElem? (i := 181) rfl)⟩
def lw_privs_2 : List (MethodName × Nat) := [(⟨"DawnEights", "signs", "(Ljava/lang/String;)V"⟩, 42), (⟨"DawnEights", "word", "([Ljava/lang/String;I)I"⟩, 42), (⟨"DawnEights", "test", "(LDawnEights$Rule;)V"⟩, 42), (⟨"DawnEights", "ruling", "(LDawnEights$Boat;I)I"⟩, 42), (⟨"DawnEights$Rule", "value", "(ILDawnEights$Boat;I)I"⟩, 8), (⟨"DawnEights", "hasYoung", "(LDawnEights$Boat;)Z"⟩, 42), (⟨"DawnEights", "mayGo", "(II)I"⟩, 42), (⟨"DawnEights", "ashore", "(LDawnEights$Boat;I)I"⟩, 42), (⟨"DawnEights", "mean", "(LDawnEights$Boat;)I"⟩, 42), (⟨"DawnEights", "outsBetween", "(III)I"⟩, 42), (⟨"DawnEights", "clash", "(II)Z"⟩, 42), (⟨"DawnEights", "shares", "(LDawnEights$Boat;LDawnEights$Boat;)Z"⟩, 42), (⟨"DawnEightsModel", "isOar", "(I)Z"⟩, 53), (⟨"DawnEightsModel", "isSeat", "(II)Z"⟩, 53), (⟨"DawnEightsModel", "isBoat", "(I)Z"⟩, 53), (⟨"DawnEightsModel", "seatsOf", "(I)I"⟩, 53)]
theorem lw_r2 : ∀ q ∈ lw_privs_2, lw_okq q := List.forall_mem_cons.mpr ⟨lw_p16, List.forall_mem_cons.mpr ⟨lw_p17, List.forall_mem_cons.mpr ⟨lw_p18, List.forall_mem_cons.mpr ⟨lw_p19, List.forall_mem_cons.mpr ⟨lw_p20, List.forall_mem_cons.mpr ⟨lw_p21, List.forall_mem_cons.mpr ⟨lw_p22, List.forall_mem_cons.mpr ⟨lw_p23, List.forall_mem_cons.mpr ⟨lw_p24, List.forall_mem_cons.mpr ⟨lw_p25, List.forall_mem_cons.mpr ⟨lw_p26, List.forall_mem_cons.mpr ⟨lw_p27, List.forall_mem_cons.mpr ⟨lw_p28, List.forall_mem_cons.mpr ⟨lw_p29, List.forall_mem_cons.mpr ⟨lw_p30, List.forall_mem_cons.mpr ⟨lw_p31, fun _ h => absurd h List.not_mem_nil⟩⟩⟩⟩⟩⟩⟩⟩⟩⟩⟩⟩⟩⟩⟩⟩
theorem lw_p32 : lw_okq (⟨"DawnEightsModel", "hasCox", "(I)Z"⟩, 53) := ⟨⟨by decide +kernel, by decide +kernel⟩, lw_t3 (List.mem_of_getElem? (i := 219) rfl), lw_t4 (List.mem_of_getElem? (i := 184) rfl), lw_t4 (List.mem_of_getElem? (i := 185) rfl)⟩
theorem lw_p33 : lw_okq (⟨"DawnEightsModel", "sitter", "(II)I"⟩, 53) := ⟨⟨by decide +kernel, by decide +kernel⟩, lw_t3 (List.mem_of_getElem? (i := 219) rfl), lw_t4 (List.mem_of_getElem? (i := 188) rfl), lw_t4 (List.mem_of_getElem? (i := 189) rfl)⟩
theorem lw_p34 : lw_okq (⟨"DawnEightsModel", "findGroups", "()V"⟩, 53) := ⟨⟨by decide +kernel, by decide +kernel⟩, lw_t3 (List.mem_of_getElem? (i := 219) rfl), lw_t4 (List.mem_of_getElem? (i := 214) rfl), lw_t4 (List.mem_of_getElem? (i := 215) rfl)⟩
theorem lw_p35 : lw_okq (⟨"DawnEightsModel", "solves", "(I)Z"⟩, 53) := ⟨⟨by decide +kernel, by decide +kernel⟩, lw_t3 (List.mem_of_getElem? (i := 219) rfl), lw_t4 (List.mem_of_getElem? (i := 222) rfl), lw_t4 (List.mem_of_getElem? (i := 223) rfl)⟩
theorem lw_p36 : lw_okq (⟨"DawnEightsModel", "tells", "(III)V"⟩, 53) := ⟨⟨by decide +kernel, by decide +kernel⟩, lw_t3 (List.mem_of_getElem? (i := 219) rfl), lw_t4 (List.mem_of_getElem? (i := 226) rfl), lw_t4 (List.mem_of_getElem? (i := 227) rfl)⟩
theorem lw_p37 : lw_okq (⟨"DawnEightsModel", "determinant", "(I)J"⟩, 53) := ⟨⟨by decide +kernel, by decide +kernel⟩, lw_t3 (List.mem_of_getElem? (i := 219) rfl), lw_t4 (List.mem_of_getElem? (i := 230) rfl), lw_t4 (List.mem_of_getElem? (i := 231) rfl)⟩
theorem lw_p38 : lw_okq (⟨"DawnEightsModel", "fillCost", "(II)V"⟩, 53) := ⟨⟨by decide +kernel, by decide +kernel⟩, lw_t3 (List.mem_of_getElem? (i := 219) rfl), lw_t5 (List.mem_of_getElem? (i := 21) rfl), lw_t5 (List.mem_of_getElem? (i := 22) rfl)⟩
theorem lw_p39 : lw_okq (⟨"DawnEightsModel", "canSit", "(III)Z"⟩, 53) := ⟨⟨by decide +kernel, by decide +kernel⟩, lw_t3 (List.mem_of_getElem? (i := 219) rfl), lw_t5 (List.mem_of_getElem? (i := 26) rfl), lw_t5 (List.mem_of_getElem? (i := 27) rfl)⟩
theorem lw_p40 : lw_okq (⟨"DawnEightsModel", "mayBeOut", "(II)Z"⟩, 53) := ⟨⟨by decide +kernel, by decide +kernel⟩, lw_t3 (List.mem_of_getElem? (i := 219) rfl), lw_t5 (List.mem_of_getElem? (i := 30) rfl), lw_t5 (List.mem_of_getElem? (i := 31) rfl)⟩
theorem lw_p41 : lw_okq (⟨"DawnEightsModel", "costOf", "(III)I"⟩, 53) := ⟨⟨by decide +kernel, by decide +kernel⟩, lw_t3 (List.mem_of_getElem? (i := 219) rfl), lw_t5 (List.mem_of_getElem? (i := 34) rfl), lw_t5 (List.mem_of_getElem? (i := 35) rfl)⟩
theorem lw_p42 : lw_okq (⟨"DawnEightsModel", "dislikes", "(III)I"⟩, 53) := ⟨⟨by decide +kernel, by decide +kernel⟩, lw_t3 (List.mem_of_getElem? (i := 219) rfl), lw_t5 (List.mem_of_getElem? (i := 38) rfl), lw_t5 (List.mem_of_getElem? (i := 39) rfl)⟩
theorem lw_p43 : lw_okq (⟨"DawnEightsModel", "parses", "()Z"⟩, 53) := ⟨⟨by decide +kernel, by decide +kernel⟩, lw_t3 (List.mem_of_getElem? (i := 219) rfl), lw_t5 (List.mem_of_getElem? (i := 59) rfl), lw_t5 (List.mem_of_getElem? (i := 60) rfl)⟩
theorem lw_p44 : lw_okq (⟨"DawnEightsModel", "word", "(II)I"⟩, 53) := ⟨⟨by decide +kernel, by decide +kernel⟩, lw_t3 (List.mem_of_getElem? (i := 219) rfl), lw_t5 (List.mem_of_getElem? (i := 63) rfl), lw_t5 (List.mem_of_getElem? (i := 64) rfl)⟩
theorem lw_p45 : lw_okq (⟨"DawnEightsModel", "fits", "(II)Z"⟩, 53) := ⟨⟨by decide +kernel, by decide +kernel⟩, lw_t3 (List.mem_of_getElem? (i := 219) rfl), lw_t5 (List.mem_of_getElem? (i := 67) rfl), lw_t5 (List.mem_of_getElem? (i := 68) rfl)⟩
theorem lw_p46 : lw_okq (⟨"DawnEightsModel", "sign", "()I"⟩, 53) := ⟨⟨by decide +kernel, by decide +kernel⟩, lw_t3 (List.mem_of_getElem? (i := 219) rfl), lw_t5 (List.mem_of_getElem? (i := 82) rfl), lw_t5 (List.mem_of_getElem? (i := 83) rfl)⟩
theorem lw_p47 : lw_okq (⟨"DawnEightsModel", "takes", "(I)Z"⟩, 53) := ⟨⟨by decide +kernel, by decide +kernel⟩, lw_t3 (List.mem_of_getElem? (i := 219) rfl), lw_t5 (List.mem_of_getElem? (i := 86) rfl), lw_t5 (List.mem_of_getElem? (i := 87) rfl)⟩
def lw_privs_3 : List (MethodName × Nat) := [(⟨"DawnEightsModel", "hasCox", "(I)Z"⟩, 53), (⟨"DawnEightsModel", "sitter", "(II)I"⟩, 53), (⟨"DawnEightsModel", "findGroups", "()V"⟩, 53), (⟨"DawnEightsModel", "solves", "(I)Z"⟩, 53), (⟨"DawnEightsModel", "tells", "(III)V"⟩, 53), (⟨"DawnEightsModel", "determinant", "(I)J"⟩, 53), (⟨"DawnEightsModel", "fillCost", "(II)V"⟩, 53), (⟨"DawnEightsModel", "canSit", "(III)Z"⟩, 53), (⟨"DawnEightsModel", "mayBeOut", "(II)Z"⟩, 53), (⟨"DawnEightsModel", "costOf", "(III)I"⟩, 53), (⟨"DawnEightsModel", "dislikes", "(III)I"⟩, 53), (⟨"DawnEightsModel", "parses", "()Z"⟩, 53), (⟨"DawnEightsModel", "word", "(II)I"⟩, 53), (⟨"DawnEightsModel", "fits", "(II)Z"⟩, 53), (⟨"DawnEightsModel", "sign", "()I"⟩, 53), (⟨"DawnEightsModel", "takes", "(I)Z"⟩, 53)]
theorem lw_r3 : ∀ q ∈ lw_privs_3, lw_okq q := List.forall_mem_cons.mpr ⟨lw_p32, List.forall_mem_cons.mpr ⟨lw_p33, List.forall_mem_cons.mpr ⟨lw_p34, List.forall_mem_cons.mpr ⟨lw_p35, List.forall_mem_cons.mpr ⟨lw_p36, List.forall_mem_cons.mpr ⟨lw_p37, List.forall_mem_cons.mpr ⟨lw_p38, List.forall_mem_cons.mpr ⟨lw_p39, List.forall_mem_cons.mpr ⟨lw_p40, List.forall_mem_cons.mpr ⟨lw_p41, List.forall_mem_cons.mpr ⟨lw_p42, List.forall_mem_cons.mpr ⟨lw_p43, List.forall_mem_cons.mpr ⟨lw_p44, List.forall_mem_cons.mpr ⟨lw_p45, List.forall_mem_cons.mpr ⟨lw_p46, List.forall_mem_cons.mpr ⟨lw_p47, fun _ h => absurd h List.not_mem_nil⟩⟩⟩⟩⟩⟩⟩⟩⟩⟩⟩⟩⟩⟩⟩⟩
theorem lw_p48 : lw_okq (⟨"DawnEightsModel", "test", "(I)Z"⟩, 53) := ⟨⟨by decide +kernel, by decide +kernel⟩, lw_t3 (List.mem_of_getElem? (i := 219) rfl), lw_t5 (List.mem_of_getElem? (i := 90) rfl), lw_t5 (List.mem_of_getElem? (i := 91) rfl)⟩
theorem lw_p49 : lw_okq (⟨"DawnEightsModel", "asked", "(II)I"⟩, 53) := ⟨⟨by decide +kernel, by decide +kernel⟩, lw_t3 (List.mem_of_getElem? (i := 219) rfl), lw_t5 (List.mem_of_getElem? (i := 101) rfl), lw_t5 (List.mem_of_getElem? (i := 102) rfl)⟩
theorem lw_p50 : lw_okq (⟨"DawnEightsModel", "isSo", "(III)Z"⟩, 53) := ⟨⟨by decide +kernel, by decide +kernel⟩, lw_t3 (List.mem_of_getElem? (i := 219) rfl), lw_t5 (List.mem_of_getElem? (i := 105) rfl), lw_t5 (List.mem_of_getElem? (i := 106) rfl)⟩
theorem lw_p51 : lw_okq (⟨"DawnEightsModel", "field", "(III)I"⟩, 53) := ⟨⟨by decide +kernel, by decide +kernel⟩, lw_t3 (List.mem_of_getElem? (i := 219) rfl), lw_t5 (List.mem_of_getElem? (i := 109) rfl), lw_t5 (List.mem_of_getElem? (i := 110) rfl)⟩
theorem lw_p52 : lw_okq (⟨"DawnEightsModel", "ashore", "(II)I"⟩, 53) := ⟨⟨by decide +kernel, by decide +kernel⟩, lw_t3 (List.mem_of_getElem? (i := 219) rfl), lw_t5 (List.mem_of_getElem? (i := 117) rfl), lw_t5 (List.mem_of_getElem? (i := 118) rfl)⟩
theorem lw_p53 : lw_okq (⟨"DawnEightsModel", "whoIn", "(I)I"⟩, 53) := ⟨⟨by decide +kernel, by decide +kernel⟩, lw_t3 (List.mem_of_getElem? (i := 219) rfl), lw_t5 (List.mem_of_getElem? (i := 129) rfl), lw_t5 (List.mem_of_getElem? (i := 130) rfl)⟩
theorem lw_p54 : lw_okq (⟨"DawnEightsModel", "clash", "(III)Z"⟩, 53) := ⟨⟨by decide +kernel, by decide +kernel⟩, lw_t3 (List.mem_of_getElem? (i := 219) rfl), lw_t5 (List.mem_of_getElem? (i := 159) rfl), lw_t5 (List.mem_of_getElem? (i := 160) rfl)⟩
theorem lw_p55 : lw_okq (⟨"DawnEightsModel", "longest", "(II)I"⟩, 53) := ⟨⟨by decide +kernel, by decide +kernel⟩, lw_t3 (List.mem_of_getElem? (i := 219) rfl), lw_t5 (List.mem_of_getElem? (i := 171) rfl), lw_t5 (List.mem_of_getElem? (i := 172) rfl)⟩
def lw_privs_4 : List (MethodName × Nat) := [(⟨"DawnEightsModel", "test", "(I)Z"⟩, 53), (⟨"DawnEightsModel", "asked", "(II)I"⟩, 53), (⟨"DawnEightsModel", "isSo", "(III)Z"⟩, 53), (⟨"DawnEightsModel", "field", "(III)I"⟩, 53), (⟨"DawnEightsModel", "ashore", "(II)I"⟩, 53), (⟨"DawnEightsModel", "whoIn", "(I)I"⟩, 53), (⟨"DawnEightsModel", "clash", "(III)Z"⟩, 53), (⟨"DawnEightsModel", "longest", "(II)I"⟩, 53)]
theorem lw_r4 : ∀ q ∈ lw_privs_4, lw_okq q := List.forall_mem_cons.mpr ⟨lw_p48, List.forall_mem_cons.mpr ⟨lw_p49, List.forall_mem_cons.mpr ⟨lw_p50, List.forall_mem_cons.mpr ⟨lw_p51, List.forall_mem_cons.mpr ⟨lw_p52, List.forall_mem_cons.mpr ⟨lw_p53, List.forall_mem_cons.mpr ⟨lw_p54, List.forall_mem_cons.mpr ⟨lw_p55, fun _ h => absurd h List.not_mem_nil⟩⟩⟩⟩⟩⟩⟩⟩
def lw_privs : List (MethodName × Nat) := lw_privs_1 ++ (lw_privs_2 ++ (lw_privs_3 ++ (lw_privs_4)))
def lw_tbl : List Cond := k2_sels lw_privs ++ tables_1
theorem lw_privs_ok : ∀ q ∈ lw_privs, lw_okq q := by
  show ∀ q ∈ lw_privs_1 ++ (lw_privs_2 ++ (lw_privs_3 ++ (lw_privs_4))), lw_okq q
  exact List.forall_mem_append.mpr ⟨lw_r1, List.forall_mem_append.mpr ⟨lw_r2, List.forall_mem_append.mpr ⟨lw_r3, lw_r4⟩⟩⟩
-- ===== ONE list of words for every method: the tables' words that hold all through a run =====
def lw_all : List Cond := lw_tbl.filter goodWord
/-- a word of the tables by its place: claim/WORDS.tsv -/
theorem lw_w {w : Cond} (i : Nat) (h : lw_tbl[i]? = some w) (g : goodWord w = true) : w ∈ lw_all := List.mem_filter.mpr ⟨List.mem_of_getElem? h, g⟩
theorem lw_all_tbl {w : Cond} (h : w ∈ lw_all) : w ∈ lw_tbl := (List.mem_filter.mp h).1
theorem lw_self : GoodIn lw_all lw_all := fun w h => ⟨h, good_of_word (List.mem_filter.mp h).2⟩
/-- a class's field words, by their places -/
theorem lw_in (ws : List Cond) (ps : List Nat) (hp : ws = ps.filterMap (fun i => lw_tbl[i]?)) (hg : ws.all goodWord = true) : ∀ w ∈ ws, w ∈ lw_all := by
  intro w h
  have h1 := List.all_eq_true.mp hg w h
  rw [hp] at h
  obtain ⟨i, -, hi⟩ := List.mem_filterMap.mp h
  exact lw_w i hi h1
/-- the words of a contract for the method y with code b, L locals, answer r -/
abbrev ws_ (y : MethodName) (b : ByteArray) (L : Nat) (r : Option FieldType) : List Cond := Cond.code y b L r :: lw_all
theorem lw_meth {y : MethodName} {b : ByteArray} {L : Nat} {r : Option FieldType} (h : Cond.code y b L r ∈ lw_all) : GoodIn lw_all (ws_ y b L r) := by
  intro w hw
  rcases List.mem_cons.mp hw with e | e
  · rw [e]
    exact lw_self _ h
  · exact lw_self _ e
theorem lw_app {a c : List Cond} (ha : ∀ w ∈ a, w ∈ lw_all) (hc : GoodIn lw_all c) : GoodIn lw_all (a ++ c) := by
  intro w hw
  rcases List.mem_append.mp hw with e | e
  · exact lw_self w (ha w e)
  · exact hc w e
/-- what a call through an object asks: cwV n hts (lw_V ..) -/
theorem lw_V {own : String} {idx : Nat} {C : String} {y : MethodName} {b : ByteArray} {L : Nat} {r : Option FieldType} (h1 : Cond.methodLink own idx y ∈ lw_all) (h2 : Cond.instanceMethod y ∈ lw_all) (h3 : Cond.selects C y y ∈ lw_all) (h4 : Cond.initialized C ∈ lw_all) (h5 : Cond.code y b L r ∈ lw_all) : GoodIn lw_all (wsV own idx C y (ws_ y b L r)) := by
  refine lw_app ?_ (lw_meth h5)
  intro w hw
  simp only [List.mem_cons, List.not_mem_nil, or_false] at hw
  rcases hw with e | e | e | e
  · rw [e]; exact h1
  · rw [e]; exact h2
  · rw [e]; exact h3
  · rw [e]; exact h4
/-- what a static call asks: va_cwS n hts (lw_S ..) -/
theorem lw_S {own : String} {idx : Nat} {y : MethodName} {b : ByteArray} {L : Nat} {r : Option FieldType} (h1 : Cond.methodLink own idx y ∈ lw_all) (h2 : Cond.static y ∈ lw_all) (h3 : Cond.initialized y.cls ∈ lw_all) (h4 : Cond.code y b L r ∈ lw_all) : GoodIn lw_all (va_wsS own idx y (ws_ y b L r)) := by
  refine lw_app ?_ (lw_meth h4)
  intro w hw
  simp only [List.mem_cons, List.not_mem_nil, or_false] at hw
  rcases hw with e | e | e
  · rw [e]; exact h1
  · rw [e]; exact h2
  · rw [e]; exact h3
/-- the words of a contract for a method WITH HANDLERS (hh: its table) -/
abbrev wsW_ (y : MethodName) (b : ByteArray) (L : Nat) (r : Option FieldType) (hh : List (Nat × Nat × Nat × Nat)) : List Cond := Cond.codeWith y b L r hh :: lw_all
theorem lw_methW {y : MethodName} {b : ByteArray} {L : Nat} {r : Option FieldType} {hh : List (Nat × Nat × Nat × Nat)} (h : Cond.codeWith y b L r hh ∈ lw_all) : GoodIn lw_all (wsW_ y b L r hh) := by
  intro w hw
  rcases List.mem_cons.mp hw with e | e
  · rw [e]
    exact lw_self _ h
  · exact lw_self _ e
/-- any list of words by their places (lw_in), good -/
theorem lw_good {ws : List Cond} (h : ∀ w ∈ ws, w ∈ lw_all) : GoodIn lw_all ws := fun w hw => lw_self w (h w hw)
/-- what a call of a method with handlers asks: vx_cwVW n hts (lw_VW ..), vx_cwSW n hts (lw_SW ..) -/
theorem lw_VW {own : String} {idx : Nat} {C : String} {y : MethodName} {b : ByteArray} {L : Nat} {r : Option FieldType} {hh : List (Nat × Nat × Nat × Nat)} (h1 : Cond.methodLink own idx y ∈ lw_all) (h2 : Cond.instanceMethod y ∈ lw_all) (h3 : Cond.selects C y y ∈ lw_all) (h4 : Cond.initialized C ∈ lw_all) (h5 : Cond.codeWith y b L r hh ∈ lw_all) : GoodIn lw_all (wsV own idx C y (wsW_ y b L r hh)) := by
  refine lw_app ?_ (lw_methW h5)
  intro w hw
  simp only [List.mem_cons, List.not_mem_nil, or_false] at hw
  rcases hw with e | e | e | e
  · rw [e]; exact h1
  · rw [e]; exact h2
  · rw [e]; exact h3
  · rw [e]; exact h4
theorem lw_SW {own : String} {idx : Nat} {y : MethodName} {b : ByteArray} {L : Nat} {r : Option FieldType} {hh : List (Nat × Nat × Nat × Nat)} (h1 : Cond.methodLink own idx y ∈ lw_all) (h2 : Cond.static y ∈ lw_all) (h3 : Cond.initialized y.cls ∈ lw_all) (h4 : Cond.codeWith y b L r hh ∈ lw_all) : GoodIn lw_all (va_wsS own idx y (wsW_ y b L r hh)) := by
  refine lw_app ?_ (lw_methW h4)
  intro w hw
  simp only [List.mem_cons, List.not_mem_nil, or_false] at hw
  rcases hw with e | e | e
  · rw [e]; exact h1
  · rw [e]; exact h2
  · rw [e]; exact h3
/-- a word by its place in its run of the tables -/
theorem lw_at {r : List Cond} (hr : ∀ w ∈ r, w ∈ lw_tbl) {w : Cond} (i : Nat) (h : r[i]? = some w) : w ∈ lw_tbl := hr w (List.mem_of_getElem? h)
theorem lw_g {w : Cond} (h : w ∈ lw_tbl) (g : goodWord w = true) : w ∈ lw_all := List.mem_filter.mpr ⟨h, g⟩
theorem lw_ms : ∀ w ∈ k2_sels lw_privs, w ∈ lw_tbl := fun w h => show w ∈ k2_sels lw_privs ++ tables_1 from List.mem_append_left _ h
theorem lw_m1 : ∀ w ∈ tables_1_1, w ∈ lw_tbl := fun w h => show w ∈ k2_sels lw_privs ++ tables_1 from List.mem_append_right (k2_sels lw_privs) (show w ∈ tables_1 from List.mem_append_left _ h)
theorem lw_m2 : ∀ w ∈ tables_1_2, w ∈ lw_tbl := fun w h => show w ∈ k2_sels lw_privs ++ tables_1 from List.mem_append_right (k2_sels lw_privs) (show w ∈ tables_1 from List.mem_append_right _ (List.mem_append_left _ h))
theorem lw_m3 : ∀ w ∈ tables_1_3, w ∈ lw_tbl := fun w h => show w ∈ k2_sels lw_privs ++ tables_1 from List.mem_append_right (k2_sels lw_privs) (show w ∈ tables_1 from List.mem_append_right _ (List.mem_append_right _ (List.mem_append_left _ h)))
theorem lw_m4 : ∀ w ∈ tables_1_4, w ∈ lw_tbl := fun w h => show w ∈ k2_sels lw_privs ++ tables_1 from List.mem_append_right (k2_sels lw_privs) (show w ∈ tables_1 from List.mem_append_right _ (List.mem_append_right _ (List.mem_append_right _ (List.mem_append_left _ h))))
theorem lw_m5 : ∀ w ∈ tables_1_5, w ∈ lw_tbl := fun w h => show w ∈ k2_sels lw_privs ++ tables_1 from List.mem_append_right (k2_sels lw_privs) (show w ∈ tables_1 from List.mem_append_right _ (List.mem_append_right _ (List.mem_append_right _ (List.mem_append_right _ h))))
theorem qs0 : (Cond.selects "DawnEights" ⟨"DawnEights", "made", "(II)LDawnEights$Oar;"⟩ ⟨"DawnEights", "made", "(II)LDawnEights$Oar;"⟩) ∈ lw_all := lw_g (lw_at lw_ms 0 rfl) rfl
theorem qs1 : (Cond.selects "DawnEights" ⟨"DawnEights", "isOar", "(I)Z"⟩ ⟨"DawnEights", "isOar", "(I)Z"⟩) ∈ lw_all := lw_g (lw_at lw_ms 1 rfl) rfl
theorem qs2 : (Cond.selects "DawnEights" ⟨"DawnEights", "isSeat", "(II)Z"⟩ ⟨"DawnEights", "isSeat", "(II)Z"⟩) ∈ lw_all := lw_g (lw_at lw_ms 2 rfl) rfl
theorem qs3 : (Cond.selects "DawnEights" ⟨"DawnEights", "isBoat", "(I)Z"⟩ ⟨"DawnEights", "isBoat", "(I)Z"⟩) ∈ lw_all := lw_g (lw_at lw_ms 3 rfl) rfl
theorem qs4 : (Cond.selects "DawnEights" ⟨"DawnEights", "leaves", "(I)V"⟩ ⟨"DawnEights", "leaves", "(I)V"⟩) ∈ lw_all := lw_g (lw_at lw_ms 4 rfl) rfl
theorem qs5 : (Cond.selects "DawnEights" ⟨"DawnEights", "findParts", "()V"⟩ ⟨"DawnEights", "findParts", "()V"⟩) ∈ lw_all := lw_g (lw_at lw_ms 5 rfl) rfl
theorem qs6 : (Cond.selects "DawnEights" ⟨"DawnEights", "isBig", "(I)Z"⟩ ⟨"DawnEights", "isBig", "(I)Z"⟩) ∈ lw_all := lw_g (lw_at lw_ms 6 rfl) rfl
theorem qs7 : (Cond.selects "DawnEights" ⟨"DawnEights", "layOut", "(I)V"⟩ ⟨"DawnEights", "layOut", "(I)V"⟩) ∈ lw_all := lw_g (lw_at lw_ms 7 rfl) rfl
theorem qs8 : (Cond.selects "DawnEights" ⟨"DawnEights", "add", "(III)V"⟩ ⟨"DawnEights", "add", "(III)V"⟩) ∈ lw_all := lw_g (lw_at lw_ms 8 rfl) rfl
theorem qs9 : (Cond.selects "DawnEights" ⟨"DawnEights", "solve", "()V"⟩ ⟨"DawnEights", "solve", "()V"⟩) ∈ lw_all := lw_g (lw_at lw_ms 9 rfl) rfl
theorem qs10 : (Cond.selects "DawnEights" ⟨"DawnEights", "strengthOf", "(I)J"⟩ ⟨"DawnEights", "strengthOf", "(I)J"⟩) ∈ lw_all := lw_g (lw_at lw_ms 10 rfl) rfl
theorem qs11 : (Cond.selects "DawnEights" ⟨"DawnEights", "workOut", "(LDawnEights$Boat;)V"⟩ ⟨"DawnEights", "workOut", "(LDawnEights$Boat;)V"⟩) ∈ lw_all := lw_g (lw_at lw_ms 11 rfl) rfl
theorem qs12 : (Cond.selects "DawnEights" ⟨"DawnEights", "mayCome", "(LDawnEights$Boat;I)Z"⟩ ⟨"DawnEights", "mayCome", "(LDawnEights$Boat;I)Z"⟩) ∈ lw_all := lw_g (lw_at lw_ms 12 rfl) rfl
theorem qs13 : (Cond.selects "DawnEights" ⟨"DawnEights", "costOf", "(LDawnEights$Boat;II)I"⟩ ⟨"DawnEights", "costOf", "(LDawnEights$Boat;II)I"⟩) ∈ lw_all := lw_g (lw_at lw_ms 13 rfl) rfl
theorem qs14 : (Cond.selects "DawnEights" ⟨"DawnEights", "read", "(LDawnEights$Rule;)V"⟩ ⟨"DawnEights", "read", "(LDawnEights$Rule;)V"⟩) ∈ lw_all := lw_g (lw_at lw_ms 14 rfl) rfl
theorem qs15 : (Cond.selects "DawnEights" ⟨"DawnEights", "now", "()I"⟩ ⟨"DawnEights", "now", "()I"⟩) ∈ lw_all := lw_g (lw_at lw_ms 15 rfl) rfl
theorem qs16 : (Cond.selects "DawnEights" ⟨"DawnEights", "signs", "(Ljava/lang/String;)V"⟩ ⟨"DawnEights", "signs", "(Ljava/lang/String;)V"⟩) ∈ lw_all := lw_g (lw_at lw_ms 16 rfl) rfl
theorem qs17 : (Cond.selects "DawnEights" ⟨"DawnEights", "word", "([Ljava/lang/String;I)I"⟩ ⟨"DawnEights", "word", "([Ljava/lang/String;I)I"⟩) ∈ lw_all := lw_g (lw_at lw_ms 17 rfl) rfl
theorem qs18 : (Cond.selects "DawnEights" ⟨"DawnEights", "test", "(LDawnEights$Rule;)V"⟩ ⟨"DawnEights", "test", "(LDawnEights$Rule;)V"⟩) ∈ lw_all := lw_g (lw_at lw_ms 18 rfl) rfl
theorem qs19 : (Cond.selects "DawnEights" ⟨"DawnEights", "ruling", "(LDawnEights$Boat;I)I"⟩ ⟨"DawnEights", "ruling", "(LDawnEights$Boat;I)I"⟩) ∈ lw_all := lw_g (lw_at lw_ms 19 rfl) rfl
theorem qs20 : (Cond.selects "DawnEights$Rule" ⟨"DawnEights$Rule", "value", "(ILDawnEights$Boat;I)I"⟩ ⟨"DawnEights$Rule", "value", "(ILDawnEights$Boat;I)I"⟩) ∈ lw_all := lw_g (lw_at lw_ms 20 rfl) rfl
theorem qs21 : (Cond.selects "DawnEights" ⟨"DawnEights", "hasYoung", "(LDawnEights$Boat;)Z"⟩ ⟨"DawnEights", "hasYoung", "(LDawnEights$Boat;)Z"⟩) ∈ lw_all := lw_g (lw_at lw_ms 21 rfl) rfl
theorem qs22 : (Cond.selects "DawnEights" ⟨"DawnEights", "mayGo", "(II)I"⟩ ⟨"DawnEights", "mayGo", "(II)I"⟩) ∈ lw_all := lw_g (lw_at lw_ms 22 rfl) rfl
theorem qs23 : (Cond.selects "DawnEights" ⟨"DawnEights", "ashore", "(LDawnEights$Boat;I)I"⟩ ⟨"DawnEights", "ashore", "(LDawnEights$Boat;I)I"⟩) ∈ lw_all := lw_g (lw_at lw_ms 23 rfl) rfl
theorem qs24 : (Cond.selects "DawnEights" ⟨"DawnEights", "mean", "(LDawnEights$Boat;)I"⟩ ⟨"DawnEights", "mean", "(LDawnEights$Boat;)I"⟩) ∈ lw_all := lw_g (lw_at lw_ms 24 rfl) rfl
theorem qs25 : (Cond.selects "DawnEights" ⟨"DawnEights", "outsBetween", "(III)I"⟩ ⟨"DawnEights", "outsBetween", "(III)I"⟩) ∈ lw_all := lw_g (lw_at lw_ms 25 rfl) rfl
theorem qs26 : (Cond.selects "DawnEights" ⟨"DawnEights", "clash", "(II)Z"⟩ ⟨"DawnEights", "clash", "(II)Z"⟩) ∈ lw_all := lw_g (lw_at lw_ms 26 rfl) rfl
theorem qs27 : (Cond.selects "DawnEights" ⟨"DawnEights", "shares", "(LDawnEights$Boat;LDawnEights$Boat;)Z"⟩ ⟨"DawnEights", "shares", "(LDawnEights$Boat;LDawnEights$Boat;)Z"⟩) ∈ lw_all := lw_g (lw_at lw_ms 27 rfl) rfl
theorem qs28 : (Cond.selects "DawnEightsModel" ⟨"DawnEightsModel", "isOar", "(I)Z"⟩ ⟨"DawnEightsModel", "isOar", "(I)Z"⟩) ∈ lw_all := lw_g (lw_at lw_ms 28 rfl) rfl
theorem qs29 : (Cond.selects "DawnEightsModel" ⟨"DawnEightsModel", "isSeat", "(II)Z"⟩ ⟨"DawnEightsModel", "isSeat", "(II)Z"⟩) ∈ lw_all := lw_g (lw_at lw_ms 29 rfl) rfl
theorem qs30 : (Cond.selects "DawnEightsModel" ⟨"DawnEightsModel", "isBoat", "(I)Z"⟩ ⟨"DawnEightsModel", "isBoat", "(I)Z"⟩) ∈ lw_all := lw_g (lw_at lw_ms 30 rfl) rfl
theorem qs31 : (Cond.selects "DawnEightsModel" ⟨"DawnEightsModel", "seatsOf", "(I)I"⟩ ⟨"DawnEightsModel", "seatsOf", "(I)I"⟩) ∈ lw_all := lw_g (lw_at lw_ms 31 rfl) rfl
theorem qs32 : (Cond.selects "DawnEightsModel" ⟨"DawnEightsModel", "hasCox", "(I)Z"⟩ ⟨"DawnEightsModel", "hasCox", "(I)Z"⟩) ∈ lw_all := lw_g (lw_at lw_ms 32 rfl) rfl
theorem qs33 : (Cond.selects "DawnEightsModel" ⟨"DawnEightsModel", "sitter", "(II)I"⟩ ⟨"DawnEightsModel", "sitter", "(II)I"⟩) ∈ lw_all := lw_g (lw_at lw_ms 33 rfl) rfl
theorem qs34 : (Cond.selects "DawnEightsModel" ⟨"DawnEightsModel", "findGroups", "()V"⟩ ⟨"DawnEightsModel", "findGroups", "()V"⟩) ∈ lw_all := lw_g (lw_at lw_ms 34 rfl) rfl
theorem qs35 : (Cond.selects "DawnEightsModel" ⟨"DawnEightsModel", "solves", "(I)Z"⟩ ⟨"DawnEightsModel", "solves", "(I)Z"⟩) ∈ lw_all := lw_g (lw_at lw_ms 35 rfl) rfl
theorem qs36 : (Cond.selects "DawnEightsModel" ⟨"DawnEightsModel", "tells", "(III)V"⟩ ⟨"DawnEightsModel", "tells", "(III)V"⟩) ∈ lw_all := lw_g (lw_at lw_ms 36 rfl) rfl
theorem qs37 : (Cond.selects "DawnEightsModel" ⟨"DawnEightsModel", "determinant", "(I)J"⟩ ⟨"DawnEightsModel", "determinant", "(I)J"⟩) ∈ lw_all := lw_g (lw_at lw_ms 37 rfl) rfl
theorem qs38 : (Cond.selects "DawnEightsModel" ⟨"DawnEightsModel", "fillCost", "(II)V"⟩ ⟨"DawnEightsModel", "fillCost", "(II)V"⟩) ∈ lw_all := lw_g (lw_at lw_ms 38 rfl) rfl
theorem qs39 : (Cond.selects "DawnEightsModel" ⟨"DawnEightsModel", "canSit", "(III)Z"⟩ ⟨"DawnEightsModel", "canSit", "(III)Z"⟩) ∈ lw_all := lw_g (lw_at lw_ms 39 rfl) rfl
theorem qs40 : (Cond.selects "DawnEightsModel" ⟨"DawnEightsModel", "mayBeOut", "(II)Z"⟩ ⟨"DawnEightsModel", "mayBeOut", "(II)Z"⟩) ∈ lw_all := lw_g (lw_at lw_ms 40 rfl) rfl
theorem qs41 : (Cond.selects "DawnEightsModel" ⟨"DawnEightsModel", "costOf", "(III)I"⟩ ⟨"DawnEightsModel", "costOf", "(III)I"⟩) ∈ lw_all := lw_g (lw_at lw_ms 41 rfl) rfl
theorem qs42 : (Cond.selects "DawnEightsModel" ⟨"DawnEightsModel", "dislikes", "(III)I"⟩ ⟨"DawnEightsModel", "dislikes", "(III)I"⟩) ∈ lw_all := lw_g (lw_at lw_ms 42 rfl) rfl
theorem qs43 : (Cond.selects "DawnEightsModel" ⟨"DawnEightsModel", "parses", "()Z"⟩ ⟨"DawnEightsModel", "parses", "()Z"⟩) ∈ lw_all := lw_g (lw_at lw_ms 43 rfl) rfl
theorem qs44 : (Cond.selects "DawnEightsModel" ⟨"DawnEightsModel", "word", "(II)I"⟩ ⟨"DawnEightsModel", "word", "(II)I"⟩) ∈ lw_all := lw_g (lw_at lw_ms 44 rfl) rfl
theorem qs45 : (Cond.selects "DawnEightsModel" ⟨"DawnEightsModel", "fits", "(II)Z"⟩ ⟨"DawnEightsModel", "fits", "(II)Z"⟩) ∈ lw_all := lw_g (lw_at lw_ms 45 rfl) rfl
theorem qs46 : (Cond.selects "DawnEightsModel" ⟨"DawnEightsModel", "sign", "()I"⟩ ⟨"DawnEightsModel", "sign", "()I"⟩) ∈ lw_all := lw_g (lw_at lw_ms 46 rfl) rfl
theorem qs47 : (Cond.selects "DawnEightsModel" ⟨"DawnEightsModel", "takes", "(I)Z"⟩ ⟨"DawnEightsModel", "takes", "(I)Z"⟩) ∈ lw_all := lw_g (lw_at lw_ms 47 rfl) rfl
theorem qs48 : (Cond.selects "DawnEightsModel" ⟨"DawnEightsModel", "test", "(I)Z"⟩ ⟨"DawnEightsModel", "test", "(I)Z"⟩) ∈ lw_all := lw_g (lw_at lw_ms 48 rfl) rfl
theorem qs49 : (Cond.selects "DawnEightsModel" ⟨"DawnEightsModel", "asked", "(II)I"⟩ ⟨"DawnEightsModel", "asked", "(II)I"⟩) ∈ lw_all := lw_g (lw_at lw_ms 49 rfl) rfl
theorem qs50 : (Cond.selects "DawnEightsModel" ⟨"DawnEightsModel", "isSo", "(III)Z"⟩ ⟨"DawnEightsModel", "isSo", "(III)Z"⟩) ∈ lw_all := lw_g (lw_at lw_ms 50 rfl) rfl
theorem qs51 : (Cond.selects "DawnEightsModel" ⟨"DawnEightsModel", "field", "(III)I"⟩ ⟨"DawnEightsModel", "field", "(III)I"⟩) ∈ lw_all := lw_g (lw_at lw_ms 51 rfl) rfl
theorem qs52 : (Cond.selects "DawnEightsModel" ⟨"DawnEightsModel", "ashore", "(II)I"⟩ ⟨"DawnEightsModel", "ashore", "(II)I"⟩) ∈ lw_all := lw_g (lw_at lw_ms 52 rfl) rfl
theorem qs53 : (Cond.selects "DawnEightsModel" ⟨"DawnEightsModel", "whoIn", "(I)I"⟩ ⟨"DawnEightsModel", "whoIn", "(I)I"⟩) ∈ lw_all := lw_g (lw_at lw_ms 53 rfl) rfl
theorem qs54 : (Cond.selects "DawnEightsModel" ⟨"DawnEightsModel", "clash", "(III)Z"⟩ ⟨"DawnEightsModel", "clash", "(III)Z"⟩) ∈ lw_all := lw_g (lw_at lw_ms 54 rfl) rfl
theorem qs55 : (Cond.selects "DawnEightsModel" ⟨"DawnEightsModel", "longest", "(II)I"⟩ ⟨"DawnEightsModel", "longest", "(II)I"⟩) ∈ lw_all := lw_g (lw_at lw_ms 55 rfl) rfl
