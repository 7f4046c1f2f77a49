set_option maxRecDepth 100000
/-! java/lang/Math -/
def RJ0 : String := "java/lang/Math"
abbrev cJ0_min : ByteArray := prog_12_method_69_code
def yJ0_min : MethodName := ⟨RJ0, "min", "(II)I"⟩
abbrev cJ0_abs : ByteArray := prog_12_method_61_code
def yJ0_abs : MethodName := ⟨RJ0, "abs", "(J)J"⟩
abbrev cJ0_abs_2 : ByteArray := prog_12_method_59_code
def yJ0_abs_2 : MethodName := ⟨RJ0, "abs", "(I)I"⟩
abbrev cJ0_max : ByteArray := prog_12_method_65_code
def yJ0_max : MethodName := ⟨RJ0, "max", "(II)I"⟩
theorem q65 : (Jvm.Cond.initialized "java/lang/Math") ∈ lw_all := lw_g (lw_at lw_m1 9 rfl) rfl
theorem q409 : (Jvm.Cond.static ({ cls := "java/lang/Math", name := "min", desc := "(II)I" } : Jvm.MethodName)) ∈ lw_all := lw_g (lw_at lw_m2 113 rfl) rfl
theorem q410 : (Jvm.Cond.code ({ cls := "java/lang/Math", name := "min", desc := "(II)I" } : Jvm.MethodName) prog_12_method_69_code (2 : Nat) (Option.some Jvm.ClassFile.FieldType.int)) ∈ lw_all := lw_g (lw_at lw_m2 114 rfl) rfl
theorem q446 : (Jvm.Cond.static ({ cls := "java/lang/Math", name := "abs", desc := "(J)J" } : Jvm.MethodName)) ∈ lw_all := lw_g (lw_at lw_m2 150 rfl) rfl
theorem q447 : (Jvm.Cond.code ({ cls := "java/lang/Math", name := "abs", desc := "(J)J" } : Jvm.MethodName) prog_12_method_61_code (2 : Nat) (Option.some Jvm.ClassFile.FieldType.long)) ∈ lw_all := lw_g (lw_at lw_m2 151 rfl) rfl
theorem q729 : (Jvm.Cond.static ({ cls := "java/lang/Math", name := "abs", desc := "(I)I" } : Jvm.MethodName)) ∈ lw_all := lw_g (lw_at lw_m3 193 rfl) rfl
theorem q730 : (Jvm.Cond.code ({ cls := "java/lang/Math", name := "abs", desc := "(I)I" } : Jvm.MethodName) prog_12_method_59_code (1 : Nat) (Option.some Jvm.ClassFile.FieldType.int)) ∈ lw_all := lw_g (lw_at lw_m3 194 rfl) rfl
theorem q744 : (Jvm.Cond.static ({ cls := "java/lang/Math", name := "max", desc := "(II)I" } : Jvm.MethodName)) ∈ lw_all := lw_g (lw_at lw_m3 208 rfl) rfl
theorem q745 : (Jvm.Cond.code ({ cls := "java/lang/Math", name := "max", desc := "(II)I" } : Jvm.MethodName) prog_12_method_65_code (2 : Nat) (Option.some Jvm.ClassFile.FieldType.int)) ∈ lw_all := lw_g (lw_at lw_m3 209 rfl) rfl
/-! java/lang/String -/
def RJ1 : String := "java/lang/String"
abbrev cJ1_length : ByteArray := prog_13_method_54_code
def yJ1_length : MethodName := ⟨RJ1, "length", "()I"⟩
abbrev cJ1_coder : ByteArray := prog_13_method_152_code
def yJ1_coder : MethodName := ⟨RJ1, "coder", "()B"⟩
abbrev cJ1_charAt : ByteArray := prog_13_method_56_code
def yJ1_charAt : MethodName := ⟨RJ1, "charAt", "(I)C"⟩
abbrev cJ1_isLatin1 : ByteArray := prog_13_method_154_code
def yJ1_isLatin1 : MethodName := ⟨RJ1, "isLatin1", "()Z"⟩
abbrev cJ1_checkIndex : ByteArray := prog_13_method_155_code
def yJ1_checkIndex : MethodName := ⟨RJ1, "checkIndex", "(II)V"⟩
theorem q67 : (Jvm.Cond.initialized "java/lang/String") ∈ lw_all := lw_g (lw_at lw_m1 11 rfl) rfl
theorem q575 : (Jvm.Cond.instanceMethod ({ cls := "java/lang/String", name := "length", desc := "()I" } : Jvm.MethodName)) ∈ lw_all := lw_g (lw_at lw_m3 39 rfl) rfl
theorem q576 : (Jvm.Cond.selects "java/lang/String" ({ cls := "java/lang/String", name := "length", desc := "()I" } : Jvm.MethodName) ({ cls := "java/lang/String", name := "length", desc := "()I" } : Jvm.MethodName)) ∈ lw_all := lw_g (lw_at lw_m3 40 rfl) rfl
theorem q577 : (Jvm.Cond.code ({ cls := "java/lang/String", name := "length", desc := "()I" } : Jvm.MethodName) prog_13_method_54_code (1 : Nat) (Option.some Jvm.ClassFile.FieldType.int)) ∈ lw_all := lw_g (lw_at lw_m3 41 rfl) rfl
theorem q578 : (Jvm.Cond.methodLink "java/lang/String" (335 : Nat) ({ cls := "java/lang/String", name := "coder", desc := "()B" } : Jvm.MethodName)) ∈ lw_all := lw_g (lw_at lw_m3 42 rfl) rfl
theorem q579 : (Jvm.Cond.instanceMethod ({ cls := "java/lang/String", name := "coder", desc := "()B" } : Jvm.MethodName)) ∈ lw_all := lw_g (lw_at lw_m3 43 rfl) rfl
theorem q580 : (Jvm.Cond.selects "java/lang/String" ({ cls := "java/lang/String", name := "coder", desc := "()B" } : Jvm.MethodName) ({ cls := "java/lang/String", name := "coder", desc := "()B" } : Jvm.MethodName)) ∈ lw_all := lw_g (lw_at lw_m3 44 rfl) rfl
theorem q581 : (Jvm.Cond.code ({ cls := "java/lang/String", name := "coder", desc := "()B" } : Jvm.MethodName) prog_13_method_152_code (1 : Nat) (Option.some Jvm.ClassFile.FieldType.byte)) ∈ lw_all := lw_g (lw_at lw_m3 45 rfl) rfl
theorem q582 : (Jvm.Cond.fieldLink "java/lang/String" (38 : Nat) "java/lang/String" "COMPACT_STRINGS" "Z") ∈ lw_all := lw_g (lw_at lw_m3 46 rfl) rfl
theorem q583 : (Jvm.Cond.laysStatic "java/lang/String" "COMPACT_STRINGS" "Z") ∈ lw_tbl := lw_at lw_m3 47 rfl
theorem q585 : (Jvm.Cond.instanceMethod ({ cls := "java/lang/String", name := "charAt", desc := "(I)C" } : Jvm.MethodName)) ∈ lw_all := lw_g (lw_at lw_m3 49 rfl) rfl
theorem q586 : (Jvm.Cond.selects "java/lang/String" ({ cls := "java/lang/String", name := "charAt", desc := "(I)C" } : Jvm.MethodName) ({ cls := "java/lang/String", name := "charAt", desc := "(I)C" } : Jvm.MethodName)) ∈ lw_all := lw_g (lw_at lw_m3 50 rfl) rfl
theorem q587 : (Jvm.Cond.code ({ cls := "java/lang/String", name := "charAt", desc := "(I)C" } : Jvm.MethodName) prog_13_method_56_code (2 : Nat) (Option.some Jvm.ClassFile.FieldType.char)) ∈ lw_all := lw_g (lw_at lw_m3 51 rfl) rfl
theorem q588 : (Jvm.Cond.methodLink "java/lang/String" (492 : Nat) ({ cls := "java/lang/String", name := "isLatin1", desc := "()Z" } : Jvm.MethodName)) ∈ lw_all := lw_g (lw_at lw_m3 52 rfl) rfl
theorem q589 : (Jvm.Cond.instanceMethod ({ cls := "java/lang/String", name := "isLatin1", desc := "()Z" } : Jvm.MethodName)) ∈ lw_all := lw_g (lw_at lw_m3 53 rfl) rfl
theorem q590 : (Jvm.Cond.selects "java/lang/String" ({ cls := "java/lang/String", name := "isLatin1", desc := "()Z" } : Jvm.MethodName) ({ cls := "java/lang/String", name := "isLatin1", desc := "()Z" } : Jvm.MethodName)) ∈ lw_all := lw_g (lw_at lw_m3 54 rfl) rfl
theorem q591 : (Jvm.Cond.code ({ cls := "java/lang/String", name := "isLatin1", desc := "()Z" } : Jvm.MethodName) prog_13_method_154_code (1 : Nat) (Option.some Jvm.ClassFile.FieldType.boolean)) ∈ lw_all := lw_g (lw_at lw_m3 55 rfl) rfl
theorem q592 : (Jvm.Cond.methodLink "java/lang/String" (495 : Nat) ({ cls := "java/lang/StringLatin1", name := "charAt", desc := "([BI)C" } : Jvm.MethodName)) ∈ lw_all := lw_g (lw_at lw_m3 56 rfl) rfl
theorem q596 : (Jvm.Cond.static ({ cls := "java/lang/String", name := "checkIndex", desc := "(II)V" } : Jvm.MethodName)) ∈ lw_all := lw_g (lw_at lw_m3 60 rfl) rfl
theorem q597 : (Jvm.Cond.code ({ cls := "java/lang/String", name := "checkIndex", desc := "(II)V" } : Jvm.MethodName) prog_13_method_155_code (2 : Nat) (Option.none : Option Jvm.ClassFile.FieldType)) ∈ lw_all := lw_g (lw_at lw_m3 61 rfl) rfl
theorem q598 : (Jvm.Cond.fieldLink "java/lang/String" (1053 : Nat) "jdk/internal/util/Preconditions" "SIOOBE_FORMATTER" "Ljava/util/function/BiFunction;") ∈ lw_all := lw_g (lw_at lw_m3 62 rfl) rfl
theorem q600 : (Jvm.Cond.methodLink "java/lang/String" (1059 : Nat) ({ cls := "jdk/internal/util/Preconditions", name := "checkIndex", desc := "(IILjava/util/function/BiFunction;)I" } : Jvm.MethodName)) ∈ lw_all := lw_g (lw_at lw_m3 64 rfl) rfl
theorem q603 : (Jvm.Cond.methodLink "java/lang/String" (498 : Nat) ({ cls := "java/lang/StringUTF16", name := "charAt", desc := "([BI)C" } : Jvm.MethodName)) ∈ lw_all := lw_g (lw_at lw_m3 67 rfl) rfl
theorem q1205 : (Jvm.Cond.fieldLink "java/lang/String" (9 : Nat) "java/lang/String" "value" "[B") ∈ lw_all := lw_g (lw_at lw_m5 189 rfl) rfl
theorem q1206 : (Jvm.Cond.fieldLink "java/lang/String" (15 : Nat) "java/lang/String" "coder" "B") ∈ lw_all := lw_g (lw_at lw_m5 190 rfl) rfl
/-! java/lang/StringLatin1 -/
def RJ2 : String := "java/lang/StringLatin1"
abbrev cJ2_charAt : ByteArray := prog_14_method_2_code
def yJ2_charAt : MethodName := ⟨RJ2, "charAt", "([BI)C"⟩
theorem q68 : (Jvm.Cond.initialized "java/lang/StringLatin1") ∈ lw_all := lw_g (lw_at lw_m1 12 rfl) rfl
theorem q593 : (Jvm.Cond.static ({ cls := "java/lang/StringLatin1", name := "charAt", desc := "([BI)C" } : Jvm.MethodName)) ∈ lw_all := lw_g (lw_at lw_m3 57 rfl) rfl
theorem q594 : (Jvm.Cond.code ({ cls := "java/lang/StringLatin1", name := "charAt", desc := "([BI)C" } : Jvm.MethodName) prog_14_method_2_code (2 : Nat) (Option.some Jvm.ClassFile.FieldType.char)) ∈ lw_all := lw_g (lw_at lw_m3 58 rfl) rfl
theorem q595 : (Jvm.Cond.methodLink "java/lang/StringLatin1" (9 : Nat) ({ cls := "java/lang/String", name := "checkIndex", desc := "(II)V" } : Jvm.MethodName)) ∈ lw_all := lw_g (lw_at lw_m3 59 rfl) rfl
/-! jdk/internal/util/Preconditions -/
def RJ3 : String := "jdk/internal/util/Preconditions"
abbrev cJ3_checkIndex : ByteArray := prog_16_method_11_code
def yJ3_checkIndex : MethodName := ⟨RJ3, "checkIndex", "(IILjava/util/function/BiFunction;)I"⟩
theorem q69 : (Jvm.Cond.initialized "jdk/internal/util/Preconditions") ∈ lw_all := lw_g (lw_at lw_m1 13 rfl) rfl
theorem q599 : (Jvm.Cond.laysStatic "jdk/internal/util/Preconditions" "SIOOBE_FORMATTER" "Ljava/util/function/BiFunction;") ∈ lw_tbl := lw_at lw_m3 63 rfl
theorem q601 : (Jvm.Cond.static ({ cls := "jdk/internal/util/Preconditions", name := "checkIndex", desc := "(IILjava/util/function/BiFunction;)I" } : Jvm.MethodName)) ∈ lw_all := lw_g (lw_at lw_m3 65 rfl) rfl
theorem q602 : (Jvm.Cond.code ({ cls := "jdk/internal/util/Preconditions", name := "checkIndex", desc := "(IILjava/util/function/BiFunction;)I" } : Jvm.MethodName) prog_16_method_11_code (3 : Nat) (Option.some Jvm.ClassFile.FieldType.int)) ∈ lw_all := lw_g (lw_at lw_m3 66 rfl) rfl
/-! java/lang/StringUTF16 -/
def RJ4 : String := "java/lang/StringUTF16"
abbrev cJ4_charAt : ByteArray := prog_15_method_83_code
def yJ4_charAt : MethodName := ⟨RJ4, "charAt", "([BI)C"⟩
abbrev cJ4_checkIndex : ByteArray := prog_15_method_91_code
def yJ4_checkIndex : MethodName := ⟨RJ4, "checkIndex", "(I[B)V"⟩
abbrev cJ4_length : ByteArray := prog_15_method_6_code
def yJ4_length : MethodName := ⟨RJ4, "length", "([B)I"⟩
abbrev cJ4_getChar : ByteArray := prog_15_method_5_code
def yJ4_getChar : MethodName := ⟨RJ4, "getChar", "([BI)C"⟩
theorem q70 : (Jvm.Cond.initialized "java/lang/StringUTF16") ∈ lw_all := lw_g (lw_at lw_m1 14 rfl) rfl
theorem q604 : (Jvm.Cond.static ({ cls := "java/lang/StringUTF16", name := "charAt", desc := "([BI)C" } : Jvm.MethodName)) ∈ lw_all := lw_g (lw_at lw_m3 68 rfl) rfl
theorem q605 : (Jvm.Cond.code ({ cls := "java/lang/StringUTF16", name := "charAt", desc := "([BI)C" } : Jvm.MethodName) prog_15_method_83_code (2 : Nat) (Option.some Jvm.ClassFile.FieldType.char)) ∈ lw_all := lw_g (lw_at lw_m3 69 rfl) rfl
theorem q606 : (Jvm.Cond.methodLink "java/lang/StringUTF16" (67 : Nat) ({ cls := "java/lang/StringUTF16", name := "checkIndex", desc := "(I[B)V" } : Jvm.MethodName)) ∈ lw_all := lw_g (lw_at lw_m3 70 rfl) rfl
theorem q607 : (Jvm.Cond.static ({ cls := "java/lang/StringUTF16", name := "checkIndex", desc := "(I[B)V" } : Jvm.MethodName)) ∈ lw_all := lw_g (lw_at lw_m3 71 rfl) rfl
theorem q608 : (Jvm.Cond.code ({ cls := "java/lang/StringUTF16", name := "checkIndex", desc := "(I[B)V" } : Jvm.MethodName) prog_15_method_91_code (2 : Nat) (Option.none : Option Jvm.ClassFile.FieldType)) ∈ lw_all := lw_g (lw_at lw_m3 72 rfl) rfl
theorem q609 : (Jvm.Cond.methodLink "java/lang/StringUTF16" (48 : Nat) ({ cls := "java/lang/StringUTF16", name := "length", desc := "([B)I" } : Jvm.MethodName)) ∈ lw_all := lw_g (lw_at lw_m3 73 rfl) rfl
theorem q610 : (Jvm.Cond.static ({ cls := "java/lang/StringUTF16", name := "length", desc := "([B)I" } : Jvm.MethodName)) ∈ lw_all := lw_g (lw_at lw_m3 74 rfl) rfl
theorem q611 : (Jvm.Cond.code ({ cls := "java/lang/StringUTF16", name := "length", desc := "([B)I" } : Jvm.MethodName) prog_15_method_6_code (1 : Nat) (Option.some Jvm.ClassFile.FieldType.int)) ∈ lw_all := lw_g (lw_at lw_m3 75 rfl) rfl
theorem q612 : (Jvm.Cond.methodLink "java/lang/StringUTF16" (414 : Nat) ({ cls := "java/lang/String", name := "checkIndex", desc := "(II)V" } : Jvm.MethodName)) ∈ lw_all := lw_g (lw_at lw_m3 76 rfl) rfl
theorem q613 : (Jvm.Cond.methodLink "java/lang/StringUTF16" (71 : Nat) ({ cls := "java/lang/StringUTF16", name := "getChar", desc := "([BI)C" } : Jvm.MethodName)) ∈ lw_all := lw_g (lw_at lw_m3 77 rfl) rfl
theorem q614 : (Jvm.Cond.static ({ cls := "java/lang/StringUTF16", name := "getChar", desc := "([BI)C" } : Jvm.MethodName)) ∈ lw_all := lw_g (lw_at lw_m3 78 rfl) rfl
theorem q615 : (Jvm.Cond.code ({ cls := "java/lang/StringUTF16", name := "getChar", desc := "([BI)C" } : Jvm.MethodName) prog_15_method_5_code (2 : Nat) (Option.some Jvm.ClassFile.FieldType.char)) ∈ lw_all := lw_g (lw_at lw_m3 79 rfl) rfl
theorem q616 : (Jvm.Cond.fieldLink "java/lang/StringUTF16" (44 : Nat) "java/lang/StringUTF16" "$assertionsDisabled" "Z") ∈ lw_all := lw_g (lw_at lw_m3 80 rfl) rfl
theorem q617 : (Jvm.Cond.laysStatic "java/lang/StringUTF16" "$assertionsDisabled" "Z") ∈ lw_tbl := lw_at lw_m3 81 rfl
theorem q618 : (Jvm.Cond.fieldLink "java/lang/StringUTF16" (59 : Nat) "java/lang/StringUTF16" "HI_BYTE_SHIFT" "I") ∈ lw_all := lw_g (lw_at lw_m3 82 rfl) rfl
theorem q619 : (Jvm.Cond.laysStatic "java/lang/StringUTF16" "HI_BYTE_SHIFT" "I") ∈ lw_tbl := lw_at lw_m3 83 rfl
theorem q620 : (Jvm.Cond.fieldLink "java/lang/StringUTF16" (63 : Nat) "java/lang/StringUTF16" "LO_BYTE_SHIFT" "I") ∈ lw_all := lw_g (lw_at lw_m3 84 rfl) rfl
theorem q621 : (Jvm.Cond.laysStatic "java/lang/StringUTF16" "LO_BYTE_SHIFT" "I") ∈ lw_tbl := lw_at lw_m3 85 rfl
/-! java/lang/Object -/
def RJ5 : String := "java/lang/Object"
abbrev cJ5_init : ByteArray := object_method_1_code
def yJ5_init : MethodName := ⟨RJ5, "<init>", "()V"⟩
theorem q77 : (Jvm.Cond.instanceMethod ({ cls := "java/lang/Object", name := "<init>", desc := "()V" } : Jvm.MethodName)) ∈ lw_all := lw_g (lw_at lw_m1 21 rfl) rfl
theorem q78 : (Jvm.Cond.code ({ cls := "java/lang/Object", name := "<init>", desc := "()V" } : Jvm.MethodName) object_method_1_code (1 : Nat) (Option.none : Option Jvm.ClassFile.FieldType)) ∈ lw_all := lw_g (lw_at lw_m1 22 rfl) rfl
/-! the law's own entry -/
abbrev cL_law : ByteArray := code
/-! DawnEights -/
def RX0 : String := "DawnEights"
def TX0 : u_T := fun k => match k with
  | 0 => ("DawnEights", "oars", "[LDawnEights$Oar;", true)
  | 1 => ("DawnEights", "boats", "[LDawnEights$Boat;", true)
  | 2 => ("DawnEights", "oarCount", "I", false)
  | 3 => ("DawnEights", "boatCount", "I", false)
  | 4 => ("DawnEights", "day", "I", false)
  | 5 => ("DawnEights", "raceX", "[I", true)
  | 6 => ("DawnEights", "raceY", "[I", true)
  | 7 => ("DawnEights", "raceBy", "[I", true)
  | 8 => ("DawnEights", "part", "[I", true)
  | 9 => ("DawnEights", "index", "[I", true)
  | 10 => ("DawnEights", "races", "I", false)
  | 11 => ("DawnEights", "matrix", "[J", true)
  | 12 => ("DawnEights", "unknowns", "I", false)
  | 13 => ("DawnEights", "below", "J", false)
  | 14 => ("DawnEights", "best", "[I", true)
  | 15 => ("DawnEights", "wantedHour", "I", false)
  | 16 => ("DawnEights", "chosen", "[I", true)
  | 17 => ("DawnEights", "streams", "[I", true)
  | 18 => ("DawnEights", "winds", "[I", true)
  | 19 => ("DawnEights", "rules", "[LDawnEights$Rule;", true)
  | 20 => ("DawnEights", "ruleCount", "I", false)
  | 21 => ("DawnEights", "tape", "[B", true)
  | 22 => ("DawnEights", "taped", "I", false)
  | 23 => ("DawnEights", "place", "I", false)
  | 24 => ("DawnEights", "isWrong", "Z", false)
  | 25 => ("DawnEights", "outBoat", "[I", true)
  | 26 => ("DawnEights", "outDay", "[I", true)
  | 27 => ("DawnEights", "outHour", "[I", true)
  | 28 => ("DawnEights", "outCrew", "[I", true)
  | 29 => ("DawnEights", "lookBoat", "[I", true)
  | 30 => ("DawnEights", "lookAfter", "[I", true)
  | 31 => ("DawnEights", "lookWhole", "[Z", true)
  | 32 => ("DawnEights", "outings", "I", false)
  | 33 => ("DawnEights", "looks", "I", false)
  | 34 => ("DawnEights", "firstOut", "I", false)
  | 35 => ("DawnEights", "heatAt", "[I", true)
  | 36 => ("DawnEights", "heatBoat", "[I", true)
  | 37 => ("DawnEights", "heats", "I", false)
  | 38 => ("DawnEights", "near", "I", false)
  | 39 => ("DawnEights", "racks", "[I", true)
  | 40 => ("DawnEights", "bestWay", "I", false)
  | _ => ("DawnEights", "racked", "I", false)
def tyX0 : Nat → FieldType := fun k => match k with
  | 0 => .array (.object "DawnEights$Oar")
  | 1 => .array (.object "DawnEights$Boat")
  | 2 => .int
  | 3 => .int
  | 4 => .int
  | 5 => .array .int
  | 6 => .array .int
  | 7 => .array .int
  | 8 => .array .int
  | 9 => .array .int
  | 10 => .int
  | 11 => .array .long
  | 12 => .int
  | 13 => .long
  | 14 => .array .int
  | 15 => .int
  | 16 => .array .int
  | 17 => .array .int
  | 18 => .array .int
  | 19 => .array (.object "DawnEights$Rule")
  | 20 => .int
  | 21 => .array .byte
  | 22 => .int
  | 23 => .int
  | 24 => .boolean
  | 25 => .array .int
  | 26 => .array .int
  | 27 => .array .int
  | 28 => .array .int
  | 29 => .array .int
  | 30 => .array .int
  | 31 => .array .boolean
  | 32 => .int
  | 33 => .int
  | 34 => .int
  | 35 => .array .int
  | 36 => .array .int
  | 37 => .int
  | 38 => .int
  | 39 => .array .int
  | 40 => .int
  | _ => .int
abbrev wsX00 : List Cond := u_ws RX0 TX0 42
set_option maxRecDepth 100000 in
theorem nmX0 : ∀ a, a < 42 → ∀ b, b < 42 → a ≠ b → (TX0 a).2.1 ≠ (TX0 b).2.1 := by decide +kernel
set_option maxRecDepth 100000 in
theorem tyX0_ok : ∀ k, k < 42 → parseFieldDescriptor (TX0 k).2.2.1 = some (tyX0 k) := by decide +kernel
abbrev cX0_init : ByteArray := prog_1_method_2_code
def yX0_init : MethodName := ⟨RX0, "<init>", "()V"⟩
abbrev cX0_oar : ByteArray := prog_1_method_7_code
def yX0_oar : MethodName := ⟨RX0, "oar", "(II)I"⟩
abbrev cX0_in : ByteArray := prog_1_method_1_code
def yX0_in : MethodName := ⟨RX0, "in", "(JJJ)Z"⟩
abbrev cX0_made : ByteArray := prog_1_method_6_code
def yX0_made : MethodName := ⟨RX0, "made", "(II)LDawnEights$Oar;"⟩
abbrev cX0_boat : ByteArray := prog_1_method_8_code
def yX0_boat : MethodName := ⟨RX0, "boat", "(IIII)I"⟩
abbrev cX0_ill : ByteArray := prog_1_method_9_code
def yX0_ill : MethodName := ⟨RX0, "ill", "(II)I"⟩
abbrev cX0_isOar : ByteArray := prog_1_method_3_code
def yX0_isOar : MethodName := ⟨RX0, "isOar", "(I)Z"⟩
abbrev cX0_sit : ByteArray := prog_1_method_10_code
def yX0_sit : MethodName := ⟨RX0, "sit", "(III)I"⟩
abbrev cX0_isSeat : ByteArray := prog_1_method_5_code
def yX0_isSeat : MethodName := ⟨RX0, "isSeat", "(II)Z"⟩
abbrev cX0_isBoat : ByteArray := prog_1_method_4_code
def yX0_isBoat : MethodName := ⟨RX0, "isBoat", "(I)Z"⟩
abbrev cX0_leaves : ByteArray := prog_1_method_11_code
def yX0_leaves : MethodName := ⟨RX0, "leaves", "(I)V"⟩
abbrev cX0_seat : ByteArray := prog_1_method_12_code
def yX0_seat : MethodName := ⟨RX0, "seat", "(II)I"⟩
abbrev cX0_about : ByteArray := prog_1_method_13_code
def yX0_about : MethodName := ⟨RX0, "about", "(II)I"⟩
abbrev cX0_race : ByteArray := prog_1_method_17_code
def yX0_race : MethodName := ⟨RX0, "race", "(III)I"⟩
abbrev cX0_unrace : ByteArray := prog_1_method_18_code
def yX0_unrace : MethodName := ⟨RX0, "unrace", "()I"⟩
abbrev cX0_group : ByteArray := prog_1_method_20_code
def yX0_group : MethodName := ⟨RX0, "group", "(I)I"⟩
abbrev cX0_findParts : ByteArray := prog_1_method_19_code
def yX0_findParts : MethodName := ⟨RX0, "findParts", "()V"⟩
abbrev cX0_strength : ByteArray := prog_1_method_29_code
def yX0_strength : MethodName := ⟨RX0, "strength", "(II)J"⟩
abbrev cX0_isBig : ByteArray := prog_1_method_28_code
def yX0_isBig : MethodName := ⟨RX0, "isBig", "(I)Z"⟩
abbrev cX0_layOut : ByteArray := prog_1_method_22_code
def yX0_layOut : MethodName := ⟨RX0, "layOut", "(I)V"⟩
abbrev cX0_add : ByteArray := prog_1_method_23_code
def yX0_add : MethodName := ⟨RX0, "add", "(III)V"⟩
abbrev cX0_at : ByteArray := prog_1_method_21_code
def yX0_at : MethodName := ⟨RX0, "at", "(II)I"⟩
abbrev cX0_solve : ByteArray := prog_1_method_24_code
def yX0_solve : MethodName := ⟨RX0, "solve", "()V"⟩
abbrev cX0_strengthOf : ByteArray := prog_1_method_26_code
def yX0_strengthOf : MethodName := ⟨RX0, "strengthOf", "(I)J"⟩
abbrev cX0_told : ByteArray := prog_1_method_27_code
def yX0_told : MethodName := ⟨RX0, "told", "(JJI)J"⟩
abbrev cX0_divisor : ByteArray := prog_1_method_25_code
def yX0_divisor : MethodName := ⟨RX0, "divisor", "(JJ)J"⟩
abbrev cX0_between : ByteArray := prog_1_method_30_code
def yX0_between : MethodName := ⟨RX0, "between", "(III)J"⟩
abbrev cX0_misfit : ByteArray := prog_1_method_31_code
def yX0_misfit : MethodName := ⟨RX0, "misfit", "(II)J"⟩
abbrev cX0_sure : ByteArray := prog_1_method_32_code
def yX0_sure : MethodName := ⟨RX0, "sure", "(II)I"⟩
abbrev cX0_crew : ByteArray := prog_1_method_36_code
def yX0_crew : MethodName := ⟨RX0, "crew", "(III)I"⟩
abbrev cX0_workOut : ByteArray := prog_1_method_35_code
def yX0_workOut : MethodName := ⟨RX0, "workOut", "(LDawnEights$Boat;)V"⟩
abbrev cX0_mayCome : ByteArray := prog_1_method_34_code
def yX0_mayCome : MethodName := ⟨RX0, "mayCome", "(LDawnEights$Boat;I)Z"⟩
abbrev cX0_costOf : ByteArray := prog_1_method_33_code
def yX0_costOf : MethodName := ⟨RX0, "costOf", "(LDawnEights$Boat;II)I"⟩
abbrev cX0_water : ByteArray := prog_1_method_37_code
def yX0_water : MethodName := ⟨RX0, "water", "(III)I"⟩
abbrev cX0_feed : ByteArray := prog_1_method_38_code
def yX0_feed : MethodName := ⟨RX0, "feed", "(JI)I"⟩
abbrev cX0_rule : ByteArray := prog_1_method_44_code
def yX0_rule : MethodName := ⟨RX0, "rule", "()I"⟩
abbrev cX0_read : ByteArray := prog_1_method_43_code
def yX0_read : MethodName := ⟨RX0, "read", "(LDawnEights$Rule;)V"⟩
abbrev cX0_now : ByteArray := prog_1_method_39_code
def yX0_now : MethodName := ⟨RX0, "now", "()I"⟩
abbrev cX0_signs : ByteArray := prog_1_method_40_code
def yX0_signs : MethodName := ⟨RX0, "signs", "(Ljava/lang/String;)V"⟩
abbrev cX0_word : ByteArray := prog_1_method_41_code
def yX0_word : MethodName := ⟨RX0, "word", "([Ljava/lang/String;I)I"⟩
abbrev cX0_test : ByteArray := prog_1_method_42_code
def yX0_test : MethodName := ⟨RX0, "test", "(LDawnEights$Rule;)V"⟩
abbrev cX0_ruled : ByteArray := prog_1_method_46_code
def yX0_ruled : MethodName := ⟨RX0, "ruled", "(II)I"⟩
abbrev cX0_ruling : ByteArray := prog_1_method_45_code
def yX0_ruling : MethodName := ⟨RX0, "ruling", "(LDawnEights$Boat;I)I"⟩
abbrev cX0_hasYoung : ByteArray := prog_1_method_16_code
def yX0_hasYoung : MethodName := ⟨RX0, "hasYoung", "(LDawnEights$Boat;)Z"⟩
abbrev cX0_may : ByteArray := prog_1_method_48_code
def yX0_may : MethodName := ⟨RX0, "may", "(II)I"⟩
abbrev cX0_mayGo : ByteArray := prog_1_method_47_code
def yX0_mayGo : MethodName := ⟨RX0, "mayGo", "(II)I"⟩
abbrev cX0_ashore : ByteArray := prog_1_method_15_code
def yX0_ashore : MethodName := ⟨RX0, "ashore", "(LDawnEights$Boat;I)I"⟩
abbrev cX0_mean : ByteArray := prog_1_method_14_code
def yX0_mean : MethodName := ⟨RX0, "mean", "(LDawnEights$Boat;)I"⟩
abbrev cX0_day : ByteArray := prog_1_method_49_code
def yX0_day : MethodName := ⟨RX0, "day", "(I)I"⟩
abbrev cX0_out : ByteArray := prog_1_method_50_code
def yX0_out : MethodName := ⟨RX0, "out", "(II)I"⟩
abbrev cX0_look : ByteArray := prog_1_method_51_code
def yX0_look : MethodName := ⟨RX0, "look", "(II)I"⟩
abbrev cX0_broke : ByteArray := prog_1_method_53_code
def yX0_broke : MethodName := ⟨RX0, "broke", "(II)I"⟩
abbrev cX0_outsBetween : ByteArray := prog_1_method_52_code
def yX0_outsBetween : MethodName := ⟨RX0, "outsBetween", "(III)I"⟩
abbrev cX0_outing : ByteArray := prog_1_method_54_code
def yX0_outing : MethodName := ⟨RX0, "outing", "(II)I"⟩
abbrev cX0_heat : ByteArray := prog_1_method_55_code
def yX0_heat : MethodName := ⟨RX0, "heat", "(II)I"⟩
abbrev cX0_near : ByteArray := prog_1_method_56_code
def yX0_near : MethodName := ⟨RX0, "near", "(I)I"⟩
abbrev cX0_clashes : ByteArray := prog_1_method_59_code
def yX0_clashes : MethodName := ⟨RX0, "clashes", "()I"⟩
abbrev cX0_clash : ByteArray := prog_1_method_58_code
def yX0_clash : MethodName := ⟨RX0, "clash", "(II)Z"⟩
abbrev cX0_shares : ByteArray := prog_1_method_57_code
def yX0_shares : MethodName := ⟨RX0, "shares", "(LDawnEights$Boat;LDawnEights$Boat;)Z"⟩
abbrev cX0_shift : ByteArray := prog_1_method_60_code
def yX0_shift : MethodName := ⟨RX0, "shift", "(I)I"⟩
abbrev cX0_trailer : ByteArray := prog_1_method_61_code
def yX0_trailer : MethodName := ⟨RX0, "trailer", "(II)I"⟩
abbrev cX0_rack : ByteArray := prog_1_method_62_code
def yX0_rack : MethodName := ⟨RX0, "rack", "(I)I"⟩
abbrev cX0_count : ByteArray := prog_1_method_63_code
def yX0_count : MethodName := ⟨RX0, "count", "(I)I"⟩
theorem q57 : (Jvm.Cond.initialized "DawnEights") ∈ lw_all := lw_g (lw_at lw_m1 1 rfl) rfl
theorem q72 : (Jvm.Cond.instantiable "DawnEights" (42 : Nat)) ∈ lw_all := lw_g (lw_at lw_m1 16 rfl) rfl
theorem q74 : (Jvm.Cond.instanceMethod ({ cls := "DawnEights", name := "<init>", desc := "()V" } : Jvm.MethodName)) ∈ lw_all := lw_g (lw_at lw_m1 18 rfl) rfl
theorem q75 : (Jvm.Cond.code ({ cls := "DawnEights", name := "<init>", desc := "()V" } : Jvm.MethodName) prog_1_method_2_code (1 : Nat) (Option.none : Option Jvm.ClassFile.FieldType)) ∈ lw_all := lw_g (lw_at lw_m1 19 rfl) rfl
theorem q76 : (Jvm.Cond.methodLink "DawnEights" (3 : Nat) ({ cls := "java/lang/Object", name := "<init>", desc := "()V" } : Jvm.MethodName)) ∈ lw_all := lw_g (lw_at lw_m1 20 rfl) rfl
theorem q79 : (Jvm.Cond.classLink "DawnEights" (11 : Nat) "DawnEights$Oar") ∈ lw_all := lw_g (lw_at lw_m1 23 rfl) rfl
theorem q81 : (Jvm.Cond.classLink "DawnEights" (17 : Nat) "DawnEights$Boat") ∈ lw_all := lw_g (lw_at lw_m1 25 rfl) rfl
theorem q83 : (Jvm.Cond.classLink "DawnEights" (55 : Nat) "DawnEights$Rule") ∈ lw_all := lw_g (lw_at lw_m1 27 rfl) rfl
theorem q85 : (Jvm.Cond.fieldLink "DawnEights" (13 : Nat) "DawnEights" "oars" "[LDawnEights$Oar;") ∈ lw_all := lw_g (lw_at lw_m1 29 rfl) rfl
theorem q86 : (Jvm.Cond.fieldLink "DawnEights" (19 : Nat) "DawnEights" "boats" "[LDawnEights$Boat;") ∈ lw_all := lw_g (lw_at lw_m1 30 rfl) rfl
theorem q87 : (Jvm.Cond.fieldLink "DawnEights" (100 : Nat) "DawnEights" "oarCount" "I") ∈ lw_all := lw_g (lw_at lw_m1 31 rfl) rfl
theorem q88 : (Jvm.Cond.fieldLink "DawnEights" (107 : Nat) "DawnEights" "boatCount" "I") ∈ lw_all := lw_g (lw_at lw_m1 32 rfl) rfl
theorem q90 : (Jvm.Cond.fieldLink "DawnEights" (385 : Nat) "DawnEights" "day" "I") ∈ lw_all := lw_g (lw_at lw_m1 34 rfl) rfl
theorem q91 : (Jvm.Cond.fieldLink "DawnEights" (23 : Nat) "DawnEights" "raceX" "[I") ∈ lw_all := lw_g (lw_at lw_m1 35 rfl) rfl
theorem q92 : (Jvm.Cond.fieldLink "DawnEights" (27 : Nat) "DawnEights" "raceY" "[I") ∈ lw_all := lw_g (lw_at lw_m1 36 rfl) rfl
theorem q93 : (Jvm.Cond.fieldLink "DawnEights" (30 : Nat) "DawnEights" "raceBy" "[I") ∈ lw_all := lw_g (lw_at lw_m1 37 rfl) rfl
theorem q94 : (Jvm.Cond.fieldLink "DawnEights" (33 : Nat) "DawnEights" "part" "[I") ∈ lw_all := lw_g (lw_at lw_m1 38 rfl) rfl
theorem q95 : (Jvm.Cond.fieldLink "DawnEights" (36 : Nat) "DawnEights" "index" "[I") ∈ lw_all := lw_g (lw_at lw_m1 39 rfl) rfl
theorem q96 : (Jvm.Cond.fieldLink "DawnEights" (207 : Nat) "DawnEights" "races" "I") ∈ lw_all := lw_g (lw_at lw_m1 40 rfl) rfl
theorem q97 : (Jvm.Cond.fieldLink "DawnEights" (39 : Nat) "DawnEights" "matrix" "[J") ∈ lw_all := lw_g (lw_at lw_m1 41 rfl) rfl
theorem q98 : (Jvm.Cond.fieldLink "DawnEights" (219 : Nat) "DawnEights" "unknowns" "I") ∈ lw_all := lw_g (lw_at lw_m1 42 rfl) rfl
theorem q99 : (Jvm.Cond.fieldLink "DawnEights" (228 : Nat) "DawnEights" "below" "J") ∈ lw_all := lw_g (lw_at lw_m1 43 rfl) rfl
theorem q100 : (Jvm.Cond.fieldLink "DawnEights" (43 : Nat) "DawnEights" "best" "[I") ∈ lw_all := lw_g (lw_at lw_m1 44 rfl) rfl
theorem q101 : (Jvm.Cond.fieldLink "DawnEights" (265 : Nat) "DawnEights" "wantedHour" "I") ∈ lw_all := lw_g (lw_at lw_m1 45 rfl) rfl
theorem q102 : (Jvm.Cond.fieldLink "DawnEights" (46 : Nat) "DawnEights" "chosen" "[I") ∈ lw_all := lw_g (lw_at lw_m1 46 rfl) rfl
theorem q103 : (Jvm.Cond.fieldLink "DawnEights" (49 : Nat) "DawnEights" "streams" "[I") ∈ lw_all := lw_g (lw_at lw_m1 47 rfl) rfl
theorem q105 : (Jvm.Cond.fieldLink "DawnEights" (52 : Nat) "DawnEights" "winds" "[I") ∈ lw_all := lw_g (lw_at lw_m1 49 rfl) rfl
theorem q107 : (Jvm.Cond.fieldLink "DawnEights" (57 : Nat) "DawnEights" "rules" "[LDawnEights$Rule;") ∈ lw_all := lw_g (lw_at lw_m1 51 rfl) rfl
theorem q108 : (Jvm.Cond.fieldLink "DawnEights" (363 : Nat) "DawnEights" "ruleCount" "I") ∈ lw_all := lw_g (lw_at lw_m1 52 rfl) rfl
theorem q109 : (Jvm.Cond.fieldLink "DawnEights" (61 : Nat) "DawnEights" "tape" "[B") ∈ lw_all := lw_g (lw_at lw_m1 53 rfl) rfl
theorem q110 : (Jvm.Cond.fieldLink "DawnEights" (291 : Nat) "DawnEights" "taped" "I") ∈ lw_all := lw_g (lw_at lw_m1 54 rfl) rfl
theorem q111 : (Jvm.Cond.fieldLink "DawnEights" (294 : Nat) "DawnEights" "place" "I") ∈ lw_all := lw_g (lw_at lw_m1 55 rfl) rfl
theorem q112 : (Jvm.Cond.fieldLink "DawnEights" (301 : Nat) "DawnEights" "isWrong" "Z") ∈ lw_all := lw_g (lw_at lw_m1 56 rfl) rfl
theorem q113 : (Jvm.Cond.fieldLink "DawnEights" (65 : Nat) "DawnEights" "outBoat" "[I") ∈ lw_all := lw_g (lw_at lw_m1 57 rfl) rfl
theorem q114 : (Jvm.Cond.fieldLink "DawnEights" (68 : Nat) "DawnEights" "outDay" "[I") ∈ lw_all := lw_g (lw_at lw_m1 58 rfl) rfl
theorem q115 : (Jvm.Cond.fieldLink "DawnEights" (71 : Nat) "DawnEights" "outHour" "[I") ∈ lw_all := lw_g (lw_at lw_m1 59 rfl) rfl
theorem q116 : (Jvm.Cond.fieldLink "DawnEights" (74 : Nat) "DawnEights" "outCrew" "[I") ∈ lw_all := lw_g (lw_at lw_m1 60 rfl) rfl
theorem q117 : (Jvm.Cond.fieldLink "DawnEights" (77 : Nat) "DawnEights" "lookBoat" "[I") ∈ lw_all := lw_g (lw_at lw_m1 61 rfl) rfl
theorem q118 : (Jvm.Cond.fieldLink "DawnEights" (80 : Nat) "DawnEights" "lookAfter" "[I") ∈ lw_all := lw_g (lw_at lw_m1 62 rfl) rfl
theorem q119 : (Jvm.Cond.fieldLink "DawnEights" (83 : Nat) "DawnEights" "lookWhole" "[Z") ∈ lw_all := lw_g (lw_at lw_m1 63 rfl) rfl
theorem q120 : (Jvm.Cond.fieldLink "DawnEights" (388 : Nat) "DawnEights" "outings" "I") ∈ lw_all := lw_g (lw_at lw_m1 64 rfl) rfl
theorem q121 : (Jvm.Cond.fieldLink "DawnEights" (391 : Nat) "DawnEights" "looks" "I") ∈ lw_all := lw_g (lw_at lw_m1 65 rfl) rfl
theorem q122 : (Jvm.Cond.fieldLink "DawnEights" (394 : Nat) "DawnEights" "firstOut" "I") ∈ lw_all := lw_g (lw_at lw_m1 66 rfl) rfl
theorem q123 : (Jvm.Cond.fieldLink "DawnEights" (87 : Nat) "DawnEights" "heatAt" "[I") ∈ lw_all := lw_g (lw_at lw_m1 67 rfl) rfl
theorem q124 : (Jvm.Cond.fieldLink "DawnEights" (90 : Nat) "DawnEights" "heatBoat" "[I") ∈ lw_all := lw_g (lw_at lw_m1 68 rfl) rfl
theorem q125 : (Jvm.Cond.fieldLink "DawnEights" (405 : Nat) "DawnEights" "heats" "I") ∈ lw_all := lw_g (lw_at lw_m1 69 rfl) rfl
theorem q126 : (Jvm.Cond.fieldLink "DawnEights" (93 : Nat) "DawnEights" "near" "I") ∈ lw_all := lw_g (lw_at lw_m1 70 rfl) rfl
theorem q127 : (Jvm.Cond.fieldLink "DawnEights" (97 : Nat) "DawnEights" "racks" "[I") ∈ lw_all := lw_g (lw_at lw_m1 71 rfl) rfl
theorem q128 : (Jvm.Cond.fieldLink "DawnEights" (422 : Nat) "DawnEights" "bestWay" "I") ∈ lw_all := lw_g (lw_at lw_m1 72 rfl) rfl
theorem q129 : (Jvm.Cond.fieldLink "DawnEights" (425 : Nat) "DawnEights" "racked" "I") ∈ lw_all := lw_g (lw_at lw_m1 73 rfl) rfl
theorem q130 : (Jvm.Cond.laysFinal "DawnEights" "DawnEights" "oars" "[LDawnEights$Oar;") ∈ lw_all := lw_g (lw_at lw_m1 74 rfl) rfl
theorem q131 : (Jvm.Cond.soleField "DawnEights" "oars") ∈ lw_all := lw_g (lw_at lw_m1 75 rfl) rfl
theorem q132 : (Jvm.Cond.laysFinal "DawnEights" "DawnEights" "boats" "[LDawnEights$Boat;") ∈ lw_all := lw_g (lw_at lw_m1 76 rfl) rfl
theorem q133 : (Jvm.Cond.soleField "DawnEights" "boats") ∈ lw_all := lw_g (lw_at lw_m1 77 rfl) rfl
theorem q134 : (Jvm.Cond.lays "DawnEights" "DawnEights" "oarCount" "I") ∈ lw_all := lw_g (lw_at lw_m1 78 rfl) rfl
theorem q135 : (Jvm.Cond.soleField "DawnEights" "oarCount") ∈ lw_all := lw_g (lw_at lw_m1 79 rfl) rfl
theorem q136 : (Jvm.Cond.lays "DawnEights" "DawnEights" "boatCount" "I") ∈ lw_all := lw_g (lw_at lw_m1 80 rfl) rfl
theorem q137 : (Jvm.Cond.soleField "DawnEights" "boatCount") ∈ lw_all := lw_g (lw_at lw_m1 81 rfl) rfl
theorem q138 : (Jvm.Cond.lays "DawnEights" "DawnEights" "day" "I") ∈ lw_all := lw_g (lw_at lw_m1 82 rfl) rfl
theorem q139 : (Jvm.Cond.soleField "DawnEights" "day") ∈ lw_all := lw_g (lw_at lw_m1 83 rfl) rfl
theorem q140 : (Jvm.Cond.laysFinal "DawnEights" "DawnEights" "raceX" "[I") ∈ lw_all := lw_g (lw_at lw_m1 84 rfl) rfl
theorem q141 : (Jvm.Cond.soleField "DawnEights" "raceX") ∈ lw_all := lw_g (lw_at lw_m1 85 rfl) rfl
theorem q142 : (Jvm.Cond.laysFinal "DawnEights" "DawnEights" "raceY" "[I") ∈ lw_all := lw_g (lw_at lw_m1 86 rfl) rfl
theorem q143 : (Jvm.Cond.soleField "DawnEights" "raceY") ∈ lw_all := lw_g (lw_at lw_m1 87 rfl) rfl
theorem q144 : (Jvm.Cond.laysFinal "DawnEights" "DawnEights" "raceBy" "[I") ∈ lw_all := lw_g (lw_at lw_m1 88 rfl) rfl
theorem q145 : (Jvm.Cond.soleField "DawnEights" "raceBy") ∈ lw_all := lw_g (lw_at lw_m1 89 rfl) rfl
theorem q146 : (Jvm.Cond.laysFinal "DawnEights" "DawnEights" "part" "[I") ∈ lw_all := lw_g (lw_at lw_m1 90 rfl) rfl
theorem q147 : (Jvm.Cond.soleField "DawnEights" "part") ∈ lw_all := lw_g (lw_at lw_m1 91 rfl) rfl
theorem q148 : (Jvm.Cond.laysFinal "DawnEights" "DawnEights" "index" "[I") ∈ lw_all := lw_g (lw_at lw_m1 92 rfl) rfl
theorem q149 : (Jvm.Cond.soleField "DawnEights" "index") ∈ lw_all := lw_g (lw_at lw_m1 93 rfl) rfl
theorem q150 : (Jvm.Cond.lays "DawnEights" "DawnEights" "races" "I") ∈ lw_all := lw_g (lw_at lw_m1 94 rfl) rfl
theorem q151 : (Jvm.Cond.soleField "DawnEights" "races") ∈ lw_all := lw_g (lw_at lw_m1 95 rfl) rfl
theorem q152 : (Jvm.Cond.laysFinal "DawnEights" "DawnEights" "matrix" "[J") ∈ lw_all := lw_g (lw_at lw_m1 96 rfl) rfl
theorem q153 : (Jvm.Cond.soleField "DawnEights" "matrix") ∈ lw_all := lw_g (lw_at lw_m1 97 rfl) rfl
theorem q154 : (Jvm.Cond.lays "DawnEights" "DawnEights" "unknowns" "I") ∈ lw_all := lw_g (lw_at lw_m1 98 rfl) rfl
theorem q155 : (Jvm.Cond.soleField "DawnEights" "unknowns") ∈ lw_all := lw_g (lw_at lw_m1 99 rfl) rfl
theorem q156 : (Jvm.Cond.lays "DawnEights" "DawnEights" "below" "J") ∈ lw_all := lw_g (lw_at lw_m1 100 rfl) rfl
theorem q157 : (Jvm.Cond.soleField "DawnEights" "below") ∈ lw_all := lw_g (lw_at lw_m1 101 rfl) rfl
theorem q158 : (Jvm.Cond.laysFinal "DawnEights" "DawnEights" "best" "[I") ∈ lw_all := lw_g (lw_at lw_m1 102 rfl) rfl
theorem q159 : (Jvm.Cond.soleField "DawnEights" "best") ∈ lw_all := lw_g (lw_at lw_m1 103 rfl) rfl
theorem q160 : (Jvm.Cond.lays "DawnEights" "DawnEights" "wantedHour" "I") ∈ lw_all := lw_g (lw_at lw_m1 104 rfl) rfl
theorem q161 : (Jvm.Cond.soleField "DawnEights" "wantedHour") ∈ lw_all := lw_g (lw_at lw_m1 105 rfl) rfl
theorem q162 : (Jvm.Cond.laysFinal "DawnEights" "DawnEights" "chosen" "[I") ∈ lw_all := lw_g (lw_at lw_m1 106 rfl) rfl
theorem q163 : (Jvm.Cond.soleField "DawnEights" "chosen") ∈ lw_all := lw_g (lw_at lw_m1 107 rfl) rfl
theorem q164 : (Jvm.Cond.laysFinal "DawnEights" "DawnEights" "streams" "[I") ∈ lw_all := lw_g (lw_at lw_m1 108 rfl) rfl
theorem q165 : (Jvm.Cond.soleField "DawnEights" "streams") ∈ lw_all := lw_g (lw_at lw_m1 109 rfl) rfl
theorem q166 : (Jvm.Cond.laysFinal "DawnEights" "DawnEights" "winds" "[I") ∈ lw_all := lw_g (lw_at lw_m1 110 rfl) rfl
theorem q167 : (Jvm.Cond.soleField "DawnEights" "winds") ∈ lw_all := lw_g (lw_at lw_m1 111 rfl) rfl
theorem q168 : (Jvm.Cond.laysFinal "DawnEights" "DawnEights" "rules" "[LDawnEights$Rule;") ∈ lw_all := lw_g (lw_at lw_m1 112 rfl) rfl
theorem q169 : (Jvm.Cond.soleField "DawnEights" "rules") ∈ lw_all := lw_g (lw_at lw_m1 113 rfl) rfl
theorem q170 : (Jvm.Cond.lays "DawnEights" "DawnEights" "ruleCount" "I") ∈ lw_all := lw_g (lw_at lw_m1 114 rfl) rfl
theorem q171 : (Jvm.Cond.soleField "DawnEights" "ruleCount") ∈ lw_all := lw_g (lw_at lw_m1 115 rfl) rfl
theorem q172 : (Jvm.Cond.laysFinal "DawnEights" "DawnEights" "tape" "[B") ∈ lw_all := lw_g (lw_at lw_m1 116 rfl) rfl
theorem q173 : (Jvm.Cond.soleField "DawnEights" "tape") ∈ lw_all := lw_g (lw_at lw_m1 117 rfl) rfl
theorem q174 : (Jvm.Cond.lays "DawnEights" "DawnEights" "taped" "I") ∈ lw_all := lw_g (lw_at lw_m1 118 rfl) rfl
theorem q175 : (Jvm.Cond.soleField "DawnEights" "taped") ∈ lw_all := lw_g (lw_at lw_m1 119 rfl) rfl
theorem q176 : (Jvm.Cond.lays "DawnEights" "DawnEights" "place" "I") ∈ lw_all := lw_g (lw_at lw_m1 120 rfl) rfl
theorem q177 : (Jvm.Cond.soleField "DawnEights" "place") ∈ lw_all := lw_g (lw_at lw_m1 121 rfl) rfl
theorem q178 : (Jvm.Cond.lays "DawnEights" "DawnEights" "isWrong" "Z") ∈ lw_all := lw_g (lw_at lw_m1 122 rfl) rfl
theorem q179 : (Jvm.Cond.soleField "DawnEights" "isWrong") ∈ lw_all := lw_g (lw_at lw_m1 123 rfl) rfl
theorem q180 : (Jvm.Cond.laysFinal "DawnEights" "DawnEights" "outBoat" "[I") ∈ lw_all := lw_g (lw_at lw_m1 124 rfl) rfl
theorem q181 : (Jvm.Cond.soleField "DawnEights" "outBoat") ∈ lw_all := lw_g (lw_at lw_m1 125 rfl) rfl
theorem q182 : (Jvm.Cond.laysFinal "DawnEights" "DawnEights" "outDay" "[I") ∈ lw_all := lw_g (lw_at lw_m1 126 rfl) rfl
theorem q183 : (Jvm.Cond.soleField "DawnEights" "outDay") ∈ lw_all := lw_g (lw_at lw_m1 127 rfl) rfl
theorem q184 : (Jvm.Cond.laysFinal "DawnEights" "DawnEights" "outHour" "[I") ∈ lw_all := lw_g (lw_at lw_m1 128 rfl) rfl
theorem q185 : (Jvm.Cond.soleField "DawnEights" "outHour") ∈ lw_all := lw_g (lw_at lw_m1 129 rfl) rfl
theorem q186 : (Jvm.Cond.laysFinal "DawnEights" "DawnEights" "outCrew" "[I") ∈ lw_all := lw_g (lw_at lw_m1 130 rfl) rfl
theorem q187 : (Jvm.Cond.soleField "DawnEights" "outCrew") ∈ lw_all := lw_g (lw_at lw_m1 131 rfl) rfl
theorem q188 : (Jvm.Cond.laysFinal "DawnEights" "DawnEights" "lookBoat" "[I") ∈ lw_all := lw_g (lw_at lw_m1 132 rfl) rfl
theorem q189 : (Jvm.Cond.soleField "DawnEights" "lookBoat") ∈ lw_all := lw_g (lw_at lw_m1 133 rfl) rfl
theorem q190 : (Jvm.Cond.laysFinal "DawnEights" "DawnEights" "lookAfter" "[I") ∈ lw_all := lw_g (lw_at lw_m1 134 rfl) rfl
theorem q191 : (Jvm.Cond.soleField "DawnEights" "lookAfter") ∈ lw_all := lw_g (lw_at lw_m1 135 rfl) rfl
theorem q192 : (Jvm.Cond.laysFinal "DawnEights" "DawnEights" "lookWhole" "[Z") ∈ lw_all := lw_g (lw_at lw_m1 136 rfl) rfl
theorem q193 : (Jvm.Cond.soleField "DawnEights" "lookWhole") ∈ lw_all := lw_g (lw_at lw_m1 137 rfl) rfl
theorem q194 : (Jvm.Cond.lays "DawnEights" "DawnEights" "outings" "I") ∈ lw_all := lw_g (lw_at lw_m1 138 rfl) rfl
theorem q195 : (Jvm.Cond.soleField "DawnEights" "outings") ∈ lw_all := lw_g (lw_at lw_m1 139 rfl) rfl
theorem q196 : (Jvm.Cond.lays "DawnEights" "DawnEights" "looks" "I") ∈ lw_all := lw_g (lw_at lw_m1 140 rfl) rfl
theorem q197 : (Jvm.Cond.soleField "DawnEights" "looks") ∈ lw_all := lw_g (lw_at lw_m1 141 rfl) rfl
theorem q198 : (Jvm.Cond.lays "DawnEights" "DawnEights" "firstOut" "I") ∈ lw_all := lw_g (lw_at lw_m1 142 rfl) rfl
theorem q199 : (Jvm.Cond.soleField "DawnEights" "firstOut") ∈ lw_all := lw_g (lw_at lw_m1 143 rfl) rfl
theorem q200 : (Jvm.Cond.laysFinal "DawnEights" "DawnEights" "heatAt" "[I") ∈ lw_all := lw_g (lw_at lw_m1 144 rfl) rfl
theorem q201 : (Jvm.Cond.soleField "DawnEights" "heatAt") ∈ lw_all := lw_g (lw_at lw_m1 145 rfl) rfl
theorem q202 : (Jvm.Cond.laysFinal "DawnEights" "DawnEights" "heatBoat" "[I") ∈ lw_all := lw_g (lw_at lw_m1 146 rfl) rfl
theorem q203 : (Jvm.Cond.soleField "DawnEights" "heatBoat") ∈ lw_all := lw_g (lw_at lw_m1 147 rfl) rfl
theorem q204 : (Jvm.Cond.lays "DawnEights" "DawnEights" "heats" "I") ∈ lw_all := lw_g (lw_at lw_m1 148 rfl) rfl
theorem q205 : (Jvm.Cond.soleField "DawnEights" "heats") ∈ lw_all := lw_g (lw_at lw_m1 149 rfl) rfl
theorem q206 : (Jvm.Cond.lays "DawnEights" "DawnEights" "near" "I") ∈ lw_all := lw_g (lw_at lw_m1 150 rfl) rfl
theorem q207 : (Jvm.Cond.soleField "DawnEights" "near") ∈ lw_all := lw_g (lw_at lw_m1 151 rfl) rfl
theorem q208 : (Jvm.Cond.laysFinal "DawnEights" "DawnEights" "racks" "[I") ∈ lw_all := lw_g (lw_at lw_m1 152 rfl) rfl
theorem q209 : (Jvm.Cond.soleField "DawnEights" "racks") ∈ lw_all := lw_g (lw_at lw_m1 153 rfl) rfl
theorem q210 : (Jvm.Cond.lays "DawnEights" "DawnEights" "bestWay" "I") ∈ lw_all := lw_g (lw_at lw_m1 154 rfl) rfl
theorem q211 : (Jvm.Cond.soleField "DawnEights" "bestWay") ∈ lw_all := lw_g (lw_at lw_m1 155 rfl) rfl
theorem q212 : (Jvm.Cond.lays "DawnEights" "DawnEights" "racked" "I") ∈ lw_all := lw_g (lw_at lw_m1 156 rfl) rfl
theorem q213 : (Jvm.Cond.soleField "DawnEights" "racked") ∈ lw_all := lw_g (lw_at lw_m1 157 rfl) rfl
theorem q214 : (Jvm.Cond.superclass "DawnEights" "java/lang/Object") ∈ lw_all := lw_g (lw_at lw_m1 158 rfl) rfl
theorem q220 : (Jvm.Cond.instanceMethod ({ cls := "DawnEights", name := "oar", desc := "(II)I" } : Jvm.MethodName)) ∈ lw_all := lw_g (lw_at lw_m1 164 rfl) rfl
theorem q221 : (Jvm.Cond.selects "DawnEights" ({ cls := "DawnEights", name := "oar", desc := "(II)I" } : Jvm.MethodName) ({ cls := "DawnEights", name := "oar", desc := "(II)I" } : Jvm.MethodName)) ∈ lw_all := lw_g (lw_at lw_m1 165 rfl) rfl
theorem q222 : (Jvm.Cond.code ({ cls := "DawnEights", name := "oar", desc := "(II)I" } : Jvm.MethodName) prog_1_method_7_code (3 : Nat) (Option.some Jvm.ClassFile.FieldType.int)) ∈ lw_all := lw_g (lw_at lw_m1 166 rfl) rfl
theorem q223 : (Jvm.Cond.constantLong "DawnEights" (138 : Nat) (4 : Int64)) ∈ lw_all := lw_g (lw_at lw_m1 167 rfl) rfl
theorem q224 : (Jvm.Cond.methodLink "DawnEights" (103 : Nat) ({ cls := "DawnEights", name := "in", desc := "(JJJ)Z" } : Jvm.MethodName)) ∈ lw_all := lw_g (lw_at lw_m1 168 rfl) rfl
theorem q225 : (Jvm.Cond.static ({ cls := "DawnEights", name := "in", desc := "(JJJ)Z" } : Jvm.MethodName)) ∈ lw_all := lw_g (lw_at lw_m1 169 rfl) rfl
theorem q226 : (Jvm.Cond.code ({ cls := "DawnEights", name := "in", desc := "(JJJ)Z" } : Jvm.MethodName) prog_1_method_1_code (6 : Nat) (Option.some Jvm.ClassFile.FieldType.boolean)) ∈ lw_all := lw_g (lw_at lw_m1 170 rfl) rfl
theorem q227 : (Jvm.Cond.constantLong "DawnEights" (140 : Nat) (30 : Int64)) ∈ lw_all := lw_g (lw_at lw_m1 171 rfl) rfl
theorem q228 : (Jvm.Cond.constantLong "DawnEights" (142 : Nat) (150 : Int64)) ∈ lw_all := lw_g (lw_at lw_m1 172 rfl) rfl
theorem q229 : (Jvm.Cond.methodLink "DawnEights" (144 : Nat) ({ cls := "DawnEights", name := "made", desc := "(II)LDawnEights$Oar;" } : Jvm.MethodName)) ∈ lw_all := lw_g (lw_at lw_m1 173 rfl) rfl
theorem q230 : (Jvm.Cond.privateMethod ({ cls := "DawnEights", name := "made", desc := "(II)LDawnEights$Oar;" } : Jvm.MethodName)) ∈ lw_tbl := lw_at lw_m1 174 rfl
theorem q231 : (Jvm.Cond.instanceMethod ({ cls := "DawnEights", name := "made", desc := "(II)LDawnEights$Oar;" } : Jvm.MethodName)) ∈ lw_all := lw_g (lw_at lw_m1 175 rfl) rfl
theorem q232 : (Jvm.Cond.code ({ cls := "DawnEights", name := "made", desc := "(II)LDawnEights$Oar;" } : Jvm.MethodName) prog_1_method_6_code (3 : Nat) (Option.some (Jvm.ClassFile.FieldType.object "DawnEights$Oar"))) ∈ lw_all := lw_g (lw_at lw_m1 176 rfl) rfl
theorem q233 : (Jvm.Cond.classLink "DawnEights" (122 : Nat) "DawnEights$Both") ∈ lw_all := lw_g (lw_at lw_m1 177 rfl) rfl
theorem q235 : (Jvm.Cond.methodLink "DawnEights" (124 : Nat) ({ cls := "DawnEights$Both", name := "<init>", desc := "(II)V" } : Jvm.MethodName)) ∈ lw_all := lw_g (lw_at lw_m1 179 rfl) rfl
theorem q244 : (Jvm.Cond.fieldLink "DawnEights" (181 : Nat) "DawnEights$Oar" "weight" "I") ∈ lw_all := lw_g (lw_at lw_m1 188 rfl) rfl
theorem q246 : (Jvm.Cond.fieldLink "DawnEights" (156 : Nat) "DawnEights$Oar" "isIll" "Z") ∈ lw_all := lw_g (lw_at lw_m1 190 rfl) rfl
theorem q254 : (Jvm.Cond.classLink "DawnEights" (127 : Nat) "DawnEights$Sculler") ∈ lw_all := lw_g (lw_at lw_m1 198 rfl) rfl
theorem q256 : (Jvm.Cond.methodLink "DawnEights" (129 : Nat) ({ cls := "DawnEights$Sculler", name := "<init>", desc := "(II)V" } : Jvm.MethodName)) ∈ lw_all := lw_g (lw_at lw_m1 200 rfl) rfl
theorem q264 : (Jvm.Cond.classLink "DawnEights" (130 : Nat) "DawnEights$Young") ∈ lw_all := lw_g (lw_at lw_m1 208 rfl) rfl
theorem q266 : (Jvm.Cond.methodLink "DawnEights" (132 : Nat) ({ cls := "DawnEights$Young", name := "<init>", desc := "(II)V" } : Jvm.MethodName)) ∈ lw_all := lw_g (lw_at lw_m1 210 rfl) rfl
theorem q274 : (Jvm.Cond.classLink "DawnEights" (133 : Nat) "DawnEights$Sweeper") ∈ lw_all := lw_g (lw_at lw_m1 218 rfl) rfl
theorem q276 : (Jvm.Cond.methodLink "DawnEights" (135 : Nat) ({ cls := "DawnEights$Sweeper", name := "<init>", desc := "(III)V" } : Jvm.MethodName)) ∈ lw_all := lw_g (lw_at lw_m1 220 rfl) rfl
theorem q288 : (Jvm.Cond.instanceMethod ({ cls := "DawnEights", name := "boat", desc := "(IIII)I" } : Jvm.MethodName)) ∈ lw_all := lw_g (lw_at lw_m1 232 rfl) rfl
theorem q289 : (Jvm.Cond.selects "DawnEights" ({ cls := "DawnEights", name := "boat", desc := "(IIII)I" } : Jvm.MethodName) ({ cls := "DawnEights", name := "boat", desc := "(IIII)I" } : Jvm.MethodName)) ∈ lw_all := lw_g (lw_at lw_m1 233 rfl) rfl
theorem q290 : (Jvm.Cond.code ({ cls := "DawnEights", name := "boat", desc := "(IIII)I" } : Jvm.MethodName) prog_1_method_8_code (5 : Nat) (Option.some Jvm.ClassFile.FieldType.int)) ∈ lw_all := lw_g (lw_at lw_m1 234 rfl) rfl
theorem q291 : (Jvm.Cond.constantLong "DawnEights" (148 : Nat) (99 : Int64)) ∈ lw_all := lw_g (lw_at lw_m1 235 rfl) rfl
theorem q293 : (Jvm.Cond.methodLink "DawnEights" (150 : Nat) ({ cls := "DawnEights$Boat", name := "<init>", desc := "(IIII)V" } : Jvm.MethodName)) ∈ lw_all := lw_g (lw_at lw_m1 237 rfl) rfl
theorem q300 : (Jvm.Cond.fieldLinkNest "DawnEights" (191 : Nat) "DawnEights$Boat" "least" "I" "DawnEights") ∈ lw_tbl := lw_at lw_m2 4 rfl
theorem q302 : (Jvm.Cond.fieldLinkNest "DawnEights" (194 : Nat) "DawnEights$Boat" "most" "I" "DawnEights") ∈ lw_tbl := lw_at lw_m2 6 rfl
theorem q304 : (Jvm.Cond.fieldLinkNest "DawnEights" (417 : Nat) "DawnEights$Boat" "length" "I" "DawnEights") ∈ lw_tbl := lw_at lw_m2 8 rfl
theorem q306 : (Jvm.Cond.fieldLinkNest "DawnEights" (167 : Nat) "DawnEights$Boat" "crew" "[I" "DawnEights") ∈ lw_tbl := lw_at lw_m2 10 rfl
theorem q307 : (Jvm.Cond.fieldLinkNest "DawnEights" (184 : Nat) "DawnEights$Boat" "isBroken" "Z" "DawnEights") ∈ lw_tbl := lw_at lw_m2 11 rfl
theorem q322 : (Jvm.Cond.instanceMethod ({ cls := "DawnEights", name := "ill", desc := "(II)I" } : Jvm.MethodName)) ∈ lw_all := lw_g (lw_at lw_m2 26 rfl) rfl
theorem q323 : (Jvm.Cond.selects "DawnEights" ({ cls := "DawnEights", name := "ill", desc := "(II)I" } : Jvm.MethodName) ({ cls := "DawnEights", name := "ill", desc := "(II)I" } : Jvm.MethodName)) ∈ lw_all := lw_g (lw_at lw_m2 27 rfl) rfl
theorem q324 : (Jvm.Cond.code ({ cls := "DawnEights", name := "ill", desc := "(II)I" } : Jvm.MethodName) prog_1_method_9_code (4 : Nat) (Option.some Jvm.ClassFile.FieldType.int)) ∈ lw_all := lw_g (lw_at lw_m2 28 rfl) rfl
theorem q325 : (Jvm.Cond.methodLink "DawnEights" (153 : Nat) ({ cls := "DawnEights", name := "isOar", desc := "(I)Z" } : Jvm.MethodName)) ∈ lw_all := lw_g (lw_at lw_m2 29 rfl) rfl
theorem q326 : (Jvm.Cond.privateMethod ({ cls := "DawnEights", name := "isOar", desc := "(I)Z" } : Jvm.MethodName)) ∈ lw_tbl := lw_at lw_m2 30 rfl
theorem q327 : (Jvm.Cond.instanceMethod ({ cls := "DawnEights", name := "isOar", desc := "(I)Z" } : Jvm.MethodName)) ∈ lw_all := lw_g (lw_at lw_m2 31 rfl) rfl
theorem q328 : (Jvm.Cond.code ({ cls := "DawnEights", name := "isOar", desc := "(I)Z" } : Jvm.MethodName) prog_1_method_3_code (2 : Nat) (Option.some Jvm.ClassFile.FieldType.boolean)) ∈ lw_all := lw_g (lw_at lw_m2 32 rfl) rfl
theorem q330 : (Jvm.Cond.instanceMethod ({ cls := "DawnEights", name := "sit", desc := "(III)I" } : Jvm.MethodName)) ∈ lw_all := lw_g (lw_at lw_m2 34 rfl) rfl
theorem q331 : (Jvm.Cond.selects "DawnEights" ({ cls := "DawnEights", name := "sit", desc := "(III)I" } : Jvm.MethodName) ({ cls := "DawnEights", name := "sit", desc := "(III)I" } : Jvm.MethodName)) ∈ lw_all := lw_g (lw_at lw_m2 35 rfl) rfl
theorem q332 : (Jvm.Cond.code ({ cls := "DawnEights", name := "sit", desc := "(III)I" } : Jvm.MethodName) prog_1_method_10_code (5 : Nat) (Option.some Jvm.ClassFile.FieldType.int)) ∈ lw_all := lw_g (lw_at lw_m2 36 rfl) rfl
theorem q333 : (Jvm.Cond.methodLink "DawnEights" (160 : Nat) ({ cls := "DawnEights", name := "isSeat", desc := "(II)Z" } : Jvm.MethodName)) ∈ lw_all := lw_g (lw_at lw_m2 37 rfl) rfl
theorem q334 : (Jvm.Cond.privateMethod ({ cls := "DawnEights", name := "isSeat", desc := "(II)Z" } : Jvm.MethodName)) ∈ lw_tbl := lw_at lw_m2 38 rfl
theorem q335 : (Jvm.Cond.instanceMethod ({ cls := "DawnEights", name := "isSeat", desc := "(II)Z" } : Jvm.MethodName)) ∈ lw_all := lw_g (lw_at lw_m2 39 rfl) rfl
theorem q336 : (Jvm.Cond.code ({ cls := "DawnEights", name := "isSeat", desc := "(II)Z" } : Jvm.MethodName) prog_1_method_5_code (3 : Nat) (Option.some Jvm.ClassFile.FieldType.boolean)) ∈ lw_all := lw_g (lw_at lw_m2 40 rfl) rfl
theorem q337 : (Jvm.Cond.methodLink "DawnEights" (110 : Nat) ({ cls := "DawnEights", name := "isBoat", desc := "(I)Z" } : Jvm.MethodName)) ∈ lw_all := lw_g (lw_at lw_m2 41 rfl) rfl
theorem q338 : (Jvm.Cond.privateMethod ({ cls := "DawnEights", name := "isBoat", desc := "(I)Z" } : Jvm.MethodName)) ∈ lw_tbl := lw_at lw_m2 42 rfl
theorem q339 : (Jvm.Cond.instanceMethod ({ cls := "DawnEights", name := "isBoat", desc := "(I)Z" } : Jvm.MethodName)) ∈ lw_all := lw_g (lw_at lw_m2 43 rfl) rfl
theorem q340 : (Jvm.Cond.code ({ cls := "DawnEights", name := "isBoat", desc := "(I)Z" } : Jvm.MethodName) prog_1_method_4_code (2 : Nat) (Option.some Jvm.ClassFile.FieldType.boolean)) ∈ lw_all := lw_g (lw_at lw_m2 44 rfl) rfl
theorem q341 : (Jvm.Cond.methodLink "DawnEights" (114 : Nat) ({ cls := "DawnEights$Boat", name := "seats", desc := "()I" } : Jvm.MethodName)) ∈ lw_all := lw_g (lw_at lw_m2 45 rfl) rfl
theorem q345 : (Jvm.Cond.methodLink "DawnEights" (118 : Nat) ({ cls := "DawnEights$Boat", name := "hasCox", desc := "()Z" } : Jvm.MethodName)) ∈ lw_all := lw_g (lw_at lw_m2 49 rfl) rfl
theorem q349 : (Jvm.Cond.methodLink "DawnEights" (164 : Nat) ({ cls := "DawnEights$Oar", name := "mayCox", desc := "()Z" } : Jvm.MethodName)) ∈ lw_all := lw_g (lw_at lw_m2 53 rfl) rfl
theorem q357 : (Jvm.Cond.methodLink "DawnEights" (170 : Nat) ({ cls := "DawnEights", name := "leaves", desc := "(I)V" } : Jvm.MethodName)) ∈ lw_all := lw_g (lw_at lw_m2 61 rfl) rfl
theorem q358 : (Jvm.Cond.privateMethod ({ cls := "DawnEights", name := "leaves", desc := "(I)V" } : Jvm.MethodName)) ∈ lw_tbl := lw_at lw_m2 62 rfl
theorem q359 : (Jvm.Cond.instanceMethod ({ cls := "DawnEights", name := "leaves", desc := "(I)V" } : Jvm.MethodName)) ∈ lw_all := lw_g (lw_at lw_m2 63 rfl) rfl
theorem q360 : (Jvm.Cond.code ({ cls := "DawnEights", name := "leaves", desc := "(I)V" } : Jvm.MethodName) prog_1_method_11_code (3 : Nat) (Option.none : Option Jvm.ClassFile.FieldType)) ∈ lw_all := lw_g (lw_at lw_m2 64 rfl) rfl
theorem q361 : (Jvm.Cond.methodLink "DawnEights" (174 : Nat) ({ cls := "DawnEights$Boat", name := "place", desc := "(I)I" } : Jvm.MethodName)) ∈ lw_all := lw_g (lw_at lw_m2 65 rfl) rfl
theorem q366 : (Jvm.Cond.instanceMethod ({ cls := "DawnEights", name := "seat", desc := "(II)I" } : Jvm.MethodName)) ∈ lw_all := lw_g (lw_at lw_m2 70 rfl) rfl
theorem q367 : (Jvm.Cond.selects "DawnEights" ({ cls := "DawnEights", name := "seat", desc := "(II)I" } : Jvm.MethodName) ({ cls := "DawnEights", name := "seat", desc := "(II)I" } : Jvm.MethodName)) ∈ lw_all := lw_g (lw_at lw_m2 71 rfl) rfl
theorem q368 : (Jvm.Cond.code ({ cls := "DawnEights", name := "seat", desc := "(II)I" } : Jvm.MethodName) prog_1_method_12_code (3 : Nat) (Option.some Jvm.ClassFile.FieldType.int)) ∈ lw_all := lw_g (lw_at lw_m2 72 rfl) rfl
theorem q370 : (Jvm.Cond.instanceMethod ({ cls := "DawnEights", name := "about", desc := "(II)I" } : Jvm.MethodName)) ∈ lw_all := lw_g (lw_at lw_m2 74 rfl) rfl
theorem q371 : (Jvm.Cond.selects "DawnEights" ({ cls := "DawnEights", name := "about", desc := "(II)I" } : Jvm.MethodName) ({ cls := "DawnEights", name := "about", desc := "(II)I" } : Jvm.MethodName)) ∈ lw_all := lw_g (lw_at lw_m2 75 rfl) rfl
theorem q372 : (Jvm.Cond.code ({ cls := "DawnEights", name := "about", desc := "(II)I" } : Jvm.MethodName) prog_1_method_13_code (4 : Nat) (Option.some Jvm.ClassFile.FieldType.int)) ∈ lw_all := lw_g (lw_at lw_m2 76 rfl) rfl
theorem q373 : (Jvm.Cond.methodLink "DawnEights" (178 : Nat) ({ cls := "DawnEights$Oar", name := "kind", desc := "()I" } : Jvm.MethodName)) ∈ lw_all := lw_g (lw_at lw_m2 77 rfl) rfl
theorem q391 : (Jvm.Cond.instanceMethod ({ cls := "DawnEights", name := "race", desc := "(III)I" } : Jvm.MethodName)) ∈ lw_all := lw_g (lw_at lw_m2 95 rfl) rfl
theorem q392 : (Jvm.Cond.selects "DawnEights" ({ cls := "DawnEights", name := "race", desc := "(III)I" } : Jvm.MethodName) ({ cls := "DawnEights", name := "race", desc := "(III)I" } : Jvm.MethodName)) ∈ lw_all := lw_g (lw_at lw_m2 96 rfl) rfl
theorem q393 : (Jvm.Cond.code ({ cls := "DawnEights", name := "race", desc := "(III)I" } : Jvm.MethodName) prog_1_method_17_code (4 : Nat) (Option.some Jvm.ClassFile.FieldType.int)) ∈ lw_all := lw_g (lw_at lw_m2 97 rfl) rfl
theorem q394 : (Jvm.Cond.constantLong "DawnEights" (203 : Nat) (-999 : Int64)) ∈ lw_all := lw_g (lw_at lw_m2 98 rfl) rfl
theorem q395 : (Jvm.Cond.constantLong "DawnEights" (205 : Nat) (999 : Int64)) ∈ lw_all := lw_g (lw_at lw_m2 99 rfl) rfl
theorem q397 : (Jvm.Cond.instanceMethod ({ cls := "DawnEights", name := "unrace", desc := "()I" } : Jvm.MethodName)) ∈ lw_all := lw_g (lw_at lw_m2 101 rfl) rfl
theorem q398 : (Jvm.Cond.selects "DawnEights" ({ cls := "DawnEights", name := "unrace", desc := "()I" } : Jvm.MethodName) ({ cls := "DawnEights", name := "unrace", desc := "()I" } : Jvm.MethodName)) ∈ lw_all := lw_g (lw_at lw_m2 102 rfl) rfl
theorem q399 : (Jvm.Cond.code ({ cls := "DawnEights", name := "unrace", desc := "()I" } : Jvm.MethodName) prog_1_method_18_code (1 : Nat) (Option.some Jvm.ClassFile.FieldType.int)) ∈ lw_all := lw_g (lw_at lw_m2 103 rfl) rfl
theorem q401 : (Jvm.Cond.instanceMethod ({ cls := "DawnEights", name := "group", desc := "(I)I" } : Jvm.MethodName)) ∈ lw_all := lw_g (lw_at lw_m2 105 rfl) rfl
theorem q402 : (Jvm.Cond.selects "DawnEights" ({ cls := "DawnEights", name := "group", desc := "(I)I" } : Jvm.MethodName) ({ cls := "DawnEights", name := "group", desc := "(I)I" } : Jvm.MethodName)) ∈ lw_all := lw_g (lw_at lw_m2 106 rfl) rfl
theorem q403 : (Jvm.Cond.code ({ cls := "DawnEights", name := "group", desc := "(I)I" } : Jvm.MethodName) prog_1_method_20_code (2 : Nat) (Option.some Jvm.ClassFile.FieldType.int)) ∈ lw_all := lw_g (lw_at lw_m2 107 rfl) rfl
theorem q404 : (Jvm.Cond.methodLink "DawnEights" (216 : Nat) ({ cls := "DawnEights", name := "findParts", desc := "()V" } : Jvm.MethodName)) ∈ lw_all := lw_g (lw_at lw_m2 108 rfl) rfl
theorem q405 : (Jvm.Cond.privateMethod ({ cls := "DawnEights", name := "findParts", desc := "()V" } : Jvm.MethodName)) ∈ lw_tbl := lw_at lw_m2 109 rfl
theorem q406 : (Jvm.Cond.instanceMethod ({ cls := "DawnEights", name := "findParts", desc := "()V" } : Jvm.MethodName)) ∈ lw_all := lw_g (lw_at lw_m2 110 rfl) rfl
theorem q407 : (Jvm.Cond.code ({ cls := "DawnEights", name := "findParts", desc := "()V" } : Jvm.MethodName) prog_1_method_19_code (4 : Nat) (Option.none : Option Jvm.ClassFile.FieldType)) ∈ lw_all := lw_g (lw_at lw_m2 111 rfl) rfl
theorem q408 : (Jvm.Cond.methodLink "DawnEights" (210 : Nat) ({ cls := "java/lang/Math", name := "min", desc := "(II)I" } : Jvm.MethodName)) ∈ lw_all := lw_g (lw_at lw_m2 112 rfl) rfl
theorem q412 : (Jvm.Cond.instanceMethod ({ cls := "DawnEights", name := "strength", desc := "(II)J" } : Jvm.MethodName)) ∈ lw_all := lw_g (lw_at lw_m2 116 rfl) rfl
theorem q413 : (Jvm.Cond.selects "DawnEights" ({ cls := "DawnEights", name := "strength", desc := "(II)J" } : Jvm.MethodName) ({ cls := "DawnEights", name := "strength", desc := "(II)J" } : Jvm.MethodName)) ∈ lw_all := lw_g (lw_at lw_m2 117 rfl) rfl
theorem q414 : (Jvm.Cond.code ({ cls := "DawnEights", name := "strength", desc := "(II)J" } : Jvm.MethodName) prog_1_method_29_code (3 : Nat) (Option.some Jvm.ClassFile.FieldType.long)) ∈ lw_all := lw_g (lw_at lw_m2 118 rfl) rfl
theorem q415 : (Jvm.Cond.constantLong "DawnEights" (240 : Nat) (-9223372036854775808 : Int64)) ∈ lw_all := lw_g (lw_at lw_m2 119 rfl) rfl
theorem q416 : (Jvm.Cond.methodLink "DawnEights" (242 : Nat) ({ cls := "DawnEights", name := "isBig", desc := "(I)Z" } : Jvm.MethodName)) ∈ lw_all := lw_g (lw_at lw_m2 120 rfl) rfl
theorem q417 : (Jvm.Cond.privateMethod ({ cls := "DawnEights", name := "isBig", desc := "(I)Z" } : Jvm.MethodName)) ∈ lw_tbl := lw_at lw_m2 121 rfl
theorem q418 : (Jvm.Cond.instanceMethod ({ cls := "DawnEights", name := "isBig", desc := "(I)Z" } : Jvm.MethodName)) ∈ lw_all := lw_g (lw_at lw_m2 122 rfl) rfl
theorem q419 : (Jvm.Cond.code ({ cls := "DawnEights", name := "isBig", desc := "(I)Z" } : Jvm.MethodName) prog_1_method_28_code (4 : Nat) (Option.some Jvm.ClassFile.FieldType.boolean)) ∈ lw_all := lw_g (lw_at lw_m2 123 rfl) rfl
theorem q420 : (Jvm.Cond.methodLink "DawnEights" (245 : Nat) ({ cls := "DawnEights", name := "layOut", desc := "(I)V" } : Jvm.MethodName)) ∈ lw_all := lw_g (lw_at lw_m2 124 rfl) rfl
theorem q421 : (Jvm.Cond.privateMethod ({ cls := "DawnEights", name := "layOut", desc := "(I)V" } : Jvm.MethodName)) ∈ lw_tbl := lw_at lw_m2 125 rfl
theorem q422 : (Jvm.Cond.instanceMethod ({ cls := "DawnEights", name := "layOut", desc := "(I)V" } : Jvm.MethodName)) ∈ lw_all := lw_g (lw_at lw_m2 126 rfl) rfl
theorem q423 : (Jvm.Cond.code ({ cls := "DawnEights", name := "layOut", desc := "(I)V" } : Jvm.MethodName) prog_1_method_22_code (3 : Nat) (Option.none : Option Jvm.ClassFile.FieldType)) ∈ lw_all := lw_g (lw_at lw_m2 127 rfl) rfl
theorem q424 : (Jvm.Cond.methodLink "DawnEights" (222 : Nat) ({ cls := "DawnEights", name := "add", desc := "(III)V" } : Jvm.MethodName)) ∈ lw_all := lw_g (lw_at lw_m2 128 rfl) rfl
theorem q425 : (Jvm.Cond.privateMethod ({ cls := "DawnEights", name := "add", desc := "(III)V" } : Jvm.MethodName)) ∈ lw_tbl := lw_at lw_m2 129 rfl
theorem q426 : (Jvm.Cond.instanceMethod ({ cls := "DawnEights", name := "add", desc := "(III)V" } : Jvm.MethodName)) ∈ lw_all := lw_g (lw_at lw_m2 130 rfl) rfl
theorem q427 : (Jvm.Cond.code ({ cls := "DawnEights", name := "add", desc := "(III)V" } : Jvm.MethodName) prog_1_method_23_code (4 : Nat) (Option.none : Option Jvm.ClassFile.FieldType)) ∈ lw_all := lw_g (lw_at lw_m2 131 rfl) rfl
theorem q428 : (Jvm.Cond.methodLink "DawnEights" (225 : Nat) ({ cls := "DawnEights", name := "at", desc := "(II)I" } : Jvm.MethodName)) ∈ lw_all := lw_g (lw_at lw_m2 132 rfl) rfl
theorem q429 : (Jvm.Cond.static ({ cls := "DawnEights", name := "at", desc := "(II)I" } : Jvm.MethodName)) ∈ lw_all := lw_g (lw_at lw_m2 133 rfl) rfl
theorem q430 : (Jvm.Cond.code ({ cls := "DawnEights", name := "at", desc := "(II)I" } : Jvm.MethodName) prog_1_method_21_code (2 : Nat) (Option.some Jvm.ClassFile.FieldType.int)) ∈ lw_all := lw_g (lw_at lw_m2 134 rfl) rfl
theorem q431 : (Jvm.Cond.methodLink "DawnEights" (248 : Nat) ({ cls := "DawnEights", name := "solve", desc := "()V" } : Jvm.MethodName)) ∈ lw_all := lw_g (lw_at lw_m2 135 rfl) rfl
theorem q432 : (Jvm.Cond.privateMethod ({ cls := "DawnEights", name := "solve", desc := "()V" } : Jvm.MethodName)) ∈ lw_tbl := lw_at lw_m2 136 rfl
theorem q433 : (Jvm.Cond.instanceMethod ({ cls := "DawnEights", name := "solve", desc := "()V" } : Jvm.MethodName)) ∈ lw_all := lw_g (lw_at lw_m2 137 rfl) rfl
theorem q434 : (Jvm.Cond.code ({ cls := "DawnEights", name := "solve", desc := "()V" } : Jvm.MethodName) prog_1_method_24_code (10 : Nat) (Option.none : Option Jvm.ClassFile.FieldType)) ∈ lw_all := lw_g (lw_at lw_m2 138 rfl) rfl
theorem q435 : (Jvm.Cond.methodLink "DawnEights" (251 : Nat) ({ cls := "DawnEights", name := "strengthOf", desc := "(I)J" } : Jvm.MethodName)) ∈ lw_all := lw_g (lw_at lw_m2 139 rfl) rfl
theorem q436 : (Jvm.Cond.privateMethod ({ cls := "DawnEights", name := "strengthOf", desc := "(I)J" } : Jvm.MethodName)) ∈ lw_tbl := lw_at lw_m2 140 rfl
theorem q437 : (Jvm.Cond.instanceMethod ({ cls := "DawnEights", name := "strengthOf", desc := "(I)J" } : Jvm.MethodName)) ∈ lw_all := lw_g (lw_at lw_m2 141 rfl) rfl
theorem q438 : (Jvm.Cond.code ({ cls := "DawnEights", name := "strengthOf", desc := "(I)J" } : Jvm.MethodName) prog_1_method_26_code (2 : Nat) (Option.some Jvm.ClassFile.FieldType.long)) ∈ lw_all := lw_g (lw_at lw_m2 142 rfl) rfl
theorem q439 : (Jvm.Cond.methodLink "DawnEights" (255 : Nat) ({ cls := "DawnEights", name := "told", desc := "(JJI)J" } : Jvm.MethodName)) ∈ lw_all := lw_g (lw_at lw_m2 143 rfl) rfl
theorem q440 : (Jvm.Cond.static ({ cls := "DawnEights", name := "told", desc := "(JJI)J" } : Jvm.MethodName)) ∈ lw_all := lw_g (lw_at lw_m2 144 rfl) rfl
theorem q441 : (Jvm.Cond.code ({ cls := "DawnEights", name := "told", desc := "(JJI)J" } : Jvm.MethodName) prog_1_method_27_code (7 : Nat) (Option.some Jvm.ClassFile.FieldType.long)) ∈ lw_all := lw_g (lw_at lw_m2 145 rfl) rfl
theorem q442 : (Jvm.Cond.methodLink "DawnEights" (236 : Nat) ({ cls := "DawnEights", name := "divisor", desc := "(JJ)J" } : Jvm.MethodName)) ∈ lw_all := lw_g (lw_at lw_m2 146 rfl) rfl
theorem q443 : (Jvm.Cond.static ({ cls := "DawnEights", name := "divisor", desc := "(JJ)J" } : Jvm.MethodName)) ∈ lw_all := lw_g (lw_at lw_m2 147 rfl) rfl
theorem q444 : (Jvm.Cond.code ({ cls := "DawnEights", name := "divisor", desc := "(JJ)J" } : Jvm.MethodName) prog_1_method_25_code (10 : Nat) (Option.some Jvm.ClassFile.FieldType.long)) ∈ lw_all := lw_g (lw_at lw_m2 148 rfl) rfl
theorem q445 : (Jvm.Cond.methodLink "DawnEights" (232 : Nat) ({ cls := "java/lang/Math", name := "abs", desc := "(J)J" } : Jvm.MethodName)) ∈ lw_all := lw_g (lw_at lw_m2 149 rfl) rfl
theorem q449 : (Jvm.Cond.instanceMethod ({ cls := "DawnEights", name := "between", desc := "(III)J" } : Jvm.MethodName)) ∈ lw_all := lw_g (lw_at lw_m2 153 rfl) rfl
theorem q450 : (Jvm.Cond.selects "DawnEights" ({ cls := "DawnEights", name := "between", desc := "(III)J" } : Jvm.MethodName) ({ cls := "DawnEights", name := "between", desc := "(III)J" } : Jvm.MethodName)) ∈ lw_all := lw_g (lw_at lw_m2 154 rfl) rfl
theorem q451 : (Jvm.Cond.code ({ cls := "DawnEights", name := "between", desc := "(III)J" } : Jvm.MethodName) prog_1_method_30_code (4 : Nat) (Option.some Jvm.ClassFile.FieldType.long)) ∈ lw_all := lw_g (lw_at lw_m2 155 rfl) rfl
theorem q453 : (Jvm.Cond.instanceMethod ({ cls := "DawnEights", name := "misfit", desc := "(II)J" } : Jvm.MethodName)) ∈ lw_all := lw_g (lw_at lw_m2 157 rfl) rfl
theorem q454 : (Jvm.Cond.selects "DawnEights" ({ cls := "DawnEights", name := "misfit", desc := "(II)J" } : Jvm.MethodName) ({ cls := "DawnEights", name := "misfit", desc := "(II)J" } : Jvm.MethodName)) ∈ lw_all := lw_g (lw_at lw_m2 158 rfl) rfl
theorem q455 : (Jvm.Cond.code ({ cls := "DawnEights", name := "misfit", desc := "(II)J" } : Jvm.MethodName) prog_1_method_31_code (6 : Nat) (Option.some Jvm.ClassFile.FieldType.long)) ∈ lw_all := lw_g (lw_at lw_m2 159 rfl) rfl
theorem q457 : (Jvm.Cond.instanceMethod ({ cls := "DawnEights", name := "sure", desc := "(II)I" } : Jvm.MethodName)) ∈ lw_all := lw_g (lw_at lw_m2 161 rfl) rfl
theorem q458 : (Jvm.Cond.selects "DawnEights" ({ cls := "DawnEights", name := "sure", desc := "(II)I" } : Jvm.MethodName) ({ cls := "DawnEights", name := "sure", desc := "(II)I" } : Jvm.MethodName)) ∈ lw_all := lw_g (lw_at lw_m2 162 rfl) rfl
theorem q459 : (Jvm.Cond.code ({ cls := "DawnEights", name := "sure", desc := "(II)I" } : Jvm.MethodName) prog_1_method_32_code (9 : Nat) (Option.some Jvm.ClassFile.FieldType.int)) ∈ lw_all := lw_g (lw_at lw_m2 163 rfl) rfl
theorem q461 : (Jvm.Cond.instanceMethod ({ cls := "DawnEights", name := "crew", desc := "(III)I" } : Jvm.MethodName)) ∈ lw_all := lw_g (lw_at lw_m2 165 rfl) rfl
theorem q462 : (Jvm.Cond.selects "DawnEights" ({ cls := "DawnEights", name := "crew", desc := "(III)I" } : Jvm.MethodName) ({ cls := "DawnEights", name := "crew", desc := "(III)I" } : Jvm.MethodName)) ∈ lw_all := lw_g (lw_at lw_m2 166 rfl) rfl
theorem q463 : (Jvm.Cond.code ({ cls := "DawnEights", name := "crew", desc := "(III)I" } : Jvm.MethodName) prog_1_method_36_code (11 : Nat) (Option.some Jvm.ClassFile.FieldType.int)) ∈ lw_all := lw_g (lw_at lw_m2 167 rfl) rfl
theorem q464 : (Jvm.Cond.constantLong "DawnEights" (277 : Nat) (23 : Int64)) ∈ lw_all := lw_g (lw_at lw_m2 168 rfl) rfl
theorem q465 : (Jvm.Cond.methodLink "DawnEights" (279 : Nat) ({ cls := "DawnEights", name := "workOut", desc := "(LDawnEights$Boat;)V" } : Jvm.MethodName)) ∈ lw_all := lw_g (lw_at lw_m2 169 rfl) rfl
theorem q466 : (Jvm.Cond.privateMethod ({ cls := "DawnEights", name := "workOut", desc := "(LDawnEights$Boat;)V" } : Jvm.MethodName)) ∈ lw_tbl := lw_at lw_m2 170 rfl
theorem q467 : (Jvm.Cond.instanceMethod ({ cls := "DawnEights", name := "workOut", desc := "(LDawnEights$Boat;)V" } : Jvm.MethodName)) ∈ lw_all := lw_g (lw_at lw_m2 171 rfl) rfl
theorem q468 : (Jvm.Cond.code ({ cls := "DawnEights", name := "workOut", desc := "(LDawnEights$Boat;)V" } : Jvm.MethodName) prog_1_method_35_code (7 : Nat) (Option.none : Option Jvm.ClassFile.FieldType)) ∈ lw_all := lw_g (lw_at lw_m2 172 rfl) rfl
theorem q469 : (Jvm.Cond.constant "DawnEights" (268 : Nat) (1048576 : Int32)) ∈ lw_all := lw_g (lw_at lw_m2 173 rfl) rfl
theorem q470 : (Jvm.Cond.methodLink "DawnEights" (269 : Nat) ({ cls := "DawnEights", name := "mayCome", desc := "(LDawnEights$Boat;I)Z" } : Jvm.MethodName)) ∈ lw_all := lw_g (lw_at lw_m2 174 rfl) rfl
theorem q471 : (Jvm.Cond.privateMethod ({ cls := "DawnEights", name := "mayCome", desc := "(LDawnEights$Boat;I)Z" } : Jvm.MethodName)) ∈ lw_tbl := lw_at lw_m2 175 rfl
theorem q472 : (Jvm.Cond.instanceMethod ({ cls := "DawnEights", name := "mayCome", desc := "(LDawnEights$Boat;I)Z" } : Jvm.MethodName)) ∈ lw_all := lw_g (lw_at lw_m2 176 rfl) rfl
theorem q473 : (Jvm.Cond.code ({ cls := "DawnEights", name := "mayCome", desc := "(LDawnEights$Boat;I)Z" } : Jvm.MethodName) prog_1_method_34_code (4 : Nat) (Option.some Jvm.ClassFile.FieldType.boolean)) ∈ lw_all := lw_g (lw_at lw_m2 177 rfl) rfl
theorem q474 : (Jvm.Cond.methodLink "DawnEights" (197 : Nat) ({ cls := "DawnEights$Oar", name := "mayBeOut", desc := "(I)Z" } : Jvm.MethodName)) ∈ lw_all := lw_g (lw_at lw_m2 178 rfl) rfl
theorem q487 : (Jvm.Cond.methodLink "DawnEights" (273 : Nat) ({ cls := "DawnEights", name := "costOf", desc := "(LDawnEights$Boat;II)I" } : Jvm.MethodName)) ∈ lw_all := lw_g (lw_at lw_m2 191 rfl) rfl
theorem q488 : (Jvm.Cond.privateMethod ({ cls := "DawnEights", name := "costOf", desc := "(LDawnEights$Boat;II)I" } : Jvm.MethodName)) ∈ lw_tbl := lw_at lw_m2 192 rfl
theorem q489 : (Jvm.Cond.instanceMethod ({ cls := "DawnEights", name := "costOf", desc := "(LDawnEights$Boat;II)I" } : Jvm.MethodName)) ∈ lw_all := lw_g (lw_at lw_m2 193 rfl) rfl
theorem q490 : (Jvm.Cond.code ({ cls := "DawnEights", name := "costOf", desc := "(LDawnEights$Boat;II)I" } : Jvm.MethodName) prog_1_method_33_code (5 : Nat) (Option.some Jvm.ClassFile.FieldType.int)) ∈ lw_all := lw_g (lw_at lw_m2 194 rfl) rfl
theorem q491 : (Jvm.Cond.methodLink "DawnEights" (259 : Nat) ({ cls := "DawnEights$Boat", name := "side", desc := "(I)I" } : Jvm.MethodName)) ∈ lw_all := lw_g (lw_at lw_m2 195 rfl) rfl
theorem q509 : (Jvm.Cond.instanceMethod ({ cls := "DawnEights", name := "water", desc := "(III)I" } : Jvm.MethodName)) ∈ lw_all := lw_g (lw_at lw_m2 213 rfl) rfl
theorem q510 : (Jvm.Cond.selects "DawnEights" ({ cls := "DawnEights", name := "water", desc := "(III)I" } : Jvm.MethodName) ({ cls := "DawnEights", name := "water", desc := "(III)I" } : Jvm.MethodName)) ∈ lw_all := lw_g (lw_at lw_m2 214 rfl) rfl
theorem q511 : (Jvm.Cond.code ({ cls := "DawnEights", name := "water", desc := "(III)I" } : Jvm.MethodName) prog_1_method_37_code (4 : Nat) (Option.some Jvm.ClassFile.FieldType.int)) ∈ lw_all := lw_g (lw_at lw_m2 215 rfl) rfl
theorem q512 : (Jvm.Cond.constantLong "DawnEights" (283 : Nat) (29 : Int64)) ∈ lw_all := lw_g (lw_at lw_m2 216 rfl) rfl
theorem q513 : (Jvm.Cond.constantLong "DawnEights" (285 : Nat) (200 : Int64)) ∈ lw_all := lw_g (lw_at lw_m2 217 rfl) rfl
theorem q514 : (Jvm.Cond.constantLong "DawnEights" (287 : Nat) (12 : Int64)) ∈ lw_all := lw_g (lw_at lw_m2 218 rfl) rfl
theorem q516 : (Jvm.Cond.instanceMethod ({ cls := "DawnEights", name := "feed", desc := "(JI)I" } : Jvm.MethodName)) ∈ lw_all := lw_g (lw_at lw_m2 220 rfl) rfl
theorem q517 : (Jvm.Cond.selects "DawnEights" ({ cls := "DawnEights", name := "feed", desc := "(JI)I" } : Jvm.MethodName) ({ cls := "DawnEights", name := "feed", desc := "(JI)I" } : Jvm.MethodName)) ∈ lw_all := lw_g (lw_at lw_m2 221 rfl) rfl
theorem q518 : (Jvm.Cond.code ({ cls := "DawnEights", name := "feed", desc := "(JI)I" } : Jvm.MethodName) prog_1_method_38_code (5 : Nat) (Option.some Jvm.ClassFile.FieldType.int)) ∈ lw_all := lw_g (lw_at lw_m2 222 rfl) rfl
theorem q519 : (Jvm.Cond.constantLong "DawnEights" (289 : Nat) (8 : Int64)) ∈ lw_all := lw_g (lw_at lw_m2 223 rfl) rfl
theorem q521 : (Jvm.Cond.instanceMethod ({ cls := "DawnEights", name := "rule", desc := "()I" } : Jvm.MethodName)) ∈ lw_all := lw_g (lw_at lw_m2 225 rfl) rfl
theorem q522 : (Jvm.Cond.selects "DawnEights" ({ cls := "DawnEights", name := "rule", desc := "()I" } : Jvm.MethodName) ({ cls := "DawnEights", name := "rule", desc := "()I" } : Jvm.MethodName)) ∈ lw_all := lw_g (lw_at lw_m2 226 rfl) rfl
theorem q523 : (Jvm.Cond.code ({ cls := "DawnEights", name := "rule", desc := "()I" } : Jvm.MethodName) prog_1_method_44_code (2 : Nat) (Option.some Jvm.ClassFile.FieldType.int)) ∈ lw_all := lw_g (lw_at lw_m2 227 rfl) rfl
theorem q525 : (Jvm.Cond.methodLinkNest "DawnEights" (366 : Nat) ({ cls := "DawnEights$Rule", name := "<init>", desc := "(LDawnEights;)V" } : Jvm.MethodName) "DawnEights") ∈ lw_tbl := lw_at lw_m2 229 rfl
theorem q529 : (Jvm.Cond.fieldLinkNest "DawnEights" (343 : Nat) "DawnEights$Rule" "isBar" "Z" "DawnEights") ∈ lw_tbl := lw_at lw_m2 233 rfl
theorem q531 : (Jvm.Cond.fieldLinkNest "DawnEights" (350 : Nat) "DawnEights$Rule" "kind" "I" "DawnEights") ∈ lw_tbl := lw_at lw_m2 235 rfl
theorem q533 : (Jvm.Cond.fieldLinkNest "DawnEights" (318 : Nat) "DawnEights$Rule" "size" "I" "DawnEights") ∈ lw_tbl := lw_at lw_m2 237 rfl
theorem q535 : (Jvm.Cond.fieldLinkNest "DawnEights" (321 : Nat) "DawnEights$Rule" "fields" "[I" "DawnEights") ∈ lw_tbl := lw_at lw_m2 239 rfl
theorem q537 : (Jvm.Cond.fieldLinkNest "DawnEights" (332 : Nat) "DawnEights$Rule" "signs" "[I" "DawnEights") ∈ lw_tbl := lw_at lw_m3 1 rfl
theorem q539 : (Jvm.Cond.fieldLinkNest "DawnEights" (340 : Nat) "DawnEights$Rule" "numbers" "[I" "DawnEights") ∈ lw_tbl := lw_at lw_m3 3 rfl
theorem q541 : (Jvm.Cond.fieldLinkNest "DawnEights" (315 : Nat) "DawnEights$Rule" "nots" "[Z" "DawnEights") ∈ lw_tbl := lw_at lw_m3 5 rfl
theorem q560 : (Jvm.Cond.methodLink "DawnEights" (369 : Nat) ({ cls := "DawnEights", name := "read", desc := "(LDawnEights$Rule;)V" } : Jvm.MethodName)) ∈ lw_all := lw_g (lw_at lw_m3 24 rfl) rfl
theorem q561 : (Jvm.Cond.privateMethod ({ cls := "DawnEights", name := "read", desc := "(LDawnEights$Rule;)V" } : Jvm.MethodName)) ∈ lw_tbl := lw_at lw_m3 25 rfl
theorem q562 : (Jvm.Cond.instanceMethod ({ cls := "DawnEights", name := "read", desc := "(LDawnEights$Rule;)V" } : Jvm.MethodName)) ∈ lw_all := lw_g (lw_at lw_m3 26 rfl) rfl
theorem q563 : (Jvm.Cond.code ({ cls := "DawnEights", name := "read", desc := "(LDawnEights$Rule;)V" } : Jvm.MethodName) prog_1_method_43_code (3 : Nat) (Option.none : Option Jvm.ClassFile.FieldType)) ∈ lw_all := lw_g (lw_at lw_m3 27 rfl) rfl
theorem q564 : (Jvm.Cond.methodLink "DawnEights" (304 : Nat) ({ cls := "DawnEights", name := "now", desc := "()I" } : Jvm.MethodName)) ∈ lw_all := lw_g (lw_at lw_m3 28 rfl) rfl
theorem q565 : (Jvm.Cond.privateMethod ({ cls := "DawnEights", name := "now", desc := "()I" } : Jvm.MethodName)) ∈ lw_tbl := lw_at lw_m3 29 rfl
theorem q566 : (Jvm.Cond.instanceMethod ({ cls := "DawnEights", name := "now", desc := "()I" } : Jvm.MethodName)) ∈ lw_all := lw_g (lw_at lw_m3 30 rfl) rfl
theorem q567 : (Jvm.Cond.code ({ cls := "DawnEights", name := "now", desc := "()I" } : Jvm.MethodName) prog_1_method_39_code (1 : Nat) (Option.some Jvm.ClassFile.FieldType.int)) ∈ lw_all := lw_g (lw_at lw_m3 31 rfl) rfl
theorem q568 : (Jvm.Cond.stringRef "DawnEights" (346 : Nat) "bar ") ∈ lw_tbl := lw_at lw_m3 32 rfl
theorem q569 : (Jvm.Cond.stringRef "DawnEights" (348 : Nat) "let ") ∈ lw_tbl := lw_at lw_m3 33 rfl
theorem q570 : (Jvm.Cond.methodLink "DawnEights" (311 : Nat) ({ cls := "DawnEights", name := "signs", desc := "(Ljava/lang/String;)V" } : Jvm.MethodName)) ∈ lw_all := lw_g (lw_at lw_m3 34 rfl) rfl
theorem q571 : (Jvm.Cond.privateMethod ({ cls := "DawnEights", name := "signs", desc := "(Ljava/lang/String;)V" } : Jvm.MethodName)) ∈ lw_tbl := lw_at lw_m3 35 rfl
theorem q572 : (Jvm.Cond.instanceMethod ({ cls := "DawnEights", name := "signs", desc := "(Ljava/lang/String;)V" } : Jvm.MethodName)) ∈ lw_all := lw_g (lw_at lw_m3 36 rfl) rfl
theorem q573 : (Jvm.Cond.code ({ cls := "DawnEights", name := "signs", desc := "(Ljava/lang/String;)V" } : Jvm.MethodName) prog_1_method_40_code (3 : Nat) (Option.none : Option Jvm.ClassFile.FieldType)) ∈ lw_all := lw_g (lw_at lw_m3 37 rfl) rfl
theorem q574 : (Jvm.Cond.methodLink "DawnEights" (296 : Nat) ({ cls := "java/lang/String", name := "length", desc := "()I" } : Jvm.MethodName)) ∈ lw_all := lw_g (lw_at lw_m3 38 rfl) rfl
theorem q584 : (Jvm.Cond.methodLink "DawnEights" (307 : Nat) ({ cls := "java/lang/String", name := "charAt", desc := "(I)C" } : Jvm.MethodName)) ∈ lw_all := lw_g (lw_at lw_m3 48 rfl) rfl
theorem q622 : (Jvm.Cond.fieldLink "DawnEights" (352 : Nat) "DawnEights" "KINDS" "[Ljava/lang/String;") ∈ lw_all := lw_g (lw_at lw_m3 86 rfl) rfl
theorem q623 : (Jvm.Cond.laysStatic "DawnEights" "KINDS" "[Ljava/lang/String;") ∈ lw_tbl := lw_at lw_m3 87 rfl
theorem q624 : (Jvm.Cond.methodLink "DawnEights" (328 : Nat) ({ cls := "DawnEights", name := "word", desc := "([Ljava/lang/String;I)I" } : Jvm.MethodName)) ∈ lw_all := lw_g (lw_at lw_m3 88 rfl) rfl
theorem q625 : (Jvm.Cond.privateMethod ({ cls := "DawnEights", name := "word", desc := "([Ljava/lang/String;I)I" } : Jvm.MethodName)) ∈ lw_tbl := lw_at lw_m3 89 rfl
theorem q626 : (Jvm.Cond.instanceMethod ({ cls := "DawnEights", name := "word", desc := "([Ljava/lang/String;I)I" } : Jvm.MethodName)) ∈ lw_all := lw_g (lw_at lw_m3 90 rfl) rfl
theorem q627 : (Jvm.Cond.code ({ cls := "DawnEights", name := "word", desc := "([Ljava/lang/String;I)I" } : Jvm.MethodName) prog_1_method_41_code (6 : Nat) (Option.some Jvm.ClassFile.FieldType.int)) ∈ lw_all := lw_g (lw_at lw_m3 91 rfl) rfl
theorem q628 : (Jvm.Cond.stringRef "DawnEights" (355 : Nat) " if ") ∈ lw_tbl := lw_at lw_m3 92 rfl
theorem q629 : (Jvm.Cond.methodLink "DawnEights" (357 : Nat) ({ cls := "DawnEights", name := "test", desc := "(LDawnEights$Rule;)V" } : Jvm.MethodName)) ∈ lw_all := lw_g (lw_at lw_m3 93 rfl) rfl
theorem q630 : (Jvm.Cond.privateMethod ({ cls := "DawnEights", name := "test", desc := "(LDawnEights$Rule;)V" } : Jvm.MethodName)) ∈ lw_tbl := lw_at lw_m3 94 rfl
theorem q631 : (Jvm.Cond.instanceMethod ({ cls := "DawnEights", name := "test", desc := "(LDawnEights$Rule;)V" } : Jvm.MethodName)) ∈ lw_all := lw_g (lw_at lw_m3 95 rfl) rfl
theorem q632 : (Jvm.Cond.code ({ cls := "DawnEights", name := "test", desc := "(LDawnEights$Rule;)V" } : Jvm.MethodName) prog_1_method_42_code (4 : Nat) (Option.none : Option Jvm.ClassFile.FieldType)) ∈ lw_all := lw_g (lw_at lw_m3 96 rfl) rfl
theorem q633 : (Jvm.Cond.fieldLink "DawnEights" (324 : Nat) "DawnEights" "FIELDS" "[Ljava/lang/String;") ∈ lw_all := lw_g (lw_at lw_m3 97 rfl) rfl
theorem q634 : (Jvm.Cond.laysStatic "DawnEights" "FIELDS" "[Ljava/lang/String;") ∈ lw_tbl := lw_at lw_m3 98 rfl
theorem q635 : (Jvm.Cond.stringRef "DawnEights" (334 : Nat) "=") ∈ lw_tbl := lw_at lw_m3 99 rfl
theorem q636 : (Jvm.Cond.constantLong "DawnEights" (336 : Nat) (48 : Int64)) ∈ lw_all := lw_g (lw_at lw_m3 100 rfl) rfl
theorem q637 : (Jvm.Cond.constantLong "DawnEights" (338 : Nat) (57 : Int64)) ∈ lw_all := lw_g (lw_at lw_m3 101 rfl) rfl
theorem q638 : (Jvm.Cond.stringRef "DawnEights" (361 : Nat) "&") ∈ lw_tbl := lw_at lw_m3 102 rfl
theorem q640 : (Jvm.Cond.instanceMethod ({ cls := "DawnEights", name := "ruled", desc := "(II)I" } : Jvm.MethodName)) ∈ lw_all := lw_g (lw_at lw_m3 104 rfl) rfl
theorem q641 : (Jvm.Cond.selects "DawnEights" ({ cls := "DawnEights", name := "ruled", desc := "(II)I" } : Jvm.MethodName) ({ cls := "DawnEights", name := "ruled", desc := "(II)I" } : Jvm.MethodName)) ∈ lw_all := lw_g (lw_at lw_m3 105 rfl) rfl
theorem q642 : (Jvm.Cond.code ({ cls := "DawnEights", name := "ruled", desc := "(II)I" } : Jvm.MethodName) prog_1_method_46_code (3 : Nat) (Option.some Jvm.ClassFile.FieldType.int)) ∈ lw_all := lw_g (lw_at lw_m3 106 rfl) rfl
theorem q643 : (Jvm.Cond.methodLink "DawnEights" (375 : Nat) ({ cls := "DawnEights", name := "ruling", desc := "(LDawnEights$Boat;I)I" } : Jvm.MethodName)) ∈ lw_all := lw_g (lw_at lw_m3 107 rfl) rfl
theorem q644 : (Jvm.Cond.privateMethod ({ cls := "DawnEights", name := "ruling", desc := "(LDawnEights$Boat;I)I" } : Jvm.MethodName)) ∈ lw_tbl := lw_at lw_m3 108 rfl
theorem q645 : (Jvm.Cond.instanceMethod ({ cls := "DawnEights", name := "ruling", desc := "(LDawnEights$Boat;I)I" } : Jvm.MethodName)) ∈ lw_all := lw_g (lw_at lw_m3 109 rfl) rfl
theorem q646 : (Jvm.Cond.code ({ cls := "DawnEights", name := "ruling", desc := "(LDawnEights$Boat;I)I" } : Jvm.MethodName) prog_1_method_45_code (4 : Nat) (Option.some Jvm.ClassFile.FieldType.int)) ∈ lw_all := lw_g (lw_at lw_m3 110 rfl) rfl
theorem q647 : (Jvm.Cond.methodLink "DawnEights" (372 : Nat) ({ cls := "DawnEights$Rule", name := "holds", desc := "(LDawnEights$Boat;I)Z" } : Jvm.MethodName)) ∈ lw_all := lw_g (lw_at lw_m3 111 rfl) rfl
theorem q657 : (Jvm.Cond.privateMethod ({ cls := "DawnEights", name := "hasYoung", desc := "(LDawnEights$Boat;)Z" } : Jvm.MethodName)) ∈ lw_tbl := lw_at lw_m3 121 rfl
theorem q658 : (Jvm.Cond.instanceMethod ({ cls := "DawnEights", name := "hasYoung", desc := "(LDawnEights$Boat;)Z" } : Jvm.MethodName)) ∈ lw_all := lw_g (lw_at lw_m3 122 rfl) rfl
theorem q659 : (Jvm.Cond.code ({ cls := "DawnEights", name := "hasYoung", desc := "(LDawnEights$Boat;)Z" } : Jvm.MethodName) prog_1_method_16_code (4 : Nat) (Option.some Jvm.ClassFile.FieldType.boolean)) ∈ lw_all := lw_g (lw_at lw_m3 123 rfl) rfl
theorem q660 : (Jvm.Cond.methodLink "DawnEights" (200 : Nat) ({ cls := "DawnEights$Oar", name := "isYoung", desc := "()Z" } : Jvm.MethodName)) ∈ lw_all := lw_g (lw_at lw_m3 124 rfl) rfl
theorem q671 : (Jvm.Cond.instanceMethod ({ cls := "DawnEights", name := "may", desc := "(II)I" } : Jvm.MethodName)) ∈ lw_all := lw_g (lw_at lw_m3 135 rfl) rfl
theorem q672 : (Jvm.Cond.selects "DawnEights" ({ cls := "DawnEights", name := "may", desc := "(II)I" } : Jvm.MethodName) ({ cls := "DawnEights", name := "may", desc := "(II)I" } : Jvm.MethodName)) ∈ lw_all := lw_g (lw_at lw_m3 136 rfl) rfl
theorem q673 : (Jvm.Cond.code ({ cls := "DawnEights", name := "may", desc := "(II)I" } : Jvm.MethodName) prog_1_method_48_code (3 : Nat) (Option.some Jvm.ClassFile.FieldType.int)) ∈ lw_all := lw_g (lw_at lw_m3 137 rfl) rfl
theorem q674 : (Jvm.Cond.methodLink "DawnEights" (382 : Nat) ({ cls := "DawnEights", name := "mayGo", desc := "(II)I" } : Jvm.MethodName)) ∈ lw_all := lw_g (lw_at lw_m3 138 rfl) rfl
theorem q675 : (Jvm.Cond.privateMethod ({ cls := "DawnEights", name := "mayGo", desc := "(II)I" } : Jvm.MethodName)) ∈ lw_tbl := lw_at lw_m3 139 rfl
theorem q676 : (Jvm.Cond.instanceMethod ({ cls := "DawnEights", name := "mayGo", desc := "(II)I" } : Jvm.MethodName)) ∈ lw_all := lw_g (lw_at lw_m3 140 rfl) rfl
theorem q677 : (Jvm.Cond.code ({ cls := "DawnEights", name := "mayGo", desc := "(II)I" } : Jvm.MethodName) prog_1_method_47_code (5 : Nat) (Option.some Jvm.ClassFile.FieldType.int)) ∈ lw_all := lw_g (lw_at lw_m3 141 rfl) rfl
theorem q678 : (Jvm.Cond.methodLink "DawnEights" (379 : Nat) ({ cls := "DawnEights", name := "ashore", desc := "(LDawnEights$Boat;I)I" } : Jvm.MethodName)) ∈ lw_all := lw_g (lw_at lw_m3 142 rfl) rfl
theorem q679 : (Jvm.Cond.privateMethod ({ cls := "DawnEights", name := "ashore", desc := "(LDawnEights$Boat;I)I" } : Jvm.MethodName)) ∈ lw_tbl := lw_at lw_m3 143 rfl
theorem q680 : (Jvm.Cond.instanceMethod ({ cls := "DawnEights", name := "ashore", desc := "(LDawnEights$Boat;I)I" } : Jvm.MethodName)) ∈ lw_all := lw_g (lw_at lw_m3 144 rfl) rfl
theorem q681 : (Jvm.Cond.code ({ cls := "DawnEights", name := "ashore", desc := "(LDawnEights$Boat;I)I" } : Jvm.MethodName) prog_1_method_15_code (5 : Nat) (Option.some Jvm.ClassFile.FieldType.int)) ∈ lw_all := lw_g (lw_at lw_m3 145 rfl) rfl
theorem q682 : (Jvm.Cond.methodLink "DawnEights" (187 : Nat) ({ cls := "DawnEights", name := "mean", desc := "(LDawnEights$Boat;)I" } : Jvm.MethodName)) ∈ lw_all := lw_g (lw_at lw_m3 146 rfl) rfl
theorem q683 : (Jvm.Cond.privateMethod ({ cls := "DawnEights", name := "mean", desc := "(LDawnEights$Boat;)I" } : Jvm.MethodName)) ∈ lw_tbl := lw_at lw_m3 147 rfl
theorem q684 : (Jvm.Cond.instanceMethod ({ cls := "DawnEights", name := "mean", desc := "(LDawnEights$Boat;)I" } : Jvm.MethodName)) ∈ lw_all := lw_g (lw_at lw_m3 148 rfl) rfl
theorem q685 : (Jvm.Cond.code ({ cls := "DawnEights", name := "mean", desc := "(LDawnEights$Boat;)I" } : Jvm.MethodName) prog_1_method_14_code (4 : Nat) (Option.some Jvm.ClassFile.FieldType.int)) ∈ lw_all := lw_g (lw_at lw_m3 149 rfl) rfl
theorem q687 : (Jvm.Cond.instanceMethod ({ cls := "DawnEights", name := "day", desc := "(I)I" } : Jvm.MethodName)) ∈ lw_all := lw_g (lw_at lw_m3 151 rfl) rfl
theorem q688 : (Jvm.Cond.selects "DawnEights" ({ cls := "DawnEights", name := "day", desc := "(I)I" } : Jvm.MethodName) ({ cls := "DawnEights", name := "day", desc := "(I)I" } : Jvm.MethodName)) ∈ lw_all := lw_g (lw_at lw_m3 152 rfl) rfl
theorem q689 : (Jvm.Cond.code ({ cls := "DawnEights", name := "day", desc := "(I)I" } : Jvm.MethodName) prog_1_method_49_code (3 : Nat) (Option.some Jvm.ClassFile.FieldType.int)) ∈ lw_all := lw_g (lw_at lw_m3 153 rfl) rfl
theorem q691 : (Jvm.Cond.instanceMethod ({ cls := "DawnEights", name := "out", desc := "(II)I" } : Jvm.MethodName)) ∈ lw_all := lw_g (lw_at lw_m3 155 rfl) rfl
theorem q692 : (Jvm.Cond.selects "DawnEights" ({ cls := "DawnEights", name := "out", desc := "(II)I" } : Jvm.MethodName) ({ cls := "DawnEights", name := "out", desc := "(II)I" } : Jvm.MethodName)) ∈ lw_all := lw_g (lw_at lw_m3 156 rfl) rfl
theorem q693 : (Jvm.Cond.code ({ cls := "DawnEights", name := "out", desc := "(II)I" } : Jvm.MethodName) prog_1_method_50_code (4 : Nat) (Option.some Jvm.ClassFile.FieldType.int)) ∈ lw_all := lw_g (lw_at lw_m3 157 rfl) rfl
theorem q695 : (Jvm.Cond.instanceMethod ({ cls := "DawnEights", name := "look", desc := "(II)I" } : Jvm.MethodName)) ∈ lw_all := lw_g (lw_at lw_m3 159 rfl) rfl
theorem q696 : (Jvm.Cond.selects "DawnEights" ({ cls := "DawnEights", name := "look", desc := "(II)I" } : Jvm.MethodName) ({ cls := "DawnEights", name := "look", desc := "(II)I" } : Jvm.MethodName)) ∈ lw_all := lw_g (lw_at lw_m3 160 rfl) rfl
theorem q697 : (Jvm.Cond.code ({ cls := "DawnEights", name := "look", desc := "(II)I" } : Jvm.MethodName) prog_1_method_51_code (3 : Nat) (Option.some Jvm.ClassFile.FieldType.int)) ∈ lw_all := lw_g (lw_at lw_m3 161 rfl) rfl
theorem q699 : (Jvm.Cond.instanceMethod ({ cls := "DawnEights", name := "broke", desc := "(II)I" } : Jvm.MethodName)) ∈ lw_all := lw_g (lw_at lw_m3 163 rfl) rfl
theorem q700 : (Jvm.Cond.selects "DawnEights" ({ cls := "DawnEights", name := "broke", desc := "(II)I" } : Jvm.MethodName) ({ cls := "DawnEights", name := "broke", desc := "(II)I" } : Jvm.MethodName)) ∈ lw_all := lw_g (lw_at lw_m3 164 rfl) rfl
theorem q701 : (Jvm.Cond.code ({ cls := "DawnEights", name := "broke", desc := "(II)I" } : Jvm.MethodName) prog_1_method_53_code (5 : Nat) (Option.some Jvm.ClassFile.FieldType.int)) ∈ lw_all := lw_g (lw_at lw_m3 165 rfl) rfl
theorem q702 : (Jvm.Cond.constantLong "DawnEights" (397 : Nat) (2 : Int64)) ∈ lw_all := lw_g (lw_at lw_m3 166 rfl) rfl
theorem q703 : (Jvm.Cond.methodLink "DawnEights" (399 : Nat) ({ cls := "DawnEights", name := "outsBetween", desc := "(III)I" } : Jvm.MethodName)) ∈ lw_all := lw_g (lw_at lw_m3 167 rfl) rfl
theorem q704 : (Jvm.Cond.privateMethod ({ cls := "DawnEights", name := "outsBetween", desc := "(III)I" } : Jvm.MethodName)) ∈ lw_tbl := lw_at lw_m3 168 rfl
theorem q705 : (Jvm.Cond.instanceMethod ({ cls := "DawnEights", name := "outsBetween", desc := "(III)I" } : Jvm.MethodName)) ∈ lw_all := lw_g (lw_at lw_m3 169 rfl) rfl
theorem q706 : (Jvm.Cond.code ({ cls := "DawnEights", name := "outsBetween", desc := "(III)I" } : Jvm.MethodName) prog_1_method_52_code (6 : Nat) (Option.some Jvm.ClassFile.FieldType.int)) ∈ lw_all := lw_g (lw_at lw_m3 170 rfl) rfl
theorem q708 : (Jvm.Cond.instanceMethod ({ cls := "DawnEights", name := "outing", desc := "(II)I" } : Jvm.MethodName)) ∈ lw_all := lw_g (lw_at lw_m3 172 rfl) rfl
theorem q709 : (Jvm.Cond.selects "DawnEights" ({ cls := "DawnEights", name := "outing", desc := "(II)I" } : Jvm.MethodName) ({ cls := "DawnEights", name := "outing", desc := "(II)I" } : Jvm.MethodName)) ∈ lw_all := lw_g (lw_at lw_m3 173 rfl) rfl
theorem q710 : (Jvm.Cond.code ({ cls := "DawnEights", name := "outing", desc := "(II)I" } : Jvm.MethodName) prog_1_method_54_code (3 : Nat) (Option.some Jvm.ClassFile.FieldType.int)) ∈ lw_all := lw_g (lw_at lw_m3 174 rfl) rfl
theorem q712 : (Jvm.Cond.instanceMethod ({ cls := "DawnEights", name := "heat", desc := "(II)I" } : Jvm.MethodName)) ∈ lw_all := lw_g (lw_at lw_m3 176 rfl) rfl
theorem q713 : (Jvm.Cond.selects "DawnEights" ({ cls := "DawnEights", name := "heat", desc := "(II)I" } : Jvm.MethodName) ({ cls := "DawnEights", name := "heat", desc := "(II)I" } : Jvm.MethodName)) ∈ lw_all := lw_g (lw_at lw_m3 177 rfl) rfl
theorem q714 : (Jvm.Cond.code ({ cls := "DawnEights", name := "heat", desc := "(II)I" } : Jvm.MethodName) prog_1_method_55_code (3 : Nat) (Option.some Jvm.ClassFile.FieldType.int)) ∈ lw_all := lw_g (lw_at lw_m3 178 rfl) rfl
theorem q715 : (Jvm.Cond.constantLong "DawnEights" (403 : Nat) (1439 : Int64)) ∈ lw_all := lw_g (lw_at lw_m3 179 rfl) rfl
theorem q717 : (Jvm.Cond.instanceMethod ({ cls := "DawnEights", name := "near", desc := "(I)I" } : Jvm.MethodName)) ∈ lw_all := lw_g (lw_at lw_m3 181 rfl) rfl
theorem q718 : (Jvm.Cond.selects "DawnEights" ({ cls := "DawnEights", name := "near", desc := "(I)I" } : Jvm.MethodName) ({ cls := "DawnEights", name := "near", desc := "(I)I" } : Jvm.MethodName)) ∈ lw_all := lw_g (lw_at lw_m3 182 rfl) rfl
theorem q719 : (Jvm.Cond.code ({ cls := "DawnEights", name := "near", desc := "(I)I" } : Jvm.MethodName) prog_1_method_56_code (3 : Nat) (Option.some Jvm.ClassFile.FieldType.int)) ∈ lw_all := lw_g (lw_at lw_m3 183 rfl) rfl
theorem q721 : (Jvm.Cond.instanceMethod ({ cls := "DawnEights", name := "clashes", desc := "()I" } : Jvm.MethodName)) ∈ lw_all := lw_g (lw_at lw_m3 185 rfl) rfl
theorem q722 : (Jvm.Cond.selects "DawnEights" ({ cls := "DawnEights", name := "clashes", desc := "()I" } : Jvm.MethodName) ({ cls := "DawnEights", name := "clashes", desc := "()I" } : Jvm.MethodName)) ∈ lw_all := lw_g (lw_at lw_m3 186 rfl) rfl
theorem q723 : (Jvm.Cond.code ({ cls := "DawnEights", name := "clashes", desc := "()I" } : Jvm.MethodName) prog_1_method_59_code (4 : Nat) (Option.some Jvm.ClassFile.FieldType.int)) ∈ lw_all := lw_g (lw_at lw_m3 187 rfl) rfl
theorem q724 : (Jvm.Cond.methodLink "DawnEights" (414 : Nat) ({ cls := "DawnEights", name := "clash", desc := "(II)Z" } : Jvm.MethodName)) ∈ lw_all := lw_g (lw_at lw_m3 188 rfl) rfl
theorem q725 : (Jvm.Cond.privateMethod ({ cls := "DawnEights", name := "clash", desc := "(II)Z" } : Jvm.MethodName)) ∈ lw_tbl := lw_at lw_m3 189 rfl
theorem q726 : (Jvm.Cond.instanceMethod ({ cls := "DawnEights", name := "clash", desc := "(II)Z" } : Jvm.MethodName)) ∈ lw_all := lw_g (lw_at lw_m3 190 rfl) rfl
theorem q727 : (Jvm.Cond.code ({ cls := "DawnEights", name := "clash", desc := "(II)Z" } : Jvm.MethodName) prog_1_method_58_code (3 : Nat) (Option.some Jvm.ClassFile.FieldType.boolean)) ∈ lw_all := lw_g (lw_at lw_m3 191 rfl) rfl
theorem q728 : (Jvm.Cond.methodLink "DawnEights" (408 : Nat) ({ cls := "java/lang/Math", name := "abs", desc := "(I)I" } : Jvm.MethodName)) ∈ lw_all := lw_g (lw_at lw_m3 192 rfl) rfl
theorem q731 : (Jvm.Cond.methodLink "DawnEights" (410 : Nat) ({ cls := "DawnEights", name := "shares", desc := "(LDawnEights$Boat;LDawnEights$Boat;)Z" } : Jvm.MethodName)) ∈ lw_all := lw_g (lw_at lw_m3 195 rfl) rfl
theorem q732 : (Jvm.Cond.privateMethod ({ cls := "DawnEights", name := "shares", desc := "(LDawnEights$Boat;LDawnEights$Boat;)Z" } : Jvm.MethodName)) ∈ lw_tbl := lw_at lw_m3 196 rfl
theorem q733 : (Jvm.Cond.instanceMethod ({ cls := "DawnEights", name := "shares", desc := "(LDawnEights$Boat;LDawnEights$Boat;)Z" } : Jvm.MethodName)) ∈ lw_all := lw_g (lw_at lw_m3 197 rfl) rfl
theorem q734 : (Jvm.Cond.code ({ cls := "DawnEights", name := "shares", desc := "(LDawnEights$Boat;LDawnEights$Boat;)Z" } : Jvm.MethodName) prog_1_method_57_code (4 : Nat) (Option.some Jvm.ClassFile.FieldType.boolean)) ∈ lw_all := lw_g (lw_at lw_m3 198 rfl) rfl
theorem q736 : (Jvm.Cond.instanceMethod ({ cls := "DawnEights", name := "shift", desc := "(I)I" } : Jvm.MethodName)) ∈ lw_all := lw_g (lw_at lw_m3 200 rfl) rfl
theorem q737 : (Jvm.Cond.selects "DawnEights" ({ cls := "DawnEights", name := "shift", desc := "(I)I" } : Jvm.MethodName) ({ cls := "DawnEights", name := "shift", desc := "(I)I" } : Jvm.MethodName)) ∈ lw_all := lw_g (lw_at lw_m3 201 rfl) rfl
theorem q738 : (Jvm.Cond.code ({ cls := "DawnEights", name := "shift", desc := "(I)I" } : Jvm.MethodName) prog_1_method_60_code (7 : Nat) (Option.some Jvm.ClassFile.FieldType.int)) ∈ lw_all := lw_g (lw_at lw_m3 202 rfl) rfl
theorem q740 : (Jvm.Cond.instanceMethod ({ cls := "DawnEights", name := "trailer", desc := "(II)I" } : Jvm.MethodName)) ∈ lw_all := lw_g (lw_at lw_m3 204 rfl) rfl
theorem q741 : (Jvm.Cond.selects "DawnEights" ({ cls := "DawnEights", name := "trailer", desc := "(II)I" } : Jvm.MethodName) ({ cls := "DawnEights", name := "trailer", desc := "(II)I" } : Jvm.MethodName)) ∈ lw_all := lw_g (lw_at lw_m3 205 rfl) rfl
theorem q742 : (Jvm.Cond.code ({ cls := "DawnEights", name := "trailer", desc := "(II)I" } : Jvm.MethodName) prog_1_method_61_code (8 : Nat) (Option.some Jvm.ClassFile.FieldType.int)) ∈ lw_all := lw_g (lw_at lw_m3 206 rfl) rfl
theorem q743 : (Jvm.Cond.methodLink "DawnEights" (419 : Nat) ({ cls := "java/lang/Math", name := "max", desc := "(II)I" } : Jvm.MethodName)) ∈ lw_all := lw_g (lw_at lw_m3 207 rfl) rfl
theorem q747 : (Jvm.Cond.instanceMethod ({ cls := "DawnEights", name := "rack", desc := "(I)I" } : Jvm.MethodName)) ∈ lw_all := lw_g (lw_at lw_m3 211 rfl) rfl
theorem q748 : (Jvm.Cond.selects "DawnEights" ({ cls := "DawnEights", name := "rack", desc := "(I)I" } : Jvm.MethodName) ({ cls := "DawnEights", name := "rack", desc := "(I)I" } : Jvm.MethodName)) ∈ lw_all := lw_g (lw_at lw_m3 212 rfl) rfl
theorem q749 : (Jvm.Cond.code ({ cls := "DawnEights", name := "rack", desc := "(I)I" } : Jvm.MethodName) prog_1_method_62_code (4 : Nat) (Option.some Jvm.ClassFile.FieldType.int)) ∈ lw_all := lw_g (lw_at lw_m3 213 rfl) rfl
theorem q751 : (Jvm.Cond.instanceMethod ({ cls := "DawnEights", name := "count", desc := "(I)I" } : Jvm.MethodName)) ∈ lw_all := lw_g (lw_at lw_m3 215 rfl) rfl
theorem q752 : (Jvm.Cond.selects "DawnEights" ({ cls := "DawnEights", name := "count", desc := "(I)I" } : Jvm.MethodName) ({ cls := "DawnEights", name := "count", desc := "(I)I" } : Jvm.MethodName)) ∈ lw_all := lw_g (lw_at lw_m3 216 rfl) rfl
theorem q753 : (Jvm.Cond.code ({ cls := "DawnEights", name := "count", desc := "(I)I" } : Jvm.MethodName) prog_1_method_63_code (2 : Nat) (Option.some Jvm.ClassFile.FieldType.int)) ∈ lw_all := lw_g (lw_at lw_m3 217 rfl) rfl
theorem q1207 : (Jvm.Cond.stringRef "DawnEights" (441 : Nat) "pair") ∈ lw_tbl := lw_at lw_m5 191 rfl
theorem q1208 : (Jvm.Cond.stringRef "DawnEights" (443 : Nat) "four") ∈ lw_tbl := lw_at lw_m5 192 rfl
theorem q1209 : (Jvm.Cond.stringRef "DawnEights" (445 : Nat) "eight") ∈ lw_tbl := lw_at lw_m5 193 rfl
theorem q1210 : (Jvm.Cond.stringRef "DawnEights" (447 : Nat) "single") ∈ lw_tbl := lw_at lw_m5 194 rfl
theorem q1211 : (Jvm.Cond.stringRef "DawnEights" (449 : Nat) "quad") ∈ lw_tbl := lw_at lw_m5 195 rfl
theorem q1213 : (Jvm.Cond.stringRef "DawnEights" (428 : Nat) "stream") ∈ lw_tbl := lw_at lw_m5 197 rfl
theorem q1214 : (Jvm.Cond.stringRef "DawnEights" (430 : Nat) "wind") ∈ lw_tbl := lw_at lw_m5 198 rfl
theorem q1215 : (Jvm.Cond.stringRef "DawnEights" (432 : Nat) "hour") ∈ lw_tbl := lw_at lw_m5 199 rfl
theorem q1216 : (Jvm.Cond.stringRef "DawnEights" (434 : Nat) "month") ∈ lw_tbl := lw_at lw_m5 200 rfl
theorem q1217 : (Jvm.Cond.stringRef "DawnEights" (436 : Nat) "size") ∈ lw_tbl := lw_at lw_m5 201 rfl
theorem q1218 : (Jvm.Cond.stringRef "DawnEights" (437 : Nat) "young") ∈ lw_tbl := lw_at lw_m5 202 rfl
theorem q1219 : (Jvm.Cond.stringRef "DawnEights" (439 : Nat) "ice") ∈ lw_tbl := lw_at lw_m5 203 rfl
theorem in_X0 : ∀ w ∈ wsX00, w ∈ lw_all := lw_in wsX00 [130, 132, 134, 136, 138, 140, 142, 144, 146, 148, 150, 152, 154, 156, 158, 160, 162, 164, 166, 168, 170, 172, 174, 176, 178, 180, 182, 184, 186, 188, 190, 192, 194, 196, 198, 200, 202, 204, 206, 208, 210, 212] (by decide +kernel) (by decide +kernel)
/-! DawnEightsModel -/
def RX1 : String := "DawnEightsModel"
def TX1 : u_T := fun k => match k with
  | 0 => ("DawnEightsModel", "kindOf", "[I", true)
  | 1 => ("DawnEightsModel", "weightOf", "[I", true)
  | 2 => ("DawnEightsModel", "boatOf", "[I", true)
  | 3 => ("DawnEightsModel", "seatOf", "[I", true)
  | 4 => ("DawnEightsModel", "isIll", "[Z", true)
  | 5 => ("DawnEightsModel", "isBroken", "[Z", true)
  | 6 => ("DawnEightsModel", "boatKind", "[I", true)
  | 7 => ("DawnEightsModel", "least", "[I", true)
  | 8 => ("DawnEightsModel", "most", "[I", true)
  | 9 => ("DawnEightsModel", "longOf", "[I", true)
  | 10 => ("DawnEightsModel", "oars", "I", false)
  | 11 => ("DawnEightsModel", "boats", "I", false)
  | 12 => ("DawnEightsModel", "first", "[I", true)
  | 13 => ("DawnEightsModel", "second", "[I", true)
  | 14 => ("DawnEightsModel", "byHow", "[I", true)
  | 15 => ("DawnEightsModel", "groupOf", "[I", true)
  | 16 => ("DawnEightsModel", "races", "I", false)
  | 17 => ("DawnEightsModel", "placeOf", "[I", true)
  | 18 => ("DawnEightsModel", "table", "[J", true)
  | 19 => ("DawnEightsModel", "right", "[J", true)
  | 20 => ("DawnEightsModel", "used", "[J", true)
  | 21 => ("DawnEightsModel", "strength", "[J", true)
  | 22 => ("DawnEightsModel", "others", "I", false)
  | 23 => ("DawnEightsModel", "line", "J", false)
  | 24 => ("DawnEightsModel", "cost", "[I", true)
  | 25 => ("DawnEightsModel", "given", "[I", true)
  | 26 => ("DawnEightsModel", "stream", "[I", true)
  | 27 => ("DawnEightsModel", "wind", "[I", true)
  | 28 => ("DawnEightsModel", "tape", "[I", true)
  | 29 => ("DawnEightsModel", "taped", "I", false)
  | 30 => ("DawnEightsModel", "rules", "I", false)
  | 31 => ("DawnEightsModel", "day", "I", false)
  | 32 => ("DawnEightsModel", "isBar", "[Z", true)
  | 33 => ("DawnEightsModel", "ruleKind", "[I", true)
  | 34 => ("DawnEightsModel", "tests", "[I", true)
  | 35 => ("DawnEightsModel", "test", "[I", true)
  | 36 => ("DawnEightsModel", "at", "I", false)
  | 37 => ("DawnEightsModel", "outBoat", "[I", true)
  | 38 => ("DawnEightsModel", "outDay", "[I", true)
  | 39 => ("DawnEightsModel", "outHour", "[I", true)
  | 40 => ("DawnEightsModel", "outWho", "[I", true)
  | 41 => ("DawnEightsModel", "lookBoat", "[I", true)
  | 42 => ("DawnEightsModel", "lookAt", "[I", true)
  | 43 => ("DawnEightsModel", "isWhole", "[Z", true)
  | 44 => ("DawnEightsModel", "outings", "I", false)
  | 45 => ("DawnEightsModel", "looks", "I", false)
  | 46 => ("DawnEightsModel", "heatBoat", "[I", true)
  | 47 => ("DawnEightsModel", "heatAt", "[I", true)
  | 48 => ("DawnEightsModel", "heats", "I", false)
  | 49 => ("DawnEightsModel", "near", "I", false)
  | 50 => ("DawnEightsModel", "rackOf", "[I", true)
  | 51 => ("DawnEightsModel", "lies", "[I", true)
  | _ => ("DawnEightsModel", "long3", "[I", true)
def tyX1 : Nat → FieldType := fun k => match k with
  | 0 => .array .int
  | 1 => .array .int
  | 2 => .array .int
  | 3 => .array .int
  | 4 => .array .boolean
  | 5 => .array .boolean
  | 6 => .array .int
  | 7 => .array .int
  | 8 => .array .int
  | 9 => .array .int
  | 10 => .int
  | 11 => .int
  | 12 => .array .int
  | 13 => .array .int
  | 14 => .array .int
  | 15 => .array .int
  | 16 => .int
  | 17 => .array .int
  | 18 => .array .long
  | 19 => .array .long
  | 20 => .array .long
  | 21 => .array .long
  | 22 => .int
  | 23 => .long
  | 24 => .array .int
  | 25 => .array .int
  | 26 => .array .int
  | 27 => .array .int
  | 28 => .array .int
  | 29 => .int
  | 30 => .int
  | 31 => .int
  | 32 => .array .boolean
  | 33 => .array .int
  | 34 => .array .int
  | 35 => .array .int
  | 36 => .int
  | 37 => .array .int
  | 38 => .array .int
  | 39 => .array .int
  | 40 => .array .int
  | 41 => .array .int
  | 42 => .array .int
  | 43 => .array .boolean
  | 44 => .int
  | 45 => .int
  | 46 => .array .int
  | 47 => .array .int
  | 48 => .int
  | 49 => .int
  | 50 => .array .int
  | 51 => .array .int
  | _ => .array .int
abbrev wsX10 : List Cond := u_ws RX1 TX1 53
set_option maxRecDepth 100000 in
theorem nmX1 : ∀ a, a < 53 → ∀ b, b < 53 → a ≠ b → (TX1 a).2.1 ≠ (TX1 b).2.1 := by decide +kernel
set_option maxRecDepth 100000 in
theorem tyX1_ok : ∀ k, k < 53 → parseFieldDescriptor (TX1 k).2.2.1 = some (tyX1 k) := by decide +kernel
abbrev cX1_init : ByteArray := prog_11_method_1_code
def yX1_init : MethodName := ⟨RX1, "<init>", "()V"⟩
abbrev cX1_oar : ByteArray := prog_11_method_8_code
def yX1_oar : MethodName := ⟨RX1, "oar", "(II)I"⟩
abbrev cX1_isIn : ByteArray := prog_11_method_2_code
def yX1_isIn : MethodName := ⟨RX1, "isIn", "(JJJ)Z"⟩
abbrev cX1_boat : ByteArray := prog_11_method_9_code
def yX1_boat : MethodName := ⟨RX1, "boat", "(IIII)I"⟩
abbrev cX1_ill : ByteArray := prog_11_method_10_code
def yX1_ill : MethodName := ⟨RX1, "ill", "(II)I"⟩
abbrev cX1_isOar : ByteArray := prog_11_method_3_code
def yX1_isOar : MethodName := ⟨RX1, "isOar", "(I)Z"⟩
abbrev cX1_sit : ByteArray := prog_11_method_12_code
def yX1_sit : MethodName := ⟨RX1, "sit", "(III)I"⟩
abbrev cX1_isSeat : ByteArray := prog_11_method_7_code
def yX1_isSeat : MethodName := ⟨RX1, "isSeat", "(II)Z"⟩
abbrev cX1_isBoat : ByteArray := prog_11_method_4_code
def yX1_isBoat : MethodName := ⟨RX1, "isBoat", "(I)Z"⟩
abbrev cX1_seatsOf : ByteArray := prog_11_method_5_code
def yX1_seatsOf : MethodName := ⟨RX1, "seatsOf", "(I)I"⟩
abbrev cX1_hasCox : ByteArray := prog_11_method_6_code
def yX1_hasCox : MethodName := ⟨RX1, "hasCox", "(I)Z"⟩
abbrev cX1_sitter : ByteArray := prog_11_method_11_code
def yX1_sitter : MethodName := ⟨RX1, "sitter", "(II)I"⟩
abbrev cX1_seat : ByteArray := prog_11_method_13_code
def yX1_seat : MethodName := ⟨RX1, "seat", "(II)I"⟩
abbrev cX1_about : ByteArray := prog_11_method_14_code
def yX1_about : MethodName := ⟨RX1, "about", "(II)I"⟩
abbrev cX1_race : ByteArray := prog_11_method_15_code
def yX1_race : MethodName := ⟨RX1, "race", "(III)I"⟩
abbrev cX1_unrace : ByteArray := prog_11_method_16_code
def yX1_unrace : MethodName := ⟨RX1, "unrace", "()I"⟩
abbrev cX1_group : ByteArray := prog_11_method_18_code
def yX1_group : MethodName := ⟨RX1, "group", "(I)I"⟩
abbrev cX1_findGroups : ByteArray := prog_11_method_17_code
def yX1_findGroups : MethodName := ⟨RX1, "findGroups", "()V"⟩
abbrev cX1_strength : ByteArray := prog_11_method_25_code
def yX1_strength : MethodName := ⟨RX1, "strength", "(II)J"⟩
abbrev cX1_solves : ByteArray := prog_11_method_22_code
def yX1_solves : MethodName := ⟨RX1, "solves", "(I)Z"⟩
abbrev cX1_tells : ByteArray := prog_11_method_21_code
def yX1_tells : MethodName := ⟨RX1, "tells", "(III)V"⟩
abbrev cX1_determinant : ByteArray := prog_11_method_20_code
def yX1_determinant : MethodName := ⟨RX1, "determinant", "(I)J"⟩
abbrev cX1_bits : ByteArray := prog_11_method_19_code
def yX1_bits : MethodName := ⟨RX1, "bits", "(I)I"⟩
abbrev cX1_part : ByteArray := prog_11_method_24_code
def yX1_part : MethodName := ⟨RX1, "part", "(JJI)J"⟩
abbrev cX1_divisor : ByteArray := prog_11_method_23_code
def yX1_divisor : MethodName := ⟨RX1, "divisor", "(JJ)J"⟩
abbrev cX1_between : ByteArray := prog_11_method_26_code
def yX1_between : MethodName := ⟨RX1, "between", "(III)J"⟩
abbrev cX1_misfit : ByteArray := prog_11_method_27_code
def yX1_misfit : MethodName := ⟨RX1, "misfit", "(II)J"⟩
abbrev cX1_sure : ByteArray := prog_11_method_28_code
def yX1_sure : MethodName := ⟨RX1, "sure", "(II)I"⟩
abbrev cX1_crew : ByteArray := prog_11_method_34_code
def yX1_crew : MethodName := ⟨RX1, "crew", "(III)I"⟩
abbrev cX1_fillCost : ByteArray := prog_11_method_33_code
def yX1_fillCost : MethodName := ⟨RX1, "fillCost", "(II)V"⟩
abbrev cX1_canSit : ByteArray := prog_11_method_32_code
def yX1_canSit : MethodName := ⟨RX1, "canSit", "(III)Z"⟩
abbrev cX1_mayBeOut : ByteArray := prog_11_method_29_code
def yX1_mayBeOut : MethodName := ⟨RX1, "mayBeOut", "(II)Z"⟩
abbrev cX1_costOf : ByteArray := prog_11_method_31_code
def yX1_costOf : MethodName := ⟨RX1, "costOf", "(III)I"⟩
abbrev cX1_dislikes : ByteArray := prog_11_method_30_code
def yX1_dislikes : MethodName := ⟨RX1, "dislikes", "(III)I"⟩
abbrev cX1_water : ByteArray := prog_11_method_35_code
def yX1_water : MethodName := ⟨RX1, "water", "(III)I"⟩
abbrev cX1_feed : ByteArray := prog_11_method_36_code
def yX1_feed : MethodName := ⟨RX1, "feed", "(JI)I"⟩
abbrev cX1_rule : ByteArray := prog_11_method_47_code
def yX1_rule : MethodName := ⟨RX1, "rule", "()I"⟩
abbrev cX1_parses : ByteArray := prog_11_method_46_code
def yX1_parses : MethodName := ⟨RX1, "parses", "()Z"⟩
abbrev cX1_word : ByteArray := prog_11_method_41_code
def yX1_word : MethodName := ⟨RX1, "word", "(II)I"⟩
abbrev cX1_fits : ByteArray := prog_11_method_42_code
def yX1_fits : MethodName := ⟨RX1, "fits", "(II)Z"⟩
abbrev cX1_letter : ByteArray := prog_11_method_38_code
def yX1_letter : MethodName := ⟨RX1, "letter", "(II)I"⟩
abbrev cX1_wordOf : ByteArray := prog_11_method_40_code
def yX1_wordOf : MethodName := ⟨RX1, "wordOf", "(I)J"⟩
abbrev cX1_spelled : ByteArray := prog_11_method_39_code
def yX1_spelled : MethodName := ⟨RX1, "spelled", "(IIIIII)J"⟩
abbrev cX1_sign : ByteArray := prog_11_method_37_code
def yX1_sign : MethodName := ⟨RX1, "sign", "()I"⟩
abbrev cX1_takes : ByteArray := prog_11_method_43_code
def yX1_takes : MethodName := ⟨RX1, "takes", "(I)Z"⟩
abbrev cX1_test : ByteArray := prog_11_method_45_code
def yX1_test : MethodName := ⟨RX1, "test", "(I)Z"⟩
abbrev cX1_isDigit : ByteArray := prog_11_method_44_code
def yX1_isDigit : MethodName := ⟨RX1, "isDigit", "(I)Z"⟩
abbrev cX1_ruled : ByteArray := prog_11_method_51_code
def yX1_ruled : MethodName := ⟨RX1, "ruled", "(II)I"⟩
abbrev cX1_asked : ByteArray := prog_11_method_50_code
def yX1_asked : MethodName := ⟨RX1, "asked", "(II)I"⟩
abbrev cX1_isSo : ByteArray := prog_11_method_49_code
def yX1_isSo : MethodName := ⟨RX1, "isSo", "(III)Z"⟩
abbrev cX1_field : ByteArray := prog_11_method_48_code
def yX1_field : MethodName := ⟨RX1, "field", "(III)I"⟩
abbrev cX1_may : ByteArray := prog_11_method_53_code
def yX1_may : MethodName := ⟨RX1, "may", "(II)I"⟩
abbrev cX1_ashore : ByteArray := prog_11_method_52_code
def yX1_ashore : MethodName := ⟨RX1, "ashore", "(II)I"⟩
abbrev cX1_day : ByteArray := prog_11_method_54_code
def yX1_day : MethodName := ⟨RX1, "day", "(I)I"⟩
abbrev cX1_out : ByteArray := prog_11_method_56_code
def yX1_out : MethodName := ⟨RX1, "out", "(II)I"⟩
abbrev cX1_whoIn : ByteArray := prog_11_method_55_code
def yX1_whoIn : MethodName := ⟨RX1, "whoIn", "(I)I"⟩
abbrev cX1_look : ByteArray := prog_11_method_57_code
def yX1_look : MethodName := ⟨RX1, "look", "(II)I"⟩
abbrev cX1_broke : ByteArray := prog_11_method_58_code
def yX1_broke : MethodName := ⟨RX1, "broke", "(II)I"⟩
abbrev cX1_outing : ByteArray := prog_11_method_59_code
def yX1_outing : MethodName := ⟨RX1, "outing", "(II)I"⟩
abbrev cX1_heat : ByteArray := prog_11_method_60_code
def yX1_heat : MethodName := ⟨RX1, "heat", "(II)I"⟩
abbrev cX1_near : ByteArray := prog_11_method_61_code
def yX1_near : MethodName := ⟨RX1, "near", "(I)I"⟩
abbrev cX1_clashes : ByteArray := prog_11_method_63_code
def yX1_clashes : MethodName := ⟨RX1, "clashes", "()I"⟩
abbrev cX1_clash : ByteArray := prog_11_method_62_code
def yX1_clash : MethodName := ⟨RX1, "clash", "(III)Z"⟩
abbrev cX1_shift : ByteArray := prog_11_method_64_code
def yX1_shift : MethodName := ⟨RX1, "shift", "(I)I"⟩
abbrev cX1_trailer : ByteArray := prog_11_method_66_code
def yX1_trailer : MethodName := ⟨RX1, "trailer", "(II)I"⟩
abbrev cX1_longest : ByteArray := prog_11_method_65_code
def yX1_longest : MethodName := ⟨RX1, "longest", "(II)I"⟩
abbrev cX1_rack : ByteArray := prog_11_method_67_code
def yX1_rack : MethodName := ⟨RX1, "rack", "(I)I"⟩
abbrev cX1_count : ByteArray := prog_11_method_68_code
def yX1_count : MethodName := ⟨RX1, "count", "(I)I"⟩
theorem q58 : (Jvm.Cond.initialized "DawnEightsModel") ∈ lw_all := lw_g (lw_at lw_m1 2 rfl) rfl
theorem q755 : (Jvm.Cond.instantiable "DawnEightsModel" (53 : Nat)) ∈ lw_all := lw_g (lw_at lw_m3 219 rfl) rfl
theorem q757 : (Jvm.Cond.instanceMethod ({ cls := "DawnEightsModel", name := "<init>", desc := "()V" } : Jvm.MethodName)) ∈ lw_all := lw_g (lw_at lw_m3 221 rfl) rfl
theorem q758 : (Jvm.Cond.code ({ cls := "DawnEightsModel", name := "<init>", desc := "()V" } : Jvm.MethodName) prog_11_method_1_code (2 : Nat) (Option.none : Option Jvm.ClassFile.FieldType)) ∈ lw_all := lw_g (lw_at lw_m3 222 rfl) rfl
theorem q759 : (Jvm.Cond.methodLink "DawnEightsModel" (1 : Nat) ({ cls := "java/lang/Object", name := "<init>", desc := "()V" } : Jvm.MethodName)) ∈ lw_all := lw_g (lw_at lw_m3 223 rfl) rfl
theorem q760 : (Jvm.Cond.fieldLink "DawnEightsModel" (7 : Nat) "DawnEightsModel" "kindOf" "[I") ∈ lw_all := lw_g (lw_at lw_m3 224 rfl) rfl
theorem q761 : (Jvm.Cond.fieldLink "DawnEightsModel" (13 : Nat) "DawnEightsModel" "weightOf" "[I") ∈ lw_all := lw_g (lw_at lw_m3 225 rfl) rfl
theorem q762 : (Jvm.Cond.fieldLink "DawnEightsModel" (16 : Nat) "DawnEightsModel" "boatOf" "[I") ∈ lw_all := lw_g (lw_at lw_m3 226 rfl) rfl
theorem q763 : (Jvm.Cond.fieldLink "DawnEightsModel" (19 : Nat) "DawnEightsModel" "seatOf" "[I") ∈ lw_all := lw_g (lw_at lw_m3 227 rfl) rfl
theorem q764 : (Jvm.Cond.fieldLink "DawnEightsModel" (22 : Nat) "DawnEightsModel" "isIll" "[Z") ∈ lw_all := lw_g (lw_at lw_m3 228 rfl) rfl
theorem q765 : (Jvm.Cond.fieldLink "DawnEightsModel" (26 : Nat) "DawnEightsModel" "isBroken" "[Z") ∈ lw_all := lw_g (lw_at lw_m3 229 rfl) rfl
theorem q766 : (Jvm.Cond.fieldLink "DawnEightsModel" (29 : Nat) "DawnEightsModel" "boatKind" "[I") ∈ lw_all := lw_g (lw_at lw_m3 230 rfl) rfl
theorem q767 : (Jvm.Cond.fieldLink "DawnEightsModel" (32 : Nat) "DawnEightsModel" "least" "[I") ∈ lw_all := lw_g (lw_at lw_m3 231 rfl) rfl
theorem q768 : (Jvm.Cond.fieldLink "DawnEightsModel" (35 : Nat) "DawnEightsModel" "most" "[I") ∈ lw_all := lw_g (lw_at lw_m3 232 rfl) rfl
theorem q769 : (Jvm.Cond.fieldLink "DawnEightsModel" (38 : Nat) "DawnEightsModel" "longOf" "[I") ∈ lw_all := lw_g (lw_at lw_m3 233 rfl) rfl
theorem q770 : (Jvm.Cond.fieldLink "DawnEightsModel" (136 : Nat) "DawnEightsModel" "oars" "I") ∈ lw_all := lw_g (lw_at lw_m3 234 rfl) rfl
theorem q771 : (Jvm.Cond.fieldLink "DawnEightsModel" (139 : Nat) "DawnEightsModel" "boats" "I") ∈ lw_all := lw_g (lw_at lw_m3 235 rfl) rfl
theorem q772 : (Jvm.Cond.fieldLink "DawnEightsModel" (41 : Nat) "DawnEightsModel" "first" "[I") ∈ lw_all := lw_g (lw_at lw_m3 236 rfl) rfl
theorem q773 : (Jvm.Cond.fieldLink "DawnEightsModel" (44 : Nat) "DawnEightsModel" "second" "[I") ∈ lw_all := lw_g (lw_at lw_m3 237 rfl) rfl
theorem q774 : (Jvm.Cond.fieldLink "DawnEightsModel" (47 : Nat) "DawnEightsModel" "byHow" "[I") ∈ lw_all := lw_g (lw_at lw_m3 238 rfl) rfl
theorem q775 : (Jvm.Cond.fieldLink "DawnEightsModel" (50 : Nat) "DawnEightsModel" "groupOf" "[I") ∈ lw_all := lw_g (lw_at lw_m3 239 rfl) rfl
theorem q776 : (Jvm.Cond.fieldLink "DawnEightsModel" (180 : Nat) "DawnEightsModel" "races" "I") ∈ lw_all := lw_g (lw_at lw_m4 0 rfl) rfl
theorem q777 : (Jvm.Cond.fieldLink "DawnEightsModel" (53 : Nat) "DawnEightsModel" "placeOf" "[I") ∈ lw_all := lw_g (lw_at lw_m4 1 rfl) rfl
theorem q778 : (Jvm.Cond.fieldLink "DawnEightsModel" (56 : Nat) "DawnEightsModel" "table" "[J") ∈ lw_all := lw_g (lw_at lw_m4 2 rfl) rfl
theorem q779 : (Jvm.Cond.fieldLink "DawnEightsModel" (60 : Nat) "DawnEightsModel" "right" "[J") ∈ lw_all := lw_g (lw_at lw_m4 3 rfl) rfl
theorem q780 : (Jvm.Cond.fieldLink "DawnEightsModel" (63 : Nat) "DawnEightsModel" "used" "[J") ∈ lw_all := lw_g (lw_at lw_m4 4 rfl) rfl
theorem q781 : (Jvm.Cond.fieldLink "DawnEightsModel" (66 : Nat) "DawnEightsModel" "strength" "[J") ∈ lw_all := lw_g (lw_at lw_m4 5 rfl) rfl
theorem q782 : (Jvm.Cond.fieldLink "DawnEightsModel" (186 : Nat) "DawnEightsModel" "others" "I") ∈ lw_all := lw_g (lw_at lw_m4 6 rfl) rfl
theorem q783 : (Jvm.Cond.fieldLink "DawnEightsModel" (200 : Nat) "DawnEightsModel" "line" "J") ∈ lw_all := lw_g (lw_at lw_m4 7 rfl) rfl
theorem q784 : (Jvm.Cond.fieldLink "DawnEightsModel" (69 : Nat) "DawnEightsModel" "cost" "[I") ∈ lw_all := lw_g (lw_at lw_m4 8 rfl) rfl
theorem q785 : (Jvm.Cond.fieldLink "DawnEightsModel" (72 : Nat) "DawnEightsModel" "given" "[I") ∈ lw_all := lw_g (lw_at lw_m4 9 rfl) rfl
theorem q786 : (Jvm.Cond.fieldLink "DawnEightsModel" (75 : Nat) "DawnEightsModel" "stream" "[I") ∈ lw_all := lw_g (lw_at lw_m4 10 rfl) rfl
theorem q787 : (Jvm.Cond.fieldLink "DawnEightsModel" (78 : Nat) "DawnEightsModel" "wind" "[I") ∈ lw_all := lw_g (lw_at lw_m4 11 rfl) rfl
theorem q788 : (Jvm.Cond.fieldLink "DawnEightsModel" (81 : Nat) "DawnEightsModel" "tape" "[I") ∈ lw_all := lw_g (lw_at lw_m4 12 rfl) rfl
theorem q789 : (Jvm.Cond.fieldLink "DawnEightsModel" (246 : Nat) "DawnEightsModel" "taped" "I") ∈ lw_all := lw_g (lw_at lw_m4 13 rfl) rfl
theorem q790 : (Jvm.Cond.fieldLink "DawnEightsModel" (284 : Nat) "DawnEightsModel" "rules" "I") ∈ lw_all := lw_g (lw_at lw_m4 14 rfl) rfl
theorem q791 : (Jvm.Cond.fieldLink "DawnEightsModel" (293 : Nat) "DawnEightsModel" "day" "I") ∈ lw_all := lw_g (lw_at lw_m4 15 rfl) rfl
theorem q792 : (Jvm.Cond.fieldLink "DawnEightsModel" (84 : Nat) "DawnEightsModel" "isBar" "[Z") ∈ lw_all := lw_g (lw_at lw_m4 16 rfl) rfl
theorem q793 : (Jvm.Cond.fieldLink "DawnEightsModel" (87 : Nat) "DawnEightsModel" "ruleKind" "[I") ∈ lw_all := lw_g (lw_at lw_m4 17 rfl) rfl
theorem q794 : (Jvm.Cond.fieldLink "DawnEightsModel" (90 : Nat) "DawnEightsModel" "tests" "[I") ∈ lw_all := lw_g (lw_at lw_m4 18 rfl) rfl
theorem q795 : (Jvm.Cond.fieldLink "DawnEightsModel" (93 : Nat) "DawnEightsModel" "test" "[I") ∈ lw_all := lw_g (lw_at lw_m4 19 rfl) rfl
theorem q796 : (Jvm.Cond.fieldLink "DawnEightsModel" (251 : Nat) "DawnEightsModel" "at" "I") ∈ lw_all := lw_g (lw_at lw_m4 20 rfl) rfl
theorem q797 : (Jvm.Cond.fieldLink "DawnEightsModel" (96 : Nat) "DawnEightsModel" "outBoat" "[I") ∈ lw_all := lw_g (lw_at lw_m4 21 rfl) rfl
theorem q798 : (Jvm.Cond.fieldLink "DawnEightsModel" (99 : Nat) "DawnEightsModel" "outDay" "[I") ∈ lw_all := lw_g (lw_at lw_m4 22 rfl) rfl
theorem q799 : (Jvm.Cond.fieldLink "DawnEightsModel" (102 : Nat) "DawnEightsModel" "outHour" "[I") ∈ lw_all := lw_g (lw_at lw_m4 23 rfl) rfl
theorem q800 : (Jvm.Cond.fieldLink "DawnEightsModel" (105 : Nat) "DawnEightsModel" "outWho" "[I") ∈ lw_all := lw_g (lw_at lw_m4 24 rfl) rfl
theorem q801 : (Jvm.Cond.fieldLink "DawnEightsModel" (108 : Nat) "DawnEightsModel" "lookBoat" "[I") ∈ lw_all := lw_g (lw_at lw_m4 25 rfl) rfl
theorem q802 : (Jvm.Cond.fieldLink "DawnEightsModel" (111 : Nat) "DawnEightsModel" "lookAt" "[I") ∈ lw_all := lw_g (lw_at lw_m4 26 rfl) rfl
theorem q803 : (Jvm.Cond.fieldLink "DawnEightsModel" (114 : Nat) "DawnEightsModel" "isWhole" "[Z") ∈ lw_all := lw_g (lw_at lw_m4 27 rfl) rfl
theorem q804 : (Jvm.Cond.fieldLink "DawnEightsModel" (308 : Nat) "DawnEightsModel" "outings" "I") ∈ lw_all := lw_g (lw_at lw_m4 28 rfl) rfl
theorem q805 : (Jvm.Cond.fieldLink "DawnEightsModel" (314 : Nat) "DawnEightsModel" "looks" "I") ∈ lw_all := lw_g (lw_at lw_m4 29 rfl) rfl
theorem q806 : (Jvm.Cond.fieldLink "DawnEightsModel" (117 : Nat) "DawnEightsModel" "heatBoat" "[I") ∈ lw_all := lw_g (lw_at lw_m4 30 rfl) rfl
theorem q807 : (Jvm.Cond.fieldLink "DawnEightsModel" (120 : Nat) "DawnEightsModel" "heatAt" "[I") ∈ lw_all := lw_g (lw_at lw_m4 31 rfl) rfl
theorem q808 : (Jvm.Cond.fieldLink "DawnEightsModel" (321 : Nat) "DawnEightsModel" "heats" "I") ∈ lw_all := lw_g (lw_at lw_m4 32 rfl) rfl
theorem q809 : (Jvm.Cond.fieldLink "DawnEightsModel" (123 : Nat) "DawnEightsModel" "near" "I") ∈ lw_all := lw_g (lw_at lw_m4 33 rfl) rfl
theorem q810 : (Jvm.Cond.fieldLink "DawnEightsModel" (127 : Nat) "DawnEightsModel" "rackOf" "[I") ∈ lw_all := lw_g (lw_at lw_m4 34 rfl) rfl
theorem q811 : (Jvm.Cond.fieldLink "DawnEightsModel" (130 : Nat) "DawnEightsModel" "lies" "[I") ∈ lw_all := lw_g (lw_at lw_m4 35 rfl) rfl
theorem q812 : (Jvm.Cond.fieldLink "DawnEightsModel" (133 : Nat) "DawnEightsModel" "long3" "[I") ∈ lw_all := lw_g (lw_at lw_m4 36 rfl) rfl
theorem q813 : (Jvm.Cond.laysFinal "DawnEightsModel" "DawnEightsModel" "kindOf" "[I") ∈ lw_all := lw_g (lw_at lw_m4 37 rfl) rfl
theorem q814 : (Jvm.Cond.soleField "DawnEightsModel" "kindOf") ∈ lw_all := lw_g (lw_at lw_m4 38 rfl) rfl
theorem q815 : (Jvm.Cond.laysFinal "DawnEightsModel" "DawnEightsModel" "weightOf" "[I") ∈ lw_all := lw_g (lw_at lw_m4 39 rfl) rfl
theorem q816 : (Jvm.Cond.soleField "DawnEightsModel" "weightOf") ∈ lw_all := lw_g (lw_at lw_m4 40 rfl) rfl
theorem q817 : (Jvm.Cond.laysFinal "DawnEightsModel" "DawnEightsModel" "boatOf" "[I") ∈ lw_all := lw_g (lw_at lw_m4 41 rfl) rfl
theorem q818 : (Jvm.Cond.soleField "DawnEightsModel" "boatOf") ∈ lw_all := lw_g (lw_at lw_m4 42 rfl) rfl
theorem q819 : (Jvm.Cond.laysFinal "DawnEightsModel" "DawnEightsModel" "seatOf" "[I") ∈ lw_all := lw_g (lw_at lw_m4 43 rfl) rfl
theorem q820 : (Jvm.Cond.soleField "DawnEightsModel" "seatOf") ∈ lw_all := lw_g (lw_at lw_m4 44 rfl) rfl
theorem q821 : (Jvm.Cond.laysFinal "DawnEightsModel" "DawnEightsModel" "isIll" "[Z") ∈ lw_all := lw_g (lw_at lw_m4 45 rfl) rfl
theorem q822 : (Jvm.Cond.soleField "DawnEightsModel" "isIll") ∈ lw_all := lw_g (lw_at lw_m4 46 rfl) rfl
theorem q823 : (Jvm.Cond.laysFinal "DawnEightsModel" "DawnEightsModel" "isBroken" "[Z") ∈ lw_all := lw_g (lw_at lw_m4 47 rfl) rfl
theorem q824 : (Jvm.Cond.soleField "DawnEightsModel" "isBroken") ∈ lw_all := lw_g (lw_at lw_m4 48 rfl) rfl
theorem q825 : (Jvm.Cond.laysFinal "DawnEightsModel" "DawnEightsModel" "boatKind" "[I") ∈ lw_all := lw_g (lw_at lw_m4 49 rfl) rfl
theorem q826 : (Jvm.Cond.soleField "DawnEightsModel" "boatKind") ∈ lw_all := lw_g (lw_at lw_m4 50 rfl) rfl
theorem q827 : (Jvm.Cond.laysFinal "DawnEightsModel" "DawnEightsModel" "least" "[I") ∈ lw_all := lw_g (lw_at lw_m4 51 rfl) rfl
theorem q828 : (Jvm.Cond.soleField "DawnEightsModel" "least") ∈ lw_all := lw_g (lw_at lw_m4 52 rfl) rfl
theorem q829 : (Jvm.Cond.laysFinal "DawnEightsModel" "DawnEightsModel" "most" "[I") ∈ lw_all := lw_g (lw_at lw_m4 53 rfl) rfl
theorem q830 : (Jvm.Cond.soleField "DawnEightsModel" "most") ∈ lw_all := lw_g (lw_at lw_m4 54 rfl) rfl
theorem q831 : (Jvm.Cond.laysFinal "DawnEightsModel" "DawnEightsModel" "longOf" "[I") ∈ lw_all := lw_g (lw_at lw_m4 55 rfl) rfl
theorem q832 : (Jvm.Cond.soleField "DawnEightsModel" "longOf") ∈ lw_all := lw_g (lw_at lw_m4 56 rfl) rfl
theorem q833 : (Jvm.Cond.lays "DawnEightsModel" "DawnEightsModel" "oars" "I") ∈ lw_all := lw_g (lw_at lw_m4 57 rfl) rfl
theorem q834 : (Jvm.Cond.soleField "DawnEightsModel" "oars") ∈ lw_all := lw_g (lw_at lw_m4 58 rfl) rfl
theorem q835 : (Jvm.Cond.lays "DawnEightsModel" "DawnEightsModel" "boats" "I") ∈ lw_all := lw_g (lw_at lw_m4 59 rfl) rfl
theorem q836 : (Jvm.Cond.soleField "DawnEightsModel" "boats") ∈ lw_all := lw_g (lw_at lw_m4 60 rfl) rfl
theorem q837 : (Jvm.Cond.laysFinal "DawnEightsModel" "DawnEightsModel" "first" "[I") ∈ lw_all := lw_g (lw_at lw_m4 61 rfl) rfl
theorem q838 : (Jvm.Cond.soleField "DawnEightsModel" "first") ∈ lw_all := lw_g (lw_at lw_m4 62 rfl) rfl
theorem q839 : (Jvm.Cond.laysFinal "DawnEightsModel" "DawnEightsModel" "second" "[I") ∈ lw_all := lw_g (lw_at lw_m4 63 rfl) rfl
theorem q840 : (Jvm.Cond.soleField "DawnEightsModel" "second") ∈ lw_all := lw_g (lw_at lw_m4 64 rfl) rfl
theorem q841 : (Jvm.Cond.laysFinal "DawnEightsModel" "DawnEightsModel" "byHow" "[I") ∈ lw_all := lw_g (lw_at lw_m4 65 rfl) rfl
theorem q842 : (Jvm.Cond.soleField "DawnEightsModel" "byHow") ∈ lw_all := lw_g (lw_at lw_m4 66 rfl) rfl
theorem q843 : (Jvm.Cond.laysFinal "DawnEightsModel" "DawnEightsModel" "groupOf" "[I") ∈ lw_all := lw_g (lw_at lw_m4 67 rfl) rfl
theorem q844 : (Jvm.Cond.soleField "DawnEightsModel" "groupOf") ∈ lw_all := lw_g (lw_at lw_m4 68 rfl) rfl
theorem q845 : (Jvm.Cond.lays "DawnEightsModel" "DawnEightsModel" "races" "I") ∈ lw_all := lw_g (lw_at lw_m4 69 rfl) rfl
theorem q846 : (Jvm.Cond.soleField "DawnEightsModel" "races") ∈ lw_all := lw_g (lw_at lw_m4 70 rfl) rfl
theorem q847 : (Jvm.Cond.laysFinal "DawnEightsModel" "DawnEightsModel" "placeOf" "[I") ∈ lw_all := lw_g (lw_at lw_m4 71 rfl) rfl
theorem q848 : (Jvm.Cond.soleField "DawnEightsModel" "placeOf") ∈ lw_all := lw_g (lw_at lw_m4 72 rfl) rfl
theorem q849 : (Jvm.Cond.laysFinal "DawnEightsModel" "DawnEightsModel" "table" "[J") ∈ lw_all := lw_g (lw_at lw_m4 73 rfl) rfl
theorem q850 : (Jvm.Cond.soleField "DawnEightsModel" "table") ∈ lw_all := lw_g (lw_at lw_m4 74 rfl) rfl
theorem q851 : (Jvm.Cond.laysFinal "DawnEightsModel" "DawnEightsModel" "right" "[J") ∈ lw_all := lw_g (lw_at lw_m4 75 rfl) rfl
theorem q852 : (Jvm.Cond.soleField "DawnEightsModel" "right") ∈ lw_all := lw_g (lw_at lw_m4 76 rfl) rfl
theorem q853 : (Jvm.Cond.laysFinal "DawnEightsModel" "DawnEightsModel" "used" "[J") ∈ lw_all := lw_g (lw_at lw_m4 77 rfl) rfl
theorem q854 : (Jvm.Cond.soleField "DawnEightsModel" "used") ∈ lw_all := lw_g (lw_at lw_m4 78 rfl) rfl
theorem q855 : (Jvm.Cond.laysFinal "DawnEightsModel" "DawnEightsModel" "strength" "[J") ∈ lw_all := lw_g (lw_at lw_m4 79 rfl) rfl
theorem q856 : (Jvm.Cond.soleField "DawnEightsModel" "strength") ∈ lw_all := lw_g (lw_at lw_m4 80 rfl) rfl
theorem q857 : (Jvm.Cond.lays "DawnEightsModel" "DawnEightsModel" "others" "I") ∈ lw_all := lw_g (lw_at lw_m4 81 rfl) rfl
theorem q858 : (Jvm.Cond.soleField "DawnEightsModel" "others") ∈ lw_all := lw_g (lw_at lw_m4 82 rfl) rfl
theorem q859 : (Jvm.Cond.lays "DawnEightsModel" "DawnEightsModel" "line" "J") ∈ lw_all := lw_g (lw_at lw_m4 83 rfl) rfl
theorem q860 : (Jvm.Cond.soleField "DawnEightsModel" "line") ∈ lw_all := lw_g (lw_at lw_m4 84 rfl) rfl
theorem q861 : (Jvm.Cond.laysFinal "DawnEightsModel" "DawnEightsModel" "cost" "[I") ∈ lw_all := lw_g (lw_at lw_m4 85 rfl) rfl
theorem q862 : (Jvm.Cond.soleField "DawnEightsModel" "cost") ∈ lw_all := lw_g (lw_at lw_m4 86 rfl) rfl
theorem q863 : (Jvm.Cond.laysFinal "DawnEightsModel" "DawnEightsModel" "given" "[I") ∈ lw_all := lw_g (lw_at lw_m4 87 rfl) rfl
theorem q864 : (Jvm.Cond.soleField "DawnEightsModel" "given") ∈ lw_all := lw_g (lw_at lw_m4 88 rfl) rfl
theorem q865 : (Jvm.Cond.laysFinal "DawnEightsModel" "DawnEightsModel" "stream" "[I") ∈ lw_all := lw_g (lw_at lw_m4 89 rfl) rfl
theorem q866 : (Jvm.Cond.soleField "DawnEightsModel" "stream") ∈ lw_all := lw_g (lw_at lw_m4 90 rfl) rfl
theorem q867 : (Jvm.Cond.laysFinal "DawnEightsModel" "DawnEightsModel" "wind" "[I") ∈ lw_all := lw_g (lw_at lw_m4 91 rfl) rfl
theorem q868 : (Jvm.Cond.soleField "DawnEightsModel" "wind") ∈ lw_all := lw_g (lw_at lw_m4 92 rfl) rfl
theorem q869 : (Jvm.Cond.laysFinal "DawnEightsModel" "DawnEightsModel" "tape" "[I") ∈ lw_all := lw_g (lw_at lw_m4 93 rfl) rfl
theorem q870 : (Jvm.Cond.soleField "DawnEightsModel" "tape") ∈ lw_all := lw_g (lw_at lw_m4 94 rfl) rfl
theorem q871 : (Jvm.Cond.lays "DawnEightsModel" "DawnEightsModel" "taped" "I") ∈ lw_all := lw_g (lw_at lw_m4 95 rfl) rfl
theorem q872 : (Jvm.Cond.soleField "DawnEightsModel" "taped") ∈ lw_all := lw_g (lw_at lw_m4 96 rfl) rfl
theorem q873 : (Jvm.Cond.lays "DawnEightsModel" "DawnEightsModel" "rules" "I") ∈ lw_all := lw_g (lw_at lw_m4 97 rfl) rfl
theorem q874 : (Jvm.Cond.soleField "DawnEightsModel" "rules") ∈ lw_all := lw_g (lw_at lw_m4 98 rfl) rfl
theorem q875 : (Jvm.Cond.lays "DawnEightsModel" "DawnEightsModel" "day" "I") ∈ lw_all := lw_g (lw_at lw_m4 99 rfl) rfl
theorem q876 : (Jvm.Cond.soleField "DawnEightsModel" "day") ∈ lw_all := lw_g (lw_at lw_m4 100 rfl) rfl
theorem q877 : (Jvm.Cond.laysFinal "DawnEightsModel" "DawnEightsModel" "isBar" "[Z") ∈ lw_all := lw_g (lw_at lw_m4 101 rfl) rfl
theorem q878 : (Jvm.Cond.soleField "DawnEightsModel" "isBar") ∈ lw_all := lw_g (lw_at lw_m4 102 rfl) rfl
theorem q879 : (Jvm.Cond.laysFinal "DawnEightsModel" "DawnEightsModel" "ruleKind" "[I") ∈ lw_all := lw_g (lw_at lw_m4 103 rfl) rfl
theorem q880 : (Jvm.Cond.soleField "DawnEightsModel" "ruleKind") ∈ lw_all := lw_g (lw_at lw_m4 104 rfl) rfl
theorem q881 : (Jvm.Cond.laysFinal "DawnEightsModel" "DawnEightsModel" "tests" "[I") ∈ lw_all := lw_g (lw_at lw_m4 105 rfl) rfl
theorem q882 : (Jvm.Cond.soleField "DawnEightsModel" "tests") ∈ lw_all := lw_g (lw_at lw_m4 106 rfl) rfl
theorem q883 : (Jvm.Cond.laysFinal "DawnEightsModel" "DawnEightsModel" "test" "[I") ∈ lw_all := lw_g (lw_at lw_m4 107 rfl) rfl
theorem q884 : (Jvm.Cond.soleField "DawnEightsModel" "test") ∈ lw_all := lw_g (lw_at lw_m4 108 rfl) rfl
theorem q885 : (Jvm.Cond.lays "DawnEightsModel" "DawnEightsModel" "at" "I") ∈ lw_all := lw_g (lw_at lw_m4 109 rfl) rfl
theorem q886 : (Jvm.Cond.soleField "DawnEightsModel" "at") ∈ lw_all := lw_g (lw_at lw_m4 110 rfl) rfl
theorem q887 : (Jvm.Cond.laysFinal "DawnEightsModel" "DawnEightsModel" "outBoat" "[I") ∈ lw_all := lw_g (lw_at lw_m4 111 rfl) rfl
theorem q888 : (Jvm.Cond.soleField "DawnEightsModel" "outBoat") ∈ lw_all := lw_g (lw_at lw_m4 112 rfl) rfl
theorem q889 : (Jvm.Cond.laysFinal "DawnEightsModel" "DawnEightsModel" "outDay" "[I") ∈ lw_all := lw_g (lw_at lw_m4 113 rfl) rfl
theorem q890 : (Jvm.Cond.soleField "DawnEightsModel" "outDay") ∈ lw_all := lw_g (lw_at lw_m4 114 rfl) rfl
theorem q891 : (Jvm.Cond.laysFinal "DawnEightsModel" "DawnEightsModel" "outHour" "[I") ∈ lw_all := lw_g (lw_at lw_m4 115 rfl) rfl
theorem q892 : (Jvm.Cond.soleField "DawnEightsModel" "outHour") ∈ lw_all := lw_g (lw_at lw_m4 116 rfl) rfl
theorem q893 : (Jvm.Cond.laysFinal "DawnEightsModel" "DawnEightsModel" "outWho" "[I") ∈ lw_all := lw_g (lw_at lw_m4 117 rfl) rfl
theorem q894 : (Jvm.Cond.soleField "DawnEightsModel" "outWho") ∈ lw_all := lw_g (lw_at lw_m4 118 rfl) rfl
theorem q895 : (Jvm.Cond.laysFinal "DawnEightsModel" "DawnEightsModel" "lookBoat" "[I") ∈ lw_all := lw_g (lw_at lw_m4 119 rfl) rfl
theorem q896 : (Jvm.Cond.soleField "DawnEightsModel" "lookBoat") ∈ lw_all := lw_g (lw_at lw_m4 120 rfl) rfl
theorem q897 : (Jvm.Cond.laysFinal "DawnEightsModel" "DawnEightsModel" "lookAt" "[I") ∈ lw_all := lw_g (lw_at lw_m4 121 rfl) rfl
theorem q898 : (Jvm.Cond.soleField "DawnEightsModel" "lookAt") ∈ lw_all := lw_g (lw_at lw_m4 122 rfl) rfl
theorem q899 : (Jvm.Cond.laysFinal "DawnEightsModel" "DawnEightsModel" "isWhole" "[Z") ∈ lw_all := lw_g (lw_at lw_m4 123 rfl) rfl
theorem q900 : (Jvm.Cond.soleField "DawnEightsModel" "isWhole") ∈ lw_all := lw_g (lw_at lw_m4 124 rfl) rfl
theorem q901 : (Jvm.Cond.lays "DawnEightsModel" "DawnEightsModel" "outings" "I") ∈ lw_all := lw_g (lw_at lw_m4 125 rfl) rfl
theorem q902 : (Jvm.Cond.soleField "DawnEightsModel" "outings") ∈ lw_all := lw_g (lw_at lw_m4 126 rfl) rfl
theorem q903 : (Jvm.Cond.lays "DawnEightsModel" "DawnEightsModel" "looks" "I") ∈ lw_all := lw_g (lw_at lw_m4 127 rfl) rfl
theorem q904 : (Jvm.Cond.soleField "DawnEightsModel" "looks") ∈ lw_all := lw_g (lw_at lw_m4 128 rfl) rfl
theorem q905 : (Jvm.Cond.laysFinal "DawnEightsModel" "DawnEightsModel" "heatBoat" "[I") ∈ lw_all := lw_g (lw_at lw_m4 129 rfl) rfl
theorem q906 : (Jvm.Cond.soleField "DawnEightsModel" "heatBoat") ∈ lw_all := lw_g (lw_at lw_m4 130 rfl) rfl
theorem q907 : (Jvm.Cond.laysFinal "DawnEightsModel" "DawnEightsModel" "heatAt" "[I") ∈ lw_all := lw_g (lw_at lw_m4 131 rfl) rfl
theorem q908 : (Jvm.Cond.soleField "DawnEightsModel" "heatAt") ∈ lw_all := lw_g (lw_at lw_m4 132 rfl) rfl
theorem q909 : (Jvm.Cond.lays "DawnEightsModel" "DawnEightsModel" "heats" "I") ∈ lw_all := lw_g (lw_at lw_m4 133 rfl) rfl
theorem q910 : (Jvm.Cond.soleField "DawnEightsModel" "heats") ∈ lw_all := lw_g (lw_at lw_m4 134 rfl) rfl
theorem q911 : (Jvm.Cond.lays "DawnEightsModel" "DawnEightsModel" "near" "I") ∈ lw_all := lw_g (lw_at lw_m4 135 rfl) rfl
theorem q912 : (Jvm.Cond.soleField "DawnEightsModel" "near") ∈ lw_all := lw_g (lw_at lw_m4 136 rfl) rfl
theorem q913 : (Jvm.Cond.laysFinal "DawnEightsModel" "DawnEightsModel" "rackOf" "[I") ∈ lw_all := lw_g (lw_at lw_m4 137 rfl) rfl
theorem q914 : (Jvm.Cond.soleField "DawnEightsModel" "rackOf") ∈ lw_all := lw_g (lw_at lw_m4 138 rfl) rfl
theorem q915 : (Jvm.Cond.laysFinal "DawnEightsModel" "DawnEightsModel" "lies" "[I") ∈ lw_all := lw_g (lw_at lw_m4 139 rfl) rfl
theorem q916 : (Jvm.Cond.soleField "DawnEightsModel" "lies") ∈ lw_all := lw_g (lw_at lw_m4 140 rfl) rfl
theorem q917 : (Jvm.Cond.laysFinal "DawnEightsModel" "DawnEightsModel" "long3" "[I") ∈ lw_all := lw_g (lw_at lw_m4 141 rfl) rfl
theorem q918 : (Jvm.Cond.soleField "DawnEightsModel" "long3") ∈ lw_all := lw_g (lw_at lw_m4 142 rfl) rfl
theorem q919 : (Jvm.Cond.superclass "DawnEightsModel" "java/lang/Object") ∈ lw_all := lw_g (lw_at lw_m4 143 rfl) rfl
theorem q921 : (Jvm.Cond.instanceMethod ({ cls := "DawnEightsModel", name := "oar", desc := "(II)I" } : Jvm.MethodName)) ∈ lw_all := lw_g (lw_at lw_m4 145 rfl) rfl
theorem q922 : (Jvm.Cond.selects "DawnEightsModel" ({ cls := "DawnEightsModel", name := "oar", desc := "(II)I" } : Jvm.MethodName) ({ cls := "DawnEightsModel", name := "oar", desc := "(II)I" } : Jvm.MethodName)) ∈ lw_all := lw_g (lw_at lw_m4 146 rfl) rfl
theorem q923 : (Jvm.Cond.code ({ cls := "DawnEightsModel", name := "oar", desc := "(II)I" } : Jvm.MethodName) prog_11_method_8_code (3 : Nat) (Option.some Jvm.ClassFile.FieldType.int)) ∈ lw_all := lw_g (lw_at lw_m4 147 rfl) rfl
theorem q924 : (Jvm.Cond.constantLong "DawnEightsModel" (153 : Nat) (4 : Int64)) ∈ lw_all := lw_g (lw_at lw_m4 148 rfl) rfl
theorem q925 : (Jvm.Cond.methodLink "DawnEightsModel" (155 : Nat) ({ cls := "DawnEightsModel", name := "isIn", desc := "(JJJ)Z" } : Jvm.MethodName)) ∈ lw_all := lw_g (lw_at lw_m4 149 rfl) rfl
theorem q926 : (Jvm.Cond.static ({ cls := "DawnEightsModel", name := "isIn", desc := "(JJJ)Z" } : Jvm.MethodName)) ∈ lw_all := lw_g (lw_at lw_m4 150 rfl) rfl
theorem q927 : (Jvm.Cond.code ({ cls := "DawnEightsModel", name := "isIn", desc := "(JJJ)Z" } : Jvm.MethodName) prog_11_method_2_code (6 : Nat) (Option.some Jvm.ClassFile.FieldType.boolean)) ∈ lw_all := lw_g (lw_at lw_m4 151 rfl) rfl
theorem q928 : (Jvm.Cond.constantLong "DawnEightsModel" (159 : Nat) (30 : Int64)) ∈ lw_all := lw_g (lw_at lw_m4 152 rfl) rfl
theorem q929 : (Jvm.Cond.constantLong "DawnEightsModel" (161 : Nat) (150 : Int64)) ∈ lw_all := lw_g (lw_at lw_m4 153 rfl) rfl
theorem q931 : (Jvm.Cond.instanceMethod ({ cls := "DawnEightsModel", name := "boat", desc := "(IIII)I" } : Jvm.MethodName)) ∈ lw_all := lw_g (lw_at lw_m4 155 rfl) rfl
theorem q932 : (Jvm.Cond.selects "DawnEightsModel" ({ cls := "DawnEightsModel", name := "boat", desc := "(IIII)I" } : Jvm.MethodName) ({ cls := "DawnEightsModel", name := "boat", desc := "(IIII)I" } : Jvm.MethodName)) ∈ lw_all := lw_g (lw_at lw_m4 156 rfl) rfl
theorem q933 : (Jvm.Cond.code ({ cls := "DawnEightsModel", name := "boat", desc := "(IIII)I" } : Jvm.MethodName) prog_11_method_9_code (5 : Nat) (Option.some Jvm.ClassFile.FieldType.int)) ∈ lw_all := lw_g (lw_at lw_m4 157 rfl) rfl
theorem q934 : (Jvm.Cond.constantLong "DawnEightsModel" (163 : Nat) (99 : Int64)) ∈ lw_all := lw_g (lw_at lw_m4 158 rfl) rfl
theorem q936 : (Jvm.Cond.instanceMethod ({ cls := "DawnEightsModel", name := "ill", desc := "(II)I" } : Jvm.MethodName)) ∈ lw_all := lw_g (lw_at lw_m4 160 rfl) rfl
theorem q937 : (Jvm.Cond.selects "DawnEightsModel" ({ cls := "DawnEightsModel", name := "ill", desc := "(II)I" } : Jvm.MethodName) ({ cls := "DawnEightsModel", name := "ill", desc := "(II)I" } : Jvm.MethodName)) ∈ lw_all := lw_g (lw_at lw_m4 161 rfl) rfl
theorem q938 : (Jvm.Cond.code ({ cls := "DawnEightsModel", name := "ill", desc := "(II)I" } : Jvm.MethodName) prog_11_method_10_code (4 : Nat) (Option.some Jvm.ClassFile.FieldType.int)) ∈ lw_all := lw_g (lw_at lw_m4 162 rfl) rfl
theorem q939 : (Jvm.Cond.methodLink "DawnEightsModel" (165 : Nat) ({ cls := "DawnEightsModel", name := "isOar", desc := "(I)Z" } : Jvm.MethodName)) ∈ lw_all := lw_g (lw_at lw_m4 163 rfl) rfl
theorem q940 : (Jvm.Cond.privateMethod ({ cls := "DawnEightsModel", name := "isOar", desc := "(I)Z" } : Jvm.MethodName)) ∈ lw_tbl := lw_at lw_m4 164 rfl
theorem q941 : (Jvm.Cond.instanceMethod ({ cls := "DawnEightsModel", name := "isOar", desc := "(I)Z" } : Jvm.MethodName)) ∈ lw_all := lw_g (lw_at lw_m4 165 rfl) rfl
theorem q942 : (Jvm.Cond.code ({ cls := "DawnEightsModel", name := "isOar", desc := "(I)Z" } : Jvm.MethodName) prog_11_method_3_code (2 : Nat) (Option.some Jvm.ClassFile.FieldType.boolean)) ∈ lw_all := lw_g (lw_at lw_m4 166 rfl) rfl
theorem q944 : (Jvm.Cond.instanceMethod ({ cls := "DawnEightsModel", name := "sit", desc := "(III)I" } : Jvm.MethodName)) ∈ lw_all := lw_g (lw_at lw_m4 168 rfl) rfl
theorem q945 : (Jvm.Cond.selects "DawnEightsModel" ({ cls := "DawnEightsModel", name := "sit", desc := "(III)I" } : Jvm.MethodName) ({ cls := "DawnEightsModel", name := "sit", desc := "(III)I" } : Jvm.MethodName)) ∈ lw_all := lw_g (lw_at lw_m4 169 rfl) rfl
theorem q946 : (Jvm.Cond.code ({ cls := "DawnEightsModel", name := "sit", desc := "(III)I" } : Jvm.MethodName) prog_11_method_12_code (5 : Nat) (Option.some Jvm.ClassFile.FieldType.int)) ∈ lw_all := lw_g (lw_at lw_m4 170 rfl) rfl
theorem q947 : (Jvm.Cond.methodLink "DawnEightsModel" (168 : Nat) ({ cls := "DawnEightsModel", name := "isSeat", desc := "(II)Z" } : Jvm.MethodName)) ∈ lw_all := lw_g (lw_at lw_m4 171 rfl) rfl
theorem q948 : (Jvm.Cond.privateMethod ({ cls := "DawnEightsModel", name := "isSeat", desc := "(II)Z" } : Jvm.MethodName)) ∈ lw_tbl := lw_at lw_m4 172 rfl
theorem q949 : (Jvm.Cond.instanceMethod ({ cls := "DawnEightsModel", name := "isSeat", desc := "(II)Z" } : Jvm.MethodName)) ∈ lw_all := lw_g (lw_at lw_m4 173 rfl) rfl
theorem q950 : (Jvm.Cond.code ({ cls := "DawnEightsModel", name := "isSeat", desc := "(II)Z" } : Jvm.MethodName) prog_11_method_7_code (3 : Nat) (Option.some Jvm.ClassFile.FieldType.boolean)) ∈ lw_all := lw_g (lw_at lw_m4 174 rfl) rfl
theorem q951 : (Jvm.Cond.methodLink "DawnEightsModel" (142 : Nat) ({ cls := "DawnEightsModel", name := "isBoat", desc := "(I)Z" } : Jvm.MethodName)) ∈ lw_all := lw_g (lw_at lw_m4 175 rfl) rfl
theorem q952 : (Jvm.Cond.privateMethod ({ cls := "DawnEightsModel", name := "isBoat", desc := "(I)Z" } : Jvm.MethodName)) ∈ lw_tbl := lw_at lw_m4 176 rfl
theorem q953 : (Jvm.Cond.instanceMethod ({ cls := "DawnEightsModel", name := "isBoat", desc := "(I)Z" } : Jvm.MethodName)) ∈ lw_all := lw_g (lw_at lw_m4 177 rfl) rfl
theorem q954 : (Jvm.Cond.code ({ cls := "DawnEightsModel", name := "isBoat", desc := "(I)Z" } : Jvm.MethodName) prog_11_method_4_code (2 : Nat) (Option.some Jvm.ClassFile.FieldType.boolean)) ∈ lw_all := lw_g (lw_at lw_m4 178 rfl) rfl
theorem q955 : (Jvm.Cond.methodLink "DawnEightsModel" (146 : Nat) ({ cls := "DawnEightsModel", name := "seatsOf", desc := "(I)I" } : Jvm.MethodName)) ∈ lw_all := lw_g (lw_at lw_m4 179 rfl) rfl
theorem q956 : (Jvm.Cond.privateMethod ({ cls := "DawnEightsModel", name := "seatsOf", desc := "(I)I" } : Jvm.MethodName)) ∈ lw_tbl := lw_at lw_m4 180 rfl
theorem q957 : (Jvm.Cond.instanceMethod ({ cls := "DawnEightsModel", name := "seatsOf", desc := "(I)I" } : Jvm.MethodName)) ∈ lw_all := lw_g (lw_at lw_m4 181 rfl) rfl
theorem q958 : (Jvm.Cond.code ({ cls := "DawnEightsModel", name := "seatsOf", desc := "(I)I" } : Jvm.MethodName) prog_11_method_5_code (3 : Nat) (Option.some Jvm.ClassFile.FieldType.int)) ∈ lw_all := lw_g (lw_at lw_m4 182 rfl) rfl
theorem q959 : (Jvm.Cond.methodLink "DawnEightsModel" (150 : Nat) ({ cls := "DawnEightsModel", name := "hasCox", desc := "(I)Z" } : Jvm.MethodName)) ∈ lw_all := lw_g (lw_at lw_m4 183 rfl) rfl
theorem q960 : (Jvm.Cond.privateMethod ({ cls := "DawnEightsModel", name := "hasCox", desc := "(I)Z" } : Jvm.MethodName)) ∈ lw_tbl := lw_at lw_m4 184 rfl
theorem q961 : (Jvm.Cond.instanceMethod ({ cls := "DawnEightsModel", name := "hasCox", desc := "(I)Z" } : Jvm.MethodName)) ∈ lw_all := lw_g (lw_at lw_m4 185 rfl) rfl
theorem q962 : (Jvm.Cond.code ({ cls := "DawnEightsModel", name := "hasCox", desc := "(I)Z" } : Jvm.MethodName) prog_11_method_6_code (2 : Nat) (Option.some Jvm.ClassFile.FieldType.boolean)) ∈ lw_all := lw_g (lw_at lw_m4 186 rfl) rfl
theorem q963 : (Jvm.Cond.methodLink "DawnEightsModel" (172 : Nat) ({ cls := "DawnEightsModel", name := "sitter", desc := "(II)I" } : Jvm.MethodName)) ∈ lw_all := lw_g (lw_at lw_m4 187 rfl) rfl
theorem q964 : (Jvm.Cond.privateMethod ({ cls := "DawnEightsModel", name := "sitter", desc := "(II)I" } : Jvm.MethodName)) ∈ lw_tbl := lw_at lw_m4 188 rfl
theorem q965 : (Jvm.Cond.instanceMethod ({ cls := "DawnEightsModel", name := "sitter", desc := "(II)I" } : Jvm.MethodName)) ∈ lw_all := lw_g (lw_at lw_m4 189 rfl) rfl
theorem q966 : (Jvm.Cond.code ({ cls := "DawnEightsModel", name := "sitter", desc := "(II)I" } : Jvm.MethodName) prog_11_method_11_code (5 : Nat) (Option.some Jvm.ClassFile.FieldType.int)) ∈ lw_all := lw_g (lw_at lw_m4 190 rfl) rfl
theorem q968 : (Jvm.Cond.instanceMethod ({ cls := "DawnEightsModel", name := "seat", desc := "(II)I" } : Jvm.MethodName)) ∈ lw_all := lw_g (lw_at lw_m4 192 rfl) rfl
theorem q969 : (Jvm.Cond.selects "DawnEightsModel" ({ cls := "DawnEightsModel", name := "seat", desc := "(II)I" } : Jvm.MethodName) ({ cls := "DawnEightsModel", name := "seat", desc := "(II)I" } : Jvm.MethodName)) ∈ lw_all := lw_g (lw_at lw_m4 193 rfl) rfl
theorem q970 : (Jvm.Cond.code ({ cls := "DawnEightsModel", name := "seat", desc := "(II)I" } : Jvm.MethodName) prog_11_method_13_code (3 : Nat) (Option.some Jvm.ClassFile.FieldType.int)) ∈ lw_all := lw_g (lw_at lw_m4 194 rfl) rfl
theorem q972 : (Jvm.Cond.instanceMethod ({ cls := "DawnEightsModel", name := "about", desc := "(II)I" } : Jvm.MethodName)) ∈ lw_all := lw_g (lw_at lw_m4 196 rfl) rfl
theorem q973 : (Jvm.Cond.selects "DawnEightsModel" ({ cls := "DawnEightsModel", name := "about", desc := "(II)I" } : Jvm.MethodName) ({ cls := "DawnEightsModel", name := "about", desc := "(II)I" } : Jvm.MethodName)) ∈ lw_all := lw_g (lw_at lw_m4 197 rfl) rfl
theorem q974 : (Jvm.Cond.code ({ cls := "DawnEightsModel", name := "about", desc := "(II)I" } : Jvm.MethodName) prog_11_method_14_code (3 : Nat) (Option.some Jvm.ClassFile.FieldType.int)) ∈ lw_all := lw_g (lw_at lw_m4 198 rfl) rfl
theorem q976 : (Jvm.Cond.instanceMethod ({ cls := "DawnEightsModel", name := "race", desc := "(III)I" } : Jvm.MethodName)) ∈ lw_all := lw_g (lw_at lw_m4 200 rfl) rfl
theorem q977 : (Jvm.Cond.selects "DawnEightsModel" ({ cls := "DawnEightsModel", name := "race", desc := "(III)I" } : Jvm.MethodName) ({ cls := "DawnEightsModel", name := "race", desc := "(III)I" } : Jvm.MethodName)) ∈ lw_all := lw_g (lw_at lw_m4 201 rfl) rfl
theorem q978 : (Jvm.Cond.code ({ cls := "DawnEightsModel", name := "race", desc := "(III)I" } : Jvm.MethodName) prog_11_method_15_code (4 : Nat) (Option.some Jvm.ClassFile.FieldType.int)) ∈ lw_all := lw_g (lw_at lw_m4 202 rfl) rfl
theorem q979 : (Jvm.Cond.constantLong "DawnEightsModel" (176 : Nat) (-999 : Int64)) ∈ lw_all := lw_g (lw_at lw_m4 203 rfl) rfl
theorem q980 : (Jvm.Cond.constantLong "DawnEightsModel" (178 : Nat) (999 : Int64)) ∈ lw_all := lw_g (lw_at lw_m4 204 rfl) rfl
theorem q982 : (Jvm.Cond.instanceMethod ({ cls := "DawnEightsModel", name := "unrace", desc := "()I" } : Jvm.MethodName)) ∈ lw_all := lw_g (lw_at lw_m4 206 rfl) rfl
theorem q983 : (Jvm.Cond.selects "DawnEightsModel" ({ cls := "DawnEightsModel", name := "unrace", desc := "()I" } : Jvm.MethodName) ({ cls := "DawnEightsModel", name := "unrace", desc := "()I" } : Jvm.MethodName)) ∈ lw_all := lw_g (lw_at lw_m4 207 rfl) rfl
theorem q984 : (Jvm.Cond.code ({ cls := "DawnEightsModel", name := "unrace", desc := "()I" } : Jvm.MethodName) prog_11_method_16_code (1 : Nat) (Option.some Jvm.ClassFile.FieldType.int)) ∈ lw_all := lw_g (lw_at lw_m4 208 rfl) rfl
theorem q986 : (Jvm.Cond.instanceMethod ({ cls := "DawnEightsModel", name := "group", desc := "(I)I" } : Jvm.MethodName)) ∈ lw_all := lw_g (lw_at lw_m4 210 rfl) rfl
theorem q987 : (Jvm.Cond.selects "DawnEightsModel" ({ cls := "DawnEightsModel", name := "group", desc := "(I)I" } : Jvm.MethodName) ({ cls := "DawnEightsModel", name := "group", desc := "(I)I" } : Jvm.MethodName)) ∈ lw_all := lw_g (lw_at lw_m4 211 rfl) rfl
theorem q988 : (Jvm.Cond.code ({ cls := "DawnEightsModel", name := "group", desc := "(I)I" } : Jvm.MethodName) prog_11_method_18_code (2 : Nat) (Option.some Jvm.ClassFile.FieldType.int)) ∈ lw_all := lw_g (lw_at lw_m4 212 rfl) rfl
theorem q989 : (Jvm.Cond.methodLink "DawnEightsModel" (183 : Nat) ({ cls := "DawnEightsModel", name := "findGroups", desc := "()V" } : Jvm.MethodName)) ∈ lw_all := lw_g (lw_at lw_m4 213 rfl) rfl
theorem q990 : (Jvm.Cond.privateMethod ({ cls := "DawnEightsModel", name := "findGroups", desc := "()V" } : Jvm.MethodName)) ∈ lw_tbl := lw_at lw_m4 214 rfl
theorem q991 : (Jvm.Cond.instanceMethod ({ cls := "DawnEightsModel", name := "findGroups", desc := "()V" } : Jvm.MethodName)) ∈ lw_all := lw_g (lw_at lw_m4 215 rfl) rfl
theorem q992 : (Jvm.Cond.code ({ cls := "DawnEightsModel", name := "findGroups", desc := "()V" } : Jvm.MethodName) prog_11_method_17_code (5 : Nat) (Option.none : Option Jvm.ClassFile.FieldType)) ∈ lw_all := lw_g (lw_at lw_m4 216 rfl) rfl
theorem q994 : (Jvm.Cond.instanceMethod ({ cls := "DawnEightsModel", name := "strength", desc := "(II)J" } : Jvm.MethodName)) ∈ lw_all := lw_g (lw_at lw_m4 218 rfl) rfl
theorem q995 : (Jvm.Cond.selects "DawnEightsModel" ({ cls := "DawnEightsModel", name := "strength", desc := "(II)J" } : Jvm.MethodName) ({ cls := "DawnEightsModel", name := "strength", desc := "(II)J" } : Jvm.MethodName)) ∈ lw_all := lw_g (lw_at lw_m4 219 rfl) rfl
theorem q996 : (Jvm.Cond.code ({ cls := "DawnEightsModel", name := "strength", desc := "(II)J" } : Jvm.MethodName) prog_11_method_25_code (3 : Nat) (Option.some Jvm.ClassFile.FieldType.long)) ∈ lw_all := lw_g (lw_at lw_m4 220 rfl) rfl
theorem q997 : (Jvm.Cond.methodLink "DawnEightsModel" (208 : Nat) ({ cls := "DawnEightsModel", name := "solves", desc := "(I)Z" } : Jvm.MethodName)) ∈ lw_all := lw_g (lw_at lw_m4 221 rfl) rfl
theorem q998 : (Jvm.Cond.privateMethod ({ cls := "DawnEightsModel", name := "solves", desc := "(I)Z" } : Jvm.MethodName)) ∈ lw_tbl := lw_at lw_m4 222 rfl
theorem q999 : (Jvm.Cond.instanceMethod ({ cls := "DawnEightsModel", name := "solves", desc := "(I)Z" } : Jvm.MethodName)) ∈ lw_all := lw_g (lw_at lw_m4 223 rfl) rfl
theorem q1000 : (Jvm.Cond.code ({ cls := "DawnEightsModel", name := "solves", desc := "(I)Z" } : Jvm.MethodName) prog_11_method_22_code (4 : Nat) (Option.some Jvm.ClassFile.FieldType.boolean)) ∈ lw_all := lw_g (lw_at lw_m4 224 rfl) rfl
theorem q1001 : (Jvm.Cond.methodLink "DawnEightsModel" (192 : Nat) ({ cls := "DawnEightsModel", name := "tells", desc := "(III)V" } : Jvm.MethodName)) ∈ lw_all := lw_g (lw_at lw_m4 225 rfl) rfl
theorem q1002 : (Jvm.Cond.privateMethod ({ cls := "DawnEightsModel", name := "tells", desc := "(III)V" } : Jvm.MethodName)) ∈ lw_tbl := lw_at lw_m4 226 rfl
theorem q1003 : (Jvm.Cond.instanceMethod ({ cls := "DawnEightsModel", name := "tells", desc := "(III)V" } : Jvm.MethodName)) ∈ lw_all := lw_g (lw_at lw_m4 227 rfl) rfl
theorem q1004 : (Jvm.Cond.code ({ cls := "DawnEightsModel", name := "tells", desc := "(III)V" } : Jvm.MethodName) prog_11_method_21_code (4 : Nat) (Option.none : Option Jvm.ClassFile.FieldType)) ∈ lw_all := lw_g (lw_at lw_m4 228 rfl) rfl
theorem q1005 : (Jvm.Cond.methodLink "DawnEightsModel" (196 : Nat) ({ cls := "DawnEightsModel", name := "determinant", desc := "(I)J" } : Jvm.MethodName)) ∈ lw_all := lw_g (lw_at lw_m4 229 rfl) rfl
theorem q1006 : (Jvm.Cond.privateMethod ({ cls := "DawnEightsModel", name := "determinant", desc := "(I)J" } : Jvm.MethodName)) ∈ lw_tbl := lw_at lw_m4 230 rfl
theorem q1007 : (Jvm.Cond.instanceMethod ({ cls := "DawnEightsModel", name := "determinant", desc := "(I)J" } : Jvm.MethodName)) ∈ lw_all := lw_g (lw_at lw_m4 231 rfl) rfl
theorem q1008 : (Jvm.Cond.code ({ cls := "DawnEightsModel", name := "determinant", desc := "(I)J" } : Jvm.MethodName) prog_11_method_20_code (7 : Nat) (Option.some Jvm.ClassFile.FieldType.long)) ∈ lw_all := lw_g (lw_at lw_m4 232 rfl) rfl
theorem q1009 : (Jvm.Cond.methodLink "DawnEightsModel" (189 : Nat) ({ cls := "DawnEightsModel", name := "bits", desc := "(I)I" } : Jvm.MethodName)) ∈ lw_all := lw_g (lw_at lw_m4 233 rfl) rfl
theorem q1010 : (Jvm.Cond.static ({ cls := "DawnEightsModel", name := "bits", desc := "(I)I" } : Jvm.MethodName)) ∈ lw_all := lw_g (lw_at lw_m4 234 rfl) rfl
theorem q1011 : (Jvm.Cond.code ({ cls := "DawnEightsModel", name := "bits", desc := "(I)I" } : Jvm.MethodName) prog_11_method_19_code (3 : Nat) (Option.some Jvm.ClassFile.FieldType.int)) ∈ lw_all := lw_g (lw_at lw_m4 235 rfl) rfl
theorem q1012 : (Jvm.Cond.constantLong "DawnEightsModel" (211 : Nat) (-9223372036854775808 : Int64)) ∈ lw_all := lw_g (lw_at lw_m4 236 rfl) rfl
theorem q1013 : (Jvm.Cond.methodLink "DawnEightsModel" (213 : Nat) ({ cls := "DawnEightsModel", name := "part", desc := "(JJI)J" } : Jvm.MethodName)) ∈ lw_all := lw_g (lw_at lw_m4 237 rfl) rfl
theorem q1014 : (Jvm.Cond.static ({ cls := "DawnEightsModel", name := "part", desc := "(JJI)J" } : Jvm.MethodName)) ∈ lw_all := lw_g (lw_at lw_m4 238 rfl) rfl
theorem q1015 : (Jvm.Cond.code ({ cls := "DawnEightsModel", name := "part", desc := "(JJI)J" } : Jvm.MethodName) prog_11_method_24_code (7 : Nat) (Option.some Jvm.ClassFile.FieldType.long)) ∈ lw_all := lw_g (lw_at lw_m4 239 rfl) rfl
theorem q1016 : (Jvm.Cond.methodLink "DawnEightsModel" (204 : Nat) ({ cls := "DawnEightsModel", name := "divisor", desc := "(JJ)J" } : Jvm.MethodName)) ∈ lw_all := lw_g (lw_at lw_m5 0 rfl) rfl
theorem q1017 : (Jvm.Cond.static ({ cls := "DawnEightsModel", name := "divisor", desc := "(JJ)J" } : Jvm.MethodName)) ∈ lw_all := lw_g (lw_at lw_m5 1 rfl) rfl
theorem q1018 : (Jvm.Cond.code ({ cls := "DawnEightsModel", name := "divisor", desc := "(JJ)J" } : Jvm.MethodName) prog_11_method_23_code (10 : Nat) (Option.some Jvm.ClassFile.FieldType.long)) ∈ lw_all := lw_g (lw_at lw_m5 2 rfl) rfl
theorem q1020 : (Jvm.Cond.instanceMethod ({ cls := "DawnEightsModel", name := "between", desc := "(III)J" } : Jvm.MethodName)) ∈ lw_all := lw_g (lw_at lw_m5 4 rfl) rfl
theorem q1021 : (Jvm.Cond.selects "DawnEightsModel" ({ cls := "DawnEightsModel", name := "between", desc := "(III)J" } : Jvm.MethodName) ({ cls := "DawnEightsModel", name := "between", desc := "(III)J" } : Jvm.MethodName)) ∈ lw_all := lw_g (lw_at lw_m5 5 rfl) rfl
theorem q1022 : (Jvm.Cond.code ({ cls := "DawnEightsModel", name := "between", desc := "(III)J" } : Jvm.MethodName) prog_11_method_26_code (4 : Nat) (Option.some Jvm.ClassFile.FieldType.long)) ∈ lw_all := lw_g (lw_at lw_m5 6 rfl) rfl
theorem q1024 : (Jvm.Cond.instanceMethod ({ cls := "DawnEightsModel", name := "misfit", desc := "(II)J" } : Jvm.MethodName)) ∈ lw_all := lw_g (lw_at lw_m5 8 rfl) rfl
theorem q1025 : (Jvm.Cond.selects "DawnEightsModel" ({ cls := "DawnEightsModel", name := "misfit", desc := "(II)J" } : Jvm.MethodName) ({ cls := "DawnEightsModel", name := "misfit", desc := "(II)J" } : Jvm.MethodName)) ∈ lw_all := lw_g (lw_at lw_m5 9 rfl) rfl
theorem q1026 : (Jvm.Cond.code ({ cls := "DawnEightsModel", name := "misfit", desc := "(II)J" } : Jvm.MethodName) prog_11_method_27_code (8 : Nat) (Option.some Jvm.ClassFile.FieldType.long)) ∈ lw_all := lw_g (lw_at lw_m5 10 rfl) rfl
theorem q1028 : (Jvm.Cond.instanceMethod ({ cls := "DawnEightsModel", name := "sure", desc := "(II)I" } : Jvm.MethodName)) ∈ lw_all := lw_g (lw_at lw_m5 12 rfl) rfl
theorem q1029 : (Jvm.Cond.selects "DawnEightsModel" ({ cls := "DawnEightsModel", name := "sure", desc := "(II)I" } : Jvm.MethodName) ({ cls := "DawnEightsModel", name := "sure", desc := "(II)I" } : Jvm.MethodName)) ∈ lw_all := lw_g (lw_at lw_m5 13 rfl) rfl
theorem q1030 : (Jvm.Cond.code ({ cls := "DawnEightsModel", name := "sure", desc := "(II)I" } : Jvm.MethodName) prog_11_method_28_code (7 : Nat) (Option.some Jvm.ClassFile.FieldType.int)) ∈ lw_all := lw_g (lw_at lw_m5 14 rfl) rfl
theorem q1032 : (Jvm.Cond.instanceMethod ({ cls := "DawnEightsModel", name := "crew", desc := "(III)I" } : Jvm.MethodName)) ∈ lw_all := lw_g (lw_at lw_m5 16 rfl) rfl
theorem q1033 : (Jvm.Cond.selects "DawnEightsModel" ({ cls := "DawnEightsModel", name := "crew", desc := "(III)I" } : Jvm.MethodName) ({ cls := "DawnEightsModel", name := "crew", desc := "(III)I" } : Jvm.MethodName)) ∈ lw_all := lw_g (lw_at lw_m5 17 rfl) rfl
theorem q1034 : (Jvm.Cond.code ({ cls := "DawnEightsModel", name := "crew", desc := "(III)I" } : Jvm.MethodName) prog_11_method_34_code (8 : Nat) (Option.some Jvm.ClassFile.FieldType.int)) ∈ lw_all := lw_g (lw_at lw_m5 18 rfl) rfl
theorem q1035 : (Jvm.Cond.constantLong "DawnEightsModel" (232 : Nat) (23 : Int64)) ∈ lw_all := lw_g (lw_at lw_m5 19 rfl) rfl
theorem q1036 : (Jvm.Cond.methodLink "DawnEightsModel" (234 : Nat) ({ cls := "DawnEightsModel", name := "fillCost", desc := "(II)V" } : Jvm.MethodName)) ∈ lw_all := lw_g (lw_at lw_m5 20 rfl) rfl
theorem q1037 : (Jvm.Cond.privateMethod ({ cls := "DawnEightsModel", name := "fillCost", desc := "(II)V" } : Jvm.MethodName)) ∈ lw_tbl := lw_at lw_m5 21 rfl
theorem q1038 : (Jvm.Cond.instanceMethod ({ cls := "DawnEightsModel", name := "fillCost", desc := "(II)V" } : Jvm.MethodName)) ∈ lw_all := lw_g (lw_at lw_m5 22 rfl) rfl
theorem q1039 : (Jvm.Cond.code ({ cls := "DawnEightsModel", name := "fillCost", desc := "(II)V" } : Jvm.MethodName) prog_11_method_33_code (10 : Nat) (Option.none : Option Jvm.ClassFile.FieldType)) ∈ lw_all := lw_g (lw_at lw_m5 23 rfl) rfl
theorem q1040 : (Jvm.Cond.constant "DawnEightsModel" (224 : Nat) (1000000 : Int32)) ∈ lw_all := lw_g (lw_at lw_m5 24 rfl) rfl
theorem q1041 : (Jvm.Cond.methodLink "DawnEightsModel" (225 : Nat) ({ cls := "DawnEightsModel", name := "canSit", desc := "(III)Z" } : Jvm.MethodName)) ∈ lw_all := lw_g (lw_at lw_m5 25 rfl) rfl
theorem q1042 : (Jvm.Cond.privateMethod ({ cls := "DawnEightsModel", name := "canSit", desc := "(III)Z" } : Jvm.MethodName)) ∈ lw_tbl := lw_at lw_m5 26 rfl
theorem q1043 : (Jvm.Cond.instanceMethod ({ cls := "DawnEightsModel", name := "canSit", desc := "(III)Z" } : Jvm.MethodName)) ∈ lw_all := lw_g (lw_at lw_m5 27 rfl) rfl
theorem q1044 : (Jvm.Cond.code ({ cls := "DawnEightsModel", name := "canSit", desc := "(III)Z" } : Jvm.MethodName) prog_11_method_32_code (5 : Nat) (Option.some Jvm.ClassFile.FieldType.boolean)) ∈ lw_all := lw_g (lw_at lw_m5 28 rfl) rfl
theorem q1045 : (Jvm.Cond.methodLink "DawnEightsModel" (221 : Nat) ({ cls := "DawnEightsModel", name := "mayBeOut", desc := "(II)Z" } : Jvm.MethodName)) ∈ lw_all := lw_g (lw_at lw_m5 29 rfl) rfl
theorem q1046 : (Jvm.Cond.privateMethod ({ cls := "DawnEightsModel", name := "mayBeOut", desc := "(II)Z" } : Jvm.MethodName)) ∈ lw_tbl := lw_at lw_m5 30 rfl
theorem q1047 : (Jvm.Cond.instanceMethod ({ cls := "DawnEightsModel", name := "mayBeOut", desc := "(II)Z" } : Jvm.MethodName)) ∈ lw_all := lw_g (lw_at lw_m5 31 rfl) rfl
theorem q1048 : (Jvm.Cond.code ({ cls := "DawnEightsModel", name := "mayBeOut", desc := "(II)Z" } : Jvm.MethodName) prog_11_method_29_code (3 : Nat) (Option.some Jvm.ClassFile.FieldType.boolean)) ∈ lw_all := lw_g (lw_at lw_m5 32 rfl) rfl
theorem q1049 : (Jvm.Cond.methodLink "DawnEightsModel" (229 : Nat) ({ cls := "DawnEightsModel", name := "costOf", desc := "(III)I" } : Jvm.MethodName)) ∈ lw_all := lw_g (lw_at lw_m5 33 rfl) rfl
theorem q1050 : (Jvm.Cond.privateMethod ({ cls := "DawnEightsModel", name := "costOf", desc := "(III)I" } : Jvm.MethodName)) ∈ lw_tbl := lw_at lw_m5 34 rfl
theorem q1051 : (Jvm.Cond.instanceMethod ({ cls := "DawnEightsModel", name := "costOf", desc := "(III)I" } : Jvm.MethodName)) ∈ lw_all := lw_g (lw_at lw_m5 35 rfl) rfl
theorem q1052 : (Jvm.Cond.code ({ cls := "DawnEightsModel", name := "costOf", desc := "(III)I" } : Jvm.MethodName) prog_11_method_31_code (5 : Nat) (Option.some Jvm.ClassFile.FieldType.int)) ∈ lw_all := lw_g (lw_at lw_m5 36 rfl) rfl
theorem q1053 : (Jvm.Cond.methodLink "DawnEightsModel" (217 : Nat) ({ cls := "DawnEightsModel", name := "dislikes", desc := "(III)I" } : Jvm.MethodName)) ∈ lw_all := lw_g (lw_at lw_m5 37 rfl) rfl
theorem q1054 : (Jvm.Cond.privateMethod ({ cls := "DawnEightsModel", name := "dislikes", desc := "(III)I" } : Jvm.MethodName)) ∈ lw_tbl := lw_at lw_m5 38 rfl
theorem q1055 : (Jvm.Cond.instanceMethod ({ cls := "DawnEightsModel", name := "dislikes", desc := "(III)I" } : Jvm.MethodName)) ∈ lw_all := lw_g (lw_at lw_m5 39 rfl) rfl
theorem q1056 : (Jvm.Cond.code ({ cls := "DawnEightsModel", name := "dislikes", desc := "(III)I" } : Jvm.MethodName) prog_11_method_30_code (6 : Nat) (Option.some Jvm.ClassFile.FieldType.int)) ∈ lw_all := lw_g (lw_at lw_m5 40 rfl) rfl
theorem q1058 : (Jvm.Cond.instanceMethod ({ cls := "DawnEightsModel", name := "water", desc := "(III)I" } : Jvm.MethodName)) ∈ lw_all := lw_g (lw_at lw_m5 42 rfl) rfl
theorem q1059 : (Jvm.Cond.selects "DawnEightsModel" ({ cls := "DawnEightsModel", name := "water", desc := "(III)I" } : Jvm.MethodName) ({ cls := "DawnEightsModel", name := "water", desc := "(III)I" } : Jvm.MethodName)) ∈ lw_all := lw_g (lw_at lw_m5 43 rfl) rfl
theorem q1060 : (Jvm.Cond.code ({ cls := "DawnEightsModel", name := "water", desc := "(III)I" } : Jvm.MethodName) prog_11_method_35_code (4 : Nat) (Option.some Jvm.ClassFile.FieldType.int)) ∈ lw_all := lw_g (lw_at lw_m5 44 rfl) rfl
theorem q1061 : (Jvm.Cond.constantLong "DawnEightsModel" (238 : Nat) (29 : Int64)) ∈ lw_all := lw_g (lw_at lw_m5 45 rfl) rfl
theorem q1062 : (Jvm.Cond.constantLong "DawnEightsModel" (240 : Nat) (200 : Int64)) ∈ lw_all := lw_g (lw_at lw_m5 46 rfl) rfl
theorem q1063 : (Jvm.Cond.constantLong "DawnEightsModel" (242 : Nat) (12 : Int64)) ∈ lw_all := lw_g (lw_at lw_m5 47 rfl) rfl
theorem q1065 : (Jvm.Cond.instanceMethod ({ cls := "DawnEightsModel", name := "feed", desc := "(JI)I" } : Jvm.MethodName)) ∈ lw_all := lw_g (lw_at lw_m5 49 rfl) rfl
theorem q1066 : (Jvm.Cond.selects "DawnEightsModel" ({ cls := "DawnEightsModel", name := "feed", desc := "(JI)I" } : Jvm.MethodName) ({ cls := "DawnEightsModel", name := "feed", desc := "(JI)I" } : Jvm.MethodName)) ∈ lw_all := lw_g (lw_at lw_m5 50 rfl) rfl
theorem q1067 : (Jvm.Cond.code ({ cls := "DawnEightsModel", name := "feed", desc := "(JI)I" } : Jvm.MethodName) prog_11_method_36_code (5 : Nat) (Option.some Jvm.ClassFile.FieldType.int)) ∈ lw_all := lw_g (lw_at lw_m5 51 rfl) rfl
theorem q1068 : (Jvm.Cond.constantLong "DawnEightsModel" (244 : Nat) (8 : Int64)) ∈ lw_all := lw_g (lw_at lw_m5 52 rfl) rfl
theorem q1069 : (Jvm.Cond.constantLong "DawnEightsModel" (249 : Nat) (255 : Int64)) ∈ lw_all := lw_g (lw_at lw_m5 53 rfl) rfl
theorem q1071 : (Jvm.Cond.instanceMethod ({ cls := "DawnEightsModel", name := "rule", desc := "()I" } : Jvm.MethodName)) ∈ lw_all := lw_g (lw_at lw_m5 55 rfl) rfl
theorem q1072 : (Jvm.Cond.selects "DawnEightsModel" ({ cls := "DawnEightsModel", name := "rule", desc := "()I" } : Jvm.MethodName) ({ cls := "DawnEightsModel", name := "rule", desc := "()I" } : Jvm.MethodName)) ∈ lw_all := lw_g (lw_at lw_m5 56 rfl) rfl
theorem q1073 : (Jvm.Cond.code ({ cls := "DawnEightsModel", name := "rule", desc := "()I" } : Jvm.MethodName) prog_11_method_47_code (2 : Nat) (Option.some Jvm.ClassFile.FieldType.int)) ∈ lw_all := lw_g (lw_at lw_m5 57 rfl) rfl
theorem q1074 : (Jvm.Cond.methodLink "DawnEightsModel" (289 : Nat) ({ cls := "DawnEightsModel", name := "parses", desc := "()Z" } : Jvm.MethodName)) ∈ lw_all := lw_g (lw_at lw_m5 58 rfl) rfl
theorem q1075 : (Jvm.Cond.privateMethod ({ cls := "DawnEightsModel", name := "parses", desc := "()Z" } : Jvm.MethodName)) ∈ lw_tbl := lw_at lw_m5 59 rfl
theorem q1076 : (Jvm.Cond.instanceMethod ({ cls := "DawnEightsModel", name := "parses", desc := "()Z" } : Jvm.MethodName)) ∈ lw_all := lw_g (lw_at lw_m5 60 rfl) rfl
theorem q1077 : (Jvm.Cond.code ({ cls := "DawnEightsModel", name := "parses", desc := "()Z" } : Jvm.MethodName) prog_11_method_46_code (3 : Nat) (Option.some Jvm.ClassFile.FieldType.boolean)) ∈ lw_all := lw_g (lw_at lw_m5 61 rfl) rfl
theorem q1078 : (Jvm.Cond.methodLink "DawnEightsModel" (278 : Nat) ({ cls := "DawnEightsModel", name := "word", desc := "(II)I" } : Jvm.MethodName)) ∈ lw_all := lw_g (lw_at lw_m5 62 rfl) rfl
theorem q1079 : (Jvm.Cond.privateMethod ({ cls := "DawnEightsModel", name := "word", desc := "(II)I" } : Jvm.MethodName)) ∈ lw_tbl := lw_at lw_m5 63 rfl
theorem q1080 : (Jvm.Cond.instanceMethod ({ cls := "DawnEightsModel", name := "word", desc := "(II)I" } : Jvm.MethodName)) ∈ lw_all := lw_g (lw_at lw_m5 64 rfl) rfl
theorem q1081 : (Jvm.Cond.code ({ cls := "DawnEightsModel", name := "word", desc := "(II)I" } : Jvm.MethodName) prog_11_method_41_code (7 : Nat) (Option.some Jvm.ClassFile.FieldType.int)) ∈ lw_all := lw_g (lw_at lw_m5 65 rfl) rfl
theorem q1082 : (Jvm.Cond.methodLink "DawnEightsModel" (265 : Nat) ({ cls := "DawnEightsModel", name := "fits", desc := "(II)Z" } : Jvm.MethodName)) ∈ lw_all := lw_g (lw_at lw_m5 66 rfl) rfl
theorem q1083 : (Jvm.Cond.privateMethod ({ cls := "DawnEightsModel", name := "fits", desc := "(II)Z" } : Jvm.MethodName)) ∈ lw_tbl := lw_at lw_m5 67 rfl
theorem q1084 : (Jvm.Cond.instanceMethod ({ cls := "DawnEightsModel", name := "fits", desc := "(II)Z" } : Jvm.MethodName)) ∈ lw_all := lw_g (lw_at lw_m5 68 rfl) rfl
theorem q1085 : (Jvm.Cond.code ({ cls := "DawnEightsModel", name := "fits", desc := "(II)Z" } : Jvm.MethodName) prog_11_method_42_code (5 : Nat) (Option.some Jvm.ClassFile.FieldType.boolean)) ∈ lw_all := lw_g (lw_at lw_m5 69 rfl) rfl
theorem q1086 : (Jvm.Cond.methodLink "DawnEightsModel" (268 : Nat) ({ cls := "DawnEightsModel", name := "letter", desc := "(II)I" } : Jvm.MethodName)) ∈ lw_all := lw_g (lw_at lw_m5 70 rfl) rfl
theorem q1087 : (Jvm.Cond.static ({ cls := "DawnEightsModel", name := "letter", desc := "(II)I" } : Jvm.MethodName)) ∈ lw_all := lw_g (lw_at lw_m5 71 rfl) rfl
theorem q1088 : (Jvm.Cond.code ({ cls := "DawnEightsModel", name := "letter", desc := "(II)I" } : Jvm.MethodName) prog_11_method_38_code (8 : Nat) (Option.some Jvm.ClassFile.FieldType.int)) ∈ lw_all := lw_g (lw_at lw_m5 72 rfl) rfl
theorem q1089 : (Jvm.Cond.methodLink "DawnEightsModel" (254 : Nat) ({ cls := "DawnEightsModel", name := "wordOf", desc := "(I)J" } : Jvm.MethodName)) ∈ lw_all := lw_g (lw_at lw_m5 73 rfl) rfl
theorem q1090 : (Jvm.Cond.static ({ cls := "DawnEightsModel", name := "wordOf", desc := "(I)J" } : Jvm.MethodName)) ∈ lw_all := lw_g (lw_at lw_m5 74 rfl) rfl
theorem q1091 : (Jvm.Cond.code ({ cls := "DawnEightsModel", name := "wordOf", desc := "(I)J" } : Jvm.MethodName) prog_11_method_40_code (1 : Nat) (Option.some Jvm.ClassFile.FieldType.long)) ∈ lw_all := lw_g (lw_at lw_m5 75 rfl) rfl
theorem q1092 : (Jvm.Cond.methodLink "DawnEightsModel" (259 : Nat) ({ cls := "DawnEightsModel", name := "spelled", desc := "(IIIIII)J" } : Jvm.MethodName)) ∈ lw_all := lw_g (lw_at lw_m5 76 rfl) rfl
theorem q1093 : (Jvm.Cond.static ({ cls := "DawnEightsModel", name := "spelled", desc := "(IIIIII)J" } : Jvm.MethodName)) ∈ lw_all := lw_g (lw_at lw_m5 77 rfl) rfl
theorem q1094 : (Jvm.Cond.code ({ cls := "DawnEightsModel", name := "spelled", desc := "(IIIIII)J" } : Jvm.MethodName) prog_11_method_39_code (8 : Nat) (Option.some Jvm.ClassFile.FieldType.long)) ∈ lw_all := lw_g (lw_at lw_m5 78 rfl) rfl
theorem q1095 : (Jvm.Cond.constantLong "DawnEightsModel" (263 : Nat) (27 : Int64)) ∈ lw_all := lw_g (lw_at lw_m5 79 rfl) rfl
theorem q1096 : (Jvm.Cond.constantLong "DawnEightsModel" (257 : Nat) (31 : Int64)) ∈ lw_all := lw_g (lw_at lw_m5 80 rfl) rfl
theorem q1097 : (Jvm.Cond.methodLink "DawnEightsModel" (271 : Nat) ({ cls := "DawnEightsModel", name := "sign", desc := "()I" } : Jvm.MethodName)) ∈ lw_all := lw_g (lw_at lw_m5 81 rfl) rfl
theorem q1098 : (Jvm.Cond.privateMethod ({ cls := "DawnEightsModel", name := "sign", desc := "()I" } : Jvm.MethodName)) ∈ lw_tbl := lw_at lw_m5 82 rfl
theorem q1099 : (Jvm.Cond.instanceMethod ({ cls := "DawnEightsModel", name := "sign", desc := "()I" } : Jvm.MethodName)) ∈ lw_all := lw_g (lw_at lw_m5 83 rfl) rfl
theorem q1100 : (Jvm.Cond.code ({ cls := "DawnEightsModel", name := "sign", desc := "()I" } : Jvm.MethodName) prog_11_method_37_code (1 : Nat) (Option.some Jvm.ClassFile.FieldType.int)) ∈ lw_all := lw_g (lw_at lw_m5 84 rfl) rfl
theorem q1101 : (Jvm.Cond.methodLink "DawnEightsModel" (275 : Nat) ({ cls := "DawnEightsModel", name := "takes", desc := "(I)Z" } : Jvm.MethodName)) ∈ lw_all := lw_g (lw_at lw_m5 85 rfl) rfl
theorem q1102 : (Jvm.Cond.privateMethod ({ cls := "DawnEightsModel", name := "takes", desc := "(I)Z" } : Jvm.MethodName)) ∈ lw_tbl := lw_at lw_m5 86 rfl
theorem q1103 : (Jvm.Cond.instanceMethod ({ cls := "DawnEightsModel", name := "takes", desc := "(I)Z" } : Jvm.MethodName)) ∈ lw_all := lw_g (lw_at lw_m5 87 rfl) rfl
theorem q1104 : (Jvm.Cond.code ({ cls := "DawnEightsModel", name := "takes", desc := "(I)Z" } : Jvm.MethodName) prog_11_method_43_code (2 : Nat) (Option.some Jvm.ClassFile.FieldType.boolean)) ∈ lw_all := lw_g (lw_at lw_m5 88 rfl) rfl
theorem q1105 : (Jvm.Cond.methodLink "DawnEightsModel" (287 : Nat) ({ cls := "DawnEightsModel", name := "test", desc := "(I)Z" } : Jvm.MethodName)) ∈ lw_all := lw_g (lw_at lw_m5 89 rfl) rfl
theorem q1106 : (Jvm.Cond.privateMethod ({ cls := "DawnEightsModel", name := "test", desc := "(I)Z" } : Jvm.MethodName)) ∈ lw_tbl := lw_at lw_m5 90 rfl
theorem q1107 : (Jvm.Cond.instanceMethod ({ cls := "DawnEightsModel", name := "test", desc := "(I)Z" } : Jvm.MethodName)) ∈ lw_all := lw_g (lw_at lw_m5 91 rfl) rfl
theorem q1108 : (Jvm.Cond.code ({ cls := "DawnEightsModel", name := "test", desc := "(I)Z" } : Jvm.MethodName) prog_11_method_45_code (7 : Nat) (Option.some Jvm.ClassFile.FieldType.boolean)) ∈ lw_all := lw_g (lw_at lw_m5 92 rfl) rfl
theorem q1109 : (Jvm.Cond.methodLink "DawnEightsModel" (281 : Nat) ({ cls := "DawnEightsModel", name := "isDigit", desc := "(I)Z" } : Jvm.MethodName)) ∈ lw_all := lw_g (lw_at lw_m5 93 rfl) rfl
theorem q1110 : (Jvm.Cond.static ({ cls := "DawnEightsModel", name := "isDigit", desc := "(I)Z" } : Jvm.MethodName)) ∈ lw_all := lw_g (lw_at lw_m5 94 rfl) rfl
theorem q1111 : (Jvm.Cond.code ({ cls := "DawnEightsModel", name := "isDigit", desc := "(I)Z" } : Jvm.MethodName) prog_11_method_44_code (1 : Nat) (Option.some Jvm.ClassFile.FieldType.boolean)) ∈ lw_all := lw_g (lw_at lw_m5 95 rfl) rfl
theorem q1113 : (Jvm.Cond.instanceMethod ({ cls := "DawnEightsModel", name := "ruled", desc := "(II)I" } : Jvm.MethodName)) ∈ lw_all := lw_g (lw_at lw_m5 97 rfl) rfl
theorem q1114 : (Jvm.Cond.selects "DawnEightsModel" ({ cls := "DawnEightsModel", name := "ruled", desc := "(II)I" } : Jvm.MethodName) ({ cls := "DawnEightsModel", name := "ruled", desc := "(II)I" } : Jvm.MethodName)) ∈ lw_all := lw_g (lw_at lw_m5 98 rfl) rfl
theorem q1115 : (Jvm.Cond.code ({ cls := "DawnEightsModel", name := "ruled", desc := "(II)I" } : Jvm.MethodName) prog_11_method_51_code (3 : Nat) (Option.some Jvm.ClassFile.FieldType.int)) ∈ lw_all := lw_g (lw_at lw_m5 99 rfl) rfl
theorem q1116 : (Jvm.Cond.methodLink "DawnEightsModel" (302 : Nat) ({ cls := "DawnEightsModel", name := "asked", desc := "(II)I" } : Jvm.MethodName)) ∈ lw_all := lw_g (lw_at lw_m5 100 rfl) rfl
theorem q1117 : (Jvm.Cond.privateMethod ({ cls := "DawnEightsModel", name := "asked", desc := "(II)I" } : Jvm.MethodName)) ∈ lw_tbl := lw_at lw_m5 101 rfl
theorem q1118 : (Jvm.Cond.instanceMethod ({ cls := "DawnEightsModel", name := "asked", desc := "(II)I" } : Jvm.MethodName)) ∈ lw_all := lw_g (lw_at lw_m5 102 rfl) rfl
theorem q1119 : (Jvm.Cond.code ({ cls := "DawnEightsModel", name := "asked", desc := "(II)I" } : Jvm.MethodName) prog_11_method_50_code (7 : Nat) (Option.some Jvm.ClassFile.FieldType.int)) ∈ lw_all := lw_g (lw_at lw_m5 103 rfl) rfl
theorem q1120 : (Jvm.Cond.methodLink "DawnEightsModel" (299 : Nat) ({ cls := "DawnEightsModel", name := "isSo", desc := "(III)Z" } : Jvm.MethodName)) ∈ lw_all := lw_g (lw_at lw_m5 104 rfl) rfl
theorem q1121 : (Jvm.Cond.privateMethod ({ cls := "DawnEightsModel", name := "isSo", desc := "(III)Z" } : Jvm.MethodName)) ∈ lw_tbl := lw_at lw_m5 105 rfl
theorem q1122 : (Jvm.Cond.instanceMethod ({ cls := "DawnEightsModel", name := "isSo", desc := "(III)Z" } : Jvm.MethodName)) ∈ lw_all := lw_g (lw_at lw_m5 106 rfl) rfl
theorem q1123 : (Jvm.Cond.code ({ cls := "DawnEightsModel", name := "isSo", desc := "(III)Z" } : Jvm.MethodName) prog_11_method_49_code (6 : Nat) (Option.some Jvm.ClassFile.FieldType.boolean)) ∈ lw_all := lw_g (lw_at lw_m5 107 rfl) rfl
theorem q1124 : (Jvm.Cond.methodLink "DawnEightsModel" (296 : Nat) ({ cls := "DawnEightsModel", name := "field", desc := "(III)I" } : Jvm.MethodName)) ∈ lw_all := lw_g (lw_at lw_m5 108 rfl) rfl
theorem q1125 : (Jvm.Cond.privateMethod ({ cls := "DawnEightsModel", name := "field", desc := "(III)I" } : Jvm.MethodName)) ∈ lw_tbl := lw_at lw_m5 109 rfl
theorem q1126 : (Jvm.Cond.instanceMethod ({ cls := "DawnEightsModel", name := "field", desc := "(III)I" } : Jvm.MethodName)) ∈ lw_all := lw_g (lw_at lw_m5 110 rfl) rfl
theorem q1127 : (Jvm.Cond.code ({ cls := "DawnEightsModel", name := "field", desc := "(III)I" } : Jvm.MethodName) prog_11_method_48_code (8 : Nat) (Option.some Jvm.ClassFile.FieldType.int)) ∈ lw_all := lw_g (lw_at lw_m5 111 rfl) rfl
theorem q1129 : (Jvm.Cond.instanceMethod ({ cls := "DawnEightsModel", name := "may", desc := "(II)I" } : Jvm.MethodName)) ∈ lw_all := lw_g (lw_at lw_m5 113 rfl) rfl
theorem q1130 : (Jvm.Cond.selects "DawnEightsModel" ({ cls := "DawnEightsModel", name := "may", desc := "(II)I" } : Jvm.MethodName) ({ cls := "DawnEightsModel", name := "may", desc := "(II)I" } : Jvm.MethodName)) ∈ lw_all := lw_g (lw_at lw_m5 114 rfl) rfl
theorem q1131 : (Jvm.Cond.code ({ cls := "DawnEightsModel", name := "may", desc := "(II)I" } : Jvm.MethodName) prog_11_method_53_code (3 : Nat) (Option.some Jvm.ClassFile.FieldType.int)) ∈ lw_all := lw_g (lw_at lw_m5 115 rfl) rfl
theorem q1132 : (Jvm.Cond.methodLink "DawnEightsModel" (305 : Nat) ({ cls := "DawnEightsModel", name := "ashore", desc := "(II)I" } : Jvm.MethodName)) ∈ lw_all := lw_g (lw_at lw_m5 116 rfl) rfl
theorem q1133 : (Jvm.Cond.privateMethod ({ cls := "DawnEightsModel", name := "ashore", desc := "(II)I" } : Jvm.MethodName)) ∈ lw_tbl := lw_at lw_m5 117 rfl
theorem q1134 : (Jvm.Cond.instanceMethod ({ cls := "DawnEightsModel", name := "ashore", desc := "(II)I" } : Jvm.MethodName)) ∈ lw_all := lw_g (lw_at lw_m5 118 rfl) rfl
theorem q1135 : (Jvm.Cond.code ({ cls := "DawnEightsModel", name := "ashore", desc := "(II)I" } : Jvm.MethodName) prog_11_method_52_code (6 : Nat) (Option.some Jvm.ClassFile.FieldType.int)) ∈ lw_all := lw_g (lw_at lw_m5 119 rfl) rfl
theorem q1137 : (Jvm.Cond.instanceMethod ({ cls := "DawnEightsModel", name := "day", desc := "(I)I" } : Jvm.MethodName)) ∈ lw_all := lw_g (lw_at lw_m5 121 rfl) rfl
theorem q1138 : (Jvm.Cond.selects "DawnEightsModel" ({ cls := "DawnEightsModel", name := "day", desc := "(I)I" } : Jvm.MethodName) ({ cls := "DawnEightsModel", name := "day", desc := "(I)I" } : Jvm.MethodName)) ∈ lw_all := lw_g (lw_at lw_m5 122 rfl) rfl
theorem q1139 : (Jvm.Cond.code ({ cls := "DawnEightsModel", name := "day", desc := "(I)I" } : Jvm.MethodName) prog_11_method_54_code (3 : Nat) (Option.some Jvm.ClassFile.FieldType.int)) ∈ lw_all := lw_g (lw_at lw_m5 123 rfl) rfl
theorem q1141 : (Jvm.Cond.instanceMethod ({ cls := "DawnEightsModel", name := "out", desc := "(II)I" } : Jvm.MethodName)) ∈ lw_all := lw_g (lw_at lw_m5 125 rfl) rfl
theorem q1142 : (Jvm.Cond.selects "DawnEightsModel" ({ cls := "DawnEightsModel", name := "out", desc := "(II)I" } : Jvm.MethodName) ({ cls := "DawnEightsModel", name := "out", desc := "(II)I" } : Jvm.MethodName)) ∈ lw_all := lw_g (lw_at lw_m5 126 rfl) rfl
theorem q1143 : (Jvm.Cond.code ({ cls := "DawnEightsModel", name := "out", desc := "(II)I" } : Jvm.MethodName) prog_11_method_56_code (3 : Nat) (Option.some Jvm.ClassFile.FieldType.int)) ∈ lw_all := lw_g (lw_at lw_m5 127 rfl) rfl
theorem q1144 : (Jvm.Cond.methodLink "DawnEightsModel" (311 : Nat) ({ cls := "DawnEightsModel", name := "whoIn", desc := "(I)I" } : Jvm.MethodName)) ∈ lw_all := lw_g (lw_at lw_m5 128 rfl) rfl
theorem q1145 : (Jvm.Cond.privateMethod ({ cls := "DawnEightsModel", name := "whoIn", desc := "(I)I" } : Jvm.MethodName)) ∈ lw_tbl := lw_at lw_m5 129 rfl
theorem q1146 : (Jvm.Cond.instanceMethod ({ cls := "DawnEightsModel", name := "whoIn", desc := "(I)I" } : Jvm.MethodName)) ∈ lw_all := lw_g (lw_at lw_m5 130 rfl) rfl
theorem q1147 : (Jvm.Cond.code ({ cls := "DawnEightsModel", name := "whoIn", desc := "(I)I" } : Jvm.MethodName) prog_11_method_55_code (4 : Nat) (Option.some Jvm.ClassFile.FieldType.int)) ∈ lw_all := lw_g (lw_at lw_m5 131 rfl) rfl
theorem q1149 : (Jvm.Cond.instanceMethod ({ cls := "DawnEightsModel", name := "look", desc := "(II)I" } : Jvm.MethodName)) ∈ lw_all := lw_g (lw_at lw_m5 133 rfl) rfl
theorem q1150 : (Jvm.Cond.selects "DawnEightsModel" ({ cls := "DawnEightsModel", name := "look", desc := "(II)I" } : Jvm.MethodName) ({ cls := "DawnEightsModel", name := "look", desc := "(II)I" } : Jvm.MethodName)) ∈ lw_all := lw_g (lw_at lw_m5 134 rfl) rfl
theorem q1151 : (Jvm.Cond.code ({ cls := "DawnEightsModel", name := "look", desc := "(II)I" } : Jvm.MethodName) prog_11_method_57_code (3 : Nat) (Option.some Jvm.ClassFile.FieldType.int)) ∈ lw_all := lw_g (lw_at lw_m5 135 rfl) rfl
theorem q1153 : (Jvm.Cond.instanceMethod ({ cls := "DawnEightsModel", name := "broke", desc := "(II)I" } : Jvm.MethodName)) ∈ lw_all := lw_g (lw_at lw_m5 137 rfl) rfl
theorem q1154 : (Jvm.Cond.selects "DawnEightsModel" ({ cls := "DawnEightsModel", name := "broke", desc := "(II)I" } : Jvm.MethodName) ({ cls := "DawnEightsModel", name := "broke", desc := "(II)I" } : Jvm.MethodName)) ∈ lw_all := lw_g (lw_at lw_m5 138 rfl) rfl
theorem q1155 : (Jvm.Cond.code ({ cls := "DawnEightsModel", name := "broke", desc := "(II)I" } : Jvm.MethodName) prog_11_method_58_code (8 : Nat) (Option.some Jvm.ClassFile.FieldType.int)) ∈ lw_all := lw_g (lw_at lw_m5 139 rfl) rfl
theorem q1156 : (Jvm.Cond.constantLong "DawnEightsModel" (317 : Nat) (2 : Int64)) ∈ lw_all := lw_g (lw_at lw_m5 140 rfl) rfl
theorem q1158 : (Jvm.Cond.instanceMethod ({ cls := "DawnEightsModel", name := "outing", desc := "(II)I" } : Jvm.MethodName)) ∈ lw_all := lw_g (lw_at lw_m5 142 rfl) rfl
theorem q1159 : (Jvm.Cond.selects "DawnEightsModel" ({ cls := "DawnEightsModel", name := "outing", desc := "(II)I" } : Jvm.MethodName) ({ cls := "DawnEightsModel", name := "outing", desc := "(II)I" } : Jvm.MethodName)) ∈ lw_all := lw_g (lw_at lw_m5 143 rfl) rfl
theorem q1160 : (Jvm.Cond.code ({ cls := "DawnEightsModel", name := "outing", desc := "(II)I" } : Jvm.MethodName) prog_11_method_59_code (3 : Nat) (Option.some Jvm.ClassFile.FieldType.int)) ∈ lw_all := lw_g (lw_at lw_m5 144 rfl) rfl
theorem q1162 : (Jvm.Cond.instanceMethod ({ cls := "DawnEightsModel", name := "heat", desc := "(II)I" } : Jvm.MethodName)) ∈ lw_all := lw_g (lw_at lw_m5 146 rfl) rfl
theorem q1163 : (Jvm.Cond.selects "DawnEightsModel" ({ cls := "DawnEightsModel", name := "heat", desc := "(II)I" } : Jvm.MethodName) ({ cls := "DawnEightsModel", name := "heat", desc := "(II)I" } : Jvm.MethodName)) ∈ lw_all := lw_g (lw_at lw_m5 147 rfl) rfl
theorem q1164 : (Jvm.Cond.code ({ cls := "DawnEightsModel", name := "heat", desc := "(II)I" } : Jvm.MethodName) prog_11_method_60_code (3 : Nat) (Option.some Jvm.ClassFile.FieldType.int)) ∈ lw_all := lw_g (lw_at lw_m5 148 rfl) rfl
theorem q1165 : (Jvm.Cond.constantLong "DawnEightsModel" (319 : Nat) (1439 : Int64)) ∈ lw_all := lw_g (lw_at lw_m5 149 rfl) rfl
theorem q1167 : (Jvm.Cond.instanceMethod ({ cls := "DawnEightsModel", name := "near", desc := "(I)I" } : Jvm.MethodName)) ∈ lw_all := lw_g (lw_at lw_m5 151 rfl) rfl
theorem q1168 : (Jvm.Cond.selects "DawnEightsModel" ({ cls := "DawnEightsModel", name := "near", desc := "(I)I" } : Jvm.MethodName) ({ cls := "DawnEightsModel", name := "near", desc := "(I)I" } : Jvm.MethodName)) ∈ lw_all := lw_g (lw_at lw_m5 152 rfl) rfl
theorem q1169 : (Jvm.Cond.code ({ cls := "DawnEightsModel", name := "near", desc := "(I)I" } : Jvm.MethodName) prog_11_method_61_code (3 : Nat) (Option.some Jvm.ClassFile.FieldType.int)) ∈ lw_all := lw_g (lw_at lw_m5 153 rfl) rfl
theorem q1171 : (Jvm.Cond.instanceMethod ({ cls := "DawnEightsModel", name := "clashes", desc := "()I" } : Jvm.MethodName)) ∈ lw_all := lw_g (lw_at lw_m5 155 rfl) rfl
theorem q1172 : (Jvm.Cond.selects "DawnEightsModel" ({ cls := "DawnEightsModel", name := "clashes", desc := "()I" } : Jvm.MethodName) ({ cls := "DawnEightsModel", name := "clashes", desc := "()I" } : Jvm.MethodName)) ∈ lw_all := lw_g (lw_at lw_m5 156 rfl) rfl
theorem q1173 : (Jvm.Cond.code ({ cls := "DawnEightsModel", name := "clashes", desc := "()I" } : Jvm.MethodName) prog_11_method_63_code (4 : Nat) (Option.some Jvm.ClassFile.FieldType.int)) ∈ lw_all := lw_g (lw_at lw_m5 157 rfl) rfl
theorem q1174 : (Jvm.Cond.methodLink "DawnEightsModel" (324 : Nat) ({ cls := "DawnEightsModel", name := "clash", desc := "(III)Z" } : Jvm.MethodName)) ∈ lw_all := lw_g (lw_at lw_m5 158 rfl) rfl
theorem q1175 : (Jvm.Cond.privateMethod ({ cls := "DawnEightsModel", name := "clash", desc := "(III)Z" } : Jvm.MethodName)) ∈ lw_tbl := lw_at lw_m5 159 rfl
theorem q1176 : (Jvm.Cond.instanceMethod ({ cls := "DawnEightsModel", name := "clash", desc := "(III)Z" } : Jvm.MethodName)) ∈ lw_all := lw_g (lw_at lw_m5 160 rfl) rfl
theorem q1177 : (Jvm.Cond.code ({ cls := "DawnEightsModel", name := "clash", desc := "(III)Z" } : Jvm.MethodName) prog_11_method_62_code (5 : Nat) (Option.some Jvm.ClassFile.FieldType.boolean)) ∈ lw_all := lw_g (lw_at lw_m5 161 rfl) rfl
theorem q1179 : (Jvm.Cond.instanceMethod ({ cls := "DawnEightsModel", name := "shift", desc := "(I)I" } : Jvm.MethodName)) ∈ lw_all := lw_g (lw_at lw_m5 163 rfl) rfl
theorem q1180 : (Jvm.Cond.selects "DawnEightsModel" ({ cls := "DawnEightsModel", name := "shift", desc := "(I)I" } : Jvm.MethodName) ({ cls := "DawnEightsModel", name := "shift", desc := "(I)I" } : Jvm.MethodName)) ∈ lw_all := lw_g (lw_at lw_m5 164 rfl) rfl
theorem q1181 : (Jvm.Cond.code ({ cls := "DawnEightsModel", name := "shift", desc := "(I)I" } : Jvm.MethodName) prog_11_method_64_code (5 : Nat) (Option.some Jvm.ClassFile.FieldType.int)) ∈ lw_all := lw_g (lw_at lw_m5 165 rfl) rfl
theorem q1183 : (Jvm.Cond.instanceMethod ({ cls := "DawnEightsModel", name := "trailer", desc := "(II)I" } : Jvm.MethodName)) ∈ lw_all := lw_g (lw_at lw_m5 167 rfl) rfl
theorem q1184 : (Jvm.Cond.selects "DawnEightsModel" ({ cls := "DawnEightsModel", name := "trailer", desc := "(II)I" } : Jvm.MethodName) ({ cls := "DawnEightsModel", name := "trailer", desc := "(II)I" } : Jvm.MethodName)) ∈ lw_all := lw_g (lw_at lw_m5 168 rfl) rfl
theorem q1185 : (Jvm.Cond.code ({ cls := "DawnEightsModel", name := "trailer", desc := "(II)I" } : Jvm.MethodName) prog_11_method_66_code (8 : Nat) (Option.some Jvm.ClassFile.FieldType.int)) ∈ lw_all := lw_g (lw_at lw_m5 169 rfl) rfl
theorem q1186 : (Jvm.Cond.methodLink "DawnEightsModel" (327 : Nat) ({ cls := "DawnEightsModel", name := "longest", desc := "(II)I" } : Jvm.MethodName)) ∈ lw_all := lw_g (lw_at lw_m5 170 rfl) rfl
theorem q1187 : (Jvm.Cond.privateMethod ({ cls := "DawnEightsModel", name := "longest", desc := "(II)I" } : Jvm.MethodName)) ∈ lw_tbl := lw_at lw_m5 171 rfl
theorem q1188 : (Jvm.Cond.instanceMethod ({ cls := "DawnEightsModel", name := "longest", desc := "(II)I" } : Jvm.MethodName)) ∈ lw_all := lw_g (lw_at lw_m5 172 rfl) rfl
theorem q1189 : (Jvm.Cond.code ({ cls := "DawnEightsModel", name := "longest", desc := "(II)I" } : Jvm.MethodName) prog_11_method_65_code (5 : Nat) (Option.some Jvm.ClassFile.FieldType.int)) ∈ lw_all := lw_g (lw_at lw_m5 173 rfl) rfl
theorem q1191 : (Jvm.Cond.instanceMethod ({ cls := "DawnEightsModel", name := "rack", desc := "(I)I" } : Jvm.MethodName)) ∈ lw_all := lw_g (lw_at lw_m5 175 rfl) rfl
theorem q1192 : (Jvm.Cond.selects "DawnEightsModel" ({ cls := "DawnEightsModel", name := "rack", desc := "(I)I" } : Jvm.MethodName) ({ cls := "DawnEightsModel", name := "rack", desc := "(I)I" } : Jvm.MethodName)) ∈ lw_all := lw_g (lw_at lw_m5 176 rfl) rfl
theorem q1193 : (Jvm.Cond.code ({ cls := "DawnEightsModel", name := "rack", desc := "(I)I" } : Jvm.MethodName) prog_11_method_67_code (2 : Nat) (Option.some Jvm.ClassFile.FieldType.int)) ∈ lw_all := lw_g (lw_at lw_m5 177 rfl) rfl
theorem q1195 : (Jvm.Cond.instanceMethod ({ cls := "DawnEightsModel", name := "count", desc := "(I)I" } : Jvm.MethodName)) ∈ lw_all := lw_g (lw_at lw_m5 179 rfl) rfl
theorem q1196 : (Jvm.Cond.selects "DawnEightsModel" ({ cls := "DawnEightsModel", name := "count", desc := "(I)I" } : Jvm.MethodName) ({ cls := "DawnEightsModel", name := "count", desc := "(I)I" } : Jvm.MethodName)) ∈ lw_all := lw_g (lw_at lw_m5 180 rfl) rfl
theorem q1197 : (Jvm.Cond.code ({ cls := "DawnEightsModel", name := "count", desc := "(I)I" } : Jvm.MethodName) prog_11_method_68_code (2 : Nat) (Option.some Jvm.ClassFile.FieldType.int)) ∈ lw_all := lw_g (lw_at lw_m5 181 rfl) rfl
theorem in_X1 : ∀ w ∈ wsX10, w ∈ lw_all := lw_in wsX10 [813, 815, 817, 819, 821, 823, 825, 827, 829, 831, 833, 835, 837, 839, 841, 843, 845, 847, 849, 851, 853, 855, 857, 859, 861, 863, 865, 867, 869, 871, 873, 875, 877, 879, 881, 883, 885, 887, 889, 891, 893, 895, 897, 899, 901, 903, 905, 907, 909, 911, 913, 915, 917] (by decide +kernel) (by decide +kernel)
/-! DawnEights$Oar -/
def RX2 : String := "DawnEights$Oar"
abbrev cX2_init : ByteArray := prog_4_method_1_code
def yX2_init : MethodName := ⟨RX2, "<init>", "(II)V"⟩
abbrev cX2_mayCox : ByteArray := prog_4_method_5_code
def yX2_mayCox : MethodName := ⟨RX2, "mayCox", "()Z"⟩
abbrev cX2_mayBeOut : ByteArray := prog_4_method_3_code
def yX2_mayBeOut : MethodName := ⟨RX2, "mayBeOut", "(I)Z"⟩
abbrev cX2_isYoung : ByteArray := prog_4_method_4_code
def yX2_isYoung : MethodName := ⟨RX2, "isYoung", "()Z"⟩
theorem q59 : (Jvm.Cond.initialized "DawnEights$Oar") ∈ lw_all := lw_g (lw_at lw_m1 3 rfl) rfl
theorem q239 : (Jvm.Cond.instanceMethod ({ cls := "DawnEights$Oar", name := "<init>", desc := "(II)V" } : Jvm.MethodName)) ∈ lw_all := lw_g (lw_at lw_m1 183 rfl) rfl
theorem q240 : (Jvm.Cond.code ({ cls := "DawnEights$Oar", name := "<init>", desc := "(II)V" } : Jvm.MethodName) prog_4_method_1_code (3 : Nat) (Option.none : Option Jvm.ClassFile.FieldType)) ∈ lw_all := lw_g (lw_at lw_m1 184 rfl) rfl
theorem q241 : (Jvm.Cond.methodLink "DawnEights$Oar" (1 : Nat) ({ cls := "java/lang/Object", name := "<init>", desc := "()V" } : Jvm.MethodName)) ∈ lw_all := lw_g (lw_at lw_m1 185 rfl) rfl
theorem q242 : (Jvm.Cond.fieldLink "DawnEights$Oar" (7 : Nat) "DawnEights$Oar" "number" "I") ∈ lw_all := lw_g (lw_at lw_m1 186 rfl) rfl
theorem q243 : (Jvm.Cond.fieldLink "DawnEights$Oar" (13 : Nat) "DawnEights$Oar" "weight" "I") ∈ lw_all := lw_g (lw_at lw_m1 187 rfl) rfl
theorem q245 : (Jvm.Cond.fieldLink "DawnEights$Oar" (16 : Nat) "DawnEights$Oar" "isIll" "Z") ∈ lw_all := lw_g (lw_at lw_m1 189 rfl) rfl
theorem q248 : (Jvm.Cond.soleField "DawnEights$Oar" "number") ∈ lw_all := lw_g (lw_at lw_m1 192 rfl) rfl
theorem q250 : (Jvm.Cond.soleField "DawnEights$Oar" "weight") ∈ lw_all := lw_g (lw_at lw_m1 194 rfl) rfl
theorem q252 : (Jvm.Cond.soleField "DawnEights$Oar" "isIll") ∈ lw_all := lw_g (lw_at lw_m1 196 rfl) rfl
theorem q350 : (Jvm.Cond.instanceMethod ({ cls := "DawnEights$Oar", name := "mayCox", desc := "()Z" } : Jvm.MethodName)) ∈ lw_all := lw_g (lw_at lw_m2 54 rfl) rfl
theorem q351 : (Jvm.Cond.sameMethod "DawnEights$Oar" "DawnEights$Oar" "mayCox" "()Z") ∈ lw_all := lw_g (lw_at lw_m2 55 rfl) rfl
theorem q356 : (Jvm.Cond.code ({ cls := "DawnEights$Oar", name := "mayCox", desc := "()Z" } : Jvm.MethodName) prog_4_method_5_code (1 : Nat) (Option.some Jvm.ClassFile.FieldType.boolean)) ∈ lw_all := lw_g (lw_at lw_m2 60 rfl) rfl
theorem q374 : (Jvm.Cond.declares ({ cls := "DawnEights$Oar", name := "kind", desc := "()I" } : Jvm.MethodName)) ∈ lw_tbl := lw_at lw_m2 78 rfl
theorem q375 : (Jvm.Cond.sameMethod "DawnEights$Oar" "DawnEights$Oar" "kind" "()I") ∈ lw_all := lw_g (lw_at lw_m2 79 rfl) rfl
theorem q475 : (Jvm.Cond.instanceMethod ({ cls := "DawnEights$Oar", name := "mayBeOut", desc := "(I)Z" } : Jvm.MethodName)) ∈ lw_all := lw_g (lw_at lw_m2 179 rfl) rfl
theorem q476 : (Jvm.Cond.sameMethod "DawnEights$Oar" "DawnEights$Oar" "mayBeOut" "(I)Z") ∈ lw_all := lw_g (lw_at lw_m2 180 rfl) rfl
theorem q485 : (Jvm.Cond.declares ({ cls := "DawnEights$Oar", name := "mayBeOut", desc := "(I)Z" } : Jvm.MethodName)) ∈ lw_tbl := lw_at lw_m2 189 rfl
theorem q486 : (Jvm.Cond.code ({ cls := "DawnEights$Oar", name := "mayBeOut", desc := "(I)Z" } : Jvm.MethodName) prog_4_method_3_code (2 : Nat) (Option.some Jvm.ClassFile.FieldType.boolean)) ∈ lw_all := lw_g (lw_at lw_m2 190 rfl) rfl
theorem q495 : (Jvm.Cond.superclass "DawnEights$Oar" "java/lang/Object") ∈ lw_all := lw_g (lw_at lw_m2 199 rfl) rfl
theorem q661 : (Jvm.Cond.instanceMethod ({ cls := "DawnEights$Oar", name := "isYoung", desc := "()Z" } : Jvm.MethodName)) ∈ lw_all := lw_g (lw_at lw_m3 125 rfl) rfl
theorem q662 : (Jvm.Cond.sameMethod "DawnEights$Oar" "DawnEights$Oar" "isYoung" "()Z") ∈ lw_all := lw_g (lw_at lw_m3 126 rfl) rfl
theorem q669 : (Jvm.Cond.code ({ cls := "DawnEights$Oar", name := "isYoung", desc := "()Z" } : Jvm.MethodName) prog_4_method_4_code (1 : Nat) (Option.some Jvm.ClassFile.FieldType.boolean)) ∈ lw_all := lw_g (lw_at lw_m3 133 rfl) rfl
/-! DawnEights$Both -/
def RX3 : String := "DawnEights$Both"
def TX3 : u_T := fun k => match k with
  | 0 => ("DawnEights$Oar", "number", "I", true)
  | 1 => ("DawnEights$Oar", "weight", "I", true)
  | _ => ("DawnEights$Oar", "isIll", "Z", false)
def tyX3 : Nat → FieldType := fun k => match k with
  | 0 => .int
  | 1 => .int
  | _ => .boolean
abbrev wsX30 : List Cond := u_ws RX3 TX3 3
theorem nmX3 : ∀ a, a < 3 → ∀ b, b < 3 → a ≠ b → (TX3 a).2.1 ≠ (TX3 b).2.1 := by decide +kernel
theorem tyX3_ok : ∀ k, k < 3 → parseFieldDescriptor (TX3 k).2.2.1 = some (tyX3 k) := by decide +kernel
abbrev cX3_init : ByteArray := prog_3_method_1_code
def yX3_init : MethodName := ⟨RX3, "<init>", "(II)V"⟩
abbrev cX3_kind : ByteArray := prog_3_method_2_code
def yX3_kind : MethodName := ⟨RX3, "kind", "()I"⟩
abbrev cX3_dislikes : ByteArray := prog_3_method_3_code
def yX3_dislikes : MethodName := ⟨RX3, "dislikes", "(I)I"⟩
theorem q60 : (Jvm.Cond.initialized "DawnEights$Both") ∈ lw_all := lw_g (lw_at lw_m1 4 rfl) rfl
theorem q234 : (Jvm.Cond.instantiable "DawnEights$Both" (3 : Nat)) ∈ lw_all := lw_g (lw_at lw_m1 178 rfl) rfl
theorem q236 : (Jvm.Cond.instanceMethod ({ cls := "DawnEights$Both", name := "<init>", desc := "(II)V" } : Jvm.MethodName)) ∈ lw_all := lw_g (lw_at lw_m1 180 rfl) rfl
theorem q237 : (Jvm.Cond.code ({ cls := "DawnEights$Both", name := "<init>", desc := "(II)V" } : Jvm.MethodName) prog_3_method_1_code (3 : Nat) (Option.none : Option Jvm.ClassFile.FieldType)) ∈ lw_all := lw_g (lw_at lw_m1 181 rfl) rfl
theorem q238 : (Jvm.Cond.methodLink "DawnEights$Both" (1 : Nat) ({ cls := "DawnEights$Oar", name := "<init>", desc := "(II)V" } : Jvm.MethodName)) ∈ lw_all := lw_g (lw_at lw_m1 182 rfl) rfl
theorem q247 : (Jvm.Cond.laysFinal "DawnEights$Both" "DawnEights$Oar" "number" "I") ∈ lw_all := lw_g (lw_at lw_m1 191 rfl) rfl
theorem q249 : (Jvm.Cond.laysFinal "DawnEights$Both" "DawnEights$Oar" "weight" "I") ∈ lw_all := lw_g (lw_at lw_m1 193 rfl) rfl
theorem q251 : (Jvm.Cond.lays "DawnEights$Both" "DawnEights$Oar" "isIll" "Z") ∈ lw_all := lw_g (lw_at lw_m1 195 rfl) rfl
theorem q253 : (Jvm.Cond.superclass "DawnEights$Both" "DawnEights$Oar") ∈ lw_all := lw_g (lw_at lw_m1 197 rfl) rfl
theorem q352 : (Jvm.Cond.selects "DawnEights$Both" ({ cls := "DawnEights$Oar", name := "mayCox", desc := "()Z" } : Jvm.MethodName) ({ cls := "DawnEights$Oar", name := "mayCox", desc := "()Z" } : Jvm.MethodName)) ∈ lw_all := lw_g (lw_at lw_m2 56 rfl) rfl
theorem q376 : (Jvm.Cond.selects "DawnEights$Both" ({ cls := "DawnEights$Oar", name := "kind", desc := "()I" } : Jvm.MethodName) ({ cls := "DawnEights$Both", name := "kind", desc := "()I" } : Jvm.MethodName)) ∈ lw_all := lw_g (lw_at lw_m2 80 rfl) rfl
theorem q377 : (Jvm.Cond.instanceMethod ({ cls := "DawnEights$Both", name := "kind", desc := "()I" } : Jvm.MethodName)) ∈ lw_all := lw_g (lw_at lw_m2 81 rfl) rfl
theorem q378 : (Jvm.Cond.code ({ cls := "DawnEights$Both", name := "kind", desc := "()I" } : Jvm.MethodName) prog_3_method_2_code (1 : Nat) (Option.some Jvm.ClassFile.FieldType.int)) ∈ lw_all := lw_g (lw_at lw_m2 82 rfl) rfl
theorem q477 : (Jvm.Cond.selects "DawnEights$Both" ({ cls := "DawnEights$Oar", name := "mayBeOut", desc := "(I)Z" } : Jvm.MethodName) ({ cls := "DawnEights$Oar", name := "mayBeOut", desc := "(I)Z" } : Jvm.MethodName)) ∈ lw_all := lw_g (lw_at lw_m2 181 rfl) rfl
theorem q484 : (Jvm.Cond.sameMethod "DawnEights$Both" "DawnEights$Oar" "mayBeOut" "(I)Z") ∈ lw_all := lw_g (lw_at lw_m2 188 rfl) rfl
theorem q497 : (Jvm.Cond.selects "DawnEights$Both" ({ cls := "DawnEights$Rows", name := "dislikes", desc := "(I)I" } : Jvm.MethodName) ({ cls := "DawnEights$Both", name := "dislikes", desc := "(I)I" } : Jvm.MethodName)) ∈ lw_all := lw_g (lw_at lw_m2 201 rfl) rfl
theorem q498 : (Jvm.Cond.instanceMethod ({ cls := "DawnEights$Both", name := "dislikes", desc := "(I)I" } : Jvm.MethodName)) ∈ lw_all := lw_g (lw_at lw_m2 202 rfl) rfl
theorem q499 : (Jvm.Cond.code ({ cls := "DawnEights$Both", name := "dislikes", desc := "(I)I" } : Jvm.MethodName) prog_3_method_3_code (2 : Nat) (Option.some Jvm.ClassFile.FieldType.int)) ∈ lw_all := lw_g (lw_at lw_m2 203 rfl) rfl
theorem q663 : (Jvm.Cond.selects "DawnEights$Both" ({ cls := "DawnEights$Oar", name := "isYoung", desc := "()Z" } : Jvm.MethodName) ({ cls := "DawnEights$Oar", name := "isYoung", desc := "()Z" } : Jvm.MethodName)) ∈ lw_all := lw_g (lw_at lw_m3 127 rfl) rfl
theorem q1199 : (Jvm.Cond.sameMethod "DawnEights$Both" "DawnEights$Both" "kind" "()I") ∈ lw_all := lw_g (lw_at lw_m5 183 rfl) rfl
theorem q1200 : (Jvm.Cond.sameMethod "DawnEights$Both" "DawnEights$Both" "dislikes" "(I)I") ∈ lw_all := lw_g (lw_at lw_m5 184 rfl) rfl
theorem q1201 : (Jvm.Cond.castable "DawnEights$Both" "DawnEights$Oar") ∈ lw_tbl := lw_at lw_m5 185 rfl
theorem in_X3 : ∀ w ∈ wsX30, w ∈ lw_all := lw_in wsX30 [247, 249, 251] (by decide +kernel) (by decide +kernel)
/-! DawnEights$Sculler -/
def RX4 : String := "DawnEights$Sculler"
def TX4 : u_T := fun k => match k with
  | 0 => ("DawnEights$Oar", "number", "I", true)
  | 1 => ("DawnEights$Oar", "weight", "I", true)
  | _ => ("DawnEights$Oar", "isIll", "Z", false)
def tyX4 : Nat → FieldType := fun k => match k with
  | 0 => .int
  | 1 => .int
  | _ => .boolean
abbrev wsX40 : List Cond := u_ws RX4 TX4 3
theorem nmX4 : ∀ a, a < 3 → ∀ b, b < 3 → a ≠ b → (TX4 a).2.1 ≠ (TX4 b).2.1 := by decide +kernel
theorem tyX4_ok : ∀ k, k < 3 → parseFieldDescriptor (TX4 k).2.2.1 = some (tyX4 k) := by decide +kernel
abbrev cX4_init : ByteArray := prog_7_method_1_code
def yX4_init : MethodName := ⟨RX4, "<init>", "(II)V"⟩
abbrev cX4_kind : ByteArray := prog_7_method_2_code
def yX4_kind : MethodName := ⟨RX4, "kind", "()I"⟩
abbrev cX4_dislikes : ByteArray := prog_7_method_3_code
def yX4_dislikes : MethodName := ⟨RX4, "dislikes", "(I)I"⟩
theorem q61 : (Jvm.Cond.initialized "DawnEights$Sculler") ∈ lw_all := lw_g (lw_at lw_m1 5 rfl) rfl
theorem q255 : (Jvm.Cond.instantiable "DawnEights$Sculler" (3 : Nat)) ∈ lw_all := lw_g (lw_at lw_m1 199 rfl) rfl
theorem q257 : (Jvm.Cond.instanceMethod ({ cls := "DawnEights$Sculler", name := "<init>", desc := "(II)V" } : Jvm.MethodName)) ∈ lw_all := lw_g (lw_at lw_m1 201 rfl) rfl
theorem q258 : (Jvm.Cond.code ({ cls := "DawnEights$Sculler", name := "<init>", desc := "(II)V" } : Jvm.MethodName) prog_7_method_1_code (3 : Nat) (Option.none : Option Jvm.ClassFile.FieldType)) ∈ lw_all := lw_g (lw_at lw_m1 202 rfl) rfl
theorem q259 : (Jvm.Cond.methodLink "DawnEights$Sculler" (1 : Nat) ({ cls := "DawnEights$Both", name := "<init>", desc := "(II)V" } : Jvm.MethodName)) ∈ lw_all := lw_g (lw_at lw_m1 203 rfl) rfl
theorem q260 : (Jvm.Cond.laysFinal "DawnEights$Sculler" "DawnEights$Oar" "number" "I") ∈ lw_all := lw_g (lw_at lw_m1 204 rfl) rfl
theorem q261 : (Jvm.Cond.laysFinal "DawnEights$Sculler" "DawnEights$Oar" "weight" "I") ∈ lw_all := lw_g (lw_at lw_m1 205 rfl) rfl
theorem q262 : (Jvm.Cond.lays "DawnEights$Sculler" "DawnEights$Oar" "isIll" "Z") ∈ lw_all := lw_g (lw_at lw_m1 206 rfl) rfl
theorem q263 : (Jvm.Cond.superclass "DawnEights$Sculler" "DawnEights$Both") ∈ lw_all := lw_g (lw_at lw_m1 207 rfl) rfl
theorem q353 : (Jvm.Cond.selects "DawnEights$Sculler" ({ cls := "DawnEights$Oar", name := "mayCox", desc := "()Z" } : Jvm.MethodName) ({ cls := "DawnEights$Oar", name := "mayCox", desc := "()Z" } : Jvm.MethodName)) ∈ lw_all := lw_g (lw_at lw_m2 57 rfl) rfl
theorem q379 : (Jvm.Cond.selects "DawnEights$Sculler" ({ cls := "DawnEights$Oar", name := "kind", desc := "()I" } : Jvm.MethodName) ({ cls := "DawnEights$Sculler", name := "kind", desc := "()I" } : Jvm.MethodName)) ∈ lw_all := lw_g (lw_at lw_m2 83 rfl) rfl
theorem q380 : (Jvm.Cond.instanceMethod ({ cls := "DawnEights$Sculler", name := "kind", desc := "()I" } : Jvm.MethodName)) ∈ lw_all := lw_g (lw_at lw_m2 84 rfl) rfl
theorem q381 : (Jvm.Cond.code ({ cls := "DawnEights$Sculler", name := "kind", desc := "()I" } : Jvm.MethodName) prog_7_method_2_code (1 : Nat) (Option.some Jvm.ClassFile.FieldType.int)) ∈ lw_all := lw_g (lw_at lw_m2 85 rfl) rfl
theorem q382 : (Jvm.Cond.methodLink "DawnEights$Sculler" (7 : Nat) ({ cls := "DawnEights$Both", name := "kind", desc := "()I" } : Jvm.MethodName)) ∈ lw_all := lw_g (lw_at lw_m2 86 rfl) rfl
theorem q478 : (Jvm.Cond.selects "DawnEights$Sculler" ({ cls := "DawnEights$Oar", name := "mayBeOut", desc := "(I)Z" } : Jvm.MethodName) ({ cls := "DawnEights$Oar", name := "mayBeOut", desc := "(I)Z" } : Jvm.MethodName)) ∈ lw_all := lw_g (lw_at lw_m2 182 rfl) rfl
theorem q500 : (Jvm.Cond.selects "DawnEights$Sculler" ({ cls := "DawnEights$Rows", name := "dislikes", desc := "(I)I" } : Jvm.MethodName) ({ cls := "DawnEights$Sculler", name := "dislikes", desc := "(I)I" } : Jvm.MethodName)) ∈ lw_all := lw_g (lw_at lw_m2 204 rfl) rfl
theorem q501 : (Jvm.Cond.instanceMethod ({ cls := "DawnEights$Sculler", name := "dislikes", desc := "(I)I" } : Jvm.MethodName)) ∈ lw_all := lw_g (lw_at lw_m2 205 rfl) rfl
theorem q502 : (Jvm.Cond.code ({ cls := "DawnEights$Sculler", name := "dislikes", desc := "(I)I" } : Jvm.MethodName) prog_7_method_3_code (2 : Nat) (Option.some Jvm.ClassFile.FieldType.int)) ∈ lw_all := lw_g (lw_at lw_m2 206 rfl) rfl
theorem q503 : (Jvm.Cond.methodLink "DawnEights$Sculler" (11 : Nat) ({ cls := "DawnEights$Both", name := "dislikes", desc := "(I)I" } : Jvm.MethodName)) ∈ lw_all := lw_g (lw_at lw_m2 207 rfl) rfl
theorem q664 : (Jvm.Cond.selects "DawnEights$Sculler" ({ cls := "DawnEights$Oar", name := "isYoung", desc := "()Z" } : Jvm.MethodName) ({ cls := "DawnEights$Oar", name := "isYoung", desc := "()Z" } : Jvm.MethodName)) ∈ lw_all := lw_g (lw_at lw_m3 128 rfl) rfl
theorem q1202 : (Jvm.Cond.castable "DawnEights$Sculler" "DawnEights$Oar") ∈ lw_tbl := lw_at lw_m5 186 rfl
theorem in_X4 : ∀ w ∈ wsX40, w ∈ lw_all := lw_in wsX40 [260, 261, 262] (by decide +kernel) (by decide +kernel)
/-! DawnEights$Young -/
def RX5 : String := "DawnEights$Young"
def TX5 : u_T := fun k => match k with
  | 0 => ("DawnEights$Oar", "number", "I", true)
  | 1 => ("DawnEights$Oar", "weight", "I", true)
  | _ => ("DawnEights$Oar", "isIll", "Z", false)
def tyX5 : Nat → FieldType := fun k => match k with
  | 0 => .int
  | 1 => .int
  | _ => .boolean
abbrev wsX50 : List Cond := u_ws RX5 TX5 3
theorem nmX5 : ∀ a, a < 3 → ∀ b, b < 3 → a ≠ b → (TX5 a).2.1 ≠ (TX5 b).2.1 := by decide +kernel
theorem tyX5_ok : ∀ k, k < 3 → parseFieldDescriptor (TX5 k).2.2.1 = some (tyX5 k) := by decide +kernel
abbrev cX5_init : ByteArray := prog_9_method_1_code
def yX5_init : MethodName := ⟨RX5, "<init>", "(II)V"⟩
abbrev cX5_kind : ByteArray := prog_9_method_2_code
def yX5_kind : MethodName := ⟨RX5, "kind", "()I"⟩
abbrev cX5_mayBeOut : ByteArray := prog_9_method_3_code
def yX5_mayBeOut : MethodName := ⟨RX5, "mayBeOut", "(I)Z"⟩
abbrev cX5_isYoung : ByteArray := prog_9_method_4_code
def yX5_isYoung : MethodName := ⟨RX5, "isYoung", "()Z"⟩
theorem q62 : (Jvm.Cond.initialized "DawnEights$Young") ∈ lw_all := lw_g (lw_at lw_m1 6 rfl) rfl
theorem q265 : (Jvm.Cond.instantiable "DawnEights$Young" (3 : Nat)) ∈ lw_all := lw_g (lw_at lw_m1 209 rfl) rfl
theorem q267 : (Jvm.Cond.instanceMethod ({ cls := "DawnEights$Young", name := "<init>", desc := "(II)V" } : Jvm.MethodName)) ∈ lw_all := lw_g (lw_at lw_m1 211 rfl) rfl
theorem q268 : (Jvm.Cond.code ({ cls := "DawnEights$Young", name := "<init>", desc := "(II)V" } : Jvm.MethodName) prog_9_method_1_code (3 : Nat) (Option.none : Option Jvm.ClassFile.FieldType)) ∈ lw_all := lw_g (lw_at lw_m1 212 rfl) rfl
theorem q269 : (Jvm.Cond.methodLink "DawnEights$Young" (1 : Nat) ({ cls := "DawnEights$Both", name := "<init>", desc := "(II)V" } : Jvm.MethodName)) ∈ lw_all := lw_g (lw_at lw_m1 213 rfl) rfl
theorem q270 : (Jvm.Cond.laysFinal "DawnEights$Young" "DawnEights$Oar" "number" "I") ∈ lw_all := lw_g (lw_at lw_m1 214 rfl) rfl
theorem q271 : (Jvm.Cond.laysFinal "DawnEights$Young" "DawnEights$Oar" "weight" "I") ∈ lw_all := lw_g (lw_at lw_m1 215 rfl) rfl
theorem q272 : (Jvm.Cond.lays "DawnEights$Young" "DawnEights$Oar" "isIll" "Z") ∈ lw_all := lw_g (lw_at lw_m1 216 rfl) rfl
theorem q273 : (Jvm.Cond.superclass "DawnEights$Young" "DawnEights$Both") ∈ lw_all := lw_g (lw_at lw_m1 217 rfl) rfl
theorem q355 : (Jvm.Cond.selects "DawnEights$Young" ({ cls := "DawnEights$Oar", name := "mayCox", desc := "()Z" } : Jvm.MethodName) ({ cls := "DawnEights$Oar", name := "mayCox", desc := "()Z" } : Jvm.MethodName)) ∈ lw_all := lw_g (lw_at lw_m2 59 rfl) rfl
theorem q386 : (Jvm.Cond.selects "DawnEights$Young" ({ cls := "DawnEights$Oar", name := "kind", desc := "()I" } : Jvm.MethodName) ({ cls := "DawnEights$Young", name := "kind", desc := "()I" } : Jvm.MethodName)) ∈ lw_all := lw_g (lw_at lw_m2 90 rfl) rfl
theorem q387 : (Jvm.Cond.instanceMethod ({ cls := "DawnEights$Young", name := "kind", desc := "()I" } : Jvm.MethodName)) ∈ lw_all := lw_g (lw_at lw_m2 91 rfl) rfl
theorem q388 : (Jvm.Cond.code ({ cls := "DawnEights$Young", name := "kind", desc := "()I" } : Jvm.MethodName) prog_9_method_2_code (1 : Nat) (Option.some Jvm.ClassFile.FieldType.int)) ∈ lw_all := lw_g (lw_at lw_m2 92 rfl) rfl
theorem q389 : (Jvm.Cond.methodLink "DawnEights$Young" (7 : Nat) ({ cls := "DawnEights$Both", name := "kind", desc := "()I" } : Jvm.MethodName)) ∈ lw_all := lw_g (lw_at lw_m2 93 rfl) rfl
theorem q480 : (Jvm.Cond.selects "DawnEights$Young" ({ cls := "DawnEights$Oar", name := "mayBeOut", desc := "(I)Z" } : Jvm.MethodName) ({ cls := "DawnEights$Young", name := "mayBeOut", desc := "(I)Z" } : Jvm.MethodName)) ∈ lw_all := lw_g (lw_at lw_m2 184 rfl) rfl
theorem q481 : (Jvm.Cond.instanceMethod ({ cls := "DawnEights$Young", name := "mayBeOut", desc := "(I)Z" } : Jvm.MethodName)) ∈ lw_all := lw_g (lw_at lw_m2 185 rfl) rfl
theorem q482 : (Jvm.Cond.code ({ cls := "DawnEights$Young", name := "mayBeOut", desc := "(I)Z" } : Jvm.MethodName) prog_9_method_3_code (2 : Nat) (Option.some Jvm.ClassFile.FieldType.boolean)) ∈ lw_all := lw_g (lw_at lw_m2 186 rfl) rfl
theorem q483 : (Jvm.Cond.methodLink "DawnEights$Young" (11 : Nat) ({ cls := "DawnEights$Both", name := "mayBeOut", desc := "(I)Z" } : Jvm.MethodName)) ∈ lw_all := lw_g (lw_at lw_m2 187 rfl) rfl
theorem q507 : (Jvm.Cond.selects "DawnEights$Young" ({ cls := "DawnEights$Rows", name := "dislikes", desc := "(I)I" } : Jvm.MethodName) ({ cls := "DawnEights$Both", name := "dislikes", desc := "(I)I" } : Jvm.MethodName)) ∈ lw_all := lw_g (lw_at lw_m2 211 rfl) rfl
theorem q666 : (Jvm.Cond.selects "DawnEights$Young" ({ cls := "DawnEights$Oar", name := "isYoung", desc := "()Z" } : Jvm.MethodName) ({ cls := "DawnEights$Young", name := "isYoung", desc := "()Z" } : Jvm.MethodName)) ∈ lw_all := lw_g (lw_at lw_m3 130 rfl) rfl
theorem q667 : (Jvm.Cond.instanceMethod ({ cls := "DawnEights$Young", name := "isYoung", desc := "()Z" } : Jvm.MethodName)) ∈ lw_all := lw_g (lw_at lw_m3 131 rfl) rfl
theorem q668 : (Jvm.Cond.code ({ cls := "DawnEights$Young", name := "isYoung", desc := "()Z" } : Jvm.MethodName) prog_9_method_4_code (1 : Nat) (Option.some Jvm.ClassFile.FieldType.boolean)) ∈ lw_all := lw_g (lw_at lw_m3 132 rfl) rfl
theorem q1203 : (Jvm.Cond.castable "DawnEights$Young" "DawnEights$Oar") ∈ lw_tbl := lw_at lw_m5 187 rfl
theorem in_X5 : ∀ w ∈ wsX50, w ∈ lw_all := lw_in wsX50 [270, 271, 272] (by decide +kernel) (by decide +kernel)
/-! DawnEights$Sweeper -/
def RX6 : String := "DawnEights$Sweeper"
def TX6 : u_T := fun k => match k with
  | 0 => ("DawnEights$Oar", "number", "I", true)
  | 1 => ("DawnEights$Oar", "weight", "I", true)
  | 2 => ("DawnEights$Oar", "isIll", "Z", false)
  | _ => ("DawnEights$Sweeper", "side", "I", true)
def tyX6 : Nat → FieldType := fun k => match k with
  | 0 => .int
  | 1 => .int
  | 2 => .boolean
  | _ => .int
abbrev wsX60 : List Cond := u_ws RX6 TX6 4
theorem nmX6 : ∀ a, a < 4 → ∀ b, b < 4 → a ≠ b → (TX6 a).2.1 ≠ (TX6 b).2.1 := by decide +kernel
theorem tyX6_ok : ∀ k, k < 4 → parseFieldDescriptor (TX6 k).2.2.1 = some (tyX6 k) := by decide +kernel
abbrev cX6_init : ByteArray := prog_8_method_1_code
def yX6_init : MethodName := ⟨RX6, "<init>", "(III)V"⟩
abbrev cX6_kind : ByteArray := prog_8_method_2_code
def yX6_kind : MethodName := ⟨RX6, "kind", "()I"⟩
abbrev cX6_dislikes : ByteArray := prog_8_method_3_code
def yX6_dislikes : MethodName := ⟨RX6, "dislikes", "(I)I"⟩
theorem q63 : (Jvm.Cond.initialized "DawnEights$Sweeper") ∈ lw_all := lw_g (lw_at lw_m1 7 rfl) rfl
theorem q275 : (Jvm.Cond.instantiable "DawnEights$Sweeper" (4 : Nat)) ∈ lw_all := lw_g (lw_at lw_m1 219 rfl) rfl
theorem q277 : (Jvm.Cond.instanceMethod ({ cls := "DawnEights$Sweeper", name := "<init>", desc := "(III)V" } : Jvm.MethodName)) ∈ lw_all := lw_g (lw_at lw_m1 221 rfl) rfl
theorem q278 : (Jvm.Cond.code ({ cls := "DawnEights$Sweeper", name := "<init>", desc := "(III)V" } : Jvm.MethodName) prog_8_method_1_code (4 : Nat) (Option.none : Option Jvm.ClassFile.FieldType)) ∈ lw_all := lw_g (lw_at lw_m1 222 rfl) rfl
theorem q279 : (Jvm.Cond.methodLink "DawnEights$Sweeper" (1 : Nat) ({ cls := "DawnEights$Oar", name := "<init>", desc := "(II)V" } : Jvm.MethodName)) ∈ lw_all := lw_g (lw_at lw_m1 223 rfl) rfl
theorem q280 : (Jvm.Cond.fieldLink "DawnEights$Sweeper" (7 : Nat) "DawnEights$Sweeper" "side" "I") ∈ lw_all := lw_g (lw_at lw_m1 224 rfl) rfl
theorem q281 : (Jvm.Cond.laysFinal "DawnEights$Sweeper" "DawnEights$Sweeper" "side" "I") ∈ lw_all := lw_g (lw_at lw_m1 225 rfl) rfl
theorem q282 : (Jvm.Cond.soleField "DawnEights$Sweeper" "side") ∈ lw_all := lw_g (lw_at lw_m1 226 rfl) rfl
theorem q283 : (Jvm.Cond.laysFinal "DawnEights$Sweeper" "DawnEights$Oar" "number" "I") ∈ lw_all := lw_g (lw_at lw_m1 227 rfl) rfl
theorem q284 : (Jvm.Cond.laysFinal "DawnEights$Sweeper" "DawnEights$Oar" "weight" "I") ∈ lw_all := lw_g (lw_at lw_m1 228 rfl) rfl
theorem q285 : (Jvm.Cond.lays "DawnEights$Sweeper" "DawnEights$Oar" "isIll" "Z") ∈ lw_all := lw_g (lw_at lw_m1 229 rfl) rfl
theorem q286 : (Jvm.Cond.superclass "DawnEights$Sweeper" "DawnEights$Oar") ∈ lw_all := lw_g (lw_at lw_m1 230 rfl) rfl
theorem q354 : (Jvm.Cond.selects "DawnEights$Sweeper" ({ cls := "DawnEights$Oar", name := "mayCox", desc := "()Z" } : Jvm.MethodName) ({ cls := "DawnEights$Oar", name := "mayCox", desc := "()Z" } : Jvm.MethodName)) ∈ lw_all := lw_g (lw_at lw_m2 58 rfl) rfl
theorem q383 : (Jvm.Cond.selects "DawnEights$Sweeper" ({ cls := "DawnEights$Oar", name := "kind", desc := "()I" } : Jvm.MethodName) ({ cls := "DawnEights$Sweeper", name := "kind", desc := "()I" } : Jvm.MethodName)) ∈ lw_all := lw_g (lw_at lw_m2 87 rfl) rfl
theorem q384 : (Jvm.Cond.instanceMethod ({ cls := "DawnEights$Sweeper", name := "kind", desc := "()I" } : Jvm.MethodName)) ∈ lw_all := lw_g (lw_at lw_m2 88 rfl) rfl
theorem q385 : (Jvm.Cond.code ({ cls := "DawnEights$Sweeper", name := "kind", desc := "()I" } : Jvm.MethodName) prog_8_method_2_code (1 : Nat) (Option.some Jvm.ClassFile.FieldType.int)) ∈ lw_all := lw_g (lw_at lw_m2 89 rfl) rfl
theorem q479 : (Jvm.Cond.selects "DawnEights$Sweeper" ({ cls := "DawnEights$Oar", name := "mayBeOut", desc := "(I)Z" } : Jvm.MethodName) ({ cls := "DawnEights$Oar", name := "mayBeOut", desc := "(I)Z" } : Jvm.MethodName)) ∈ lw_all := lw_g (lw_at lw_m2 183 rfl) rfl
theorem q504 : (Jvm.Cond.selects "DawnEights$Sweeper" ({ cls := "DawnEights$Rows", name := "dislikes", desc := "(I)I" } : Jvm.MethodName) ({ cls := "DawnEights$Sweeper", name := "dislikes", desc := "(I)I" } : Jvm.MethodName)) ∈ lw_all := lw_g (lw_at lw_m2 208 rfl) rfl
theorem q505 : (Jvm.Cond.instanceMethod ({ cls := "DawnEights$Sweeper", name := "dislikes", desc := "(I)I" } : Jvm.MethodName)) ∈ lw_all := lw_g (lw_at lw_m2 209 rfl) rfl
theorem q506 : (Jvm.Cond.code ({ cls := "DawnEights$Sweeper", name := "dislikes", desc := "(I)I" } : Jvm.MethodName) prog_8_method_3_code (2 : Nat) (Option.some Jvm.ClassFile.FieldType.int)) ∈ lw_all := lw_g (lw_at lw_m2 210 rfl) rfl
theorem q665 : (Jvm.Cond.selects "DawnEights$Sweeper" ({ cls := "DawnEights$Oar", name := "isYoung", desc := "()Z" } : Jvm.MethodName) ({ cls := "DawnEights$Oar", name := "isYoung", desc := "()Z" } : Jvm.MethodName)) ∈ lw_all := lw_g (lw_at lw_m3 129 rfl) rfl
theorem q1204 : (Jvm.Cond.castable "DawnEights$Sweeper" "DawnEights$Oar") ∈ lw_tbl := lw_at lw_m5 188 rfl
theorem in_X6 : ∀ w ∈ wsX60, w ∈ lw_all := lw_in wsX60 [283, 284, 285, 281] (by decide +kernel) (by decide +kernel)
/-! DawnEights$Boat -/
def RX7 : String := "DawnEights$Boat"
def TX7 : u_T := fun k => match k with
  | 0 => ("DawnEights$Boat", "kind", "I", true)
  | 1 => ("DawnEights$Boat", "least", "I", true)
  | 2 => ("DawnEights$Boat", "most", "I", true)
  | 3 => ("DawnEights$Boat", "length", "I", true)
  | 4 => ("DawnEights$Boat", "crew", "[I", true)
  | _ => ("DawnEights$Boat", "isBroken", "Z", false)
def tyX7 : Nat → FieldType := fun k => match k with
  | 0 => .int
  | 1 => .int
  | 2 => .int
  | 3 => .int
  | 4 => .array .int
  | _ => .boolean
abbrev wsX70 : List Cond := u_ws RX7 TX7 6
theorem nmX7 : ∀ a, a < 6 → ∀ b, b < 6 → a ≠ b → (TX7 a).2.1 ≠ (TX7 b).2.1 := by decide +kernel
theorem tyX7_ok : ∀ k, k < 6 → parseFieldDescriptor (TX7 k).2.2.1 = some (tyX7 k) := by decide +kernel
abbrev cX7_init : ByteArray := prog_2_method_1_code
def yX7_init : MethodName := ⟨RX7, "<init>", "(IIII)V"⟩
abbrev cX7_seats : ByteArray := prog_2_method_2_code
def yX7_seats : MethodName := ⟨RX7, "seats", "()I"⟩
abbrev cX7_hasCox : ByteArray := prog_2_method_3_code
def yX7_hasCox : MethodName := ⟨RX7, "hasCox", "()Z"⟩
abbrev cX7_place : ByteArray := prog_2_method_5_code
def yX7_place : MethodName := ⟨RX7, "place", "(I)I"⟩
abbrev cX7_side : ByteArray := prog_2_method_4_code
def yX7_side : MethodName := ⟨RX7, "side", "(I)I"⟩
theorem q64 : (Jvm.Cond.initialized "DawnEights$Boat") ∈ lw_all := lw_g (lw_at lw_m1 8 rfl) rfl
theorem q292 : (Jvm.Cond.instantiable "DawnEights$Boat" (6 : Nat)) ∈ lw_all := lw_g (lw_at lw_m1 236 rfl) rfl
theorem q294 : (Jvm.Cond.instanceMethod ({ cls := "DawnEights$Boat", name := "<init>", desc := "(IIII)V" } : Jvm.MethodName)) ∈ lw_all := lw_g (lw_at lw_m1 238 rfl) rfl
theorem q295 : (Jvm.Cond.code ({ cls := "DawnEights$Boat", name := "<init>", desc := "(IIII)V" } : Jvm.MethodName) prog_2_method_1_code (6 : Nat) (Option.none : Option Jvm.ClassFile.FieldType)) ∈ lw_all := lw_g (lw_at lw_m1 239 rfl) rfl
theorem q296 : (Jvm.Cond.methodLink "DawnEights$Boat" (3 : Nat) ({ cls := "java/lang/Object", name := "<init>", desc := "()V" } : Jvm.MethodName)) ∈ lw_all := lw_g (lw_at lw_m2 0 rfl) rfl
theorem q297 : (Jvm.Cond.fieldLink "DawnEights$Boat" (15 : Nat) "DawnEights$Boat" "kind" "I") ∈ lw_all := lw_g (lw_at lw_m2 1 rfl) rfl
theorem q299 : (Jvm.Cond.fieldLink "DawnEights$Boat" (19 : Nat) "DawnEights$Boat" "least" "I") ∈ lw_all := lw_g (lw_at lw_m2 3 rfl) rfl
theorem q301 : (Jvm.Cond.fieldLink "DawnEights$Boat" (22 : Nat) "DawnEights$Boat" "most" "I") ∈ lw_all := lw_g (lw_at lw_m2 5 rfl) rfl
theorem q303 : (Jvm.Cond.fieldLink "DawnEights$Boat" (25 : Nat) "DawnEights$Boat" "length" "I") ∈ lw_all := lw_g (lw_at lw_m2 7 rfl) rfl
theorem q305 : (Jvm.Cond.fieldLink "DawnEights$Boat" (9 : Nat) "DawnEights$Boat" "crew" "[I") ∈ lw_all := lw_g (lw_at lw_m2 9 rfl) rfl
theorem q308 : (Jvm.Cond.laysFinal "DawnEights$Boat" "DawnEights$Boat" "kind" "I") ∈ lw_all := lw_g (lw_at lw_m2 12 rfl) rfl
theorem q309 : (Jvm.Cond.soleField "DawnEights$Boat" "kind") ∈ lw_all := lw_g (lw_at lw_m2 13 rfl) rfl
theorem q310 : (Jvm.Cond.laysFinal "DawnEights$Boat" "DawnEights$Boat" "least" "I") ∈ lw_all := lw_g (lw_at lw_m2 14 rfl) rfl
theorem q311 : (Jvm.Cond.soleField "DawnEights$Boat" "least") ∈ lw_all := lw_g (lw_at lw_m2 15 rfl) rfl
theorem q312 : (Jvm.Cond.laysFinal "DawnEights$Boat" "DawnEights$Boat" "most" "I") ∈ lw_all := lw_g (lw_at lw_m2 16 rfl) rfl
theorem q313 : (Jvm.Cond.soleField "DawnEights$Boat" "most") ∈ lw_all := lw_g (lw_at lw_m2 17 rfl) rfl
theorem q314 : (Jvm.Cond.laysFinal "DawnEights$Boat" "DawnEights$Boat" "length" "I") ∈ lw_all := lw_g (lw_at lw_m2 18 rfl) rfl
theorem q315 : (Jvm.Cond.soleField "DawnEights$Boat" "length") ∈ lw_all := lw_g (lw_at lw_m2 19 rfl) rfl
theorem q316 : (Jvm.Cond.laysFinal "DawnEights$Boat" "DawnEights$Boat" "crew" "[I") ∈ lw_all := lw_g (lw_at lw_m2 20 rfl) rfl
theorem q317 : (Jvm.Cond.soleField "DawnEights$Boat" "crew") ∈ lw_all := lw_g (lw_at lw_m2 21 rfl) rfl
theorem q318 : (Jvm.Cond.lays "DawnEights$Boat" "DawnEights$Boat" "isBroken" "Z") ∈ lw_all := lw_g (lw_at lw_m2 22 rfl) rfl
theorem q319 : (Jvm.Cond.soleField "DawnEights$Boat" "isBroken") ∈ lw_all := lw_g (lw_at lw_m2 23 rfl) rfl
theorem q320 : (Jvm.Cond.superclass "DawnEights$Boat" "java/lang/Object") ∈ lw_all := lw_g (lw_at lw_m2 24 rfl) rfl
theorem q342 : (Jvm.Cond.instanceMethod ({ cls := "DawnEights$Boat", name := "seats", desc := "()I" } : Jvm.MethodName)) ∈ lw_all := lw_g (lw_at lw_m2 46 rfl) rfl
theorem q343 : (Jvm.Cond.selects "DawnEights$Boat" ({ cls := "DawnEights$Boat", name := "seats", desc := "()I" } : Jvm.MethodName) ({ cls := "DawnEights$Boat", name := "seats", desc := "()I" } : Jvm.MethodName)) ∈ lw_all := lw_g (lw_at lw_m2 47 rfl) rfl
theorem q344 : (Jvm.Cond.code ({ cls := "DawnEights$Boat", name := "seats", desc := "()I" } : Jvm.MethodName) prog_2_method_2_code (1 : Nat) (Option.some Jvm.ClassFile.FieldType.int)) ∈ lw_all := lw_g (lw_at lw_m2 48 rfl) rfl
theorem q346 : (Jvm.Cond.instanceMethod ({ cls := "DawnEights$Boat", name := "hasCox", desc := "()Z" } : Jvm.MethodName)) ∈ lw_all := lw_g (lw_at lw_m2 50 rfl) rfl
theorem q347 : (Jvm.Cond.selects "DawnEights$Boat" ({ cls := "DawnEights$Boat", name := "hasCox", desc := "()Z" } : Jvm.MethodName) ({ cls := "DawnEights$Boat", name := "hasCox", desc := "()Z" } : Jvm.MethodName)) ∈ lw_all := lw_g (lw_at lw_m2 51 rfl) rfl
theorem q348 : (Jvm.Cond.code ({ cls := "DawnEights$Boat", name := "hasCox", desc := "()Z" } : Jvm.MethodName) prog_2_method_3_code (1 : Nat) (Option.some Jvm.ClassFile.FieldType.boolean)) ∈ lw_all := lw_g (lw_at lw_m2 52 rfl) rfl
theorem q362 : (Jvm.Cond.instanceMethod ({ cls := "DawnEights$Boat", name := "place", desc := "(I)I" } : Jvm.MethodName)) ∈ lw_all := lw_g (lw_at lw_m2 66 rfl) rfl
theorem q363 : (Jvm.Cond.selects "DawnEights$Boat" ({ cls := "DawnEights$Boat", name := "place", desc := "(I)I" } : Jvm.MethodName) ({ cls := "DawnEights$Boat", name := "place", desc := "(I)I" } : Jvm.MethodName)) ∈ lw_all := lw_g (lw_at lw_m2 67 rfl) rfl
theorem q364 : (Jvm.Cond.code ({ cls := "DawnEights$Boat", name := "place", desc := "(I)I" } : Jvm.MethodName) prog_2_method_5_code (3 : Nat) (Option.some Jvm.ClassFile.FieldType.int)) ∈ lw_all := lw_g (lw_at lw_m2 68 rfl) rfl
theorem q492 : (Jvm.Cond.instanceMethod ({ cls := "DawnEights$Boat", name := "side", desc := "(I)I" } : Jvm.MethodName)) ∈ lw_all := lw_g (lw_at lw_m2 196 rfl) rfl
theorem q493 : (Jvm.Cond.selects "DawnEights$Boat" ({ cls := "DawnEights$Boat", name := "side", desc := "(I)I" } : Jvm.MethodName) ({ cls := "DawnEights$Boat", name := "side", desc := "(I)I" } : Jvm.MethodName)) ∈ lw_all := lw_g (lw_at lw_m2 197 rfl) rfl
theorem q494 : (Jvm.Cond.code ({ cls := "DawnEights$Boat", name := "side", desc := "(I)I" } : Jvm.MethodName) prog_2_method_4_code (2 : Nat) (Option.some Jvm.ClassFile.FieldType.int)) ∈ lw_all := lw_g (lw_at lw_m2 198 rfl) rfl
theorem in_X7 : ∀ w ∈ wsX70, w ∈ lw_all := lw_in wsX70 [308, 310, 312, 314, 316, 318] (by decide +kernel) (by decide +kernel)
/-! DawnEights$Rule -/
def RX8 : String := "DawnEights$Rule"
def TX8 : u_T := fun k => match k with
  | 0 => ("DawnEights$Rule", "isBar", "Z", false)
  | 1 => ("DawnEights$Rule", "kind", "I", false)
  | 2 => ("DawnEights$Rule", "size", "I", false)
  | 3 => ("DawnEights$Rule", "fields", "[I", true)
  | 4 => ("DawnEights$Rule", "signs", "[I", true)
  | 5 => ("DawnEights$Rule", "numbers", "[I", true)
  | 6 => ("DawnEights$Rule", "nots", "[Z", true)
  | _ => ("DawnEights$Rule", "this$0", "LDawnEights;", true)
def tyX8 : Nat → FieldType := fun k => match k with
  | 0 => .boolean
  | 1 => .int
  | 2 => .int
  | 3 => .array .int
  | 4 => .array .int
  | 5 => .array .int
  | 6 => .array .boolean
  | _ => .object "DawnEights"
abbrev wsX80 : List Cond := u_ws RX8 TX8 8
theorem nmX8 : ∀ a, a < 8 → ∀ b, b < 8 → a ≠ b → (TX8 a).2.1 ≠ (TX8 b).2.1 := by decide +kernel
theorem tyX8_ok : ∀ k, k < 8 → parseFieldDescriptor (TX8 k).2.2.1 = some (tyX8 k) := by decide +kernel
abbrev cX8_init : ByteArray := prog_6_method_1_code
def yX8_init : MethodName := ⟨RX8, "<init>", "(LDawnEights;)V"⟩
abbrev cX8_holds : ByteArray := prog_6_method_2_code
def yX8_holds : MethodName := ⟨RX8, "holds", "(LDawnEights$Boat;I)Z"⟩
abbrev cX8_value : ByteArray := prog_6_method_3_code
def yX8_value : MethodName := ⟨RX8, "value", "(ILDawnEights$Boat;I)I"⟩
theorem q66 : (Jvm.Cond.initialized "DawnEights$Rule") ∈ lw_all := lw_g (lw_at lw_m1 10 rfl) rfl
theorem q89 : (Jvm.Cond.fieldLinkNest "DawnEights$Rule" (46 : Nat) "DawnEights" "day" "I" "DawnEights") ∈ lw_tbl := lw_at lw_m1 33 rfl
theorem q104 : (Jvm.Cond.fieldLinkNest "DawnEights$Rule" (43 : Nat) "DawnEights" "streams" "[I" "DawnEights") ∈ lw_tbl := lw_at lw_m1 48 rfl
theorem q106 : (Jvm.Cond.fieldLinkNest "DawnEights$Rule" (49 : Nat) "DawnEights" "winds" "[I" "DawnEights") ∈ lw_tbl := lw_at lw_m1 50 rfl
theorem q298 : (Jvm.Cond.fieldLinkNest "DawnEights$Rule" (33 : Nat) "DawnEights$Boat" "kind" "I" "DawnEights") ∈ lw_tbl := lw_at lw_m2 2 rfl
theorem q524 : (Jvm.Cond.instantiable "DawnEights$Rule" (8 : Nat)) ∈ lw_all := lw_g (lw_at lw_m2 228 rfl) rfl
theorem q526 : (Jvm.Cond.instanceMethod ({ cls := "DawnEights$Rule", name := "<init>", desc := "(LDawnEights;)V" } : Jvm.MethodName)) ∈ lw_all := lw_g (lw_at lw_m2 230 rfl) rfl
theorem q527 : (Jvm.Cond.code ({ cls := "DawnEights$Rule", name := "<init>", desc := "(LDawnEights;)V" } : Jvm.MethodName) prog_6_method_1_code (2 : Nat) (Option.none : Option Jvm.ClassFile.FieldType)) ∈ lw_all := lw_g (lw_at lw_m2 231 rfl) rfl
theorem q528 : (Jvm.Cond.methodLink "DawnEights$Rule" (9 : Nat) ({ cls := "java/lang/Object", name := "<init>", desc := "()V" } : Jvm.MethodName)) ∈ lw_all := lw_g (lw_at lw_m2 232 rfl) rfl
theorem q530 : (Jvm.Cond.fieldLink "DawnEights$Rule" (29 : Nat) "DawnEights$Rule" "kind" "I") ∈ lw_all := lw_g (lw_at lw_m2 234 rfl) rfl
theorem q532 : (Jvm.Cond.fieldLink "DawnEights$Rule" (36 : Nat) "DawnEights$Rule" "size" "I") ∈ lw_all := lw_g (lw_at lw_m2 236 rfl) rfl
theorem q534 : (Jvm.Cond.fieldLink "DawnEights$Rule" (15 : Nat) "DawnEights$Rule" "fields" "[I") ∈ lw_all := lw_g (lw_at lw_m2 238 rfl) rfl
theorem q536 : (Jvm.Cond.fieldLink "DawnEights$Rule" (19 : Nat) "DawnEights$Rule" "signs" "[I") ∈ lw_all := lw_g (lw_at lw_m3 0 rfl) rfl
theorem q538 : (Jvm.Cond.fieldLink "DawnEights$Rule" (22 : Nat) "DawnEights$Rule" "numbers" "[I") ∈ lw_all := lw_g (lw_at lw_m3 2 rfl) rfl
theorem q540 : (Jvm.Cond.fieldLink "DawnEights$Rule" (25 : Nat) "DawnEights$Rule" "nots" "[Z") ∈ lw_all := lw_g (lw_at lw_m3 4 rfl) rfl
theorem q542 : (Jvm.Cond.fieldLink "DawnEights$Rule" (3 : Nat) "DawnEights$Rule" "this$0" "LDawnEights;") ∈ lw_all := lw_g (lw_at lw_m3 6 rfl) rfl
theorem q543 : (Jvm.Cond.lays "DawnEights$Rule" "DawnEights$Rule" "isBar" "Z") ∈ lw_all := lw_g (lw_at lw_m3 7 rfl) rfl
theorem q544 : (Jvm.Cond.soleField "DawnEights$Rule" "isBar") ∈ lw_all := lw_g (lw_at lw_m3 8 rfl) rfl
theorem q545 : (Jvm.Cond.lays "DawnEights$Rule" "DawnEights$Rule" "kind" "I") ∈ lw_all := lw_g (lw_at lw_m3 9 rfl) rfl
theorem q546 : (Jvm.Cond.soleField "DawnEights$Rule" "kind") ∈ lw_all := lw_g (lw_at lw_m3 10 rfl) rfl
theorem q547 : (Jvm.Cond.lays "DawnEights$Rule" "DawnEights$Rule" "size" "I") ∈ lw_all := lw_g (lw_at lw_m3 11 rfl) rfl
theorem q548 : (Jvm.Cond.soleField "DawnEights$Rule" "size") ∈ lw_all := lw_g (lw_at lw_m3 12 rfl) rfl
theorem q549 : (Jvm.Cond.laysFinal "DawnEights$Rule" "DawnEights$Rule" "fields" "[I") ∈ lw_all := lw_g (lw_at lw_m3 13 rfl) rfl
theorem q550 : (Jvm.Cond.soleField "DawnEights$Rule" "fields") ∈ lw_all := lw_g (lw_at lw_m3 14 rfl) rfl
theorem q551 : (Jvm.Cond.laysFinal "DawnEights$Rule" "DawnEights$Rule" "signs" "[I") ∈ lw_all := lw_g (lw_at lw_m3 15 rfl) rfl
theorem q552 : (Jvm.Cond.soleField "DawnEights$Rule" "signs") ∈ lw_all := lw_g (lw_at lw_m3 16 rfl) rfl
theorem q553 : (Jvm.Cond.laysFinal "DawnEights$Rule" "DawnEights$Rule" "numbers" "[I") ∈ lw_all := lw_g (lw_at lw_m3 17 rfl) rfl
theorem q554 : (Jvm.Cond.soleField "DawnEights$Rule" "numbers") ∈ lw_all := lw_g (lw_at lw_m3 18 rfl) rfl
theorem q555 : (Jvm.Cond.laysFinal "DawnEights$Rule" "DawnEights$Rule" "nots" "[Z") ∈ lw_all := lw_g (lw_at lw_m3 19 rfl) rfl
theorem q556 : (Jvm.Cond.soleField "DawnEights$Rule" "nots") ∈ lw_all := lw_g (lw_at lw_m3 20 rfl) rfl
theorem q557 : (Jvm.Cond.laysFinal "DawnEights$Rule" "DawnEights$Rule" "this$0" "LDawnEights;") ∈ lw_all := lw_g (lw_at lw_m3 21 rfl) rfl
theorem q558 : (Jvm.Cond.soleField "DawnEights$Rule" "this$0") ∈ lw_all := lw_g (lw_at lw_m3 22 rfl) rfl
theorem q559 : (Jvm.Cond.superclass "DawnEights$Rule" "java/lang/Object") ∈ lw_all := lw_g (lw_at lw_m3 23 rfl) rfl
theorem q648 : (Jvm.Cond.instanceMethod ({ cls := "DawnEights$Rule", name := "holds", desc := "(LDawnEights$Boat;I)Z" } : Jvm.MethodName)) ∈ lw_all := lw_g (lw_at lw_m3 112 rfl) rfl
theorem q649 : (Jvm.Cond.selects "DawnEights$Rule" ({ cls := "DawnEights$Rule", name := "holds", desc := "(LDawnEights$Boat;I)Z" } : Jvm.MethodName) ({ cls := "DawnEights$Rule", name := "holds", desc := "(LDawnEights$Boat;I)Z" } : Jvm.MethodName)) ∈ lw_all := lw_g (lw_at lw_m3 113 rfl) rfl
theorem q650 : (Jvm.Cond.code ({ cls := "DawnEights$Rule", name := "holds", desc := "(LDawnEights$Boat;I)Z" } : Jvm.MethodName) prog_6_method_2_code (6 : Nat) (Option.some Jvm.ClassFile.FieldType.boolean)) ∈ lw_all := lw_g (lw_at lw_m3 114 rfl) rfl
theorem q651 : (Jvm.Cond.methodLink "DawnEights$Rule" (39 : Nat) ({ cls := "DawnEights$Rule", name := "value", desc := "(ILDawnEights$Boat;I)I" } : Jvm.MethodName)) ∈ lw_all := lw_g (lw_at lw_m3 115 rfl) rfl
theorem q652 : (Jvm.Cond.privateMethod ({ cls := "DawnEights$Rule", name := "value", desc := "(ILDawnEights$Boat;I)I" } : Jvm.MethodName)) ∈ lw_tbl := lw_at lw_m3 116 rfl
theorem q653 : (Jvm.Cond.instanceMethod ({ cls := "DawnEights$Rule", name := "value", desc := "(ILDawnEights$Boat;I)I" } : Jvm.MethodName)) ∈ lw_all := lw_g (lw_at lw_m3 117 rfl) rfl
theorem q654 : (Jvm.Cond.code ({ cls := "DawnEights$Rule", name := "value", desc := "(ILDawnEights$Boat;I)I" } : Jvm.MethodName) prog_6_method_3_code (4 : Nat) (Option.some Jvm.ClassFile.FieldType.int)) ∈ lw_all := lw_g (lw_at lw_m3 118 rfl) rfl
theorem q655 : (Jvm.Cond.methodLink "DawnEights$Rule" (52 : Nat) ({ cls := "DawnEights$Boat", name := "seats", desc := "()I" } : Jvm.MethodName)) ∈ lw_all := lw_g (lw_at lw_m3 119 rfl) rfl
theorem q656 : (Jvm.Cond.methodLinkNest "DawnEights$Rule" (56 : Nat) ({ cls := "DawnEights", name := "hasYoung", desc := "(LDawnEights$Boat;)Z" } : Jvm.MethodName) "DawnEights") ∈ lw_tbl := lw_at lw_m3 120 rfl
theorem in_X8 : ∀ w ∈ wsX80, w ∈ lw_all := lw_in wsX80 [543, 545, 547, 549, 551, 553, 555, 557] (by decide +kernel) (by decide +kernel)
theorem q56 : (Jvm.Cond.initialized "DawnEightsLaw") ∈ lw_all := lw_g (lw_at lw_m1 0 rfl) rfl
theorem q71 : (Jvm.Cond.classLink "DawnEightsLaw" (7 : Nat) "DawnEights") ∈ lw_all := lw_g (lw_at lw_m1 15 rfl) rfl
theorem q73 : (Jvm.Cond.methodLink "DawnEightsLaw" (9 : Nat) ({ cls := "DawnEights", name := "<init>", desc := "()V" } : Jvm.MethodName)) ∈ lw_all := lw_g (lw_at lw_m1 17 rfl) rfl
theorem q219 : (Jvm.Cond.methodLink "DawnEightsLaw" (13 : Nat) ({ cls := "DawnEights", name := "oar", desc := "(II)I" } : Jvm.MethodName)) ∈ lw_all := lw_g (lw_at lw_m1 163 rfl) rfl
theorem q287 : (Jvm.Cond.methodLink "DawnEightsLaw" (18 : Nat) ({ cls := "DawnEights", name := "boat", desc := "(IIII)I" } : Jvm.MethodName)) ∈ lw_all := lw_g (lw_at lw_m1 231 rfl) rfl
theorem q321 : (Jvm.Cond.methodLink "DawnEightsLaw" (23 : Nat) ({ cls := "DawnEights", name := "ill", desc := "(II)I" } : Jvm.MethodName)) ∈ lw_all := lw_g (lw_at lw_m2 25 rfl) rfl
theorem q329 : (Jvm.Cond.methodLink "DawnEightsLaw" (27 : Nat) ({ cls := "DawnEights", name := "sit", desc := "(III)I" } : Jvm.MethodName)) ∈ lw_all := lw_g (lw_at lw_m2 33 rfl) rfl
theorem q365 : (Jvm.Cond.methodLink "DawnEightsLaw" (32 : Nat) ({ cls := "DawnEights", name := "seat", desc := "(II)I" } : Jvm.MethodName)) ∈ lw_all := lw_g (lw_at lw_m2 69 rfl) rfl
theorem q369 : (Jvm.Cond.methodLink "DawnEightsLaw" (36 : Nat) ({ cls := "DawnEights", name := "about", desc := "(II)I" } : Jvm.MethodName)) ∈ lw_all := lw_g (lw_at lw_m2 73 rfl) rfl
theorem q390 : (Jvm.Cond.methodLink "DawnEightsLaw" (40 : Nat) ({ cls := "DawnEights", name := "race", desc := "(III)I" } : Jvm.MethodName)) ∈ lw_all := lw_g (lw_at lw_m2 94 rfl) rfl
theorem q396 : (Jvm.Cond.methodLink "DawnEightsLaw" (44 : Nat) ({ cls := "DawnEights", name := "unrace", desc := "()I" } : Jvm.MethodName)) ∈ lw_all := lw_g (lw_at lw_m2 100 rfl) rfl
theorem q400 : (Jvm.Cond.methodLink "DawnEightsLaw" (49 : Nat) ({ cls := "DawnEights", name := "group", desc := "(I)I" } : Jvm.MethodName)) ∈ lw_all := lw_g (lw_at lw_m2 104 rfl) rfl
theorem q411 : (Jvm.Cond.methodLink "DawnEightsLaw" (54 : Nat) ({ cls := "DawnEights", name := "strength", desc := "(II)J" } : Jvm.MethodName)) ∈ lw_all := lw_g (lw_at lw_m2 115 rfl) rfl
theorem q448 : (Jvm.Cond.methodLink "DawnEightsLaw" (59 : Nat) ({ cls := "DawnEights", name := "between", desc := "(III)J" } : Jvm.MethodName)) ∈ lw_all := lw_g (lw_at lw_m2 152 rfl) rfl
theorem q452 : (Jvm.Cond.methodLink "DawnEightsLaw" (64 : Nat) ({ cls := "DawnEights", name := "misfit", desc := "(II)J" } : Jvm.MethodName)) ∈ lw_all := lw_g (lw_at lw_m2 156 rfl) rfl
theorem q456 : (Jvm.Cond.methodLink "DawnEightsLaw" (68 : Nat) ({ cls := "DawnEights", name := "sure", desc := "(II)I" } : Jvm.MethodName)) ∈ lw_all := lw_g (lw_at lw_m2 160 rfl) rfl
theorem q460 : (Jvm.Cond.methodLink "DawnEightsLaw" (72 : Nat) ({ cls := "DawnEights", name := "crew", desc := "(III)I" } : Jvm.MethodName)) ∈ lw_all := lw_g (lw_at lw_m2 164 rfl) rfl
theorem q508 : (Jvm.Cond.methodLink "DawnEightsLaw" (76 : Nat) ({ cls := "DawnEights", name := "water", desc := "(III)I" } : Jvm.MethodName)) ∈ lw_all := lw_g (lw_at lw_m2 212 rfl) rfl
theorem q515 : (Jvm.Cond.methodLink "DawnEightsLaw" (82 : Nat) ({ cls := "DawnEights", name := "feed", desc := "(JI)I" } : Jvm.MethodName)) ∈ lw_all := lw_g (lw_at lw_m2 219 rfl) rfl
theorem q520 : (Jvm.Cond.methodLink "DawnEightsLaw" (87 : Nat) ({ cls := "DawnEights", name := "rule", desc := "()I" } : Jvm.MethodName)) ∈ lw_all := lw_g (lw_at lw_m2 224 rfl) rfl
theorem q639 : (Jvm.Cond.methodLink "DawnEightsLaw" (91 : Nat) ({ cls := "DawnEights", name := "ruled", desc := "(II)I" } : Jvm.MethodName)) ∈ lw_all := lw_g (lw_at lw_m3 103 rfl) rfl
theorem q670 : (Jvm.Cond.methodLink "DawnEightsLaw" (95 : Nat) ({ cls := "DawnEights", name := "may", desc := "(II)I" } : Jvm.MethodName)) ∈ lw_all := lw_g (lw_at lw_m3 134 rfl) rfl
theorem q686 : (Jvm.Cond.methodLink "DawnEightsLaw" (99 : Nat) ({ cls := "DawnEights", name := "day", desc := "(I)I" } : Jvm.MethodName)) ∈ lw_all := lw_g (lw_at lw_m3 150 rfl) rfl
theorem q690 : (Jvm.Cond.methodLink "DawnEightsLaw" (103 : Nat) ({ cls := "DawnEights", name := "out", desc := "(II)I" } : Jvm.MethodName)) ∈ lw_all := lw_g (lw_at lw_m3 154 rfl) rfl
theorem q694 : (Jvm.Cond.methodLink "DawnEightsLaw" (107 : Nat) ({ cls := "DawnEights", name := "look", desc := "(II)I" } : Jvm.MethodName)) ∈ lw_all := lw_g (lw_at lw_m3 158 rfl) rfl
theorem q698 : (Jvm.Cond.methodLink "DawnEightsLaw" (111 : Nat) ({ cls := "DawnEights", name := "broke", desc := "(II)I" } : Jvm.MethodName)) ∈ lw_all := lw_g (lw_at lw_m3 162 rfl) rfl
theorem q707 : (Jvm.Cond.methodLink "DawnEightsLaw" (115 : Nat) ({ cls := "DawnEights", name := "outing", desc := "(II)I" } : Jvm.MethodName)) ∈ lw_all := lw_g (lw_at lw_m3 171 rfl) rfl
theorem q711 : (Jvm.Cond.methodLink "DawnEightsLaw" (119 : Nat) ({ cls := "DawnEights", name := "heat", desc := "(II)I" } : Jvm.MethodName)) ∈ lw_all := lw_g (lw_at lw_m3 175 rfl) rfl
theorem q716 : (Jvm.Cond.methodLink "DawnEightsLaw" (123 : Nat) ({ cls := "DawnEights", name := "near", desc := "(I)I" } : Jvm.MethodName)) ∈ lw_all := lw_g (lw_at lw_m3 180 rfl) rfl
theorem q720 : (Jvm.Cond.methodLink "DawnEightsLaw" (127 : Nat) ({ cls := "DawnEights", name := "clashes", desc := "()I" } : Jvm.MethodName)) ∈ lw_all := lw_g (lw_at lw_m3 184 rfl) rfl
theorem q735 : (Jvm.Cond.methodLink "DawnEightsLaw" (131 : Nat) ({ cls := "DawnEights", name := "shift", desc := "(I)I" } : Jvm.MethodName)) ∈ lw_all := lw_g (lw_at lw_m3 199 rfl) rfl
theorem q739 : (Jvm.Cond.methodLink "DawnEightsLaw" (135 : Nat) ({ cls := "DawnEights", name := "trailer", desc := "(II)I" } : Jvm.MethodName)) ∈ lw_all := lw_g (lw_at lw_m3 203 rfl) rfl
theorem q746 : (Jvm.Cond.methodLink "DawnEightsLaw" (139 : Nat) ({ cls := "DawnEights", name := "rack", desc := "(I)I" } : Jvm.MethodName)) ∈ lw_all := lw_g (lw_at lw_m3 210 rfl) rfl
theorem q750 : (Jvm.Cond.methodLink "DawnEightsLaw" (143 : Nat) ({ cls := "DawnEights", name := "count", desc := "(I)I" } : Jvm.MethodName)) ∈ lw_all := lw_g (lw_at lw_m3 214 rfl) rfl
theorem q754 : (Jvm.Cond.classLink "DawnEightsLaw" (10 : Nat) "DawnEightsModel") ∈ lw_all := lw_g (lw_at lw_m3 218 rfl) rfl
theorem q756 : (Jvm.Cond.methodLink "DawnEightsLaw" (12 : Nat) ({ cls := "DawnEightsModel", name := "<init>", desc := "()V" } : Jvm.MethodName)) ∈ lw_all := lw_g (lw_at lw_m3 220 rfl) rfl
theorem q920 : (Jvm.Cond.methodLink "DawnEightsLaw" (17 : Nat) ({ cls := "DawnEightsModel", name := "oar", desc := "(II)I" } : Jvm.MethodName)) ∈ lw_all := lw_g (lw_at lw_m4 144 rfl) rfl
theorem q930 : (Jvm.Cond.methodLink "DawnEightsLaw" (22 : Nat) ({ cls := "DawnEightsModel", name := "boat", desc := "(IIII)I" } : Jvm.MethodName)) ∈ lw_all := lw_g (lw_at lw_m4 154 rfl) rfl
theorem q935 : (Jvm.Cond.methodLink "DawnEightsLaw" (26 : Nat) ({ cls := "DawnEightsModel", name := "ill", desc := "(II)I" } : Jvm.MethodName)) ∈ lw_all := lw_g (lw_at lw_m4 159 rfl) rfl
theorem q943 : (Jvm.Cond.methodLink "DawnEightsLaw" (31 : Nat) ({ cls := "DawnEightsModel", name := "sit", desc := "(III)I" } : Jvm.MethodName)) ∈ lw_all := lw_g (lw_at lw_m4 167 rfl) rfl
theorem q967 : (Jvm.Cond.methodLink "DawnEightsLaw" (35 : Nat) ({ cls := "DawnEightsModel", name := "seat", desc := "(II)I" } : Jvm.MethodName)) ∈ lw_all := lw_g (lw_at lw_m4 191 rfl) rfl
theorem q971 : (Jvm.Cond.methodLink "DawnEightsLaw" (39 : Nat) ({ cls := "DawnEightsModel", name := "about", desc := "(II)I" } : Jvm.MethodName)) ∈ lw_all := lw_g (lw_at lw_m4 195 rfl) rfl
theorem q975 : (Jvm.Cond.methodLink "DawnEightsLaw" (43 : Nat) ({ cls := "DawnEightsModel", name := "race", desc := "(III)I" } : Jvm.MethodName)) ∈ lw_all := lw_g (lw_at lw_m4 199 rfl) rfl
theorem q981 : (Jvm.Cond.methodLink "DawnEightsLaw" (48 : Nat) ({ cls := "DawnEightsModel", name := "unrace", desc := "()I" } : Jvm.MethodName)) ∈ lw_all := lw_g (lw_at lw_m4 205 rfl) rfl
theorem q985 : (Jvm.Cond.methodLink "DawnEightsLaw" (53 : Nat) ({ cls := "DawnEightsModel", name := "group", desc := "(I)I" } : Jvm.MethodName)) ∈ lw_all := lw_g (lw_at lw_m4 209 rfl) rfl
theorem q993 : (Jvm.Cond.methodLink "DawnEightsLaw" (58 : Nat) ({ cls := "DawnEightsModel", name := "strength", desc := "(II)J" } : Jvm.MethodName)) ∈ lw_all := lw_g (lw_at lw_m4 217 rfl) rfl
theorem q1019 : (Jvm.Cond.methodLink "DawnEightsLaw" (63 : Nat) ({ cls := "DawnEightsModel", name := "between", desc := "(III)J" } : Jvm.MethodName)) ∈ lw_all := lw_g (lw_at lw_m5 3 rfl) rfl
theorem q1023 : (Jvm.Cond.methodLink "DawnEightsLaw" (67 : Nat) ({ cls := "DawnEightsModel", name := "misfit", desc := "(II)J" } : Jvm.MethodName)) ∈ lw_all := lw_g (lw_at lw_m5 7 rfl) rfl
theorem q1027 : (Jvm.Cond.methodLink "DawnEightsLaw" (71 : Nat) ({ cls := "DawnEightsModel", name := "sure", desc := "(II)I" } : Jvm.MethodName)) ∈ lw_all := lw_g (lw_at lw_m5 11 rfl) rfl
theorem q1031 : (Jvm.Cond.methodLink "DawnEightsLaw" (75 : Nat) ({ cls := "DawnEightsModel", name := "crew", desc := "(III)I" } : Jvm.MethodName)) ∈ lw_all := lw_g (lw_at lw_m5 15 rfl) rfl
theorem q1057 : (Jvm.Cond.methodLink "DawnEightsLaw" (79 : Nat) ({ cls := "DawnEightsModel", name := "water", desc := "(III)I" } : Jvm.MethodName)) ∈ lw_all := lw_g (lw_at lw_m5 41 rfl) rfl
theorem q1064 : (Jvm.Cond.methodLink "DawnEightsLaw" (86 : Nat) ({ cls := "DawnEightsModel", name := "feed", desc := "(JI)I" } : Jvm.MethodName)) ∈ lw_all := lw_g (lw_at lw_m5 48 rfl) rfl
theorem q1070 : (Jvm.Cond.methodLink "DawnEightsLaw" (90 : Nat) ({ cls := "DawnEightsModel", name := "rule", desc := "()I" } : Jvm.MethodName)) ∈ lw_all := lw_g (lw_at lw_m5 54 rfl) rfl
theorem q1112 : (Jvm.Cond.methodLink "DawnEightsLaw" (94 : Nat) ({ cls := "DawnEightsModel", name := "ruled", desc := "(II)I" } : Jvm.MethodName)) ∈ lw_all := lw_g (lw_at lw_m5 96 rfl) rfl
theorem q1128 : (Jvm.Cond.methodLink "DawnEightsLaw" (98 : Nat) ({ cls := "DawnEightsModel", name := "may", desc := "(II)I" } : Jvm.MethodName)) ∈ lw_all := lw_g (lw_at lw_m5 112 rfl) rfl
theorem q1136 : (Jvm.Cond.methodLink "DawnEightsLaw" (102 : Nat) ({ cls := "DawnEightsModel", name := "day", desc := "(I)I" } : Jvm.MethodName)) ∈ lw_all := lw_g (lw_at lw_m5 120 rfl) rfl
theorem q1140 : (Jvm.Cond.methodLink "DawnEightsLaw" (106 : Nat) ({ cls := "DawnEightsModel", name := "out", desc := "(II)I" } : Jvm.MethodName)) ∈ lw_all := lw_g (lw_at lw_m5 124 rfl) rfl
theorem q1148 : (Jvm.Cond.methodLink "DawnEightsLaw" (110 : Nat) ({ cls := "DawnEightsModel", name := "look", desc := "(II)I" } : Jvm.MethodName)) ∈ lw_all := lw_g (lw_at lw_m5 132 rfl) rfl
theorem q1152 : (Jvm.Cond.methodLink "DawnEightsLaw" (114 : Nat) ({ cls := "DawnEightsModel", name := "broke", desc := "(II)I" } : Jvm.MethodName)) ∈ lw_all := lw_g (lw_at lw_m5 136 rfl) rfl
theorem q1157 : (Jvm.Cond.methodLink "DawnEightsLaw" (118 : Nat) ({ cls := "DawnEightsModel", name := "outing", desc := "(II)I" } : Jvm.MethodName)) ∈ lw_all := lw_g (lw_at lw_m5 141 rfl) rfl
theorem q1161 : (Jvm.Cond.methodLink "DawnEightsLaw" (122 : Nat) ({ cls := "DawnEightsModel", name := "heat", desc := "(II)I" } : Jvm.MethodName)) ∈ lw_all := lw_g (lw_at lw_m5 145 rfl) rfl
theorem q1166 : (Jvm.Cond.methodLink "DawnEightsLaw" (126 : Nat) ({ cls := "DawnEightsModel", name := "near", desc := "(I)I" } : Jvm.MethodName)) ∈ lw_all := lw_g (lw_at lw_m5 150 rfl) rfl
theorem q1170 : (Jvm.Cond.methodLink "DawnEightsLaw" (130 : Nat) ({ cls := "DawnEightsModel", name := "clashes", desc := "()I" } : Jvm.MethodName)) ∈ lw_all := lw_g (lw_at lw_m5 154 rfl) rfl
theorem q1178 : (Jvm.Cond.methodLink "DawnEightsLaw" (134 : Nat) ({ cls := "DawnEightsModel", name := "shift", desc := "(I)I" } : Jvm.MethodName)) ∈ lw_all := lw_g (lw_at lw_m5 162 rfl) rfl
theorem q1182 : (Jvm.Cond.methodLink "DawnEightsLaw" (138 : Nat) ({ cls := "DawnEightsModel", name := "trailer", desc := "(II)I" } : Jvm.MethodName)) ∈ lw_all := lw_g (lw_at lw_m5 166 rfl) rfl
theorem q1190 : (Jvm.Cond.methodLink "DawnEightsLaw" (142 : Nat) ({ cls := "DawnEightsModel", name := "rack", desc := "(I)I" } : Jvm.MethodName)) ∈ lw_all := lw_g (lw_at lw_m5 174 rfl) rfl
theorem q1194 : (Jvm.Cond.methodLink "DawnEightsLaw" (146 : Nat) ({ cls := "DawnEightsModel", name := "count", desc := "(I)I" } : Jvm.MethodName)) ∈ lw_all := lw_g (lw_at lw_m5 178 rfl) rfl
theorem q1198 : (Jvm.Cond.constantLong "DawnEightsLaw" (80 : Nat) (4294967295 : Int64)) ∈ lw_all := lw_g (lw_at lw_m5 182 rfl) rfl
theorem q496 : (Jvm.Cond.declares ({ cls := "DawnEights$Rows", name := "dislikes", desc := "(I)I" } : Jvm.MethodName)) ∈ lw_tbl := lw_at lw_m2 200 rfl
theorem q80 : (Jvm.Cond.arrayOver (Jvm.ClassFile.FieldType.object "DawnEights$Oar")) ∈ lw_tbl := lw_at lw_m1 24 rfl
theorem q82 : (Jvm.Cond.arrayOver (Jvm.ClassFile.FieldType.object "DawnEights$Boat")) ∈ lw_tbl := lw_at lw_m1 26 rfl
theorem q84 : (Jvm.Cond.arrayOver (Jvm.ClassFile.FieldType.object "DawnEights$Rule")) ∈ lw_tbl := lw_at lw_m1 28 rfl
theorem q215 : (Jvm.Cond.arrayClass Jvm.ClassFile.FieldType.int) ∈ lw_all := lw_g (lw_at lw_m1 159 rfl) rfl
theorem q216 : (Jvm.Cond.arrayClass Jvm.ClassFile.FieldType.long) ∈ lw_all := lw_g (lw_at lw_m1 160 rfl) rfl
theorem q217 : (Jvm.Cond.arrayClass Jvm.ClassFile.FieldType.byte) ∈ lw_all := lw_g (lw_at lw_m1 161 rfl) rfl
theorem q218 : (Jvm.Cond.arrayClass Jvm.ClassFile.FieldType.boolean) ∈ lw_all := lw_g (lw_at lw_m1 162 rfl) rfl
theorem q1212 : (Jvm.Cond.arrayOver (Jvm.ClassFile.FieldType.object "java/lang/String")) ∈ lw_tbl := lw_at lw_m5 196 rfl
