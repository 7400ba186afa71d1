set_option maxRecDepth 100000
/-! java/lang/Integer -/
set_option maxRecDepth 100000
def RJ0 : String := "java/lang/Integer"
abbrev cJ0_bitCount : ByteArray := prog_12_method_49_code
def yJ0_bitCount : MethodName := ⟨RJ0, "bitCount", "(I)I"⟩
theorem q89 : (Jvm.Cond.initialized "java/lang/Integer") ∈ lw_all := lw_g (lw_at lw_m1 11 rfl) rfl
theorem q582 : (Jvm.Cond.static ({ cls := "java/lang/Integer", name := "bitCount", desc := "(I)I" } : Jvm.MethodName)) ∈ lw_all := lw_g (lw_at lw_m3 24 rfl) rfl
theorem q583 : (Jvm.Cond.code ({ cls := "java/lang/Integer", name := "bitCount", desc := "(I)I" } : Jvm.MethodName) prog_12_method_49_code (1 : Nat) (Option.some Jvm.ClassFile.FieldType.int)) ∈ lw_all := lw_g (lw_at lw_m3 25 rfl) rfl
theorem q584 : (Jvm.Cond.constant "java/lang/Integer" (265 : Nat) (1431655765 : Int32)) ∈ lw_all := lw_g (lw_at lw_m3 26 rfl) rfl
theorem q585 : (Jvm.Cond.constant "java/lang/Integer" (266 : Nat) (858993459 : Int32)) ∈ lw_all := lw_g (lw_at lw_m3 27 rfl) rfl
theorem q586 : (Jvm.Cond.constant "java/lang/Integer" (267 : Nat) (252645135 : Int32)) ∈ lw_all := lw_g (lw_at lw_m3 28 rfl) rfl

/-! java/lang/Math -/
set_option maxRecDepth 100000
def RJ1 : String := "java/lang/Math"
abbrev cJ1_max : ByteArray := prog_13_method_66_code
def yJ1_max : MethodName := ⟨RJ1, "max", "(JJ)J"⟩
abbrev cJ1_min : ByteArray := prog_13_method_70_code
def yJ1_min : MethodName := ⟨RJ1, "min", "(JJ)J"⟩
abbrev cJ1_min_2 : ByteArray := prog_13_method_69_code
def yJ1_min_2 : MethodName := ⟨RJ1, "min", "(II)I"⟩
theorem q90 : (Jvm.Cond.initialized "java/lang/Math") ∈ lw_all := lw_g (lw_at lw_m1 12 rfl) rfl
theorem q605 : (Jvm.Cond.static ({ cls := "java/lang/Math", name := "max", desc := "(JJ)J" } : Jvm.MethodName)) ∈ lw_all := lw_g (lw_at lw_m3 47 rfl) rfl
theorem q606 : (Jvm.Cond.code ({ cls := "java/lang/Math", name := "max", desc := "(JJ)J" } : Jvm.MethodName) prog_13_method_66_code (4 : Nat) (Option.some Jvm.ClassFile.FieldType.long)) ∈ lw_all := lw_g (lw_at lw_m3 48 rfl) rfl
theorem q608 : (Jvm.Cond.static ({ cls := "java/lang/Math", name := "min", desc := "(JJ)J" } : Jvm.MethodName)) ∈ lw_all := lw_g (lw_at lw_m3 50 rfl) rfl
theorem q609 : (Jvm.Cond.code ({ cls := "java/lang/Math", name := "min", desc := "(JJ)J" } : Jvm.MethodName) prog_13_method_70_code (4 : Nat) (Option.some Jvm.ClassFile.FieldType.long)) ∈ lw_all := lw_g (lw_at lw_m3 51 rfl) rfl
theorem q898 : (Jvm.Cond.static ({ cls := "java/lang/Math", name := "min", desc := "(II)I" } : Jvm.MethodName)) ∈ lw_all := lw_g (lw_at lw_m4 100 rfl) rfl
theorem q899 : (Jvm.Cond.code ({ cls := "java/lang/Math", name := "min", desc := "(II)I" } : Jvm.MethodName) prog_13_method_69_code (2 : Nat) (Option.some Jvm.ClassFile.FieldType.int)) ∈ lw_all := lw_g (lw_at lw_m4 101 rfl) rfl

/-! java/lang/Object -/
set_option maxRecDepth 100000
def RJ2 : String := "java/lang/Object"
abbrev cJ2_init : ByteArray := object_method_1_code
def yJ2_init : MethodName := ⟨RJ2, "<init>", "()V"⟩
theorem q98 : (Jvm.Cond.instanceMethod ({ cls := "java/lang/Object", name := "<init>", desc := "()V" } : Jvm.MethodName)) ∈ lw_all := lw_g (lw_at lw_m1 20 rfl) rfl
theorem q99 : (Jvm.Cond.code ({ cls := "java/lang/Object", name := "<init>", desc := "()V" } : Jvm.MethodName) object_method_1_code (1 : Nat) (Option.none : Option Jvm.ClassFile.FieldType)) ∈ lw_all := lw_g (lw_at lw_m1 21 rfl) rfl

/-! the law's own entry -/
set_option maxRecDepth 100000
abbrev cL_law : ByteArray := code

/-! ApplyFree -/
set_option maxRecDepth 100000
def RX0 : String := "ApplyFree"
def TX0 : u_T := fun k => match k with
  | 0 => ("ApplyFree", "tables", "[LApplyFree$Table;", true)
  | 1 => ("ApplyFree", "tableCount", "I", false)
  | 2 => ("ApplyFree", "terms", "LApplyFree$Terms;", true)
  | 3 => ("ApplyFree", "steps", "LApplyFree$Steps;", true)
  | 4 => ("ApplyFree", "rewriter", "LApplyFree$Rewriter;", true)
  | 5 => ("ApplyFree", "executor", "LApplyFree$Executor;", true)
  | 6 => ("ApplyFree", "answer", "[I", true)
  | 7 => ("ApplyFree", "answerRows", "I", false)
  | _ => ("ApplyFree", "answerWidth", "I", false)
def tyX0 : Nat → FieldType := fun k => match k with
  | 0 => .array (.object "ApplyFree$Table")
  | 1 => .int
  | 2 => .object "ApplyFree$Terms"
  | 3 => .object "ApplyFree$Steps"
  | 4 => .object "ApplyFree$Rewriter"
  | 5 => .object "ApplyFree$Executor"
  | 6 => .array .int
  | 7 => .int
  | _ => .int
abbrev wsX00 : List Cond := u_ws RX0 TX0 9
theorem nmX0 : ∀ a, a < 9 → ∀ b, b < 9 → a ≠ b → (TX0 a).2.1 ≠ (TX0 b).2.1 := by decide +kernel
theorem tyX0_ok : ∀ k, k < 9 → parseFieldDescriptor (TX0 k).2.2.1 = some (tyX0 k) := by decide +kernel
abbrev cX0_init : ByteArray := prog_1_method_1_code
def yX0_init : MethodName := ⟨RX0, "<init>", "()V"⟩
abbrev cX0_table : ByteArray := prog_1_method_4_code
def yX0_table : MethodName := ⟨RX0, "table", "(I)I"⟩
abbrev cX0_isIn : ByteArray := prog_1_method_2_code
def yX0_isIn : MethodName := ⟨RX0, "isIn", "(III)Z"⟩
abbrev cX0_row : ByteArray := prog_1_method_5_code
def yX0_row : MethodName := ⟨RX0, "row", "(IIIII)I"⟩
abbrev cX0_isTable : ByteArray := prog_1_method_3_code
def yX0_isTable : MethodName := ⟨RX0, "isTable", "(I)Z"⟩
abbrev cX0_empty : ByteArray := prog_1_method_6_code
def yX0_empty : MethodName := ⟨RX0, "empty", "(I)I"⟩
abbrev cX0_constant : ByteArray := prog_1_method_7_code
def yX0_constant : MethodName := ⟨RX0, "constant", "(I)I"⟩
abbrev cX0_column : ByteArray := prog_1_method_8_code
def yX0_column : MethodName := ⟨RX0, "column", "(II)I"⟩
abbrev cX0_reckon : ByteArray := prog_1_method_11_code
def yX0_reckon : MethodName := ⟨RX0, "reckon", "(III)I"⟩
abbrev cX0_are : ByteArray := prog_1_method_9_code
def yX0_are : MethodName := ⟨RX0, "are", "(IIII)Z"⟩
abbrev cX0_number : ByteArray := prog_1_method_12_code
def yX0_number : MethodName := ⟨RX0, "number", "(I)I"⟩
abbrev cX0_isOne : ByteArray := prog_1_method_10_code
def yX0_isOne : MethodName := ⟨RX0, "isOne", "(II)Z"⟩
abbrev cX0_fold : ByteArray := prog_1_method_13_code
def yX0_fold : MethodName := ⟨RX0, "fold", "(III)I"⟩
abbrev cX0_compare : ByteArray := prog_1_method_14_code
def yX0_compare : MethodName := ⟨RX0, "compare", "(III)I"⟩
abbrev cX0_isNothing : ByteArray := prog_1_method_15_code
def yX0_isNothing : MethodName := ⟨RX0, "isNothing", "(I)I"⟩
abbrev cX0_logic : ByteArray := prog_1_method_16_code
def yX0_logic : MethodName := ⟨RX0, "logic", "(III)I"⟩
abbrev cX0_has : ByteArray := prog_1_method_17_code
def yX0_has : MethodName := ⟨RX0, "has", "(I)I"⟩
abbrev cX0_some : ByteArray := prog_1_method_19_code
def yX0_some : MethodName := ⟨RX0, "some", "(III)I"⟩
abbrev cX0_quantified : ByteArray := prog_1_method_18_code
def yX0_quantified : MethodName := ⟨RX0, "quantified", "(IIII)I"⟩
abbrev cX0_each : ByteArray := prog_1_method_20_code
def yX0_each : MethodName := ⟨RX0, "each", "(III)I"⟩
abbrev cX0_scan : ByteArray := prog_1_method_21_code
def yX0_scan : MethodName := ⟨RX0, "scan", "(I)I"⟩
abbrev cX0_filter : ByteArray := prog_1_method_22_code
def yX0_filter : MethodName := ⟨RX0, "filter", "(II)I"⟩
abbrev cX0_more : ByteArray := prog_1_method_23_code
def yX0_more : MethodName := ⟨RX0, "more", "(II)I"⟩
abbrev cX0_only : ByteArray := prog_1_method_24_code
def yX0_only : MethodName := ⟨RX0, "only", "(III)I"⟩
abbrev cX0_pairs : ByteArray := prog_1_method_26_code
def yX0_pairs : MethodName := ⟨RX0, "pairs", "(II)I"⟩
abbrev cX0_isNarrow : ByteArray := prog_1_method_25_code
def yX0_isNarrow : MethodName := ⟨RX0, "isNarrow", "(II)Z"⟩
abbrev cX0_apply : ByteArray := prog_1_method_27_code
def yX0_apply : MethodName := ⟨RX0, "apply", "(III)I"⟩
abbrev cX0_both : ByteArray := prog_1_method_28_code
def yX0_both : MethodName := ⟨RX0, "both", "(III)I"⟩
abbrev cX0_once : ByteArray := prog_1_method_29_code
def yX0_once : MethodName := ⟨RX0, "once", "(I)I"⟩
abbrev cX0_first : ByteArray := prog_1_method_30_code
def yX0_first : MethodName := ⟨RX0, "first", "(II)I"⟩
abbrev cX0_groups : ByteArray := prog_1_method_31_code
def yX0_groups : MethodName := ⟨RX0, "groups", "(IIII)I"⟩
abbrev cX0_forget : ByteArray := prog_1_method_32_code
def yX0_forget : MethodName := ⟨RX0, "forget", "()I"⟩
abbrev cX0_told : ByteArray := prog_1_method_33_code
def yX0_told : MethodName := ⟨RX0, "told", "(II)I"⟩
abbrev cX0_run : ByteArray := prog_1_method_34_code
def yX0_run : MethodName := ⟨RX0, "run", "(I)I"⟩
abbrev cX0_cell : ByteArray := prog_1_method_35_code
def yX0_cell : MethodName := ⟨RX0, "cell", "(II)J"⟩
abbrev cX0_count : ByteArray := prog_1_method_36_code
def yX0_count : MethodName := ⟨RX0, "count", "(I)I"⟩
theorem q79 : (Jvm.Cond.initialized "ApplyFree") ∈ lw_all := lw_g (lw_at lw_m1 1 rfl) rfl
theorem q93 : (Jvm.Cond.instantiable "ApplyFree" (9 : Nat)) ∈ lw_all := lw_g (lw_at lw_m1 15 rfl) rfl
theorem q95 : (Jvm.Cond.instanceMethod ({ cls := "ApplyFree", name := "<init>", desc := "()V" } : Jvm.MethodName)) ∈ lw_all := lw_g (lw_at lw_m1 17 rfl) rfl
theorem q96 : (Jvm.Cond.code ({ cls := "ApplyFree", name := "<init>", desc := "()V" } : Jvm.MethodName) prog_1_method_1_code (1 : Nat) (Option.none : Option Jvm.ClassFile.FieldType)) ∈ lw_all := lw_g (lw_at lw_m1 18 rfl) rfl
theorem q97 : (Jvm.Cond.methodLink "ApplyFree" (1 : Nat) ({ cls := "java/lang/Object", name := "<init>", desc := "()V" } : Jvm.MethodName)) ∈ lw_all := lw_g (lw_at lw_m1 19 rfl) rfl
theorem q100 : (Jvm.Cond.classLink "ApplyFree" (9 : Nat) "ApplyFree$Table") ∈ lw_all := lw_g (lw_at lw_m1 22 rfl) rfl
theorem q102 : (Jvm.Cond.classLink "ApplyFree" (15 : Nat) "ApplyFree$Terms") ∈ lw_all := lw_g (lw_at lw_m1 24 rfl) rfl
theorem q104 : (Jvm.Cond.methodLink "ApplyFree" (17 : Nat) ({ cls := "ApplyFree$Terms", name := "<init>", desc := "([LApplyFree$Table;)V" } : Jvm.MethodName)) ∈ lw_all := lw_g (lw_at lw_m1 26 rfl) rfl
theorem q111 : (Jvm.Cond.fieldLink "ApplyFree" (131 : Nat) "ApplyFree$Terms" "kinds" "[B") ∈ lw_all := lw_g (lw_at lw_m1 33 rfl) rfl
theorem q120 : (Jvm.Cond.fieldLink "ApplyFree" (85 : Nat) "ApplyFree$Terms" "numbers" "[I") ∈ lw_all := lw_g (lw_at lw_m1 42 rfl) rfl
theorem q123 : (Jvm.Cond.fieldLink "ApplyFree" (105 : Nat) "ApplyFree$Terms" "counts" "[B") ∈ lw_all := lw_g (lw_at lw_m1 45 rfl) rfl
theorem q126 : (Jvm.Cond.fieldLink "ApplyFree" (109 : Nat) "ApplyFree$Terms" "widths" "[B") ∈ lw_all := lw_g (lw_at lw_m1 48 rfl) rfl
theorem q129 : (Jvm.Cond.fieldLink "ApplyFree" (88 : Nat) "ApplyFree$Terms" "looks" "[I") ∈ lw_all := lw_g (lw_at lw_m1 51 rfl) rfl
theorem q133 : (Jvm.Cond.fieldLink "ApplyFree" (128 : Nat) "ApplyFree$Terms" "count" "I") ∈ lw_all := lw_g (lw_at lw_m1 55 rfl) rfl
theorem q162 : (Jvm.Cond.classLink "ApplyFree" (24 : Nat) "ApplyFree$Steps") ∈ lw_all := lw_g (lw_at lw_m1 84 rfl) rfl
theorem q164 : (Jvm.Cond.methodLinkNest "ApplyFree" (26 : Nat) ({ cls := "ApplyFree$Steps", name := "<init>", desc := "()V" } : Jvm.MethodName) "ApplyFree") ∈ lw_tbl := lw_at lw_m1 86 rfl
theorem q212 : (Jvm.Cond.classLink "ApplyFree" (31 : Nat) "ApplyFree$Rewriter") ∈ lw_all := lw_g (lw_at lw_m1 134 rfl) rfl
theorem q214 : (Jvm.Cond.methodLink "ApplyFree" (33 : Nat) ({ cls := "ApplyFree$Rewriter", name := "<init>", desc := "(LApplyFree$Terms;LApplyFree$Steps;)V" } : Jvm.MethodName)) ∈ lw_all := lw_g (lw_at lw_m1 136 rfl) rfl
theorem q264 : (Jvm.Cond.classLink "ApplyFree" (40 : Nat) "ApplyFree$Executor") ∈ lw_all := lw_g (lw_at lw_m1 186 rfl) rfl
theorem q266 : (Jvm.Cond.methodLink "ApplyFree" (42 : Nat) ({ cls := "ApplyFree$Executor", name := "<init>", desc := "([LApplyFree$Table;LApplyFree$Steps;)V" } : Jvm.MethodName)) ∈ lw_all := lw_g (lw_at lw_m1 188 rfl) rfl
theorem q340 : (Jvm.Cond.fieldLink "ApplyFree" (154 : Nat) "ApplyFree$Executor" "rows" "[I") ∈ lw_all := lw_g (lw_at lw_m2 22 rfl) rfl
theorem q342 : (Jvm.Cond.fieldLink "ApplyFree" (159 : Nat) "ApplyFree$Executor" "widths" "[I") ∈ lw_all := lw_g (lw_at lw_m2 24 rfl) rfl
theorem q387 : (Jvm.Cond.fieldLink "ApplyFree" (11 : Nat) "ApplyFree" "tables" "[LApplyFree$Table;") ∈ lw_all := lw_g (lw_at lw_m2 69 rfl) rfl
theorem q388 : (Jvm.Cond.fieldLink "ApplyFree" (53 : Nat) "ApplyFree" "tableCount" "I") ∈ lw_all := lw_g (lw_at lw_m2 70 rfl) rfl
theorem q389 : (Jvm.Cond.fieldLink "ApplyFree" (20 : Nat) "ApplyFree" "terms" "LApplyFree$Terms;") ∈ lw_all := lw_g (lw_at lw_m2 71 rfl) rfl
theorem q390 : (Jvm.Cond.fieldLink "ApplyFree" (27 : Nat) "ApplyFree" "steps" "LApplyFree$Steps;") ∈ lw_all := lw_g (lw_at lw_m2 72 rfl) rfl
theorem q391 : (Jvm.Cond.fieldLink "ApplyFree" (36 : Nat) "ApplyFree" "rewriter" "LApplyFree$Rewriter;") ∈ lw_all := lw_g (lw_at lw_m2 73 rfl) rfl
theorem q392 : (Jvm.Cond.fieldLink "ApplyFree" (45 : Nat) "ApplyFree" "executor" "LApplyFree$Executor;") ∈ lw_all := lw_g (lw_at lw_m2 74 rfl) rfl
theorem q393 : (Jvm.Cond.fieldLink "ApplyFree" (49 : Nat) "ApplyFree" "answer" "[I") ∈ lw_all := lw_g (lw_at lw_m2 75 rfl) rfl
theorem q394 : (Jvm.Cond.fieldLink "ApplyFree" (156 : Nat) "ApplyFree" "answerRows" "I") ∈ lw_all := lw_g (lw_at lw_m2 76 rfl) rfl
theorem q395 : (Jvm.Cond.fieldLink "ApplyFree" (161 : Nat) "ApplyFree" "answerWidth" "I") ∈ lw_all := lw_g (lw_at lw_m2 77 rfl) rfl
theorem q396 : (Jvm.Cond.laysFinal "ApplyFree" "ApplyFree" "tables" "[LApplyFree$Table;") ∈ lw_all := lw_g (lw_at lw_m2 78 rfl) rfl
theorem q397 : (Jvm.Cond.soleField "ApplyFree" "tables") ∈ lw_all := lw_g (lw_at lw_m2 79 rfl) rfl
theorem q398 : (Jvm.Cond.lays "ApplyFree" "ApplyFree" "tableCount" "I") ∈ lw_all := lw_g (lw_at lw_m2 80 rfl) rfl
theorem q399 : (Jvm.Cond.soleField "ApplyFree" "tableCount") ∈ lw_all := lw_g (lw_at lw_m2 81 rfl) rfl
theorem q400 : (Jvm.Cond.laysFinal "ApplyFree" "ApplyFree" "terms" "LApplyFree$Terms;") ∈ lw_all := lw_g (lw_at lw_m2 82 rfl) rfl
theorem q401 : (Jvm.Cond.soleField "ApplyFree" "terms") ∈ lw_all := lw_g (lw_at lw_m2 83 rfl) rfl
theorem q402 : (Jvm.Cond.laysFinal "ApplyFree" "ApplyFree" "steps" "LApplyFree$Steps;") ∈ lw_all := lw_g (lw_at lw_m2 84 rfl) rfl
theorem q403 : (Jvm.Cond.soleField "ApplyFree" "steps") ∈ lw_all := lw_g (lw_at lw_m2 85 rfl) rfl
theorem q404 : (Jvm.Cond.laysFinal "ApplyFree" "ApplyFree" "rewriter" "LApplyFree$Rewriter;") ∈ lw_all := lw_g (lw_at lw_m2 86 rfl) rfl
theorem q405 : (Jvm.Cond.soleField "ApplyFree" "rewriter") ∈ lw_all := lw_g (lw_at lw_m2 87 rfl) rfl
theorem q406 : (Jvm.Cond.laysFinal "ApplyFree" "ApplyFree" "executor" "LApplyFree$Executor;") ∈ lw_all := lw_g (lw_at lw_m2 88 rfl) rfl
theorem q407 : (Jvm.Cond.soleField "ApplyFree" "executor") ∈ lw_all := lw_g (lw_at lw_m2 89 rfl) rfl
theorem q408 : (Jvm.Cond.laysFinal "ApplyFree" "ApplyFree" "answer" "[I") ∈ lw_all := lw_g (lw_at lw_m2 90 rfl) rfl
theorem q409 : (Jvm.Cond.soleField "ApplyFree" "answer") ∈ lw_all := lw_g (lw_at lw_m2 91 rfl) rfl
theorem q410 : (Jvm.Cond.lays "ApplyFree" "ApplyFree" "answerRows" "I") ∈ lw_all := lw_g (lw_at lw_m2 92 rfl) rfl
theorem q411 : (Jvm.Cond.soleField "ApplyFree" "answerRows") ∈ lw_all := lw_g (lw_at lw_m2 93 rfl) rfl
theorem q412 : (Jvm.Cond.lays "ApplyFree" "ApplyFree" "answerWidth" "I") ∈ lw_all := lw_g (lw_at lw_m2 94 rfl) rfl
theorem q413 : (Jvm.Cond.soleField "ApplyFree" "answerWidth") ∈ lw_all := lw_g (lw_at lw_m2 95 rfl) rfl
theorem q414 : (Jvm.Cond.superclass "ApplyFree" "java/lang/Object") ∈ lw_all := lw_g (lw_at lw_m2 96 rfl) rfl
theorem q416 : (Jvm.Cond.instanceMethod ({ cls := "ApplyFree", name := "table", desc := "(I)I" } : Jvm.MethodName)) ∈ lw_all := lw_g (lw_at lw_m2 98 rfl) rfl
theorem q417 : (Jvm.Cond.selects "ApplyFree" ({ cls := "ApplyFree", name := "table", desc := "(I)I" } : Jvm.MethodName) ({ cls := "ApplyFree", name := "table", desc := "(I)I" } : Jvm.MethodName)) ∈ lw_all := lw_g (lw_at lw_m2 99 rfl) rfl
theorem q418 : (Jvm.Cond.code ({ cls := "ApplyFree", name := "table", desc := "(I)I" } : Jvm.MethodName) prog_1_method_4_code (2 : Nat) (Option.some Jvm.ClassFile.FieldType.int)) ∈ lw_all := lw_g (lw_at lw_m2 100 rfl) rfl
theorem q419 : (Jvm.Cond.methodLink "ApplyFree" (57 : Nat) ({ cls := "ApplyFree", name := "isIn", desc := "(III)Z" } : Jvm.MethodName)) ∈ lw_all := lw_g (lw_at lw_m2 101 rfl) rfl
theorem q420 : (Jvm.Cond.static ({ cls := "ApplyFree", name := "isIn", desc := "(III)Z" } : Jvm.MethodName)) ∈ lw_all := lw_g (lw_at lw_m2 102 rfl) rfl
theorem q421 : (Jvm.Cond.code ({ cls := "ApplyFree", name := "isIn", desc := "(III)Z" } : Jvm.MethodName) prog_1_method_2_code (3 : Nat) (Option.some Jvm.ClassFile.FieldType.boolean)) ∈ lw_all := lw_g (lw_at lw_m2 103 rfl) rfl
theorem q423 : (Jvm.Cond.methodLink "ApplyFree" (61 : Nat) ({ cls := "ApplyFree$Table", name := "<init>", desc := "(I)V" } : Jvm.MethodName)) ∈ lw_all := lw_g (lw_at lw_m2 105 rfl) rfl
theorem q428 : (Jvm.Cond.fieldLink "ApplyFree" (71 : Nat) "ApplyFree$Table" "columns" "I") ∈ lw_all := lw_g (lw_at lw_m2 110 rfl) rfl
theorem q431 : (Jvm.Cond.fieldLink "ApplyFree" (74 : Nat) "ApplyFree$Table" "cells" "[I") ∈ lw_all := lw_g (lw_at lw_m2 113 rfl) rfl
theorem q433 : (Jvm.Cond.fieldLink "ApplyFree" (68 : Nat) "ApplyFree$Table" "rows" "I") ∈ lw_all := lw_g (lw_at lw_m2 115 rfl) rfl
theorem q444 : (Jvm.Cond.instanceMethod ({ cls := "ApplyFree", name := "row", desc := "(IIIII)I" } : Jvm.MethodName)) ∈ lw_all := lw_g (lw_at lw_m2 126 rfl) rfl
theorem q445 : (Jvm.Cond.selects "ApplyFree" ({ cls := "ApplyFree", name := "row", desc := "(IIIII)I" } : Jvm.MethodName) ({ cls := "ApplyFree", name := "row", desc := "(IIIII)I" } : Jvm.MethodName)) ∈ lw_all := lw_g (lw_at lw_m2 127 rfl) rfl
theorem q446 : (Jvm.Cond.code ({ cls := "ApplyFree", name := "row", desc := "(IIIII)I" } : Jvm.MethodName) prog_1_method_5_code (8 : Nat) (Option.some Jvm.ClassFile.FieldType.int)) ∈ lw_all := lw_g (lw_at lw_m2 128 rfl) rfl
theorem q447 : (Jvm.Cond.methodLink "ApplyFree" (64 : Nat) ({ cls := "ApplyFree", name := "isTable", desc := "(I)Z" } : Jvm.MethodName)) ∈ lw_all := lw_g (lw_at lw_m2 129 rfl) rfl
theorem q448 : (Jvm.Cond.privateMethod ({ cls := "ApplyFree", name := "isTable", desc := "(I)Z" } : Jvm.MethodName)) ∈ lw_tbl := lw_at lw_m2 130 rfl
theorem q449 : (Jvm.Cond.instanceMethod ({ cls := "ApplyFree", name := "isTable", desc := "(I)Z" } : Jvm.MethodName)) ∈ lw_all := lw_g (lw_at lw_m2 131 rfl) rfl
theorem q450 : (Jvm.Cond.code ({ cls := "ApplyFree", name := "isTable", desc := "(I)Z" } : Jvm.MethodName) prog_1_method_3_code (2 : Nat) (Option.some Jvm.ClassFile.FieldType.boolean)) ∈ lw_all := lw_g (lw_at lw_m2 132 rfl) rfl
theorem q452 : (Jvm.Cond.instanceMethod ({ cls := "ApplyFree", name := "empty", desc := "(I)I" } : Jvm.MethodName)) ∈ lw_all := lw_g (lw_at lw_m2 134 rfl) rfl
theorem q453 : (Jvm.Cond.selects "ApplyFree" ({ cls := "ApplyFree", name := "empty", desc := "(I)I" } : Jvm.MethodName) ({ cls := "ApplyFree", name := "empty", desc := "(I)I" } : Jvm.MethodName)) ∈ lw_all := lw_g (lw_at lw_m2 135 rfl) rfl
theorem q454 : (Jvm.Cond.code ({ cls := "ApplyFree", name := "empty", desc := "(I)I" } : Jvm.MethodName) prog_1_method_6_code (3 : Nat) (Option.some Jvm.ClassFile.FieldType.int)) ∈ lw_all := lw_g (lw_at lw_m2 136 rfl) rfl
theorem q456 : (Jvm.Cond.instanceMethod ({ cls := "ApplyFree", name := "constant", desc := "(I)I" } : Jvm.MethodName)) ∈ lw_all := lw_g (lw_at lw_m2 138 rfl) rfl
theorem q457 : (Jvm.Cond.selects "ApplyFree" ({ cls := "ApplyFree", name := "constant", desc := "(I)I" } : Jvm.MethodName) ({ cls := "ApplyFree", name := "constant", desc := "(I)I" } : Jvm.MethodName)) ∈ lw_all := lw_g (lw_at lw_m2 139 rfl) rfl
theorem q458 : (Jvm.Cond.code ({ cls := "ApplyFree", name := "constant", desc := "(I)I" } : Jvm.MethodName) prog_1_method_7_code (3 : Nat) (Option.some Jvm.ClassFile.FieldType.int)) ∈ lw_all := lw_g (lw_at lw_m2 140 rfl) rfl
theorem q459 : (Jvm.Cond.methodLink "ApplyFree" (77 : Nat) ({ cls := "ApplyFree$Terms", name := "hasRoom", desc := "()Z" } : Jvm.MethodName)) ∈ lw_all := lw_g (lw_at lw_m2 141 rfl) rfl
theorem q463 : (Jvm.Cond.methodLink "ApplyFree" (81 : Nat) ({ cls := "ApplyFree$Terms", name := "add", desc := "(IIIII)I" } : Jvm.MethodName)) ∈ lw_all := lw_g (lw_at lw_m2 145 rfl) rfl
theorem q471 : (Jvm.Cond.instanceMethod ({ cls := "ApplyFree", name := "column", desc := "(II)I" } : Jvm.MethodName)) ∈ lw_all := lw_g (lw_at lw_m2 153 rfl) rfl
theorem q472 : (Jvm.Cond.selects "ApplyFree" ({ cls := "ApplyFree", name := "column", desc := "(II)I" } : Jvm.MethodName) ({ cls := "ApplyFree", name := "column", desc := "(II)I" } : Jvm.MethodName)) ∈ lw_all := lw_g (lw_at lw_m2 154 rfl) rfl
theorem q473 : (Jvm.Cond.code ({ cls := "ApplyFree", name := "column", desc := "(II)I" } : Jvm.MethodName) prog_1_method_8_code (4 : Nat) (Option.some Jvm.ClassFile.FieldType.int)) ∈ lw_all := lw_g (lw_at lw_m2 155 rfl) rfl
theorem q475 : (Jvm.Cond.instanceMethod ({ cls := "ApplyFree", name := "reckon", desc := "(III)I" } : Jvm.MethodName)) ∈ lw_all := lw_g (lw_at lw_m2 157 rfl) rfl
theorem q476 : (Jvm.Cond.selects "ApplyFree" ({ cls := "ApplyFree", name := "reckon", desc := "(III)I" } : Jvm.MethodName) ({ cls := "ApplyFree", name := "reckon", desc := "(III)I" } : Jvm.MethodName)) ∈ lw_all := lw_g (lw_at lw_m2 158 rfl) rfl
theorem q477 : (Jvm.Cond.code ({ cls := "ApplyFree", name := "reckon", desc := "(III)I" } : Jvm.MethodName) prog_1_method_11_code (4 : Nat) (Option.some Jvm.ClassFile.FieldType.int)) ∈ lw_all := lw_g (lw_at lw_m2 159 rfl) rfl
theorem q478 : (Jvm.Cond.methodLink "ApplyFree" (95 : Nat) ({ cls := "ApplyFree", name := "are", desc := "(IIII)Z" } : Jvm.MethodName)) ∈ lw_all := lw_g (lw_at lw_m2 160 rfl) rfl
theorem q479 : (Jvm.Cond.privateMethod ({ cls := "ApplyFree", name := "are", desc := "(IIII)Z" } : Jvm.MethodName)) ∈ lw_tbl := lw_at lw_m2 161 rfl
theorem q480 : (Jvm.Cond.instanceMethod ({ cls := "ApplyFree", name := "are", desc := "(IIII)Z" } : Jvm.MethodName)) ∈ lw_all := lw_g (lw_at lw_m2 162 rfl) rfl
theorem q481 : (Jvm.Cond.code ({ cls := "ApplyFree", name := "are", desc := "(IIII)Z" } : Jvm.MethodName) prog_1_method_9_code (5 : Nat) (Option.some Jvm.ClassFile.FieldType.boolean)) ∈ lw_all := lw_g (lw_at lw_m2 163 rfl) rfl
theorem q482 : (Jvm.Cond.methodLink "ApplyFree" (91 : Nat) ({ cls := "ApplyFree$Terms", name := "is", desc := "(II)Z" } : Jvm.MethodName)) ∈ lw_all := lw_g (lw_at lw_m2 164 rfl) rfl
theorem q490 : (Jvm.Cond.instanceMethod ({ cls := "ApplyFree", name := "number", desc := "(I)I" } : Jvm.MethodName)) ∈ lw_all := lw_g (lw_at lw_m2 172 rfl) rfl
theorem q491 : (Jvm.Cond.selects "ApplyFree" ({ cls := "ApplyFree", name := "number", desc := "(I)I" } : Jvm.MethodName) ({ cls := "ApplyFree", name := "number", desc := "(I)I" } : Jvm.MethodName)) ∈ lw_all := lw_g (lw_at lw_m2 173 rfl) rfl
theorem q492 : (Jvm.Cond.code ({ cls := "ApplyFree", name := "number", desc := "(I)I" } : Jvm.MethodName) prog_1_method_12_code (2 : Nat) (Option.some Jvm.ClassFile.FieldType.int)) ∈ lw_all := lw_g (lw_at lw_m2 174 rfl) rfl
theorem q493 : (Jvm.Cond.methodLink "ApplyFree" (99 : Nat) ({ cls := "ApplyFree", name := "isOne", desc := "(II)Z" } : Jvm.MethodName)) ∈ lw_all := lw_g (lw_at lw_m2 175 rfl) rfl
theorem q494 : (Jvm.Cond.privateMethod ({ cls := "ApplyFree", name := "isOne", desc := "(II)Z" } : Jvm.MethodName)) ∈ lw_tbl := lw_at lw_m2 176 rfl
theorem q495 : (Jvm.Cond.instanceMethod ({ cls := "ApplyFree", name := "isOne", desc := "(II)Z" } : Jvm.MethodName)) ∈ lw_all := lw_g (lw_at lw_m2 177 rfl) rfl
theorem q496 : (Jvm.Cond.code ({ cls := "ApplyFree", name := "isOne", desc := "(II)Z" } : Jvm.MethodName) prog_1_method_10_code (3 : Nat) (Option.some Jvm.ClassFile.FieldType.boolean)) ∈ lw_all := lw_g (lw_at lw_m2 178 rfl) rfl
theorem q498 : (Jvm.Cond.instanceMethod ({ cls := "ApplyFree", name := "fold", desc := "(III)I" } : Jvm.MethodName)) ∈ lw_all := lw_g (lw_at lw_m2 180 rfl) rfl
theorem q499 : (Jvm.Cond.selects "ApplyFree" ({ cls := "ApplyFree", name := "fold", desc := "(III)I" } : Jvm.MethodName) ({ cls := "ApplyFree", name := "fold", desc := "(III)I" } : Jvm.MethodName)) ∈ lw_all := lw_g (lw_at lw_m2 181 rfl) rfl
theorem q500 : (Jvm.Cond.code ({ cls := "ApplyFree", name := "fold", desc := "(III)I" } : Jvm.MethodName) prog_1_method_13_code (5 : Nat) (Option.some Jvm.ClassFile.FieldType.int)) ∈ lw_all := lw_g (lw_at lw_m2 182 rfl) rfl
theorem q501 : (Jvm.Cond.methodLink "ApplyFree" (102 : Nat) ({ cls := "ApplyFree$Terms", name := "hasColumn", desc := "(II)Z" } : Jvm.MethodName)) ∈ lw_all := lw_g (lw_at lw_m2 183 rfl) rfl
theorem q506 : (Jvm.Cond.instanceMethod ({ cls := "ApplyFree", name := "compare", desc := "(III)I" } : Jvm.MethodName)) ∈ lw_all := lw_g (lw_at lw_m2 188 rfl) rfl
theorem q507 : (Jvm.Cond.selects "ApplyFree" ({ cls := "ApplyFree", name := "compare", desc := "(III)I" } : Jvm.MethodName) ({ cls := "ApplyFree", name := "compare", desc := "(III)I" } : Jvm.MethodName)) ∈ lw_all := lw_g (lw_at lw_m2 189 rfl) rfl
theorem q508 : (Jvm.Cond.code ({ cls := "ApplyFree", name := "compare", desc := "(III)I" } : Jvm.MethodName) prog_1_method_14_code (4 : Nat) (Option.some Jvm.ClassFile.FieldType.int)) ∈ lw_all := lw_g (lw_at lw_m2 190 rfl) rfl
theorem q510 : (Jvm.Cond.instanceMethod ({ cls := "ApplyFree", name := "isNothing", desc := "(I)I" } : Jvm.MethodName)) ∈ lw_all := lw_g (lw_at lw_m2 192 rfl) rfl
theorem q511 : (Jvm.Cond.selects "ApplyFree" ({ cls := "ApplyFree", name := "isNothing", desc := "(I)I" } : Jvm.MethodName) ({ cls := "ApplyFree", name := "isNothing", desc := "(I)I" } : Jvm.MethodName)) ∈ lw_all := lw_g (lw_at lw_m2 193 rfl) rfl
theorem q512 : (Jvm.Cond.code ({ cls := "ApplyFree", name := "isNothing", desc := "(I)I" } : Jvm.MethodName) prog_1_method_15_code (2 : Nat) (Option.some Jvm.ClassFile.FieldType.int)) ∈ lw_all := lw_g (lw_at lw_m2 194 rfl) rfl
theorem q514 : (Jvm.Cond.instanceMethod ({ cls := "ApplyFree", name := "logic", desc := "(III)I" } : Jvm.MethodName)) ∈ lw_all := lw_g (lw_at lw_m2 196 rfl) rfl
theorem q515 : (Jvm.Cond.selects "ApplyFree" ({ cls := "ApplyFree", name := "logic", desc := "(III)I" } : Jvm.MethodName) ({ cls := "ApplyFree", name := "logic", desc := "(III)I" } : Jvm.MethodName)) ∈ lw_all := lw_g (lw_at lw_m2 197 rfl) rfl
theorem q516 : (Jvm.Cond.code ({ cls := "ApplyFree", name := "logic", desc := "(III)I" } : Jvm.MethodName) prog_1_method_16_code (4 : Nat) (Option.some Jvm.ClassFile.FieldType.int)) ∈ lw_all := lw_g (lw_at lw_m2 198 rfl) rfl
theorem q518 : (Jvm.Cond.instanceMethod ({ cls := "ApplyFree", name := "has", desc := "(I)I" } : Jvm.MethodName)) ∈ lw_all := lw_g (lw_at lw_m2 200 rfl) rfl
theorem q519 : (Jvm.Cond.selects "ApplyFree" ({ cls := "ApplyFree", name := "has", desc := "(I)I" } : Jvm.MethodName) ({ cls := "ApplyFree", name := "has", desc := "(I)I" } : Jvm.MethodName)) ∈ lw_all := lw_g (lw_at lw_m2 201 rfl) rfl
theorem q520 : (Jvm.Cond.code ({ cls := "ApplyFree", name := "has", desc := "(I)I" } : Jvm.MethodName) prog_1_method_17_code (2 : Nat) (Option.some Jvm.ClassFile.FieldType.int)) ∈ lw_all := lw_g (lw_at lw_m2 202 rfl) rfl
theorem q522 : (Jvm.Cond.instanceMethod ({ cls := "ApplyFree", name := "some", desc := "(III)I" } : Jvm.MethodName)) ∈ lw_all := lw_g (lw_at lw_m2 204 rfl) rfl
theorem q523 : (Jvm.Cond.selects "ApplyFree" ({ cls := "ApplyFree", name := "some", desc := "(III)I" } : Jvm.MethodName) ({ cls := "ApplyFree", name := "some", desc := "(III)I" } : Jvm.MethodName)) ∈ lw_all := lw_g (lw_at lw_m2 205 rfl) rfl
theorem q524 : (Jvm.Cond.code ({ cls := "ApplyFree", name := "some", desc := "(III)I" } : Jvm.MethodName) prog_1_method_19_code (4 : Nat) (Option.some Jvm.ClassFile.FieldType.int)) ∈ lw_all := lw_g (lw_at lw_m2 206 rfl) rfl
theorem q525 : (Jvm.Cond.methodLink "ApplyFree" (112 : Nat) ({ cls := "ApplyFree", name := "quantified", desc := "(IIII)I" } : Jvm.MethodName)) ∈ lw_all := lw_g (lw_at lw_m2 207 rfl) rfl
theorem q526 : (Jvm.Cond.privateMethod ({ cls := "ApplyFree", name := "quantified", desc := "(IIII)I" } : Jvm.MethodName)) ∈ lw_tbl := lw_at lw_m2 208 rfl
theorem q527 : (Jvm.Cond.instanceMethod ({ cls := "ApplyFree", name := "quantified", desc := "(IIII)I" } : Jvm.MethodName)) ∈ lw_all := lw_g (lw_at lw_m2 209 rfl) rfl
theorem q528 : (Jvm.Cond.code ({ cls := "ApplyFree", name := "quantified", desc := "(IIII)I" } : Jvm.MethodName) prog_1_method_18_code (5 : Nat) (Option.some Jvm.ClassFile.FieldType.int)) ∈ lw_all := lw_g (lw_at lw_m2 210 rfl) rfl
theorem q530 : (Jvm.Cond.instanceMethod ({ cls := "ApplyFree", name := "each", desc := "(III)I" } : Jvm.MethodName)) ∈ lw_all := lw_g (lw_at lw_m2 212 rfl) rfl
theorem q531 : (Jvm.Cond.selects "ApplyFree" ({ cls := "ApplyFree", name := "each", desc := "(III)I" } : Jvm.MethodName) ({ cls := "ApplyFree", name := "each", desc := "(III)I" } : Jvm.MethodName)) ∈ lw_all := lw_g (lw_at lw_m2 213 rfl) rfl
theorem q532 : (Jvm.Cond.code ({ cls := "ApplyFree", name := "each", desc := "(III)I" } : Jvm.MethodName) prog_1_method_20_code (4 : Nat) (Option.some Jvm.ClassFile.FieldType.int)) ∈ lw_all := lw_g (lw_at lw_m2 214 rfl) rfl
theorem q534 : (Jvm.Cond.instanceMethod ({ cls := "ApplyFree", name := "scan", desc := "(I)I" } : Jvm.MethodName)) ∈ lw_all := lw_g (lw_at lw_m2 216 rfl) rfl
theorem q535 : (Jvm.Cond.selects "ApplyFree" ({ cls := "ApplyFree", name := "scan", desc := "(I)I" } : Jvm.MethodName) ({ cls := "ApplyFree", name := "scan", desc := "(I)I" } : Jvm.MethodName)) ∈ lw_all := lw_g (lw_at lw_m2 217 rfl) rfl
theorem q536 : (Jvm.Cond.code ({ cls := "ApplyFree", name := "scan", desc := "(I)I" } : Jvm.MethodName) prog_1_method_21_code (3 : Nat) (Option.some Jvm.ClassFile.FieldType.int)) ∈ lw_all := lw_g (lw_at lw_m2 218 rfl) rfl
theorem q538 : (Jvm.Cond.instanceMethod ({ cls := "ApplyFree", name := "filter", desc := "(II)I" } : Jvm.MethodName)) ∈ lw_all := lw_g (lw_at lw_m2 220 rfl) rfl
theorem q539 : (Jvm.Cond.selects "ApplyFree" ({ cls := "ApplyFree", name := "filter", desc := "(II)I" } : Jvm.MethodName) ({ cls := "ApplyFree", name := "filter", desc := "(II)I" } : Jvm.MethodName)) ∈ lw_all := lw_g (lw_at lw_m2 221 rfl) rfl
theorem q540 : (Jvm.Cond.code ({ cls := "ApplyFree", name := "filter", desc := "(II)I" } : Jvm.MethodName) prog_1_method_22_code (3 : Nat) (Option.some Jvm.ClassFile.FieldType.int)) ∈ lw_all := lw_g (lw_at lw_m2 222 rfl) rfl
theorem q541 : (Jvm.Cond.methodLink "ApplyFree" (116 : Nat) ({ cls := "ApplyFree$Terms", name := "fits", desc := "(II)Z" } : Jvm.MethodName)) ∈ lw_all := lw_g (lw_at lw_m2 223 rfl) rfl
theorem q546 : (Jvm.Cond.instanceMethod ({ cls := "ApplyFree", name := "more", desc := "(II)I" } : Jvm.MethodName)) ∈ lw_all := lw_g (lw_at lw_m2 228 rfl) rfl
theorem q547 : (Jvm.Cond.selects "ApplyFree" ({ cls := "ApplyFree", name := "more", desc := "(II)I" } : Jvm.MethodName) ({ cls := "ApplyFree", name := "more", desc := "(II)I" } : Jvm.MethodName)) ∈ lw_all := lw_g (lw_at lw_m2 229 rfl) rfl
theorem q548 : (Jvm.Cond.code ({ cls := "ApplyFree", name := "more", desc := "(II)I" } : Jvm.MethodName) prog_1_method_23_code (4 : Nat) (Option.some Jvm.ClassFile.FieldType.int)) ∈ lw_all := lw_g (lw_at lw_m2 230 rfl) rfl
theorem q550 : (Jvm.Cond.instanceMethod ({ cls := "ApplyFree", name := "only", desc := "(III)I" } : Jvm.MethodName)) ∈ lw_all := lw_g (lw_at lw_m2 232 rfl) rfl
theorem q551 : (Jvm.Cond.selects "ApplyFree" ({ cls := "ApplyFree", name := "only", desc := "(III)I" } : Jvm.MethodName) ({ cls := "ApplyFree", name := "only", desc := "(III)I" } : Jvm.MethodName)) ∈ lw_all := lw_g (lw_at lw_m2 233 rfl) rfl
theorem q552 : (Jvm.Cond.code ({ cls := "ApplyFree", name := "only", desc := "(III)I" } : Jvm.MethodName) prog_1_method_24_code (5 : Nat) (Option.some Jvm.ClassFile.FieldType.int)) ∈ lw_all := lw_g (lw_at lw_m2 234 rfl) rfl
theorem q554 : (Jvm.Cond.instanceMethod ({ cls := "ApplyFree", name := "pairs", desc := "(II)I" } : Jvm.MethodName)) ∈ lw_all := lw_g (lw_at lw_m2 236 rfl) rfl
theorem q555 : (Jvm.Cond.selects "ApplyFree" ({ cls := "ApplyFree", name := "pairs", desc := "(II)I" } : Jvm.MethodName) ({ cls := "ApplyFree", name := "pairs", desc := "(II)I" } : Jvm.MethodName)) ∈ lw_all := lw_g (lw_at lw_m2 237 rfl) rfl
theorem q556 : (Jvm.Cond.code ({ cls := "ApplyFree", name := "pairs", desc := "(II)I" } : Jvm.MethodName) prog_1_method_26_code (3 : Nat) (Option.some Jvm.ClassFile.FieldType.int)) ∈ lw_all := lw_g (lw_at lw_m2 238 rfl) rfl
theorem q557 : (Jvm.Cond.methodLink "ApplyFree" (119 : Nat) ({ cls := "ApplyFree", name := "isNarrow", desc := "(II)Z" } : Jvm.MethodName)) ∈ lw_all := lw_g (lw_at lw_m2 239 rfl) rfl
theorem q558 : (Jvm.Cond.privateMethod ({ cls := "ApplyFree", name := "isNarrow", desc := "(II)Z" } : Jvm.MethodName)) ∈ lw_tbl := lw_at lw_m3 0 rfl
theorem q559 : (Jvm.Cond.instanceMethod ({ cls := "ApplyFree", name := "isNarrow", desc := "(II)Z" } : Jvm.MethodName)) ∈ lw_all := lw_g (lw_at lw_m3 1 rfl) rfl
theorem q560 : (Jvm.Cond.code ({ cls := "ApplyFree", name := "isNarrow", desc := "(II)Z" } : Jvm.MethodName) prog_1_method_25_code (3 : Nat) (Option.some Jvm.ClassFile.FieldType.boolean)) ∈ lw_all := lw_g (lw_at lw_m3 2 rfl) rfl
theorem q562 : (Jvm.Cond.instanceMethod ({ cls := "ApplyFree", name := "apply", desc := "(III)I" } : Jvm.MethodName)) ∈ lw_all := lw_g (lw_at lw_m3 4 rfl) rfl
theorem q563 : (Jvm.Cond.selects "ApplyFree" ({ cls := "ApplyFree", name := "apply", desc := "(III)I" } : Jvm.MethodName) ({ cls := "ApplyFree", name := "apply", desc := "(III)I" } : Jvm.MethodName)) ∈ lw_all := lw_g (lw_at lw_m3 5 rfl) rfl
theorem q564 : (Jvm.Cond.code ({ cls := "ApplyFree", name := "apply", desc := "(III)I" } : Jvm.MethodName) prog_1_method_27_code (4 : Nat) (Option.some Jvm.ClassFile.FieldType.int)) ∈ lw_all := lw_g (lw_at lw_m3 6 rfl) rfl
theorem q566 : (Jvm.Cond.instanceMethod ({ cls := "ApplyFree", name := "both", desc := "(III)I" } : Jvm.MethodName)) ∈ lw_all := lw_g (lw_at lw_m3 8 rfl) rfl
theorem q567 : (Jvm.Cond.selects "ApplyFree" ({ cls := "ApplyFree", name := "both", desc := "(III)I" } : Jvm.MethodName) ({ cls := "ApplyFree", name := "both", desc := "(III)I" } : Jvm.MethodName)) ∈ lw_all := lw_g (lw_at lw_m3 9 rfl) rfl
theorem q568 : (Jvm.Cond.code ({ cls := "ApplyFree", name := "both", desc := "(III)I" } : Jvm.MethodName) prog_1_method_28_code (5 : Nat) (Option.some Jvm.ClassFile.FieldType.int)) ∈ lw_all := lw_g (lw_at lw_m3 10 rfl) rfl
theorem q570 : (Jvm.Cond.instanceMethod ({ cls := "ApplyFree", name := "once", desc := "(I)I" } : Jvm.MethodName)) ∈ lw_all := lw_g (lw_at lw_m3 12 rfl) rfl
theorem q571 : (Jvm.Cond.selects "ApplyFree" ({ cls := "ApplyFree", name := "once", desc := "(I)I" } : Jvm.MethodName) ({ cls := "ApplyFree", name := "once", desc := "(I)I" } : Jvm.MethodName)) ∈ lw_all := lw_g (lw_at lw_m3 13 rfl) rfl
theorem q572 : (Jvm.Cond.code ({ cls := "ApplyFree", name := "once", desc := "(I)I" } : Jvm.MethodName) prog_1_method_29_code (2 : Nat) (Option.some Jvm.ClassFile.FieldType.int)) ∈ lw_all := lw_g (lw_at lw_m3 14 rfl) rfl
theorem q574 : (Jvm.Cond.instanceMethod ({ cls := "ApplyFree", name := "first", desc := "(II)I" } : Jvm.MethodName)) ∈ lw_all := lw_g (lw_at lw_m3 16 rfl) rfl
theorem q575 : (Jvm.Cond.selects "ApplyFree" ({ cls := "ApplyFree", name := "first", desc := "(II)I" } : Jvm.MethodName) ({ cls := "ApplyFree", name := "first", desc := "(II)I" } : Jvm.MethodName)) ∈ lw_all := lw_g (lw_at lw_m3 17 rfl) rfl
theorem q576 : (Jvm.Cond.code ({ cls := "ApplyFree", name := "first", desc := "(II)I" } : Jvm.MethodName) prog_1_method_30_code (4 : Nat) (Option.some Jvm.ClassFile.FieldType.int)) ∈ lw_all := lw_g (lw_at lw_m3 18 rfl) rfl
theorem q578 : (Jvm.Cond.instanceMethod ({ cls := "ApplyFree", name := "groups", desc := "(IIII)I" } : Jvm.MethodName)) ∈ lw_all := lw_g (lw_at lw_m3 20 rfl) rfl
theorem q579 : (Jvm.Cond.selects "ApplyFree" ({ cls := "ApplyFree", name := "groups", desc := "(IIII)I" } : Jvm.MethodName) ({ cls := "ApplyFree", name := "groups", desc := "(IIII)I" } : Jvm.MethodName)) ∈ lw_all := lw_g (lw_at lw_m3 21 rfl) rfl
theorem q580 : (Jvm.Cond.code ({ cls := "ApplyFree", name := "groups", desc := "(IIII)I" } : Jvm.MethodName) prog_1_method_31_code (6 : Nat) (Option.some Jvm.ClassFile.FieldType.int)) ∈ lw_all := lw_g (lw_at lw_m3 22 rfl) rfl
theorem q581 : (Jvm.Cond.methodLink "ApplyFree" (122 : Nat) ({ cls := "java/lang/Integer", name := "bitCount", desc := "(I)I" } : Jvm.MethodName)) ∈ lw_all := lw_g (lw_at lw_m3 23 rfl) rfl
theorem q588 : (Jvm.Cond.instanceMethod ({ cls := "ApplyFree", name := "forget", desc := "()I" } : Jvm.MethodName)) ∈ lw_all := lw_g (lw_at lw_m3 30 rfl) rfl
theorem q589 : (Jvm.Cond.selects "ApplyFree" ({ cls := "ApplyFree", name := "forget", desc := "()I" } : Jvm.MethodName) ({ cls := "ApplyFree", name := "forget", desc := "()I" } : Jvm.MethodName)) ∈ lw_all := lw_g (lw_at lw_m3 31 rfl) rfl
theorem q590 : (Jvm.Cond.code ({ cls := "ApplyFree", name := "forget", desc := "()I" } : Jvm.MethodName) prog_1_method_32_code (2 : Nat) (Option.some Jvm.ClassFile.FieldType.int)) ∈ lw_all := lw_g (lw_at lw_m3 32 rfl) rfl
theorem q592 : (Jvm.Cond.instanceMethod ({ cls := "ApplyFree", name := "told", desc := "(II)I" } : Jvm.MethodName)) ∈ lw_all := lw_g (lw_at lw_m3 34 rfl) rfl
theorem q593 : (Jvm.Cond.selects "ApplyFree" ({ cls := "ApplyFree", name := "told", desc := "(II)I" } : Jvm.MethodName) ({ cls := "ApplyFree", name := "told", desc := "(II)I" } : Jvm.MethodName)) ∈ lw_all := lw_g (lw_at lw_m3 35 rfl) rfl
theorem q594 : (Jvm.Cond.code ({ cls := "ApplyFree", name := "told", desc := "(II)I" } : Jvm.MethodName) prog_1_method_33_code (3 : Nat) (Option.some Jvm.ClassFile.FieldType.int)) ∈ lw_all := lw_g (lw_at lw_m3 36 rfl) rfl
theorem q595 : (Jvm.Cond.methodLink "ApplyFree" (134 : Nat) ({ cls := "ApplyFree$Terms", name := "sort", desc := "(I)I" } : Jvm.MethodName)) ∈ lw_all := lw_g (lw_at lw_m3 37 rfl) rfl
theorem q596 : (Jvm.Cond.methodLink "ApplyFree" (137 : Nat) ({ cls := "ApplyFree$Terms", name := "cost", desc := "(I)I" } : Jvm.MethodName)) ∈ lw_all := lw_g (lw_at lw_m3 38 rfl) rfl
theorem q619 : (Jvm.Cond.methodLink "ApplyFree" (140 : Nat) ({ cls := "ApplyFree$Terms", name := "size", desc := "(I)I" } : Jvm.MethodName)) ∈ lw_all := lw_g (lw_at lw_m3 61 rfl) rfl
theorem q625 : (Jvm.Cond.instanceMethod ({ cls := "ApplyFree", name := "run", desc := "(I)I" } : Jvm.MethodName)) ∈ lw_all := lw_g (lw_at lw_m3 67 rfl) rfl
theorem q626 : (Jvm.Cond.selects "ApplyFree" ({ cls := "ApplyFree", name := "run", desc := "(I)I" } : Jvm.MethodName) ({ cls := "ApplyFree", name := "run", desc := "(I)I" } : Jvm.MethodName)) ∈ lw_all := lw_g (lw_at lw_m3 68 rfl) rfl
theorem q627 : (Jvm.Cond.code ({ cls := "ApplyFree", name := "run", desc := "(I)I" } : Jvm.MethodName) prog_1_method_34_code (5 : Nat) (Option.some Jvm.ClassFile.FieldType.int)) ∈ lw_all := lw_g (lw_at lw_m3 69 rfl) rfl
theorem q628 : (Jvm.Cond.methodLink "ApplyFree" (143 : Nat) ({ cls := "ApplyFree$Terms", name := "isBag", desc := "(I)Z" } : Jvm.MethodName)) ∈ lw_all := lw_g (lw_at lw_m3 70 rfl) rfl
theorem q633 : (Jvm.Cond.methodLink "ApplyFree" (146 : Nat) ({ cls := "ApplyFree$Rewriter", name := "whole", desc := "(I)I" } : Jvm.MethodName)) ∈ lw_all := lw_g (lw_at lw_m3 75 rfl) rfl
theorem q772 : (Jvm.Cond.methodLink "ApplyFree" (149 : Nat) ({ cls := "ApplyFree$Executor", name := "run", desc := "(I)V" } : Jvm.MethodName)) ∈ lw_all := lw_g (lw_at lw_m3 214 rfl) rfl
theorem q912 : (Jvm.Cond.methodLink "ApplyFree" (152 : Nat) ({ cls := "ApplyFree$Executor", name := "sort", desc := "(I)V" } : Jvm.MethodName)) ∈ lw_all := lw_g (lw_at lw_m4 114 rfl) rfl
theorem q913 : (Jvm.Cond.methodLink "ApplyFree" (164 : Nat) ({ cls := "ApplyFree$Executor", name := "cell", desc := "(III)I" } : Jvm.MethodName)) ∈ lw_all := lw_g (lw_at lw_m4 115 rfl) rfl
theorem q918 : (Jvm.Cond.instanceMethod ({ cls := "ApplyFree", name := "cell", desc := "(II)J" } : Jvm.MethodName)) ∈ lw_all := lw_g (lw_at lw_m4 120 rfl) rfl
theorem q919 : (Jvm.Cond.selects "ApplyFree" ({ cls := "ApplyFree", name := "cell", desc := "(II)J" } : Jvm.MethodName) ({ cls := "ApplyFree", name := "cell", desc := "(II)J" } : Jvm.MethodName)) ∈ lw_all := lw_g (lw_at lw_m4 121 rfl) rfl
theorem q920 : (Jvm.Cond.code ({ cls := "ApplyFree", name := "cell", desc := "(II)J" } : Jvm.MethodName) prog_1_method_35_code (3 : Nat) (Option.some Jvm.ClassFile.FieldType.long)) ∈ lw_all := lw_g (lw_at lw_m4 122 rfl) rfl
theorem q921 : (Jvm.Cond.constantLong "ApplyFree" (168 : Nat) (1099511627776 : Int64)) ∈ lw_all := lw_g (lw_at lw_m4 123 rfl) rfl
theorem q923 : (Jvm.Cond.instanceMethod ({ cls := "ApplyFree", name := "count", desc := "(I)I" } : Jvm.MethodName)) ∈ lw_all := lw_g (lw_at lw_m4 125 rfl) rfl
theorem q924 : (Jvm.Cond.selects "ApplyFree" ({ cls := "ApplyFree", name := "count", desc := "(I)I" } : Jvm.MethodName) ({ cls := "ApplyFree", name := "count", desc := "(I)I" } : Jvm.MethodName)) ∈ lw_all := lw_g (lw_at lw_m4 126 rfl) rfl
theorem q925 : (Jvm.Cond.code ({ cls := "ApplyFree", name := "count", desc := "(I)I" } : Jvm.MethodName) prog_1_method_36_code (2 : Nat) (Option.some Jvm.ClassFile.FieldType.int)) ∈ lw_all := lw_g (lw_at lw_m4 127 rfl) rfl
theorem in_X0 : ∀ w ∈ wsX00, w ∈ lw_all := lw_in wsX00 [396, 398, 400, 402, 404, 406, 408, 410, 412] (by decide +kernel) (by decide +kernel)

/-! ApplyFree$Terms -/
set_option maxRecDepth 100000
def RX1 : String := "ApplyFree$Terms"
def TX1 : u_T := fun k => match k with
  | 0 => ("ApplyFree$Terms", "tables", "[LApplyFree$Table;", true)
  | 1 => ("ApplyFree$Terms", "kinds", "[B", true)
  | 2 => ("ApplyFree$Terms", "ops", "[B", true)
  | 3 => ("ApplyFree$Terms", "firsts", "[S", true)
  | 4 => ("ApplyFree$Terms", "seconds", "[S", true)
  | 5 => ("ApplyFree$Terms", "numbers", "[I", true)
  | 6 => ("ApplyFree$Terms", "counts", "[B", true)
  | 7 => ("ApplyFree$Terms", "widths", "[B", true)
  | 8 => ("ApplyFree$Terms", "looks", "[I", true)
  | 9 => ("ApplyFree$Terms", "costs", "[I", true)
  | 10 => ("ApplyFree$Terms", "sizes", "[I", true)
  | _ => ("ApplyFree$Terms", "count", "I", false)
def tyX1 : Nat → FieldType := fun k => match k with
  | 0 => .array (.object "ApplyFree$Table")
  | 1 => .array .byte
  | 2 => .array .byte
  | 3 => .array .short
  | 4 => .array .short
  | 5 => .array .int
  | 6 => .array .byte
  | 7 => .array .byte
  | 8 => .array .int
  | 9 => .array .int
  | 10 => .array .int
  | _ => .int
abbrev wsX10 : List Cond := u_ws RX1 TX1 12
theorem nmX1 : ∀ a, a < 12 → ∀ b, b < 12 → a ≠ b → (TX1 a).2.1 ≠ (TX1 b).2.1 := by decide +kernel
theorem tyX1_ok : ∀ k, k < 12 → parseFieldDescriptor (TX1 k).2.2.1 = some (tyX1 k) := by decide +kernel
abbrev cX1_init : ByteArray := prog_9_method_1_code
def yX1_init : MethodName := ⟨RX1, "<init>", "([LApplyFree$Table;)V"⟩
abbrev cX1_hasRoom : ByteArray := prog_9_method_5_code
def yX1_hasRoom : MethodName := ⟨RX1, "hasRoom", "()Z"⟩
abbrev cX1_add : ByteArray := prog_9_method_8_code
def yX1_add : MethodName := ⟨RX1, "add", "(IIIII)I"⟩
abbrev cX1_isInside : ByteArray := prog_9_method_9_code
def yX1_isInside : MethodName := ⟨RX1, "isInside", "(I)Z"⟩
abbrev cX1_is : ByteArray := prog_9_method_3_code
def yX1_is : MethodName := ⟨RX1, "is", "(II)Z"⟩
abbrev cX1_sort : ByteArray := prog_9_method_2_code
def yX1_sort : MethodName := ⟨RX1, "sort", "(I)I"⟩
abbrev cX1_hasColumn : ByteArray := prog_9_method_6_code
def yX1_hasColumn : MethodName := ⟨RX1, "hasColumn", "(II)Z"⟩
abbrev cX1_fits : ByteArray := prog_9_method_7_code
def yX1_fits : MethodName := ⟨RX1, "fits", "(II)Z"⟩
abbrev cX1_cost : ByteArray := prog_9_method_10_code
def yX1_cost : MethodName := ⟨RX1, "cost", "(I)I"⟩
abbrev cX1_ownSize : ByteArray := prog_9_method_13_code
def yX1_ownSize : MethodName := ⟨RX1, "ownSize", "(I)J"⟩
abbrev cX1_cut : ByteArray := prog_9_method_12_code
def yX1_cut : MethodName := ⟨RX1, "cut", "(J)I"⟩
abbrev cX1_ownCost : ByteArray := prog_9_method_14_code
def yX1_ownCost : MethodName := ⟨RX1, "ownCost", "(I)J"⟩
abbrev cX1_size : ByteArray := prog_9_method_11_code
def yX1_size : MethodName := ⟨RX1, "size", "(I)I"⟩
abbrev cX1_isBag : ByteArray := prog_9_method_4_code
def yX1_isBag : MethodName := ⟨RX1, "isBag", "(I)Z"⟩
theorem q80 : (Jvm.Cond.initialized "ApplyFree$Terms") ∈ lw_all := lw_g (lw_at lw_m1 2 rfl) rfl
theorem q103 : (Jvm.Cond.instantiable "ApplyFree$Terms" (12 : Nat)) ∈ lw_all := lw_g (lw_at lw_m1 25 rfl) rfl
theorem q105 : (Jvm.Cond.instanceMethod ({ cls := "ApplyFree$Terms", name := "<init>", desc := "([LApplyFree$Table;)V" } : Jvm.MethodName)) ∈ lw_all := lw_g (lw_at lw_m1 27 rfl) rfl
theorem q106 : (Jvm.Cond.code ({ cls := "ApplyFree$Terms", name := "<init>", desc := "([LApplyFree$Table;)V" } : Jvm.MethodName) prog_9_method_1_code (2 : Nat) (Option.none : Option Jvm.ClassFile.FieldType)) ∈ lw_all := lw_g (lw_at lw_m1 28 rfl) rfl
theorem q107 : (Jvm.Cond.methodLink "ApplyFree$Terms" (3 : Nat) ({ cls := "java/lang/Object", name := "<init>", desc := "()V" } : Jvm.MethodName)) ∈ lw_all := lw_g (lw_at lw_m1 29 rfl) rfl
theorem q108 : (Jvm.Cond.fieldLink "ApplyFree$Terms" (44 : Nat) "ApplyFree$Terms" "tables" "[LApplyFree$Table;") ∈ lw_all := lw_g (lw_at lw_m1 30 rfl) rfl
theorem q109 : (Jvm.Cond.fieldLink "ApplyFree$Terms" (9 : Nat) "ApplyFree$Terms" "kinds" "[B") ∈ lw_all := lw_g (lw_at lw_m1 31 rfl) rfl
theorem q112 : (Jvm.Cond.fieldLink "ApplyFree$Terms" (15 : Nat) "ApplyFree$Terms" "ops" "[B") ∈ lw_all := lw_g (lw_at lw_m1 34 rfl) rfl
theorem q114 : (Jvm.Cond.fieldLink "ApplyFree$Terms" (18 : Nat) "ApplyFree$Terms" "firsts" "[S") ∈ lw_all := lw_g (lw_at lw_m1 36 rfl) rfl
theorem q116 : (Jvm.Cond.fieldLink "ApplyFree$Terms" (22 : Nat) "ApplyFree$Terms" "seconds" "[S") ∈ lw_all := lw_g (lw_at lw_m1 38 rfl) rfl
theorem q118 : (Jvm.Cond.fieldLink "ApplyFree$Terms" (25 : Nat) "ApplyFree$Terms" "numbers" "[I") ∈ lw_all := lw_g (lw_at lw_m1 40 rfl) rfl
theorem q121 : (Jvm.Cond.fieldLink "ApplyFree$Terms" (29 : Nat) "ApplyFree$Terms" "counts" "[B") ∈ lw_all := lw_g (lw_at lw_m1 43 rfl) rfl
theorem q124 : (Jvm.Cond.fieldLink "ApplyFree$Terms" (32 : Nat) "ApplyFree$Terms" "widths" "[B") ∈ lw_all := lw_g (lw_at lw_m1 46 rfl) rfl
theorem q127 : (Jvm.Cond.fieldLink "ApplyFree$Terms" (35 : Nat) "ApplyFree$Terms" "looks" "[I") ∈ lw_all := lw_g (lw_at lw_m1 49 rfl) rfl
theorem q130 : (Jvm.Cond.fieldLink "ApplyFree$Terms" (38 : Nat) "ApplyFree$Terms" "costs" "[I") ∈ lw_all := lw_g (lw_at lw_m1 52 rfl) rfl
theorem q131 : (Jvm.Cond.fieldLink "ApplyFree$Terms" (41 : Nat) "ApplyFree$Terms" "sizes" "[I") ∈ lw_all := lw_g (lw_at lw_m1 53 rfl) rfl
theorem q132 : (Jvm.Cond.fieldLink "ApplyFree$Terms" (48 : Nat) "ApplyFree$Terms" "count" "I") ∈ lw_all := lw_g (lw_at lw_m1 54 rfl) rfl
theorem q134 : (Jvm.Cond.laysFinal "ApplyFree$Terms" "ApplyFree$Terms" "tables" "[LApplyFree$Table;") ∈ lw_all := lw_g (lw_at lw_m1 56 rfl) rfl
theorem q135 : (Jvm.Cond.soleField "ApplyFree$Terms" "tables") ∈ lw_all := lw_g (lw_at lw_m1 57 rfl) rfl
theorem q136 : (Jvm.Cond.laysFinal "ApplyFree$Terms" "ApplyFree$Terms" "kinds" "[B") ∈ lw_all := lw_g (lw_at lw_m1 58 rfl) rfl
theorem q137 : (Jvm.Cond.soleField "ApplyFree$Terms" "kinds") ∈ lw_all := lw_g (lw_at lw_m1 59 rfl) rfl
theorem q138 : (Jvm.Cond.laysFinal "ApplyFree$Terms" "ApplyFree$Terms" "ops" "[B") ∈ lw_all := lw_g (lw_at lw_m1 60 rfl) rfl
theorem q139 : (Jvm.Cond.soleField "ApplyFree$Terms" "ops") ∈ lw_all := lw_g (lw_at lw_m1 61 rfl) rfl
theorem q140 : (Jvm.Cond.laysFinal "ApplyFree$Terms" "ApplyFree$Terms" "firsts" "[S") ∈ lw_all := lw_g (lw_at lw_m1 62 rfl) rfl
theorem q141 : (Jvm.Cond.soleField "ApplyFree$Terms" "firsts") ∈ lw_all := lw_g (lw_at lw_m1 63 rfl) rfl
theorem q142 : (Jvm.Cond.laysFinal "ApplyFree$Terms" "ApplyFree$Terms" "seconds" "[S") ∈ lw_all := lw_g (lw_at lw_m1 64 rfl) rfl
theorem q143 : (Jvm.Cond.soleField "ApplyFree$Terms" "seconds") ∈ lw_all := lw_g (lw_at lw_m1 65 rfl) rfl
theorem q144 : (Jvm.Cond.laysFinal "ApplyFree$Terms" "ApplyFree$Terms" "numbers" "[I") ∈ lw_all := lw_g (lw_at lw_m1 66 rfl) rfl
theorem q145 : (Jvm.Cond.soleField "ApplyFree$Terms" "numbers") ∈ lw_all := lw_g (lw_at lw_m1 67 rfl) rfl
theorem q146 : (Jvm.Cond.laysFinal "ApplyFree$Terms" "ApplyFree$Terms" "counts" "[B") ∈ lw_all := lw_g (lw_at lw_m1 68 rfl) rfl
theorem q147 : (Jvm.Cond.soleField "ApplyFree$Terms" "counts") ∈ lw_all := lw_g (lw_at lw_m1 69 rfl) rfl
theorem q148 : (Jvm.Cond.laysFinal "ApplyFree$Terms" "ApplyFree$Terms" "widths" "[B") ∈ lw_all := lw_g (lw_at lw_m1 70 rfl) rfl
theorem q149 : (Jvm.Cond.soleField "ApplyFree$Terms" "widths") ∈ lw_all := lw_g (lw_at lw_m1 71 rfl) rfl
theorem q150 : (Jvm.Cond.laysFinal "ApplyFree$Terms" "ApplyFree$Terms" "looks" "[I") ∈ lw_all := lw_g (lw_at lw_m1 72 rfl) rfl
theorem q151 : (Jvm.Cond.soleField "ApplyFree$Terms" "looks") ∈ lw_all := lw_g (lw_at lw_m1 73 rfl) rfl
theorem q152 : (Jvm.Cond.laysFinal "ApplyFree$Terms" "ApplyFree$Terms" "costs" "[I") ∈ lw_all := lw_g (lw_at lw_m1 74 rfl) rfl
theorem q153 : (Jvm.Cond.soleField "ApplyFree$Terms" "costs") ∈ lw_all := lw_g (lw_at lw_m1 75 rfl) rfl
theorem q154 : (Jvm.Cond.laysFinal "ApplyFree$Terms" "ApplyFree$Terms" "sizes" "[I") ∈ lw_all := lw_g (lw_at lw_m1 76 rfl) rfl
theorem q155 : (Jvm.Cond.soleField "ApplyFree$Terms" "sizes") ∈ lw_all := lw_g (lw_at lw_m1 77 rfl) rfl
theorem q156 : (Jvm.Cond.lays "ApplyFree$Terms" "ApplyFree$Terms" "count" "I") ∈ lw_all := lw_g (lw_at lw_m1 78 rfl) rfl
theorem q157 : (Jvm.Cond.soleField "ApplyFree$Terms" "count") ∈ lw_all := lw_g (lw_at lw_m1 79 rfl) rfl
theorem q158 : (Jvm.Cond.superclass "ApplyFree$Terms" "java/lang/Object") ∈ lw_all := lw_g (lw_at lw_m1 80 rfl) rfl
theorem q435 : (Jvm.Cond.fieldLink "ApplyFree$Terms" (81 : Nat) "ApplyFree$Table" "rows" "I") ∈ lw_all := lw_g (lw_at lw_m2 117 rfl) rfl
theorem q460 : (Jvm.Cond.instanceMethod ({ cls := "ApplyFree$Terms", name := "hasRoom", desc := "()Z" } : Jvm.MethodName)) ∈ lw_all := lw_g (lw_at lw_m2 142 rfl) rfl
theorem q461 : (Jvm.Cond.selects "ApplyFree$Terms" ({ cls := "ApplyFree$Terms", name := "hasRoom", desc := "()Z" } : Jvm.MethodName) ({ cls := "ApplyFree$Terms", name := "hasRoom", desc := "()Z" } : Jvm.MethodName)) ∈ lw_all := lw_g (lw_at lw_m2 143 rfl) rfl
theorem q462 : (Jvm.Cond.code ({ cls := "ApplyFree$Terms", name := "hasRoom", desc := "()Z" } : Jvm.MethodName) prog_9_method_5_code (1 : Nat) (Option.some Jvm.ClassFile.FieldType.boolean)) ∈ lw_all := lw_g (lw_at lw_m2 144 rfl) rfl
theorem q464 : (Jvm.Cond.instanceMethod ({ cls := "ApplyFree$Terms", name := "add", desc := "(IIIII)I" } : Jvm.MethodName)) ∈ lw_all := lw_g (lw_at lw_m2 146 rfl) rfl
theorem q465 : (Jvm.Cond.selects "ApplyFree$Terms" ({ cls := "ApplyFree$Terms", name := "add", desc := "(IIIII)I" } : Jvm.MethodName) ({ cls := "ApplyFree$Terms", name := "add", desc := "(IIIII)I" } : Jvm.MethodName)) ∈ lw_all := lw_g (lw_at lw_m2 147 rfl) rfl
theorem q466 : (Jvm.Cond.code ({ cls := "ApplyFree$Terms", name := "add", desc := "(IIIII)I" } : Jvm.MethodName) prog_9_method_8_code (8 : Nat) (Option.some Jvm.ClassFile.FieldType.int)) ∈ lw_all := lw_g (lw_at lw_m2 148 rfl) rfl
theorem q467 : (Jvm.Cond.methodLink "ApplyFree$Terms" (60 : Nat) ({ cls := "ApplyFree$Terms", name := "isInside", desc := "(I)Z" } : Jvm.MethodName)) ∈ lw_all := lw_g (lw_at lw_m2 149 rfl) rfl
theorem q468 : (Jvm.Cond.static ({ cls := "ApplyFree$Terms", name := "isInside", desc := "(I)Z" } : Jvm.MethodName)) ∈ lw_all := lw_g (lw_at lw_m2 150 rfl) rfl
theorem q469 : (Jvm.Cond.code ({ cls := "ApplyFree$Terms", name := "isInside", desc := "(I)Z" } : Jvm.MethodName) prog_9_method_9_code (1 : Nat) (Option.some Jvm.ClassFile.FieldType.boolean)) ∈ lw_all := lw_g (lw_at lw_m2 151 rfl) rfl
theorem q483 : (Jvm.Cond.instanceMethod ({ cls := "ApplyFree$Terms", name := "is", desc := "(II)Z" } : Jvm.MethodName)) ∈ lw_all := lw_g (lw_at lw_m2 165 rfl) rfl
theorem q484 : (Jvm.Cond.selects "ApplyFree$Terms" ({ cls := "ApplyFree$Terms", name := "is", desc := "(II)Z" } : Jvm.MethodName) ({ cls := "ApplyFree$Terms", name := "is", desc := "(II)Z" } : Jvm.MethodName)) ∈ lw_all := lw_g (lw_at lw_m2 166 rfl) rfl
theorem q485 : (Jvm.Cond.code ({ cls := "ApplyFree$Terms", name := "is", desc := "(II)Z" } : Jvm.MethodName) prog_9_method_3_code (3 : Nat) (Option.some Jvm.ClassFile.FieldType.boolean)) ∈ lw_all := lw_g (lw_at lw_m2 167 rfl) rfl
theorem q486 : (Jvm.Cond.methodLink "ApplyFree$Terms" (52 : Nat) ({ cls := "ApplyFree$Terms", name := "sort", desc := "(I)I" } : Jvm.MethodName)) ∈ lw_all := lw_g (lw_at lw_m2 168 rfl) rfl
theorem q487 : (Jvm.Cond.static ({ cls := "ApplyFree$Terms", name := "sort", desc := "(I)I" } : Jvm.MethodName)) ∈ lw_all := lw_g (lw_at lw_m2 169 rfl) rfl
theorem q488 : (Jvm.Cond.code ({ cls := "ApplyFree$Terms", name := "sort", desc := "(I)I" } : Jvm.MethodName) prog_9_method_2_code (1 : Nat) (Option.some Jvm.ClassFile.FieldType.int)) ∈ lw_all := lw_g (lw_at lw_m2 170 rfl) rfl
theorem q502 : (Jvm.Cond.instanceMethod ({ cls := "ApplyFree$Terms", name := "hasColumn", desc := "(II)Z" } : Jvm.MethodName)) ∈ lw_all := lw_g (lw_at lw_m2 184 rfl) rfl
theorem q503 : (Jvm.Cond.selects "ApplyFree$Terms" ({ cls := "ApplyFree$Terms", name := "hasColumn", desc := "(II)Z" } : Jvm.MethodName) ({ cls := "ApplyFree$Terms", name := "hasColumn", desc := "(II)Z" } : Jvm.MethodName)) ∈ lw_all := lw_g (lw_at lw_m2 185 rfl) rfl
theorem q504 : (Jvm.Cond.code ({ cls := "ApplyFree$Terms", name := "hasColumn", desc := "(II)Z" } : Jvm.MethodName) prog_9_method_6_code (3 : Nat) (Option.some Jvm.ClassFile.FieldType.boolean)) ∈ lw_all := lw_g (lw_at lw_m2 186 rfl) rfl
theorem q542 : (Jvm.Cond.instanceMethod ({ cls := "ApplyFree$Terms", name := "fits", desc := "(II)Z" } : Jvm.MethodName)) ∈ lw_all := lw_g (lw_at lw_m2 224 rfl) rfl
theorem q543 : (Jvm.Cond.selects "ApplyFree$Terms" ({ cls := "ApplyFree$Terms", name := "fits", desc := "(II)Z" } : Jvm.MethodName) ({ cls := "ApplyFree$Terms", name := "fits", desc := "(II)Z" } : Jvm.MethodName)) ∈ lw_all := lw_g (lw_at lw_m2 225 rfl) rfl
theorem q544 : (Jvm.Cond.code ({ cls := "ApplyFree$Terms", name := "fits", desc := "(II)Z" } : Jvm.MethodName) prog_9_method_7_code (3 : Nat) (Option.some Jvm.ClassFile.FieldType.boolean)) ∈ lw_all := lw_g (lw_at lw_m2 226 rfl) rfl
theorem q597 : (Jvm.Cond.instanceMethod ({ cls := "ApplyFree$Terms", name := "cost", desc := "(I)I" } : Jvm.MethodName)) ∈ lw_all := lw_g (lw_at lw_m3 39 rfl) rfl
theorem q598 : (Jvm.Cond.selects "ApplyFree$Terms" ({ cls := "ApplyFree$Terms", name := "cost", desc := "(I)I" } : Jvm.MethodName) ({ cls := "ApplyFree$Terms", name := "cost", desc := "(I)I" } : Jvm.MethodName)) ∈ lw_all := lw_g (lw_at lw_m3 40 rfl) rfl
theorem q599 : (Jvm.Cond.code ({ cls := "ApplyFree$Terms", name := "cost", desc := "(I)I" } : Jvm.MethodName) prog_9_method_10_code (3 : Nat) (Option.some Jvm.ClassFile.FieldType.int)) ∈ lw_all := lw_g (lw_at lw_m3 41 rfl) rfl
theorem q600 : (Jvm.Cond.methodLink "ApplyFree$Terms" (64 : Nat) ({ cls := "ApplyFree$Terms", name := "ownSize", desc := "(I)J" } : Jvm.MethodName)) ∈ lw_all := lw_g (lw_at lw_m3 42 rfl) rfl
theorem q601 : (Jvm.Cond.privateMethod ({ cls := "ApplyFree$Terms", name := "ownSize", desc := "(I)J" } : Jvm.MethodName)) ∈ lw_tbl := lw_at lw_m3 43 rfl
theorem q602 : (Jvm.Cond.instanceMethod ({ cls := "ApplyFree$Terms", name := "ownSize", desc := "(I)J" } : Jvm.MethodName)) ∈ lw_all := lw_g (lw_at lw_m3 44 rfl) rfl
theorem q603 : (Jvm.Cond.code ({ cls := "ApplyFree$Terms", name := "ownSize", desc := "(I)J" } : Jvm.MethodName) prog_9_method_13_code (6 : Nat) (Option.some Jvm.ClassFile.FieldType.long)) ∈ lw_all := lw_g (lw_at lw_m3 45 rfl) rfl
theorem q604 : (Jvm.Cond.methodLink "ApplyFree$Terms" (86 : Nat) ({ cls := "java/lang/Math", name := "max", desc := "(JJ)J" } : Jvm.MethodName)) ∈ lw_all := lw_g (lw_at lw_m3 46 rfl) rfl
theorem q607 : (Jvm.Cond.methodLink "ApplyFree$Terms" (92 : Nat) ({ cls := "java/lang/Math", name := "min", desc := "(JJ)J" } : Jvm.MethodName)) ∈ lw_all := lw_g (lw_at lw_m3 49 rfl) rfl
theorem q610 : (Jvm.Cond.methodLink "ApplyFree$Terms" (68 : Nat) ({ cls := "ApplyFree$Terms", name := "cut", desc := "(J)I" } : Jvm.MethodName)) ∈ lw_all := lw_g (lw_at lw_m3 52 rfl) rfl
theorem q611 : (Jvm.Cond.static ({ cls := "ApplyFree$Terms", name := "cut", desc := "(J)I" } : Jvm.MethodName)) ∈ lw_all := lw_g (lw_at lw_m3 53 rfl) rfl
theorem q612 : (Jvm.Cond.code ({ cls := "ApplyFree$Terms", name := "cut", desc := "(J)I" } : Jvm.MethodName) prog_9_method_12_code (2 : Nat) (Option.some Jvm.ClassFile.FieldType.int)) ∈ lw_all := lw_g (lw_at lw_m3 54 rfl) rfl
theorem q613 : (Jvm.Cond.constantLong "ApplyFree$Terms" (78 : Nat) (1000000 : Int64)) ∈ lw_all := lw_g (lw_at lw_m3 55 rfl) rfl
theorem q614 : (Jvm.Cond.constant "ApplyFree$Terms" (80 : Nat) (1000000 : Int32)) ∈ lw_all := lw_g (lw_at lw_m3 56 rfl) rfl
theorem q615 : (Jvm.Cond.methodLink "ApplyFree$Terms" (72 : Nat) ({ cls := "ApplyFree$Terms", name := "ownCost", desc := "(I)J" } : Jvm.MethodName)) ∈ lw_all := lw_g (lw_at lw_m3 57 rfl) rfl
theorem q616 : (Jvm.Cond.privateMethod ({ cls := "ApplyFree$Terms", name := "ownCost", desc := "(I)J" } : Jvm.MethodName)) ∈ lw_tbl := lw_at lw_m3 58 rfl
theorem q617 : (Jvm.Cond.instanceMethod ({ cls := "ApplyFree$Terms", name := "ownCost", desc := "(I)J" } : Jvm.MethodName)) ∈ lw_all := lw_g (lw_at lw_m3 59 rfl) rfl
theorem q618 : (Jvm.Cond.code ({ cls := "ApplyFree$Terms", name := "ownCost", desc := "(I)J" } : Jvm.MethodName) prog_9_method_14_code (6 : Nat) (Option.some Jvm.ClassFile.FieldType.long)) ∈ lw_all := lw_g (lw_at lw_m3 60 rfl) rfl
theorem q620 : (Jvm.Cond.instanceMethod ({ cls := "ApplyFree$Terms", name := "size", desc := "(I)I" } : Jvm.MethodName)) ∈ lw_all := lw_g (lw_at lw_m3 62 rfl) rfl
theorem q621 : (Jvm.Cond.selects "ApplyFree$Terms" ({ cls := "ApplyFree$Terms", name := "size", desc := "(I)I" } : Jvm.MethodName) ({ cls := "ApplyFree$Terms", name := "size", desc := "(I)I" } : Jvm.MethodName)) ∈ lw_all := lw_g (lw_at lw_m3 63 rfl) rfl
theorem q622 : (Jvm.Cond.code ({ cls := "ApplyFree$Terms", name := "size", desc := "(I)I" } : Jvm.MethodName) prog_9_method_11_code (2 : Nat) (Option.some Jvm.ClassFile.FieldType.int)) ∈ lw_all := lw_g (lw_at lw_m3 64 rfl) rfl
theorem q623 : (Jvm.Cond.methodLink "ApplyFree$Terms" (75 : Nat) ({ cls := "ApplyFree$Terms", name := "cost", desc := "(I)I" } : Jvm.MethodName)) ∈ lw_all := lw_g (lw_at lw_m3 65 rfl) rfl
theorem q629 : (Jvm.Cond.instanceMethod ({ cls := "ApplyFree$Terms", name := "isBag", desc := "(I)Z" } : Jvm.MethodName)) ∈ lw_all := lw_g (lw_at lw_m3 71 rfl) rfl
theorem q630 : (Jvm.Cond.selects "ApplyFree$Terms" ({ cls := "ApplyFree$Terms", name := "isBag", desc := "(I)Z" } : Jvm.MethodName) ({ cls := "ApplyFree$Terms", name := "isBag", desc := "(I)Z" } : Jvm.MethodName)) ∈ lw_all := lw_g (lw_at lw_m3 72 rfl) rfl
theorem q631 : (Jvm.Cond.code ({ cls := "ApplyFree$Terms", name := "isBag", desc := "(I)Z" } : Jvm.MethodName) prog_9_method_4_code (2 : Nat) (Option.some Jvm.ClassFile.FieldType.boolean)) ∈ lw_all := lw_g (lw_at lw_m3 73 rfl) rfl
theorem q632 : (Jvm.Cond.methodLink "ApplyFree$Terms" (56 : Nat) ({ cls := "ApplyFree$Terms", name := "is", desc := "(II)Z" } : Jvm.MethodName)) ∈ lw_all := lw_g (lw_at lw_m3 74 rfl) rfl
theorem in_X1 : ∀ w ∈ wsX10, w ∈ lw_all := lw_in wsX10 [134, 136, 138, 140, 142, 144, 146, 148, 150, 152, 154, 156] (by decide +kernel) (by decide +kernel)

/-! ApplyFree$Steps -/
set_option maxRecDepth 100000
def RX2 : String := "ApplyFree$Steps"
def TX2 : u_T := fun k => match k with
  | 0 => ("ApplyFree$Steps", "count", "I", false)
  | 1 => ("ApplyFree$Steps", "ops", "[B", true)
  | 2 => ("ApplyFree$Steps", "lefts", "[I", true)
  | 3 => ("ApplyFree$Steps", "rights", "[I", true)
  | 4 => ("ApplyFree$Steps", "lists", "[I", true)
  | 5 => ("ApplyFree$Steps", "sizes", "[I", true)
  | 6 => ("ApplyFree$Steps", "kinds", "[I", true)
  | 7 => ("ApplyFree$Steps", "values", "[I", true)
  | 8 => ("ApplyFree$Steps", "pool", "[I", true)
  | _ => ("ApplyFree$Steps", "used", "I", false)
def tyX2 : Nat → FieldType := fun k => match k with
  | 0 => .int
  | 1 => .array .byte
  | 2 => .array .int
  | 3 => .array .int
  | 4 => .array .int
  | 5 => .array .int
  | 6 => .array .int
  | 7 => .array .int
  | 8 => .array .int
  | _ => .int
abbrev wsX20 : List Cond := u_ws RX2 TX2 10
theorem nmX2 : ∀ a, a < 10 → ∀ b, b < 10 → a ≠ b → (TX2 a).2.1 ≠ (TX2 b).2.1 := by decide +kernel
theorem tyX2_ok : ∀ k, k < 10 → parseFieldDescriptor (TX2 k).2.2.1 = some (tyX2 k) := by decide +kernel
abbrev cX2_init : ByteArray := prog_7_method_1_code
def yX2_init : MethodName := ⟨RX2, "<init>", "()V"⟩
abbrev cX2_clear : ByteArray := prog_7_method_2_code
def yX2_clear : MethodName := ⟨RX2, "clear", "()V"⟩
abbrev cX2_unit : ByteArray := prog_7_method_6_code
def yX2_unit : MethodName := ⟨RX2, "unit", "()I"⟩
abbrev cX2_add : ByteArray := prog_7_method_3_code
def yX2_add : MethodName := ⟨RX2, "add", "(IIIIIII)I"⟩
abbrev cX2_cross : ByteArray := prog_7_method_8_code
def yX2_cross : MethodName := ⟨RX2, "cross", "(II)I"⟩
abbrev cX2_laid : ByteArray := prog_7_method_7_code
def yX2_laid : MethodName := ⟨RX2, "laid", "(I)I"⟩
abbrev cX2_put : ByteArray := prog_7_method_4_code
def yX2_put : MethodName := ⟨RX2, "put", "(I)V"⟩
abbrev cX2_pick : ByteArray := prog_7_method_11_code
def yX2_pick : MethodName := ⟨RX2, "pick", "(III)I"⟩
abbrev cX2_unique : ByteArray := prog_7_method_15_code
def yX2_unique : MethodName := ⟨RX2, "unique", "(I)I"⟩
abbrev cX2_span : ByteArray := prog_7_method_5_code
def yX2_span : MethodName := ⟨RX2, "span", "(II)I"⟩
abbrev cX2_gather : ByteArray := prog_7_method_16_code
def yX2_gather : MethodName := ⟨RX2, "gather", "(IIIII)I"⟩
abbrev cX2_join : ByteArray := prog_7_method_13_code
def yX2_join : MethodName := ⟨RX2, "join", "(IIIIII)I"⟩
abbrev cX2_pickFirst : ByteArray := prog_7_method_12_code
def yX2_pickFirst : MethodName := ⟨RX2, "pickFirst", "(II)I"⟩
abbrev cX2_extend : ByteArray := prog_7_method_10_code
def yX2_extend : MethodName := ⟨RX2, "extend", "(II)I"⟩
abbrev cX2_select : ByteArray := prog_7_method_9_code
def yX2_select : MethodName := ⟨RX2, "select", "(II)I"⟩
abbrev cX2_sets : ByteArray := prog_7_method_14_code
def yX2_sets : MethodName := ⟨RX2, "sets", "(III)I"⟩
abbrev cX2_top : ByteArray := prog_7_method_17_code
def yX2_top : MethodName := ⟨RX2, "top", "(III)I"⟩
theorem q81 : (Jvm.Cond.initialized "ApplyFree$Steps") ∈ lw_all := lw_g (lw_at lw_m1 3 rfl) rfl
theorem q163 : (Jvm.Cond.instantiable "ApplyFree$Steps" (10 : Nat)) ∈ lw_all := lw_g (lw_at lw_m1 85 rfl) rfl
theorem q165 : (Jvm.Cond.instanceMethod ({ cls := "ApplyFree$Steps", name := "<init>", desc := "()V" } : Jvm.MethodName)) ∈ lw_all := lw_g (lw_at lw_m1 87 rfl) rfl
theorem q166 : (Jvm.Cond.code ({ cls := "ApplyFree$Steps", name := "<init>", desc := "()V" } : Jvm.MethodName) prog_7_method_1_code (1 : Nat) (Option.none : Option Jvm.ClassFile.FieldType)) ∈ lw_all := lw_g (lw_at lw_m1 88 rfl) rfl
theorem q167 : (Jvm.Cond.methodLink "ApplyFree$Steps" (3 : Nat) ({ cls := "java/lang/Object", name := "<init>", desc := "()V" } : Jvm.MethodName)) ∈ lw_all := lw_g (lw_at lw_m1 89 rfl) rfl
theorem q168 : (Jvm.Cond.constant "ApplyFree$Steps" (11 : Nat) (32768 : Int32)) ∈ lw_all := lw_g (lw_at lw_m1 90 rfl) rfl
theorem q169 : (Jvm.Cond.constant "ApplyFree$Steps" (35 : Nat) (524288 : Int32)) ∈ lw_all := lw_g (lw_at lw_m1 91 rfl) rfl
theorem q170 : (Jvm.Cond.fieldLink "ApplyFree$Steps" (39 : Nat) "ApplyFree$Steps" "count" "I") ∈ lw_all := lw_g (lw_at lw_m1 92 rfl) rfl
theorem q172 : (Jvm.Cond.fieldLink "ApplyFree$Steps" (12 : Nat) "ApplyFree$Steps" "ops" "[B") ∈ lw_all := lw_g (lw_at lw_m1 94 rfl) rfl
theorem q174 : (Jvm.Cond.fieldLink "ApplyFree$Steps" (16 : Nat) "ApplyFree$Steps" "lefts" "[I") ∈ lw_all := lw_g (lw_at lw_m1 96 rfl) rfl
theorem q176 : (Jvm.Cond.fieldLink "ApplyFree$Steps" (20 : Nat) "ApplyFree$Steps" "rights" "[I") ∈ lw_all := lw_g (lw_at lw_m1 98 rfl) rfl
theorem q178 : (Jvm.Cond.fieldLink "ApplyFree$Steps" (23 : Nat) "ApplyFree$Steps" "lists" "[I") ∈ lw_all := lw_g (lw_at lw_m1 100 rfl) rfl
theorem q180 : (Jvm.Cond.fieldLink "ApplyFree$Steps" (26 : Nat) "ApplyFree$Steps" "sizes" "[I") ∈ lw_all := lw_g (lw_at lw_m1 102 rfl) rfl
theorem q182 : (Jvm.Cond.fieldLink "ApplyFree$Steps" (29 : Nat) "ApplyFree$Steps" "kinds" "[I") ∈ lw_all := lw_g (lw_at lw_m1 104 rfl) rfl
theorem q184 : (Jvm.Cond.fieldLink "ApplyFree$Steps" (32 : Nat) "ApplyFree$Steps" "values" "[I") ∈ lw_all := lw_g (lw_at lw_m1 106 rfl) rfl
theorem q186 : (Jvm.Cond.fieldLink "ApplyFree$Steps" (36 : Nat) "ApplyFree$Steps" "pool" "[I") ∈ lw_all := lw_g (lw_at lw_m1 108 rfl) rfl
theorem q189 : (Jvm.Cond.fieldLink "ApplyFree$Steps" (43 : Nat) "ApplyFree$Steps" "used" "I") ∈ lw_all := lw_g (lw_at lw_m1 111 rfl) rfl
theorem q191 : (Jvm.Cond.lays "ApplyFree$Steps" "ApplyFree$Steps" "count" "I") ∈ lw_all := lw_g (lw_at lw_m1 113 rfl) rfl
theorem q192 : (Jvm.Cond.soleField "ApplyFree$Steps" "count") ∈ lw_all := lw_g (lw_at lw_m1 114 rfl) rfl
theorem q193 : (Jvm.Cond.laysFinal "ApplyFree$Steps" "ApplyFree$Steps" "ops" "[B") ∈ lw_all := lw_g (lw_at lw_m1 115 rfl) rfl
theorem q194 : (Jvm.Cond.soleField "ApplyFree$Steps" "ops") ∈ lw_all := lw_g (lw_at lw_m1 116 rfl) rfl
theorem q195 : (Jvm.Cond.laysFinal "ApplyFree$Steps" "ApplyFree$Steps" "lefts" "[I") ∈ lw_all := lw_g (lw_at lw_m1 117 rfl) rfl
theorem q196 : (Jvm.Cond.soleField "ApplyFree$Steps" "lefts") ∈ lw_all := lw_g (lw_at lw_m1 118 rfl) rfl
theorem q197 : (Jvm.Cond.laysFinal "ApplyFree$Steps" "ApplyFree$Steps" "rights" "[I") ∈ lw_all := lw_g (lw_at lw_m1 119 rfl) rfl
theorem q198 : (Jvm.Cond.soleField "ApplyFree$Steps" "rights") ∈ lw_all := lw_g (lw_at lw_m1 120 rfl) rfl
theorem q199 : (Jvm.Cond.laysFinal "ApplyFree$Steps" "ApplyFree$Steps" "lists" "[I") ∈ lw_all := lw_g (lw_at lw_m1 121 rfl) rfl
theorem q200 : (Jvm.Cond.soleField "ApplyFree$Steps" "lists") ∈ lw_all := lw_g (lw_at lw_m1 122 rfl) rfl
theorem q201 : (Jvm.Cond.laysFinal "ApplyFree$Steps" "ApplyFree$Steps" "sizes" "[I") ∈ lw_all := lw_g (lw_at lw_m1 123 rfl) rfl
theorem q202 : (Jvm.Cond.soleField "ApplyFree$Steps" "sizes") ∈ lw_all := lw_g (lw_at lw_m1 124 rfl) rfl
theorem q203 : (Jvm.Cond.laysFinal "ApplyFree$Steps" "ApplyFree$Steps" "kinds" "[I") ∈ lw_all := lw_g (lw_at lw_m1 125 rfl) rfl
theorem q204 : (Jvm.Cond.soleField "ApplyFree$Steps" "kinds") ∈ lw_all := lw_g (lw_at lw_m1 126 rfl) rfl
theorem q205 : (Jvm.Cond.laysFinal "ApplyFree$Steps" "ApplyFree$Steps" "values" "[I") ∈ lw_all := lw_g (lw_at lw_m1 127 rfl) rfl
theorem q206 : (Jvm.Cond.soleField "ApplyFree$Steps" "values") ∈ lw_all := lw_g (lw_at lw_m1 128 rfl) rfl
theorem q207 : (Jvm.Cond.laysFinal "ApplyFree$Steps" "ApplyFree$Steps" "pool" "[I") ∈ lw_all := lw_g (lw_at lw_m1 129 rfl) rfl
theorem q208 : (Jvm.Cond.soleField "ApplyFree$Steps" "pool") ∈ lw_all := lw_g (lw_at lw_m1 130 rfl) rfl
theorem q209 : (Jvm.Cond.lays "ApplyFree$Steps" "ApplyFree$Steps" "used" "I") ∈ lw_all := lw_g (lw_at lw_m1 131 rfl) rfl
theorem q210 : (Jvm.Cond.soleField "ApplyFree$Steps" "used") ∈ lw_all := lw_g (lw_at lw_m1 132 rfl) rfl
theorem q211 : (Jvm.Cond.superclass "ApplyFree$Steps" "java/lang/Object") ∈ lw_all := lw_g (lw_at lw_m1 133 rfl) rfl
theorem q638 : (Jvm.Cond.instanceMethod ({ cls := "ApplyFree$Steps", name := "clear", desc := "()V" } : Jvm.MethodName)) ∈ lw_all := lw_g (lw_at lw_m3 80 rfl) rfl
theorem q639 : (Jvm.Cond.selects "ApplyFree$Steps" ({ cls := "ApplyFree$Steps", name := "clear", desc := "()V" } : Jvm.MethodName) ({ cls := "ApplyFree$Steps", name := "clear", desc := "()V" } : Jvm.MethodName)) ∈ lw_all := lw_g (lw_at lw_m3 81 rfl) rfl
theorem q640 : (Jvm.Cond.code ({ cls := "ApplyFree$Steps", name := "clear", desc := "()V" } : Jvm.MethodName) prog_7_method_2_code (1 : Nat) (Option.none : Option Jvm.ClassFile.FieldType)) ∈ lw_all := lw_g (lw_at lw_m3 82 rfl) rfl
theorem q642 : (Jvm.Cond.instanceMethod ({ cls := "ApplyFree$Steps", name := "unit", desc := "()I" } : Jvm.MethodName)) ∈ lw_all := lw_g (lw_at lw_m3 84 rfl) rfl
theorem q643 : (Jvm.Cond.selects "ApplyFree$Steps" ({ cls := "ApplyFree$Steps", name := "unit", desc := "()I" } : Jvm.MethodName) ({ cls := "ApplyFree$Steps", name := "unit", desc := "()I" } : Jvm.MethodName)) ∈ lw_all := lw_g (lw_at lw_m3 85 rfl) rfl
theorem q644 : (Jvm.Cond.code ({ cls := "ApplyFree$Steps", name := "unit", desc := "()I" } : Jvm.MethodName) prog_7_method_6_code (1 : Nat) (Option.some Jvm.ClassFile.FieldType.int)) ∈ lw_all := lw_g (lw_at lw_m3 86 rfl) rfl
theorem q645 : (Jvm.Cond.methodLink "ApplyFree$Steps" (50 : Nat) ({ cls := "ApplyFree$Steps", name := "add", desc := "(IIIIIII)I" } : Jvm.MethodName)) ∈ lw_all := lw_g (lw_at lw_m3 87 rfl) rfl
theorem q646 : (Jvm.Cond.privateMethod ({ cls := "ApplyFree$Steps", name := "add", desc := "(IIIIIII)I" } : Jvm.MethodName)) ∈ lw_tbl := lw_at lw_m3 88 rfl
theorem q647 : (Jvm.Cond.instanceMethod ({ cls := "ApplyFree$Steps", name := "add", desc := "(IIIIIII)I" } : Jvm.MethodName)) ∈ lw_all := lw_g (lw_at lw_m3 89 rfl) rfl
theorem q648 : (Jvm.Cond.code ({ cls := "ApplyFree$Steps", name := "add", desc := "(IIIIIII)I" } : Jvm.MethodName) prog_7_method_3_code (9 : Nat) (Option.some Jvm.ClassFile.FieldType.int)) ∈ lw_all := lw_g (lw_at lw_m3 90 rfl) rfl
theorem q654 : (Jvm.Cond.instanceMethod ({ cls := "ApplyFree$Steps", name := "cross", desc := "(II)I" } : Jvm.MethodName)) ∈ lw_all := lw_g (lw_at lw_m3 96 rfl) rfl
theorem q655 : (Jvm.Cond.selects "ApplyFree$Steps" ({ cls := "ApplyFree$Steps", name := "cross", desc := "(II)I" } : Jvm.MethodName) ({ cls := "ApplyFree$Steps", name := "cross", desc := "(II)I" } : Jvm.MethodName)) ∈ lw_all := lw_g (lw_at lw_m3 97 rfl) rfl
theorem q656 : (Jvm.Cond.code ({ cls := "ApplyFree$Steps", name := "cross", desc := "(II)I" } : Jvm.MethodName) prog_7_method_8_code (3 : Nat) (Option.some Jvm.ClassFile.FieldType.int)) ∈ lw_all := lw_g (lw_at lw_m3 98 rfl) rfl
theorem q658 : (Jvm.Cond.instanceMethod ({ cls := "ApplyFree$Steps", name := "laid", desc := "(I)I" } : Jvm.MethodName)) ∈ lw_all := lw_g (lw_at lw_m3 100 rfl) rfl
theorem q659 : (Jvm.Cond.selects "ApplyFree$Steps" ({ cls := "ApplyFree$Steps", name := "laid", desc := "(I)I" } : Jvm.MethodName) ({ cls := "ApplyFree$Steps", name := "laid", desc := "(I)I" } : Jvm.MethodName)) ∈ lw_all := lw_g (lw_at lw_m3 101 rfl) rfl
theorem q660 : (Jvm.Cond.code ({ cls := "ApplyFree$Steps", name := "laid", desc := "(I)I" } : Jvm.MethodName) prog_7_method_7_code (2 : Nat) (Option.some Jvm.ClassFile.FieldType.int)) ∈ lw_all := lw_g (lw_at lw_m3 102 rfl) rfl
theorem q682 : (Jvm.Cond.instanceMethod ({ cls := "ApplyFree$Steps", name := "put", desc := "(I)V" } : Jvm.MethodName)) ∈ lw_all := lw_g (lw_at lw_m3 124 rfl) rfl
theorem q683 : (Jvm.Cond.selects "ApplyFree$Steps" ({ cls := "ApplyFree$Steps", name := "put", desc := "(I)V" } : Jvm.MethodName) ({ cls := "ApplyFree$Steps", name := "put", desc := "(I)V" } : Jvm.MethodName)) ∈ lw_all := lw_g (lw_at lw_m3 125 rfl) rfl
theorem q684 : (Jvm.Cond.code ({ cls := "ApplyFree$Steps", name := "put", desc := "(I)V" } : Jvm.MethodName) prog_7_method_4_code (2 : Nat) (Option.none : Option Jvm.ClassFile.FieldType)) ∈ lw_all := lw_g (lw_at lw_m3 126 rfl) rfl
theorem q686 : (Jvm.Cond.instanceMethod ({ cls := "ApplyFree$Steps", name := "pick", desc := "(III)I" } : Jvm.MethodName)) ∈ lw_all := lw_g (lw_at lw_m3 128 rfl) rfl
theorem q687 : (Jvm.Cond.selects "ApplyFree$Steps" ({ cls := "ApplyFree$Steps", name := "pick", desc := "(III)I" } : Jvm.MethodName) ({ cls := "ApplyFree$Steps", name := "pick", desc := "(III)I" } : Jvm.MethodName)) ∈ lw_all := lw_g (lw_at lw_m3 129 rfl) rfl
theorem q688 : (Jvm.Cond.code ({ cls := "ApplyFree$Steps", name := "pick", desc := "(III)I" } : Jvm.MethodName) prog_7_method_11_code (4 : Nat) (Option.some Jvm.ClassFile.FieldType.int)) ∈ lw_all := lw_g (lw_at lw_m3 130 rfl) rfl
theorem q690 : (Jvm.Cond.instanceMethod ({ cls := "ApplyFree$Steps", name := "unique", desc := "(I)I" } : Jvm.MethodName)) ∈ lw_all := lw_g (lw_at lw_m3 132 rfl) rfl
theorem q691 : (Jvm.Cond.selects "ApplyFree$Steps" ({ cls := "ApplyFree$Steps", name := "unique", desc := "(I)I" } : Jvm.MethodName) ({ cls := "ApplyFree$Steps", name := "unique", desc := "(I)I" } : Jvm.MethodName)) ∈ lw_all := lw_g (lw_at lw_m3 133 rfl) rfl
theorem q692 : (Jvm.Cond.code ({ cls := "ApplyFree$Steps", name := "unique", desc := "(I)I" } : Jvm.MethodName) prog_7_method_15_code (2 : Nat) (Option.some Jvm.ClassFile.FieldType.int)) ∈ lw_all := lw_g (lw_at lw_m3 134 rfl) rfl
theorem q694 : (Jvm.Cond.instanceMethod ({ cls := "ApplyFree$Steps", name := "span", desc := "(II)I" } : Jvm.MethodName)) ∈ lw_all := lw_g (lw_at lw_m3 136 rfl) rfl
theorem q695 : (Jvm.Cond.selects "ApplyFree$Steps" ({ cls := "ApplyFree$Steps", name := "span", desc := "(II)I" } : Jvm.MethodName) ({ cls := "ApplyFree$Steps", name := "span", desc := "(II)I" } : Jvm.MethodName)) ∈ lw_all := lw_g (lw_at lw_m3 137 rfl) rfl
theorem q696 : (Jvm.Cond.code ({ cls := "ApplyFree$Steps", name := "span", desc := "(II)I" } : Jvm.MethodName) prog_7_method_5_code (5 : Nat) (Option.some Jvm.ClassFile.FieldType.int)) ∈ lw_all := lw_g (lw_at lw_m3 138 rfl) rfl
theorem q697 : (Jvm.Cond.methodLink "ApplyFree$Steps" (46 : Nat) ({ cls := "ApplyFree$Steps", name := "put", desc := "(I)V" } : Jvm.MethodName)) ∈ lw_all := lw_g (lw_at lw_m3 139 rfl) rfl
theorem q703 : (Jvm.Cond.instanceMethod ({ cls := "ApplyFree$Steps", name := "gather", desc := "(IIIII)I" } : Jvm.MethodName)) ∈ lw_all := lw_g (lw_at lw_m3 145 rfl) rfl
theorem q704 : (Jvm.Cond.selects "ApplyFree$Steps" ({ cls := "ApplyFree$Steps", name := "gather", desc := "(IIIII)I" } : Jvm.MethodName) ({ cls := "ApplyFree$Steps", name := "gather", desc := "(IIIII)I" } : Jvm.MethodName)) ∈ lw_all := lw_g (lw_at lw_m3 146 rfl) rfl
theorem q705 : (Jvm.Cond.code ({ cls := "ApplyFree$Steps", name := "gather", desc := "(IIIII)I" } : Jvm.MethodName) prog_7_method_16_code (6 : Nat) (Option.some Jvm.ClassFile.FieldType.int)) ∈ lw_all := lw_g (lw_at lw_m3 147 rfl) rfl
theorem q711 : (Jvm.Cond.instanceMethod ({ cls := "ApplyFree$Steps", name := "join", desc := "(IIIIII)I" } : Jvm.MethodName)) ∈ lw_all := lw_g (lw_at lw_m3 153 rfl) rfl
theorem q712 : (Jvm.Cond.selects "ApplyFree$Steps" ({ cls := "ApplyFree$Steps", name := "join", desc := "(IIIIII)I" } : Jvm.MethodName) ({ cls := "ApplyFree$Steps", name := "join", desc := "(IIIIII)I" } : Jvm.MethodName)) ∈ lw_all := lw_g (lw_at lw_m3 154 rfl) rfl
theorem q713 : (Jvm.Cond.code ({ cls := "ApplyFree$Steps", name := "join", desc := "(IIIIII)I" } : Jvm.MethodName) prog_7_method_13_code (7 : Nat) (Option.some Jvm.ClassFile.FieldType.int)) ∈ lw_all := lw_g (lw_at lw_m3 155 rfl) rfl
theorem q723 : (Jvm.Cond.instanceMethod ({ cls := "ApplyFree$Steps", name := "pickFirst", desc := "(II)I" } : Jvm.MethodName)) ∈ lw_all := lw_g (lw_at lw_m3 165 rfl) rfl
theorem q724 : (Jvm.Cond.selects "ApplyFree$Steps" ({ cls := "ApplyFree$Steps", name := "pickFirst", desc := "(II)I" } : Jvm.MethodName) ({ cls := "ApplyFree$Steps", name := "pickFirst", desc := "(II)I" } : Jvm.MethodName)) ∈ lw_all := lw_g (lw_at lw_m3 166 rfl) rfl
theorem q725 : (Jvm.Cond.code ({ cls := "ApplyFree$Steps", name := "pickFirst", desc := "(II)I" } : Jvm.MethodName) prog_7_method_12_code (4 : Nat) (Option.some Jvm.ClassFile.FieldType.int)) ∈ lw_all := lw_g (lw_at lw_m3 167 rfl) rfl
theorem q726 : (Jvm.Cond.methodLink "ApplyFree$Steps" (54 : Nat) ({ cls := "ApplyFree$Steps", name := "span", desc := "(II)I" } : Jvm.MethodName)) ∈ lw_all := lw_g (lw_at lw_m3 168 rfl) rfl
theorem q727 : (Jvm.Cond.methodLink "ApplyFree$Steps" (58 : Nat) ({ cls := "ApplyFree$Steps", name := "pick", desc := "(III)I" } : Jvm.MethodName)) ∈ lw_all := lw_g (lw_at lw_m3 169 rfl) rfl
theorem q737 : (Jvm.Cond.instanceMethod ({ cls := "ApplyFree$Steps", name := "extend", desc := "(II)I" } : Jvm.MethodName)) ∈ lw_all := lw_g (lw_at lw_m3 179 rfl) rfl
theorem q738 : (Jvm.Cond.selects "ApplyFree$Steps" ({ cls := "ApplyFree$Steps", name := "extend", desc := "(II)I" } : Jvm.MethodName) ({ cls := "ApplyFree$Steps", name := "extend", desc := "(II)I" } : Jvm.MethodName)) ∈ lw_all := lw_g (lw_at lw_m3 180 rfl) rfl
theorem q739 : (Jvm.Cond.code ({ cls := "ApplyFree$Steps", name := "extend", desc := "(II)I" } : Jvm.MethodName) prog_7_method_10_code (3 : Nat) (Option.some Jvm.ClassFile.FieldType.int)) ∈ lw_all := lw_g (lw_at lw_m3 181 rfl) rfl
theorem q745 : (Jvm.Cond.instanceMethod ({ cls := "ApplyFree$Steps", name := "select", desc := "(II)I" } : Jvm.MethodName)) ∈ lw_all := lw_g (lw_at lw_m3 187 rfl) rfl
theorem q746 : (Jvm.Cond.selects "ApplyFree$Steps" ({ cls := "ApplyFree$Steps", name := "select", desc := "(II)I" } : Jvm.MethodName) ({ cls := "ApplyFree$Steps", name := "select", desc := "(II)I" } : Jvm.MethodName)) ∈ lw_all := lw_g (lw_at lw_m3 188 rfl) rfl
theorem q747 : (Jvm.Cond.code ({ cls := "ApplyFree$Steps", name := "select", desc := "(II)I" } : Jvm.MethodName) prog_7_method_9_code (3 : Nat) (Option.some Jvm.ClassFile.FieldType.int)) ∈ lw_all := lw_g (lw_at lw_m3 189 rfl) rfl
theorem q761 : (Jvm.Cond.instanceMethod ({ cls := "ApplyFree$Steps", name := "sets", desc := "(III)I" } : Jvm.MethodName)) ∈ lw_all := lw_g (lw_at lw_m3 203 rfl) rfl
theorem q762 : (Jvm.Cond.selects "ApplyFree$Steps" ({ cls := "ApplyFree$Steps", name := "sets", desc := "(III)I" } : Jvm.MethodName) ({ cls := "ApplyFree$Steps", name := "sets", desc := "(III)I" } : Jvm.MethodName)) ∈ lw_all := lw_g (lw_at lw_m3 204 rfl) rfl
theorem q763 : (Jvm.Cond.code ({ cls := "ApplyFree$Steps", name := "sets", desc := "(III)I" } : Jvm.MethodName) prog_7_method_14_code (4 : Nat) (Option.some Jvm.ClassFile.FieldType.int)) ∈ lw_all := lw_g (lw_at lw_m3 205 rfl) rfl
theorem q765 : (Jvm.Cond.instanceMethod ({ cls := "ApplyFree$Steps", name := "top", desc := "(III)I" } : Jvm.MethodName)) ∈ lw_all := lw_g (lw_at lw_m3 207 rfl) rfl
theorem q766 : (Jvm.Cond.selects "ApplyFree$Steps" ({ cls := "ApplyFree$Steps", name := "top", desc := "(III)I" } : Jvm.MethodName) ({ cls := "ApplyFree$Steps", name := "top", desc := "(III)I" } : Jvm.MethodName)) ∈ lw_all := lw_g (lw_at lw_m3 208 rfl) rfl
theorem q767 : (Jvm.Cond.code ({ cls := "ApplyFree$Steps", name := "top", desc := "(III)I" } : Jvm.MethodName) prog_7_method_17_code (4 : Nat) (Option.some Jvm.ClassFile.FieldType.int)) ∈ lw_all := lw_g (lw_at lw_m3 209 rfl) rfl
theorem in_X2 : ∀ w ∈ wsX20, w ∈ lw_all := lw_in wsX20 [191, 193, 195, 197, 199, 201, 203, 205, 207, 209] (by decide +kernel) (by decide +kernel)

/-! ApplyFree$Rewriter -/
set_option maxRecDepth 100000
def RX3 : String := "ApplyFree$Rewriter"
def TX3 : u_T := fun k => match k with
  | 0 => ("ApplyFree$Rewriter", "terms", "LApplyFree$Terms;", true)
  | 1 => ("ApplyFree$Rewriter", "steps", "LApplyFree$Steps;", true)
  | 2 => ("ApplyFree$Rewriter", "unit", "LApplyFree$Scope;", true)
  | 3 => ("ApplyFree$Rewriter", "scopes", "[LApplyFree$Scope;", true)
  | 4 => ("ApplyFree$Rewriter", "open", "I", false)
  | 5 => ("ApplyFree$Rewriter", "found", "[I", true)
  | 6 => ("ApplyFree$Rewriter", "foundCount", "I", false)
  | _ => ("ApplyFree$Rewriter", "taken", "I", false)
def tyX3 : Nat → FieldType := fun k => match k with
  | 0 => .object "ApplyFree$Terms"
  | 1 => .object "ApplyFree$Steps"
  | 2 => .object "ApplyFree$Scope"
  | 3 => .array (.object "ApplyFree$Scope")
  | 4 => .int
  | 5 => .array .int
  | 6 => .int
  | _ => .int
abbrev wsX30 : List Cond := u_ws RX3 TX3 8
theorem nmX3 : ∀ a, a < 8 → ∀ b, b < 8 → a ≠ b → (TX3 a).2.1 ≠ (TX3 b).2.1 := by decide +kernel
theorem tyX3_ok : ∀ k, k < 8 → parseFieldDescriptor (TX3 k).2.2.1 = some (tyX3 k) := by decide +kernel
abbrev cX3_init : ByteArray := prog_5_method_1_code
def yX3_init : MethodName := ⟨RX3, "<init>", "(LApplyFree$Terms;LApplyFree$Steps;)V"⟩
abbrev cX3_whole : ByteArray := prog_5_method_2_code
def yX3_whole : MethodName := ⟨RX3, "whole", "(I)I"⟩
abbrev cX3_bag : ByteArray := prog_5_method_3_code
def yX3_bag : MethodName := ⟨RX3, "bag", "(ILApplyFree$Scope;)I"⟩
abbrev cX3_within : ByteArray := prog_5_method_12_code
def yX3_within : MethodName := ⟨RX3, "within", "(IIILApplyFree$Scope;)I"⟩
abbrev cX3_around : ByteArray := prog_5_method_9_code
def yX3_around : MethodName := ⟨RX3, "around", "(ILApplyFree$Scope;I)LApplyFree$Scope;"⟩
abbrev cX3_attach : ByteArray := prog_5_method_13_code
def yX3_attach : MethodName := ⟨RX3, "attach", "(ILApplyFree$Scope;)V"⟩
abbrev cX3_folded : ByteArray := prog_5_method_15_code
def yX3_folded : MethodName := ⟨RX3, "folded", "(IILApplyFree$Scope;)V"⟩
abbrev cX3_choices : ByteArray := prog_5_method_10_code
def yX3_choices : MethodName := ⟨RX3, "choices", "(ILApplyFree$Scope;)LApplyFree$Scope;"⟩
abbrev cX3_fold : ByteArray := prog_5_method_7_code
def yX3_fold : MethodName := ⟨RX3, "fold", "(IIIII)I"⟩
abbrev cX3_ofNone : ByteArray := prog_5_method_8_code
def yX3_ofNone : MethodName := ⟨RX3, "ofNone", "(I)I"⟩
abbrev cX3_note : ByteArray := prog_5_method_14_code
def yX3_note : MethodName := ⟨RX3, "note", "(LApplyFree$Scope;I)V"⟩
abbrev cX3_has : ByteArray := prog_5_method_16_code
def yX3_has : MethodName := ⟨RX3, "has", "(ILApplyFree$Scope;)V"⟩
abbrev cX3_quantified : ByteArray := prog_5_method_17_code
def yX3_quantified : MethodName := ⟨RX3, "quantified", "(IIILApplyFree$Scope;)V"⟩
abbrev cX3_write : ByteArray := prog_5_method_19_code
def yX3_write : MethodName := ⟨RX3, "write", "(ILApplyFree$Scope;)V"⟩
abbrev cX3_marked : ByteArray := prog_5_method_18_code
def yX3_marked : MethodName := ⟨RX3, "marked", "(LApplyFree$Scope;IIII)V"⟩
abbrev cX3_only : ByteArray := prog_5_method_4_code
def yX3_only : MethodName := ⟨RX3, "only", "(IILApplyFree$Scope;)I"⟩
abbrev cX3_pairs : ByteArray := prog_5_method_5_code
def yX3_pairs : MethodName := ⟨RX3, "pairs", "(IILApplyFree$Scope;)I"⟩
abbrev cX3_apply : ByteArray := prog_5_method_11_code
def yX3_apply : MethodName := ⟨RX3, "apply", "(IIILApplyFree$Scope;)I"⟩
abbrev cX3_groups : ByteArray := prog_5_method_6_code
def yX3_groups : MethodName := ⟨RX3, "groups", "(IILApplyFree$Scope;)I"⟩
theorem q82 : (Jvm.Cond.initialized "ApplyFree$Rewriter") ∈ lw_all := lw_g (lw_at lw_m1 4 rfl) rfl
theorem q110 : (Jvm.Cond.fieldLink "ApplyFree$Rewriter" (75 : Nat) "ApplyFree$Terms" "kinds" "[B") ∈ lw_all := lw_g (lw_at lw_m1 32 rfl) rfl
theorem q113 : (Jvm.Cond.fieldLink "ApplyFree$Rewriter" (97 : Nat) "ApplyFree$Terms" "ops" "[B") ∈ lw_all := lw_g (lw_at lw_m1 35 rfl) rfl
theorem q115 : (Jvm.Cond.fieldLink "ApplyFree$Rewriter" (59 : Nat) "ApplyFree$Terms" "firsts" "[S") ∈ lw_all := lw_g (lw_at lw_m1 37 rfl) rfl
theorem q117 : (Jvm.Cond.fieldLink "ApplyFree$Rewriter" (65 : Nat) "ApplyFree$Terms" "seconds" "[S") ∈ lw_all := lw_g (lw_at lw_m1 39 rfl) rfl
theorem q119 : (Jvm.Cond.fieldLink "ApplyFree$Rewriter" (79 : Nat) "ApplyFree$Terms" "numbers" "[I") ∈ lw_all := lw_g (lw_at lw_m1 41 rfl) rfl
theorem q122 : (Jvm.Cond.fieldLink "ApplyFree$Rewriter" (119 : Nat) "ApplyFree$Terms" "counts" "[B") ∈ lw_all := lw_g (lw_at lw_m1 44 rfl) rfl
theorem q125 : (Jvm.Cond.fieldLink "ApplyFree$Rewriter" (156 : Nat) "ApplyFree$Terms" "widths" "[B") ∈ lw_all := lw_g (lw_at lw_m1 47 rfl) rfl
theorem q128 : (Jvm.Cond.fieldLink "ApplyFree$Rewriter" (68 : Nat) "ApplyFree$Terms" "looks" "[I") ∈ lw_all := lw_g (lw_at lw_m1 50 rfl) rfl
theorem q187 : (Jvm.Cond.fieldLink "ApplyFree$Rewriter" (146 : Nat) "ApplyFree$Steps" "pool" "[I") ∈ lw_all := lw_g (lw_at lw_m1 109 rfl) rfl
theorem q190 : (Jvm.Cond.fieldLink "ApplyFree$Rewriter" (143 : Nat) "ApplyFree$Steps" "used" "I") ∈ lw_all := lw_g (lw_at lw_m1 112 rfl) rfl
theorem q213 : (Jvm.Cond.instantiable "ApplyFree$Rewriter" (8 : Nat)) ∈ lw_all := lw_g (lw_at lw_m1 135 rfl) rfl
theorem q215 : (Jvm.Cond.instanceMethod ({ cls := "ApplyFree$Rewriter", name := "<init>", desc := "(LApplyFree$Terms;LApplyFree$Steps;)V" } : Jvm.MethodName)) ∈ lw_all := lw_g (lw_at lw_m1 137 rfl) rfl
theorem q216 : (Jvm.Cond.code ({ cls := "ApplyFree$Rewriter", name := "<init>", desc := "(LApplyFree$Terms;LApplyFree$Steps;)V" } : Jvm.MethodName) prog_5_method_1_code (4 : Nat) (Option.none : Option Jvm.ClassFile.FieldType)) ∈ lw_all := lw_g (lw_at lw_m1 138 rfl) rfl
theorem q217 : (Jvm.Cond.methodLink "ApplyFree$Rewriter" (3 : Nat) ({ cls := "java/lang/Object", name := "<init>", desc := "()V" } : Jvm.MethodName)) ∈ lw_all := lw_g (lw_at lw_m1 139 rfl) rfl
theorem q218 : (Jvm.Cond.classLink "ApplyFree$Rewriter" (9 : Nat) "ApplyFree$Scope") ∈ lw_all := lw_g (lw_at lw_m1 140 rfl) rfl
theorem q220 : (Jvm.Cond.methodLinkNest "ApplyFree$Rewriter" (11 : Nat) ({ cls := "ApplyFree$Scope", name := "<init>", desc := "()V" } : Jvm.MethodName) "ApplyFree") ∈ lw_tbl := lw_at lw_m1 142 rfl
theorem q224 : (Jvm.Cond.fieldLink "ApplyFree$Rewriter" (52 : Nat) "ApplyFree$Scope" "step" "I") ∈ lw_all := lw_g (lw_at lw_m1 146 rfl) rfl
theorem q225 : (Jvm.Cond.fieldLink "ApplyFree$Rewriter" (46 : Nat) "ApplyFree$Scope" "width" "I") ∈ lw_all := lw_g (lw_at lw_m1 147 rfl) rfl
theorem q227 : (Jvm.Cond.fieldLink "ApplyFree$Rewriter" (150 : Nat) "ApplyFree$Scope" "places" "[I") ∈ lw_all := lw_g (lw_at lw_m1 149 rfl) rfl
theorem q228 : (Jvm.Cond.fieldLink "ApplyFree$Rewriter" (153 : Nat) "ApplyFree$Scope" "list" "I") ∈ lw_all := lw_g (lw_at lw_m1 150 rfl) rfl
theorem q239 : (Jvm.Cond.fieldLink "ApplyFree$Rewriter" (26 : Nat) "ApplyFree$Rewriter" "terms" "LApplyFree$Terms;") ∈ lw_all := lw_g (lw_at lw_m1 161 rfl) rfl
theorem q240 : (Jvm.Cond.fieldLink "ApplyFree$Rewriter" (30 : Nat) "ApplyFree$Rewriter" "steps" "LApplyFree$Steps;") ∈ lw_all := lw_g (lw_at lw_m1 162 rfl) rfl
theorem q241 : (Jvm.Cond.fieldLink "ApplyFree$Rewriter" (12 : Nat) "ApplyFree$Rewriter" "unit" "LApplyFree$Scope;") ∈ lw_all := lw_g (lw_at lw_m1 163 rfl) rfl
theorem q242 : (Jvm.Cond.fieldLink "ApplyFree$Rewriter" (18 : Nat) "ApplyFree$Rewriter" "scopes" "[LApplyFree$Scope;") ∈ lw_all := lw_g (lw_at lw_m1 164 rfl) rfl
theorem q243 : (Jvm.Cond.fieldLink "ApplyFree$Rewriter" (39 : Nat) "ApplyFree$Rewriter" "open" "I") ∈ lw_all := lw_g (lw_at lw_m1 165 rfl) rfl
theorem q244 : (Jvm.Cond.fieldLink "ApplyFree$Rewriter" (22 : Nat) "ApplyFree$Rewriter" "found" "[I") ∈ lw_all := lw_g (lw_at lw_m1 166 rfl) rfl
theorem q245 : (Jvm.Cond.fieldLink "ApplyFree$Rewriter" (43 : Nat) "ApplyFree$Rewriter" "foundCount" "I") ∈ lw_all := lw_g (lw_at lw_m1 167 rfl) rfl
theorem q246 : (Jvm.Cond.fieldLink "ApplyFree$Rewriter" (171 : Nat) "ApplyFree$Rewriter" "taken" "I") ∈ lw_all := lw_g (lw_at lw_m1 168 rfl) rfl
theorem q247 : (Jvm.Cond.laysFinal "ApplyFree$Rewriter" "ApplyFree$Rewriter" "terms" "LApplyFree$Terms;") ∈ lw_all := lw_g (lw_at lw_m1 169 rfl) rfl
theorem q248 : (Jvm.Cond.soleField "ApplyFree$Rewriter" "terms") ∈ lw_all := lw_g (lw_at lw_m1 170 rfl) rfl
theorem q249 : (Jvm.Cond.laysFinal "ApplyFree$Rewriter" "ApplyFree$Rewriter" "steps" "LApplyFree$Steps;") ∈ lw_all := lw_g (lw_at lw_m1 171 rfl) rfl
theorem q250 : (Jvm.Cond.soleField "ApplyFree$Rewriter" "steps") ∈ lw_all := lw_g (lw_at lw_m1 172 rfl) rfl
theorem q251 : (Jvm.Cond.laysFinal "ApplyFree$Rewriter" "ApplyFree$Rewriter" "unit" "LApplyFree$Scope;") ∈ lw_all := lw_g (lw_at lw_m1 173 rfl) rfl
theorem q252 : (Jvm.Cond.soleField "ApplyFree$Rewriter" "unit") ∈ lw_all := lw_g (lw_at lw_m1 174 rfl) rfl
theorem q253 : (Jvm.Cond.laysFinal "ApplyFree$Rewriter" "ApplyFree$Rewriter" "scopes" "[LApplyFree$Scope;") ∈ lw_all := lw_g (lw_at lw_m1 175 rfl) rfl
theorem q254 : (Jvm.Cond.soleField "ApplyFree$Rewriter" "scopes") ∈ lw_all := lw_g (lw_at lw_m1 176 rfl) rfl
theorem q255 : (Jvm.Cond.lays "ApplyFree$Rewriter" "ApplyFree$Rewriter" "open" "I") ∈ lw_all := lw_g (lw_at lw_m1 177 rfl) rfl
theorem q256 : (Jvm.Cond.soleField "ApplyFree$Rewriter" "open") ∈ lw_all := lw_g (lw_at lw_m1 178 rfl) rfl
theorem q257 : (Jvm.Cond.laysFinal "ApplyFree$Rewriter" "ApplyFree$Rewriter" "found" "[I") ∈ lw_all := lw_g (lw_at lw_m1 179 rfl) rfl
theorem q258 : (Jvm.Cond.soleField "ApplyFree$Rewriter" "found") ∈ lw_all := lw_g (lw_at lw_m1 180 rfl) rfl
theorem q259 : (Jvm.Cond.lays "ApplyFree$Rewriter" "ApplyFree$Rewriter" "foundCount" "I") ∈ lw_all := lw_g (lw_at lw_m1 181 rfl) rfl
theorem q260 : (Jvm.Cond.soleField "ApplyFree$Rewriter" "foundCount") ∈ lw_all := lw_g (lw_at lw_m1 182 rfl) rfl
theorem q261 : (Jvm.Cond.lays "ApplyFree$Rewriter" "ApplyFree$Rewriter" "taken" "I") ∈ lw_all := lw_g (lw_at lw_m1 183 rfl) rfl
theorem q262 : (Jvm.Cond.soleField "ApplyFree$Rewriter" "taken") ∈ lw_all := lw_g (lw_at lw_m1 184 rfl) rfl
theorem q263 : (Jvm.Cond.superclass "ApplyFree$Rewriter" "java/lang/Object") ∈ lw_all := lw_g (lw_at lw_m1 185 rfl) rfl
theorem q634 : (Jvm.Cond.instanceMethod ({ cls := "ApplyFree$Rewriter", name := "whole", desc := "(I)I" } : Jvm.MethodName)) ∈ lw_all := lw_g (lw_at lw_m3 76 rfl) rfl
theorem q635 : (Jvm.Cond.selects "ApplyFree$Rewriter" ({ cls := "ApplyFree$Rewriter", name := "whole", desc := "(I)I" } : Jvm.MethodName) ({ cls := "ApplyFree$Rewriter", name := "whole", desc := "(I)I" } : Jvm.MethodName)) ∈ lw_all := lw_g (lw_at lw_m3 77 rfl) rfl
theorem q636 : (Jvm.Cond.code ({ cls := "ApplyFree$Rewriter", name := "whole", desc := "(I)I" } : Jvm.MethodName) prog_5_method_2_code (2 : Nat) (Option.some Jvm.ClassFile.FieldType.int)) ∈ lw_all := lw_g (lw_at lw_m3 78 rfl) rfl
theorem q637 : (Jvm.Cond.methodLink "ApplyFree$Rewriter" (34 : Nat) ({ cls := "ApplyFree$Steps", name := "clear", desc := "()V" } : Jvm.MethodName)) ∈ lw_all := lw_g (lw_at lw_m3 79 rfl) rfl
theorem q641 : (Jvm.Cond.methodLink "ApplyFree$Rewriter" (49 : Nat) ({ cls := "ApplyFree$Steps", name := "unit", desc := "()I" } : Jvm.MethodName)) ∈ lw_all := lw_g (lw_at lw_m3 83 rfl) rfl
theorem q649 : (Jvm.Cond.methodLink "ApplyFree$Rewriter" (55 : Nat) ({ cls := "ApplyFree$Rewriter", name := "bag", desc := "(ILApplyFree$Scope;)I" } : Jvm.MethodName)) ∈ lw_all := lw_g (lw_at lw_m3 91 rfl) rfl
theorem q650 : (Jvm.Cond.privateMethod ({ cls := "ApplyFree$Rewriter", name := "bag", desc := "(ILApplyFree$Scope;)I" } : Jvm.MethodName)) ∈ lw_tbl := lw_at lw_m3 92 rfl
theorem q651 : (Jvm.Cond.instanceMethod ({ cls := "ApplyFree$Rewriter", name := "bag", desc := "(ILApplyFree$Scope;)I" } : Jvm.MethodName)) ∈ lw_all := lw_g (lw_at lw_m3 93 rfl) rfl
theorem q652 : (Jvm.Cond.code ({ cls := "ApplyFree$Rewriter", name := "bag", desc := "(ILApplyFree$Scope;)I" } : Jvm.MethodName) prog_5_method_3_code (7 : Nat) (Option.some Jvm.ClassFile.FieldType.int)) ∈ lw_all := lw_g (lw_at lw_m3 94 rfl) rfl
theorem q653 : (Jvm.Cond.methodLink "ApplyFree$Rewriter" (71 : Nat) ({ cls := "ApplyFree$Steps", name := "cross", desc := "(II)I" } : Jvm.MethodName)) ∈ lw_all := lw_g (lw_at lw_m3 95 rfl) rfl
theorem q657 : (Jvm.Cond.methodLink "ApplyFree$Rewriter" (82 : Nat) ({ cls := "ApplyFree$Steps", name := "laid", desc := "(I)I" } : Jvm.MethodName)) ∈ lw_all := lw_g (lw_at lw_m3 99 rfl) rfl
theorem q661 : (Jvm.Cond.methodLink "ApplyFree$Rewriter" (86 : Nat) ({ cls := "ApplyFree$Rewriter", name := "within", desc := "(IIILApplyFree$Scope;)I" } : Jvm.MethodName)) ∈ lw_all := lw_g (lw_at lw_m3 103 rfl) rfl
theorem q662 : (Jvm.Cond.privateMethod ({ cls := "ApplyFree$Rewriter", name := "within", desc := "(IIILApplyFree$Scope;)I" } : Jvm.MethodName)) ∈ lw_tbl := lw_at lw_m3 104 rfl
theorem q663 : (Jvm.Cond.instanceMethod ({ cls := "ApplyFree$Rewriter", name := "within", desc := "(IIILApplyFree$Scope;)I" } : Jvm.MethodName)) ∈ lw_all := lw_g (lw_at lw_m3 105 rfl) rfl
theorem q664 : (Jvm.Cond.code ({ cls := "ApplyFree$Rewriter", name := "within", desc := "(IIILApplyFree$Scope;)I" } : Jvm.MethodName) prog_5_method_12_code (12 : Nat) (Option.some Jvm.ClassFile.FieldType.int)) ∈ lw_all := lw_g (lw_at lw_m3 106 rfl) rfl
theorem q665 : (Jvm.Cond.methodLink "ApplyFree$Rewriter" (159 : Nat) ({ cls := "ApplyFree$Rewriter", name := "around", desc := "(ILApplyFree$Scope;I)LApplyFree$Scope;" } : Jvm.MethodName)) ∈ lw_all := lw_g (lw_at lw_m3 107 rfl) rfl
theorem q666 : (Jvm.Cond.privateMethod ({ cls := "ApplyFree$Rewriter", name := "around", desc := "(ILApplyFree$Scope;I)LApplyFree$Scope;" } : Jvm.MethodName)) ∈ lw_tbl := lw_at lw_m3 108 rfl
theorem q667 : (Jvm.Cond.instanceMethod ({ cls := "ApplyFree$Rewriter", name := "around", desc := "(ILApplyFree$Scope;I)LApplyFree$Scope;" } : Jvm.MethodName)) ∈ lw_all := lw_g (lw_at lw_m3 109 rfl) rfl
theorem q668 : (Jvm.Cond.code ({ cls := "ApplyFree$Rewriter", name := "around", desc := "(ILApplyFree$Scope;I)LApplyFree$Scope;" } : Jvm.MethodName) prog_5_method_9_code (6 : Nat) (Option.some (Jvm.ClassFile.FieldType.object "ApplyFree$Scope"))) ∈ lw_all := lw_g (lw_at lw_m3 110 rfl) rfl
theorem q669 : (Jvm.Cond.methodLink "ApplyFree$Rewriter" (167 : Nat) ({ cls := "ApplyFree$Rewriter", name := "attach", desc := "(ILApplyFree$Scope;)V" } : Jvm.MethodName)) ∈ lw_all := lw_g (lw_at lw_m3 111 rfl) rfl
theorem q670 : (Jvm.Cond.privateMethod ({ cls := "ApplyFree$Rewriter", name := "attach", desc := "(ILApplyFree$Scope;)V" } : Jvm.MethodName)) ∈ lw_tbl := lw_at lw_m3 112 rfl
theorem q671 : (Jvm.Cond.instanceMethod ({ cls := "ApplyFree$Rewriter", name := "attach", desc := "(ILApplyFree$Scope;)V" } : Jvm.MethodName)) ∈ lw_all := lw_g (lw_at lw_m3 113 rfl) rfl
theorem q672 : (Jvm.Cond.code ({ cls := "ApplyFree$Rewriter", name := "attach", desc := "(ILApplyFree$Scope;)V" } : Jvm.MethodName) prog_5_method_13_code (5 : Nat) (Option.none : Option Jvm.ClassFile.FieldType)) ∈ lw_all := lw_g (lw_at lw_m3 114 rfl) rfl
theorem q673 : (Jvm.Cond.methodLink "ApplyFree$Rewriter" (183 : Nat) ({ cls := "ApplyFree$Rewriter", name := "folded", desc := "(IILApplyFree$Scope;)V" } : Jvm.MethodName)) ∈ lw_all := lw_g (lw_at lw_m3 115 rfl) rfl
theorem q674 : (Jvm.Cond.privateMethod ({ cls := "ApplyFree$Rewriter", name := "folded", desc := "(IILApplyFree$Scope;)V" } : Jvm.MethodName)) ∈ lw_tbl := lw_at lw_m3 116 rfl
theorem q675 : (Jvm.Cond.instanceMethod ({ cls := "ApplyFree$Rewriter", name := "folded", desc := "(IILApplyFree$Scope;)V" } : Jvm.MethodName)) ∈ lw_all := lw_g (lw_at lw_m3 117 rfl) rfl
theorem q676 : (Jvm.Cond.code ({ cls := "ApplyFree$Rewriter", name := "folded", desc := "(IILApplyFree$Scope;)V" } : Jvm.MethodName) prog_5_method_15_code (7 : Nat) (Option.none : Option Jvm.ClassFile.FieldType)) ∈ lw_all := lw_g (lw_at lw_m3 118 rfl) rfl
theorem q677 : (Jvm.Cond.methodLink "ApplyFree$Rewriter" (163 : Nat) ({ cls := "ApplyFree$Rewriter", name := "choices", desc := "(ILApplyFree$Scope;)LApplyFree$Scope;" } : Jvm.MethodName)) ∈ lw_all := lw_g (lw_at lw_m3 119 rfl) rfl
theorem q678 : (Jvm.Cond.privateMethod ({ cls := "ApplyFree$Rewriter", name := "choices", desc := "(ILApplyFree$Scope;)LApplyFree$Scope;" } : Jvm.MethodName)) ∈ lw_tbl := lw_at lw_m3 120 rfl
theorem q679 : (Jvm.Cond.instanceMethod ({ cls := "ApplyFree$Rewriter", name := "choices", desc := "(ILApplyFree$Scope;)LApplyFree$Scope;" } : Jvm.MethodName)) ∈ lw_all := lw_g (lw_at lw_m3 121 rfl) rfl
theorem q680 : (Jvm.Cond.code ({ cls := "ApplyFree$Rewriter", name := "choices", desc := "(ILApplyFree$Scope;)LApplyFree$Scope;" } : Jvm.MethodName) prog_5_method_10_code (5 : Nat) (Option.some (Jvm.ClassFile.FieldType.object "ApplyFree$Scope"))) ∈ lw_all := lw_g (lw_at lw_m3 122 rfl) rfl
theorem q681 : (Jvm.Cond.methodLink "ApplyFree$Rewriter" (122 : Nat) ({ cls := "ApplyFree$Steps", name := "put", desc := "(I)V" } : Jvm.MethodName)) ∈ lw_all := lw_g (lw_at lw_m3 123 rfl) rfl
theorem q685 : (Jvm.Cond.methodLink "ApplyFree$Rewriter" (126 : Nat) ({ cls := "ApplyFree$Steps", name := "pick", desc := "(III)I" } : Jvm.MethodName)) ∈ lw_all := lw_g (lw_at lw_m3 127 rfl) rfl
theorem q689 : (Jvm.Cond.methodLink "ApplyFree$Rewriter" (107 : Nat) ({ cls := "ApplyFree$Steps", name := "unique", desc := "(I)I" } : Jvm.MethodName)) ∈ lw_all := lw_g (lw_at lw_m3 131 rfl) rfl
theorem q693 : (Jvm.Cond.methodLink "ApplyFree$Rewriter" (116 : Nat) ({ cls := "ApplyFree$Steps", name := "span", desc := "(II)I" } : Jvm.MethodName)) ∈ lw_all := lw_g (lw_at lw_m3 135 rfl) rfl
theorem q698 : (Jvm.Cond.methodLink "ApplyFree$Rewriter" (133 : Nat) ({ cls := "ApplyFree$Rewriter", name := "fold", desc := "(IIIII)I" } : Jvm.MethodName)) ∈ lw_all := lw_g (lw_at lw_m3 140 rfl) rfl
theorem q699 : (Jvm.Cond.privateMethod ({ cls := "ApplyFree$Rewriter", name := "fold", desc := "(IIIII)I" } : Jvm.MethodName)) ∈ lw_tbl := lw_at lw_m3 141 rfl
theorem q700 : (Jvm.Cond.instanceMethod ({ cls := "ApplyFree$Rewriter", name := "fold", desc := "(IIIII)I" } : Jvm.MethodName)) ∈ lw_all := lw_g (lw_at lw_m3 142 rfl) rfl
theorem q701 : (Jvm.Cond.code ({ cls := "ApplyFree$Rewriter", name := "fold", desc := "(IIIII)I" } : Jvm.MethodName) prog_5_method_7_code (8 : Nat) (Option.some Jvm.ClassFile.FieldType.int)) ∈ lw_all := lw_g (lw_at lw_m3 143 rfl) rfl
theorem q702 : (Jvm.Cond.methodLink "ApplyFree$Rewriter" (140 : Nat) ({ cls := "ApplyFree$Steps", name := "gather", desc := "(IIIII)I" } : Jvm.MethodName)) ∈ lw_all := lw_g (lw_at lw_m3 144 rfl) rfl
theorem q706 : (Jvm.Cond.methodLink "ApplyFree$Rewriter" (137 : Nat) ({ cls := "ApplyFree$Rewriter", name := "ofNone", desc := "(I)I" } : Jvm.MethodName)) ∈ lw_all := lw_g (lw_at lw_m3 148 rfl) rfl
theorem q707 : (Jvm.Cond.static ({ cls := "ApplyFree$Rewriter", name := "ofNone", desc := "(I)I" } : Jvm.MethodName)) ∈ lw_all := lw_g (lw_at lw_m3 149 rfl) rfl
theorem q708 : (Jvm.Cond.code ({ cls := "ApplyFree$Rewriter", name := "ofNone", desc := "(I)I" } : Jvm.MethodName) prog_5_method_8_code (1 : Nat) (Option.some Jvm.ClassFile.FieldType.int)) ∈ lw_all := lw_g (lw_at lw_m3 150 rfl) rfl
theorem q709 : (Jvm.Cond.constant "ApplyFree$Rewriter" (149 : Nat) (-2147483648 : Int32)) ∈ lw_all := lw_g (lw_at lw_m3 151 rfl) rfl
theorem q710 : (Jvm.Cond.methodLink "ApplyFree$Rewriter" (129 : Nat) ({ cls := "ApplyFree$Steps", name := "join", desc := "(IIIIII)I" } : Jvm.MethodName)) ∈ lw_all := lw_g (lw_at lw_m3 152 rfl) rfl
theorem q714 : (Jvm.Cond.methodLink "ApplyFree$Rewriter" (194 : Nat) ({ cls := "ApplyFree$Rewriter", name := "note", desc := "(LApplyFree$Scope;I)V" } : Jvm.MethodName)) ∈ lw_all := lw_g (lw_at lw_m3 156 rfl) rfl
theorem q715 : (Jvm.Cond.privateMethod ({ cls := "ApplyFree$Rewriter", name := "note", desc := "(LApplyFree$Scope;I)V" } : Jvm.MethodName)) ∈ lw_tbl := lw_at lw_m3 157 rfl
theorem q716 : (Jvm.Cond.instanceMethod ({ cls := "ApplyFree$Rewriter", name := "note", desc := "(LApplyFree$Scope;I)V" } : Jvm.MethodName)) ∈ lw_all := lw_g (lw_at lw_m3 158 rfl) rfl
theorem q717 : (Jvm.Cond.code ({ cls := "ApplyFree$Rewriter", name := "note", desc := "(LApplyFree$Scope;I)V" } : Jvm.MethodName) prog_5_method_14_code (3 : Nat) (Option.none : Option Jvm.ClassFile.FieldType)) ∈ lw_all := lw_g (lw_at lw_m3 159 rfl) rfl
theorem q718 : (Jvm.Cond.methodLink "ApplyFree$Rewriter" (187 : Nat) ({ cls := "ApplyFree$Rewriter", name := "has", desc := "(ILApplyFree$Scope;)V" } : Jvm.MethodName)) ∈ lw_all := lw_g (lw_at lw_m3 160 rfl) rfl
theorem q719 : (Jvm.Cond.privateMethod ({ cls := "ApplyFree$Rewriter", name := "has", desc := "(ILApplyFree$Scope;)V" } : Jvm.MethodName)) ∈ lw_tbl := lw_at lw_m3 161 rfl
theorem q720 : (Jvm.Cond.instanceMethod ({ cls := "ApplyFree$Rewriter", name := "has", desc := "(ILApplyFree$Scope;)V" } : Jvm.MethodName)) ∈ lw_all := lw_g (lw_at lw_m3 162 rfl) rfl
theorem q721 : (Jvm.Cond.code ({ cls := "ApplyFree$Rewriter", name := "has", desc := "(ILApplyFree$Scope;)V" } : Jvm.MethodName) prog_5_method_16_code (6 : Nat) (Option.none : Option Jvm.ClassFile.FieldType)) ∈ lw_all := lw_g (lw_at lw_m3 163 rfl) rfl
theorem q722 : (Jvm.Cond.methodLink "ApplyFree$Rewriter" (198 : Nat) ({ cls := "ApplyFree$Steps", name := "pickFirst", desc := "(II)I" } : Jvm.MethodName)) ∈ lw_all := lw_g (lw_at lw_m3 164 rfl) rfl
theorem q728 : (Jvm.Cond.methodLink "ApplyFree$Rewriter" (190 : Nat) ({ cls := "ApplyFree$Rewriter", name := "quantified", desc := "(IIILApplyFree$Scope;)V" } : Jvm.MethodName)) ∈ lw_all := lw_g (lw_at lw_m3 170 rfl) rfl
theorem q729 : (Jvm.Cond.privateMethod ({ cls := "ApplyFree$Rewriter", name := "quantified", desc := "(IIILApplyFree$Scope;)V" } : Jvm.MethodName)) ∈ lw_tbl := lw_at lw_m3 171 rfl
theorem q730 : (Jvm.Cond.instanceMethod ({ cls := "ApplyFree$Rewriter", name := "quantified", desc := "(IIILApplyFree$Scope;)V" } : Jvm.MethodName)) ∈ lw_all := lw_g (lw_at lw_m3 172 rfl) rfl
theorem q731 : (Jvm.Cond.code ({ cls := "ApplyFree$Rewriter", name := "quantified", desc := "(IIILApplyFree$Scope;)V" } : Jvm.MethodName) prog_5_method_17_code (15 : Nat) (Option.none : Option Jvm.ClassFile.FieldType)) ∈ lw_all := lw_g (lw_at lw_m3 173 rfl) rfl
theorem q732 : (Jvm.Cond.methodLink "ApplyFree$Rewriter" (174 : Nat) ({ cls := "ApplyFree$Rewriter", name := "write", desc := "(ILApplyFree$Scope;)V" } : Jvm.MethodName)) ∈ lw_all := lw_g (lw_at lw_m3 174 rfl) rfl
theorem q733 : (Jvm.Cond.privateMethod ({ cls := "ApplyFree$Rewriter", name := "write", desc := "(ILApplyFree$Scope;)V" } : Jvm.MethodName)) ∈ lw_tbl := lw_at lw_m3 175 rfl
theorem q734 : (Jvm.Cond.instanceMethod ({ cls := "ApplyFree$Rewriter", name := "write", desc := "(ILApplyFree$Scope;)V" } : Jvm.MethodName)) ∈ lw_all := lw_g (lw_at lw_m3 176 rfl) rfl
theorem q735 : (Jvm.Cond.code ({ cls := "ApplyFree$Rewriter", name := "write", desc := "(ILApplyFree$Scope;)V" } : Jvm.MethodName) prog_5_method_19_code (6 : Nat) (Option.none : Option Jvm.ClassFile.FieldType)) ∈ lw_all := lw_g (lw_at lw_m3 177 rfl) rfl
theorem q736 : (Jvm.Cond.methodLink "ApplyFree$Rewriter" (180 : Nat) ({ cls := "ApplyFree$Steps", name := "extend", desc := "(II)I" } : Jvm.MethodName)) ∈ lw_all := lw_g (lw_at lw_m3 178 rfl) rfl
theorem q740 : (Jvm.Cond.methodLink "ApplyFree$Rewriter" (201 : Nat) ({ cls := "ApplyFree$Rewriter", name := "marked", desc := "(LApplyFree$Scope;IIII)V" } : Jvm.MethodName)) ∈ lw_all := lw_g (lw_at lw_m3 182 rfl) rfl
theorem q741 : (Jvm.Cond.privateMethod ({ cls := "ApplyFree$Rewriter", name := "marked", desc := "(LApplyFree$Scope;IIII)V" } : Jvm.MethodName)) ∈ lw_tbl := lw_at lw_m3 183 rfl
theorem q742 : (Jvm.Cond.instanceMethod ({ cls := "ApplyFree$Rewriter", name := "marked", desc := "(LApplyFree$Scope;IIII)V" } : Jvm.MethodName)) ∈ lw_all := lw_g (lw_at lw_m3 184 rfl) rfl
theorem q743 : (Jvm.Cond.code ({ cls := "ApplyFree$Rewriter", name := "marked", desc := "(LApplyFree$Scope;IIII)V" } : Jvm.MethodName) prog_5_method_18_code (8 : Nat) (Option.none : Option Jvm.ClassFile.FieldType)) ∈ lw_all := lw_g (lw_at lw_m3 185 rfl) rfl
theorem q744 : (Jvm.Cond.methodLink "ApplyFree$Rewriter" (177 : Nat) ({ cls := "ApplyFree$Steps", name := "select", desc := "(II)I" } : Jvm.MethodName)) ∈ lw_all := lw_g (lw_at lw_m3 186 rfl) rfl
theorem q748 : (Jvm.Cond.methodLink "ApplyFree$Rewriter" (90 : Nat) ({ cls := "ApplyFree$Rewriter", name := "only", desc := "(IILApplyFree$Scope;)I" } : Jvm.MethodName)) ∈ lw_all := lw_g (lw_at lw_m3 190 rfl) rfl
theorem q749 : (Jvm.Cond.privateMethod ({ cls := "ApplyFree$Rewriter", name := "only", desc := "(IILApplyFree$Scope;)I" } : Jvm.MethodName)) ∈ lw_tbl := lw_at lw_m3 191 rfl
theorem q750 : (Jvm.Cond.instanceMethod ({ cls := "ApplyFree$Rewriter", name := "only", desc := "(IILApplyFree$Scope;)I" } : Jvm.MethodName)) ∈ lw_all := lw_g (lw_at lw_m3 192 rfl) rfl
theorem q751 : (Jvm.Cond.code ({ cls := "ApplyFree$Rewriter", name := "only", desc := "(IILApplyFree$Scope;)I" } : Jvm.MethodName) prog_5_method_4_code (6 : Nat) (Option.some Jvm.ClassFile.FieldType.int)) ∈ lw_all := lw_g (lw_at lw_m3 193 rfl) rfl
theorem q752 : (Jvm.Cond.methodLink "ApplyFree$Rewriter" (94 : Nat) ({ cls := "ApplyFree$Rewriter", name := "pairs", desc := "(IILApplyFree$Scope;)I" } : Jvm.MethodName)) ∈ lw_all := lw_g (lw_at lw_m3 194 rfl) rfl
theorem q753 : (Jvm.Cond.privateMethod ({ cls := "ApplyFree$Rewriter", name := "pairs", desc := "(IILApplyFree$Scope;)I" } : Jvm.MethodName)) ∈ lw_tbl := lw_at lw_m3 195 rfl
theorem q754 : (Jvm.Cond.instanceMethod ({ cls := "ApplyFree$Rewriter", name := "pairs", desc := "(IILApplyFree$Scope;)I" } : Jvm.MethodName)) ∈ lw_all := lw_g (lw_at lw_m3 196 rfl) rfl
theorem q755 : (Jvm.Cond.code ({ cls := "ApplyFree$Rewriter", name := "pairs", desc := "(IILApplyFree$Scope;)I" } : Jvm.MethodName) prog_5_method_5_code (6 : Nat) (Option.some Jvm.ClassFile.FieldType.int)) ∈ lw_all := lw_g (lw_at lw_m3 197 rfl) rfl
theorem q756 : (Jvm.Cond.methodLink "ApplyFree$Rewriter" (100 : Nat) ({ cls := "ApplyFree$Rewriter", name := "apply", desc := "(IIILApplyFree$Scope;)I" } : Jvm.MethodName)) ∈ lw_all := lw_g (lw_at lw_m3 198 rfl) rfl
theorem q757 : (Jvm.Cond.privateMethod ({ cls := "ApplyFree$Rewriter", name := "apply", desc := "(IIILApplyFree$Scope;)I" } : Jvm.MethodName)) ∈ lw_tbl := lw_at lw_m3 199 rfl
theorem q758 : (Jvm.Cond.instanceMethod ({ cls := "ApplyFree$Rewriter", name := "apply", desc := "(IIILApplyFree$Scope;)I" } : Jvm.MethodName)) ∈ lw_all := lw_g (lw_at lw_m3 200 rfl) rfl
theorem q759 : (Jvm.Cond.code ({ cls := "ApplyFree$Rewriter", name := "apply", desc := "(IIILApplyFree$Scope;)I" } : Jvm.MethodName) prog_5_method_11_code (9 : Nat) (Option.some Jvm.ClassFile.FieldType.int)) ∈ lw_all := lw_g (lw_at lw_m3 201 rfl) rfl
theorem q760 : (Jvm.Cond.methodLink "ApplyFree$Rewriter" (103 : Nat) ({ cls := "ApplyFree$Steps", name := "sets", desc := "(III)I" } : Jvm.MethodName)) ∈ lw_all := lw_g (lw_at lw_m3 202 rfl) rfl
theorem q764 : (Jvm.Cond.methodLink "ApplyFree$Rewriter" (110 : Nat) ({ cls := "ApplyFree$Steps", name := "top", desc := "(III)I" } : Jvm.MethodName)) ∈ lw_all := lw_g (lw_at lw_m3 206 rfl) rfl
theorem q768 : (Jvm.Cond.methodLink "ApplyFree$Rewriter" (113 : Nat) ({ cls := "ApplyFree$Rewriter", name := "groups", desc := "(IILApplyFree$Scope;)I" } : Jvm.MethodName)) ∈ lw_all := lw_g (lw_at lw_m3 210 rfl) rfl
theorem q769 : (Jvm.Cond.privateMethod ({ cls := "ApplyFree$Rewriter", name := "groups", desc := "(IILApplyFree$Scope;)I" } : Jvm.MethodName)) ∈ lw_tbl := lw_at lw_m3 211 rfl
theorem q770 : (Jvm.Cond.instanceMethod ({ cls := "ApplyFree$Rewriter", name := "groups", desc := "(IILApplyFree$Scope;)I" } : Jvm.MethodName)) ∈ lw_all := lw_g (lw_at lw_m3 212 rfl) rfl
theorem q771 : (Jvm.Cond.code ({ cls := "ApplyFree$Rewriter", name := "groups", desc := "(IILApplyFree$Scope;)I" } : Jvm.MethodName) prog_5_method_6_code (7 : Nat) (Option.some Jvm.ClassFile.FieldType.int)) ∈ lw_all := lw_g (lw_at lw_m3 213 rfl) rfl
theorem in_X3 : ∀ w ∈ wsX30, w ∈ lw_all := lw_in wsX30 [247, 249, 251, 253, 255, 257, 259, 261] (by decide +kernel) (by decide +kernel)

/-! ApplyFree$Scope -/
set_option maxRecDepth 100000
def RX4 : String := "ApplyFree$Scope"
def TX4 : u_T := fun k => match k with
  | 0 => ("ApplyFree$Scope", "step", "I", false)
  | 1 => ("ApplyFree$Scope", "width", "I", false)
  | 2 => ("ApplyFree$Scope", "places", "[I", true)
  | _ => ("ApplyFree$Scope", "list", "I", false)
def tyX4 : Nat → FieldType := fun k => match k with
  | 0 => .int
  | 1 => .int
  | 2 => .array .int
  | _ => .int
abbrev wsX40 : List Cond := u_ws RX4 TX4 4
theorem nmX4 : ∀ a, a < 4 → ∀ b, b < 4 → a ≠ b → (TX4 a).2.1 ≠ (TX4 b).2.1 := by decide +kernel
theorem tyX4_ok : ∀ k, k < 4 → parseFieldDescriptor (TX4 k).2.2.1 = some (tyX4 k) := by decide +kernel
abbrev cX4_init : ByteArray := prog_6_method_1_code
def yX4_init : MethodName := ⟨RX4, "<init>", "()V"⟩
theorem q83 : (Jvm.Cond.initialized "ApplyFree$Scope") ∈ lw_all := lw_g (lw_at lw_m1 5 rfl) rfl
theorem q219 : (Jvm.Cond.instantiable "ApplyFree$Scope" (4 : Nat)) ∈ lw_all := lw_g (lw_at lw_m1 141 rfl) rfl
theorem q221 : (Jvm.Cond.instanceMethod ({ cls := "ApplyFree$Scope", name := "<init>", desc := "()V" } : Jvm.MethodName)) ∈ lw_all := lw_g (lw_at lw_m1 143 rfl) rfl
theorem q222 : (Jvm.Cond.code ({ cls := "ApplyFree$Scope", name := "<init>", desc := "()V" } : Jvm.MethodName) prog_6_method_1_code (1 : Nat) (Option.none : Option Jvm.ClassFile.FieldType)) ∈ lw_all := lw_g (lw_at lw_m1 144 rfl) rfl
theorem q223 : (Jvm.Cond.methodLink "ApplyFree$Scope" (3 : Nat) ({ cls := "java/lang/Object", name := "<init>", desc := "()V" } : Jvm.MethodName)) ∈ lw_all := lw_g (lw_at lw_m1 145 rfl) rfl
theorem q226 : (Jvm.Cond.fieldLink "ApplyFree$Scope" (9 : Nat) "ApplyFree$Scope" "places" "[I") ∈ lw_all := lw_g (lw_at lw_m1 148 rfl) rfl
theorem q229 : (Jvm.Cond.lays "ApplyFree$Scope" "ApplyFree$Scope" "step" "I") ∈ lw_all := lw_g (lw_at lw_m1 151 rfl) rfl
theorem q230 : (Jvm.Cond.soleField "ApplyFree$Scope" "step") ∈ lw_all := lw_g (lw_at lw_m1 152 rfl) rfl
theorem q231 : (Jvm.Cond.lays "ApplyFree$Scope" "ApplyFree$Scope" "width" "I") ∈ lw_all := lw_g (lw_at lw_m1 153 rfl) rfl
theorem q232 : (Jvm.Cond.soleField "ApplyFree$Scope" "width") ∈ lw_all := lw_g (lw_at lw_m1 154 rfl) rfl
theorem q233 : (Jvm.Cond.laysFinal "ApplyFree$Scope" "ApplyFree$Scope" "places" "[I") ∈ lw_all := lw_g (lw_at lw_m1 155 rfl) rfl
theorem q234 : (Jvm.Cond.soleField "ApplyFree$Scope" "places") ∈ lw_all := lw_g (lw_at lw_m1 156 rfl) rfl
theorem q235 : (Jvm.Cond.lays "ApplyFree$Scope" "ApplyFree$Scope" "list" "I") ∈ lw_all := lw_g (lw_at lw_m1 157 rfl) rfl
theorem q236 : (Jvm.Cond.soleField "ApplyFree$Scope" "list") ∈ lw_all := lw_g (lw_at lw_m1 158 rfl) rfl
theorem q237 : (Jvm.Cond.superclass "ApplyFree$Scope" "java/lang/Object") ∈ lw_all := lw_g (lw_at lw_m1 159 rfl) rfl
theorem in_X4 : ∀ w ∈ wsX40, w ∈ lw_all := lw_in wsX40 [229, 231, 233, 235] (by decide +kernel) (by decide +kernel)

/-! ApplyFree$Executor -/
set_option maxRecDepth 100000
def RX5 : String := "ApplyFree$Executor"
def TX5 : u_T := fun k => match k with
  | 0 => ("ApplyFree$Executor", "tables", "[LApplyFree$Table;", true)
  | 1 => ("ApplyFree$Executor", "steps", "LApplyFree$Steps;", true)
  | 2 => ("ApplyFree$Executor", "reckoner", "LApplyFree$Reckoner;", true)
  | 3 => ("ApplyFree$Executor", "index", "LApplyFree$Index;", true)
  | 4 => ("ApplyFree$Executor", "cells", "[I", true)
  | 5 => ("ApplyFree$Executor", "top", "I", false)
  | 6 => ("ApplyFree$Executor", "starts", "[I", true)
  | 7 => ("ApplyFree$Executor", "rows", "[I", true)
  | 8 => ("ApplyFree$Executor", "widths", "[I", true)
  | 9 => ("ApplyFree$Executor", "needs", "[I", true)
  | 10 => ("ApplyFree$Executor", "there", "[I", true)
  | 11 => ("ApplyFree$Executor", "thereCount", "I", false)
  | 12 => ("ApplyFree$Executor", "all", "[I", true)
  | 13 => ("ApplyFree$Executor", "sums", "[I", true)
  | 14 => ("ApplyFree$Executor", "order", "[I", true)
  | 15 => ("ApplyFree$Executor", "aside", "[I", true)
  | _ => ("ApplyFree$Executor", "some", "[Z", true)
def tyX5 : Nat → FieldType := fun k => match k with
  | 0 => .array (.object "ApplyFree$Table")
  | 1 => .object "ApplyFree$Steps"
  | 2 => .object "ApplyFree$Reckoner"
  | 3 => .object "ApplyFree$Index"
  | 4 => .array .int
  | 5 => .int
  | 6 => .array .int
  | 7 => .array .int
  | 8 => .array .int
  | 9 => .array .int
  | 10 => .array .int
  | 11 => .int
  | 12 => .array .int
  | 13 => .array .int
  | 14 => .array .int
  | 15 => .array .int
  | _ => .array .boolean
abbrev wsX50 : List Cond := u_ws RX5 TX5 17
set_option maxRecDepth 100000 in
theorem nmX5 : ∀ a, a < 17 → ∀ b, b < 17 → a ≠ b → (TX5 a).2.1 ≠ (TX5 b).2.1 := by decide +kernel
set_option maxRecDepth 100000 in
theorem tyX5_ok : ∀ k, k < 17 → parseFieldDescriptor (TX5 k).2.2.1 = some (tyX5 k) := by decide +kernel
abbrev cX5_init : ByteArray := prog_2_method_1_code
def yX5_init : MethodName := ⟨RX5, "<init>", "([LApplyFree$Table;LApplyFree$Steps;)V"⟩
abbrev cX5_run : ByteArray := prog_2_method_2_code
def yX5_run : MethodName := ⟨RX5, "run", "(I)V"⟩
abbrev cX5_need : ByteArray := prog_2_method_3_code
def yX5_need : MethodName := ⟨RX5, "need", "(II)V"⟩
abbrev cX5_step : ByteArray := prog_2_method_6_code
def yX5_step : MethodName := ⟨RX5, "step", "(I)V"⟩
abbrev cX5_lay : ByteArray := prog_2_method_11_code
def yX5_lay : MethodName := ⟨RX5, "lay", "(ILApplyFree$Table;)V"⟩
abbrev cX5_cross : ByteArray := prog_2_method_12_code
def yX5_cross : MethodName := ⟨RX5, "cross", "(III)V"⟩
abbrev cX5_copy : ByteArray := prog_2_method_9_code
def yX5_copy : MethodName := ⟨RX5, "copy", "(III)V"⟩
abbrev cX5_at : ByteArray := prog_2_method_7_code
def yX5_at : MethodName := ⟨RX5, "at", "(II)I"⟩
abbrev cX5_select : ByteArray := prog_2_method_14_code
def yX5_select : MethodName := ⟨RX5, "select", "(II)V"⟩
abbrev cX5_reckon : ByteArray := prog_2_method_13_code
def yX5_reckon : MethodName := ⟨RX5, "reckon", "(III)I"⟩
abbrev cX5_extend : ByteArray := prog_2_method_15_code
def yX5_extend : MethodName := ⟨RX5, "extend", "(II)V"⟩
abbrev cX5_put : ByteArray := prog_2_method_8_code
def yX5_put : MethodName := ⟨RX5, "put", "(I)V"⟩
abbrev cX5_pick : ByteArray := prog_2_method_16_code
def yX5_pick : MethodName := ⟨RX5, "pick", "(II)V"⟩
abbrev cX5_join : ByteArray := prog_2_method_17_code
def yX5_join : MethodName := ⟨RX5, "join", "(III)V"⟩
abbrev cX5_copyAll : ByteArray := prog_2_method_10_code
def yX5_copyAll : MethodName := ⟨RX5, "copyAll", "(II)V"⟩
abbrev cX5_apart : ByteArray := prog_2_method_18_code
def yX5_apart : MethodName := ⟨RX5, "apart", "(III)V"⟩
abbrev cX5_unique : ByteArray := prog_2_method_19_code
def yX5_unique : MethodName := ⟨RX5, "unique", "(II)V"⟩
abbrev cX5_gather : ByteArray := prog_2_method_20_code
def yX5_gather : MethodName := ⟨RX5, "gather", "(II)V"⟩
abbrev cX5_folded : ByteArray := prog_2_method_21_code
def yX5_folded : MethodName := ⟨RX5, "folded", "(IIII)I"⟩
abbrev cX5_top : ByteArray := prog_2_method_25_code
def yX5_top : MethodName := ⟨RX5, "top", "(II)V"⟩
abbrev cX5_sort : ByteArray := prog_2_method_23_code
def yX5_sort : MethodName := ⟨RX5, "sort", "(I)V"⟩
abbrev cX5_merge : ByteArray := prog_2_method_24_code
def yX5_merge : MethodName := ⟨RX5, "merge", "(IIII)V"⟩
abbrev cX5_isBefore : ByteArray := prog_2_method_22_code
def yX5_isBefore : MethodName := ⟨RX5, "isBefore", "(III)Z"⟩
abbrev cX5_tidy : ByteArray := prog_2_method_4_code
def yX5_tidy : MethodName := ⟨RX5, "tidy", "(I)V"⟩
abbrev cX5_cell : ByteArray := prog_2_method_5_code
def yX5_cell : MethodName := ⟨RX5, "cell", "(III)I"⟩
theorem q84 : (Jvm.Cond.initialized "ApplyFree$Executor") ∈ lw_all := lw_g (lw_at lw_m1 6 rfl) rfl
theorem q171 : (Jvm.Cond.fieldLink "ApplyFree$Executor" (79 : Nat) "ApplyFree$Steps" "count" "I") ∈ lw_all := lw_g (lw_at lw_m1 93 rfl) rfl
theorem q173 : (Jvm.Cond.fieldLink "ApplyFree$Executor" (105 : Nat) "ApplyFree$Steps" "ops" "[B") ∈ lw_all := lw_g (lw_at lw_m1 95 rfl) rfl
theorem q175 : (Jvm.Cond.fieldLink "ApplyFree$Executor" (82 : Nat) "ApplyFree$Steps" "lefts" "[I") ∈ lw_all := lw_g (lw_at lw_m1 97 rfl) rfl
theorem q177 : (Jvm.Cond.fieldLink "ApplyFree$Executor" (89 : Nat) "ApplyFree$Steps" "rights" "[I") ∈ lw_all := lw_g (lw_at lw_m1 99 rfl) rfl
theorem q179 : (Jvm.Cond.fieldLink "ApplyFree$Executor" (164 : Nat) "ApplyFree$Steps" "lists" "[I") ∈ lw_all := lw_g (lw_at lw_m1 101 rfl) rfl
theorem q181 : (Jvm.Cond.fieldLink "ApplyFree$Executor" (167 : Nat) "ApplyFree$Steps" "sizes" "[I") ∈ lw_all := lw_g (lw_at lw_m1 103 rfl) rfl
theorem q183 : (Jvm.Cond.fieldLink "ApplyFree$Executor" (109 : Nat) "ApplyFree$Steps" "kinds" "[I") ∈ lw_all := lw_g (lw_at lw_m1 105 rfl) rfl
theorem q185 : (Jvm.Cond.fieldLink "ApplyFree$Executor" (197 : Nat) "ApplyFree$Steps" "values" "[I") ∈ lw_all := lw_g (lw_at lw_m1 107 rfl) rfl
theorem q188 : (Jvm.Cond.fieldLink "ApplyFree$Executor" (161 : Nat) "ApplyFree$Steps" "pool" "[I") ∈ lw_all := lw_g (lw_at lw_m1 110 rfl) rfl
theorem q265 : (Jvm.Cond.instantiable "ApplyFree$Executor" (17 : Nat)) ∈ lw_all := lw_g (lw_at lw_m1 187 rfl) rfl
theorem q267 : (Jvm.Cond.instanceMethod ({ cls := "ApplyFree$Executor", name := "<init>", desc := "([LApplyFree$Table;LApplyFree$Steps;)V" } : Jvm.MethodName)) ∈ lw_all := lw_g (lw_at lw_m1 189 rfl) rfl
theorem q268 : (Jvm.Cond.code ({ cls := "ApplyFree$Executor", name := "<init>", desc := "([LApplyFree$Table;LApplyFree$Steps;)V" } : Jvm.MethodName) prog_2_method_1_code (4 : Nat) (Option.none : Option Jvm.ClassFile.FieldType)) ∈ lw_all := lw_g (lw_at lw_m1 190 rfl) rfl
theorem q269 : (Jvm.Cond.methodLink "ApplyFree$Executor" (3 : Nat) ({ cls := "java/lang/Object", name := "<init>", desc := "()V" } : Jvm.MethodName)) ∈ lw_all := lw_g (lw_at lw_m1 191 rfl) rfl
theorem q270 : (Jvm.Cond.classLink "ApplyFree$Executor" (9 : Nat) "ApplyFree$Reckoner") ∈ lw_all := lw_g (lw_at lw_m1 192 rfl) rfl
theorem q272 : (Jvm.Cond.methodLinkNest "ApplyFree$Executor" (11 : Nat) ({ cls := "ApplyFree$Reckoner", name := "<init>", desc := "()V" } : Jvm.MethodName) "ApplyFree") ∈ lw_tbl := lw_at lw_m1 194 rfl
theorem q280 : (Jvm.Cond.classLink "ApplyFree$Executor" (18 : Nat) "ApplyFree$Index") ∈ lw_all := lw_g (lw_at lw_m1 202 rfl) rfl
theorem q282 : (Jvm.Cond.methodLinkNest "ApplyFree$Executor" (20 : Nat) ({ cls := "ApplyFree$Index", name := "<init>", desc := "()V" } : Jvm.MethodName) "ApplyFree") ∈ lw_tbl := lw_at lw_m1 204 rfl
theorem q289 : (Jvm.Cond.fieldLink "ApplyFree$Executor" (193 : Nat) "ApplyFree$Index" "firsts" "[I") ∈ lw_all := lw_g (lw_at lw_m1 211 rfl) rfl
theorem q292 : (Jvm.Cond.fieldLink "ApplyFree$Executor" (200 : Nat) "ApplyFree$Index" "counts" "[I") ∈ lw_all := lw_g (lw_at lw_m1 214 rfl) rfl
theorem q294 : (Jvm.Cond.fieldLink "ApplyFree$Executor" (196 : Nat) "ApplyFree$Index" "rows" "[I") ∈ lw_all := lw_g (lw_at lw_m1 216 rfl) rfl
theorem q296 : (Jvm.Cond.fieldLink "ApplyFree$Executor" (203 : Nat) "ApplyFree$Index" "keys" "I") ∈ lw_all := lw_g (lw_at lw_m1 218 rfl) rfl
theorem q330 : (Jvm.Cond.constant "ApplyFree$Executor" (25 : Nat) (600000 : Int32)) ∈ lw_all := lw_g (lw_at lw_m2 12 rfl) rfl
theorem q331 : (Jvm.Cond.constant "ApplyFree$Executor" (32 : Nat) (32768 : Int32)) ∈ lw_all := lw_g (lw_at lw_m2 13 rfl) rfl
theorem q332 : (Jvm.Cond.fieldLink "ApplyFree$Executor" (64 : Nat) "ApplyFree$Executor" "tables" "[LApplyFree$Table;") ∈ lw_all := lw_g (lw_at lw_m2 14 rfl) rfl
theorem q333 : (Jvm.Cond.fieldLink "ApplyFree$Executor" (68 : Nat) "ApplyFree$Executor" "steps" "LApplyFree$Steps;") ∈ lw_all := lw_g (lw_at lw_m2 15 rfl) rfl
theorem q334 : (Jvm.Cond.fieldLink "ApplyFree$Executor" (12 : Nat) "ApplyFree$Executor" "reckoner" "LApplyFree$Reckoner;") ∈ lw_all := lw_g (lw_at lw_m2 16 rfl) rfl
theorem q335 : (Jvm.Cond.fieldLink "ApplyFree$Executor" (21 : Nat) "ApplyFree$Executor" "index" "LApplyFree$Index;") ∈ lw_all := lw_g (lw_at lw_m2 17 rfl) rfl
theorem q336 : (Jvm.Cond.fieldLink "ApplyFree$Executor" (26 : Nat) "ApplyFree$Executor" "cells" "[I") ∈ lw_all := lw_g (lw_at lw_m2 18 rfl) rfl
theorem q337 : (Jvm.Cond.fieldLink "ApplyFree$Executor" (72 : Nat) "ApplyFree$Executor" "top" "I") ∈ lw_all := lw_g (lw_at lw_m2 19 rfl) rfl
theorem q338 : (Jvm.Cond.fieldLink "ApplyFree$Executor" (33 : Nat) "ApplyFree$Executor" "starts" "[I") ∈ lw_all := lw_g (lw_at lw_m2 20 rfl) rfl
theorem q339 : (Jvm.Cond.fieldLink "ApplyFree$Executor" (36 : Nat) "ApplyFree$Executor" "rows" "[I") ∈ lw_all := lw_g (lw_at lw_m2 21 rfl) rfl
theorem q341 : (Jvm.Cond.fieldLink "ApplyFree$Executor" (39 : Nat) "ApplyFree$Executor" "widths" "[I") ∈ lw_all := lw_g (lw_at lw_m2 23 rfl) rfl
theorem q343 : (Jvm.Cond.fieldLink "ApplyFree$Executor" (42 : Nat) "ApplyFree$Executor" "needs" "[I") ∈ lw_all := lw_g (lw_at lw_m2 25 rfl) rfl
theorem q344 : (Jvm.Cond.fieldLink "ApplyFree$Executor" (45 : Nat) "ApplyFree$Executor" "there" "[I") ∈ lw_all := lw_g (lw_at lw_m2 26 rfl) rfl
theorem q345 : (Jvm.Cond.fieldLink "ApplyFree$Executor" (76 : Nat) "ApplyFree$Executor" "thereCount" "I") ∈ lw_all := lw_g (lw_at lw_m2 27 rfl) rfl
theorem q346 : (Jvm.Cond.fieldLink "ApplyFree$Executor" (48 : Nat) "ApplyFree$Executor" "all" "[I") ∈ lw_all := lw_g (lw_at lw_m2 28 rfl) rfl
theorem q347 : (Jvm.Cond.fieldLink "ApplyFree$Executor" (51 : Nat) "ApplyFree$Executor" "sums" "[I") ∈ lw_all := lw_g (lw_at lw_m2 29 rfl) rfl
theorem q348 : (Jvm.Cond.fieldLink "ApplyFree$Executor" (54 : Nat) "ApplyFree$Executor" "order" "[I") ∈ lw_all := lw_g (lw_at lw_m2 30 rfl) rfl
theorem q349 : (Jvm.Cond.fieldLink "ApplyFree$Executor" (57 : Nat) "ApplyFree$Executor" "aside" "[I") ∈ lw_all := lw_g (lw_at lw_m2 31 rfl) rfl
theorem q350 : (Jvm.Cond.fieldLink "ApplyFree$Executor" (60 : Nat) "ApplyFree$Executor" "some" "[Z") ∈ lw_all := lw_g (lw_at lw_m2 32 rfl) rfl
theorem q351 : (Jvm.Cond.laysFinal "ApplyFree$Executor" "ApplyFree$Executor" "tables" "[LApplyFree$Table;") ∈ lw_all := lw_g (lw_at lw_m2 33 rfl) rfl
theorem q352 : (Jvm.Cond.soleField "ApplyFree$Executor" "tables") ∈ lw_all := lw_g (lw_at lw_m2 34 rfl) rfl
theorem q353 : (Jvm.Cond.laysFinal "ApplyFree$Executor" "ApplyFree$Executor" "steps" "LApplyFree$Steps;") ∈ lw_all := lw_g (lw_at lw_m2 35 rfl) rfl
theorem q354 : (Jvm.Cond.soleField "ApplyFree$Executor" "steps") ∈ lw_all := lw_g (lw_at lw_m2 36 rfl) rfl
theorem q355 : (Jvm.Cond.laysFinal "ApplyFree$Executor" "ApplyFree$Executor" "reckoner" "LApplyFree$Reckoner;") ∈ lw_all := lw_g (lw_at lw_m2 37 rfl) rfl
theorem q356 : (Jvm.Cond.soleField "ApplyFree$Executor" "reckoner") ∈ lw_all := lw_g (lw_at lw_m2 38 rfl) rfl
theorem q357 : (Jvm.Cond.laysFinal "ApplyFree$Executor" "ApplyFree$Executor" "index" "LApplyFree$Index;") ∈ lw_all := lw_g (lw_at lw_m2 39 rfl) rfl
theorem q358 : (Jvm.Cond.soleField "ApplyFree$Executor" "index") ∈ lw_all := lw_g (lw_at lw_m2 40 rfl) rfl
theorem q359 : (Jvm.Cond.laysFinal "ApplyFree$Executor" "ApplyFree$Executor" "cells" "[I") ∈ lw_all := lw_g (lw_at lw_m2 41 rfl) rfl
theorem q360 : (Jvm.Cond.soleField "ApplyFree$Executor" "cells") ∈ lw_all := lw_g (lw_at lw_m2 42 rfl) rfl
theorem q361 : (Jvm.Cond.lays "ApplyFree$Executor" "ApplyFree$Executor" "top" "I") ∈ lw_all := lw_g (lw_at lw_m2 43 rfl) rfl
theorem q362 : (Jvm.Cond.soleField "ApplyFree$Executor" "top") ∈ lw_all := lw_g (lw_at lw_m2 44 rfl) rfl
theorem q363 : (Jvm.Cond.laysFinal "ApplyFree$Executor" "ApplyFree$Executor" "starts" "[I") ∈ lw_all := lw_g (lw_at lw_m2 45 rfl) rfl
theorem q364 : (Jvm.Cond.soleField "ApplyFree$Executor" "starts") ∈ lw_all := lw_g (lw_at lw_m2 46 rfl) rfl
theorem q365 : (Jvm.Cond.laysFinal "ApplyFree$Executor" "ApplyFree$Executor" "rows" "[I") ∈ lw_all := lw_g (lw_at lw_m2 47 rfl) rfl
theorem q366 : (Jvm.Cond.soleField "ApplyFree$Executor" "rows") ∈ lw_all := lw_g (lw_at lw_m2 48 rfl) rfl
theorem q367 : (Jvm.Cond.laysFinal "ApplyFree$Executor" "ApplyFree$Executor" "widths" "[I") ∈ lw_all := lw_g (lw_at lw_m2 49 rfl) rfl
theorem q368 : (Jvm.Cond.soleField "ApplyFree$Executor" "widths") ∈ lw_all := lw_g (lw_at lw_m2 50 rfl) rfl
theorem q369 : (Jvm.Cond.laysFinal "ApplyFree$Executor" "ApplyFree$Executor" "needs" "[I") ∈ lw_all := lw_g (lw_at lw_m2 51 rfl) rfl
theorem q370 : (Jvm.Cond.soleField "ApplyFree$Executor" "needs") ∈ lw_all := lw_g (lw_at lw_m2 52 rfl) rfl
theorem q371 : (Jvm.Cond.laysFinal "ApplyFree$Executor" "ApplyFree$Executor" "there" "[I") ∈ lw_all := lw_g (lw_at lw_m2 53 rfl) rfl
theorem q372 : (Jvm.Cond.soleField "ApplyFree$Executor" "there") ∈ lw_all := lw_g (lw_at lw_m2 54 rfl) rfl
theorem q373 : (Jvm.Cond.lays "ApplyFree$Executor" "ApplyFree$Executor" "thereCount" "I") ∈ lw_all := lw_g (lw_at lw_m2 55 rfl) rfl
theorem q374 : (Jvm.Cond.soleField "ApplyFree$Executor" "thereCount") ∈ lw_all := lw_g (lw_at lw_m2 56 rfl) rfl
theorem q375 : (Jvm.Cond.laysFinal "ApplyFree$Executor" "ApplyFree$Executor" "all" "[I") ∈ lw_all := lw_g (lw_at lw_m2 57 rfl) rfl
theorem q376 : (Jvm.Cond.soleField "ApplyFree$Executor" "all") ∈ lw_all := lw_g (lw_at lw_m2 58 rfl) rfl
theorem q377 : (Jvm.Cond.laysFinal "ApplyFree$Executor" "ApplyFree$Executor" "sums" "[I") ∈ lw_all := lw_g (lw_at lw_m2 59 rfl) rfl
theorem q378 : (Jvm.Cond.soleField "ApplyFree$Executor" "sums") ∈ lw_all := lw_g (lw_at lw_m2 60 rfl) rfl
theorem q379 : (Jvm.Cond.laysFinal "ApplyFree$Executor" "ApplyFree$Executor" "order" "[I") ∈ lw_all := lw_g (lw_at lw_m2 61 rfl) rfl
theorem q380 : (Jvm.Cond.soleField "ApplyFree$Executor" "order") ∈ lw_all := lw_g (lw_at lw_m2 62 rfl) rfl
theorem q381 : (Jvm.Cond.laysFinal "ApplyFree$Executor" "ApplyFree$Executor" "aside" "[I") ∈ lw_all := lw_g (lw_at lw_m2 63 rfl) rfl
theorem q382 : (Jvm.Cond.soleField "ApplyFree$Executor" "aside") ∈ lw_all := lw_g (lw_at lw_m2 64 rfl) rfl
theorem q383 : (Jvm.Cond.laysFinal "ApplyFree$Executor" "ApplyFree$Executor" "some" "[Z") ∈ lw_all := lw_g (lw_at lw_m2 65 rfl) rfl
theorem q384 : (Jvm.Cond.soleField "ApplyFree$Executor" "some") ∈ lw_all := lw_g (lw_at lw_m2 66 rfl) rfl
theorem q385 : (Jvm.Cond.superclass "ApplyFree$Executor" "java/lang/Object") ∈ lw_all := lw_g (lw_at lw_m2 67 rfl) rfl
theorem q429 : (Jvm.Cond.fieldLink "ApplyFree$Executor" (153 : Nat) "ApplyFree$Table" "columns" "I") ∈ lw_all := lw_g (lw_at lw_m2 111 rfl) rfl
theorem q432 : (Jvm.Cond.fieldLink "ApplyFree$Executor" (160 : Nat) "ApplyFree$Table" "cells" "[I") ∈ lw_all := lw_g (lw_at lw_m2 114 rfl) rfl
theorem q434 : (Jvm.Cond.fieldLink "ApplyFree$Executor" (158 : Nat) "ApplyFree$Table" "rows" "I") ∈ lw_all := lw_g (lw_at lw_m2 116 rfl) rfl
theorem q773 : (Jvm.Cond.instanceMethod ({ cls := "ApplyFree$Executor", name := "run", desc := "(I)V" } : Jvm.MethodName)) ∈ lw_all := lw_g (lw_at lw_m3 215 rfl) rfl
theorem q774 : (Jvm.Cond.selects "ApplyFree$Executor" ({ cls := "ApplyFree$Executor", name := "run", desc := "(I)V" } : Jvm.MethodName) ({ cls := "ApplyFree$Executor", name := "run", desc := "(I)V" } : Jvm.MethodName)) ∈ lw_all := lw_g (lw_at lw_m3 216 rfl) rfl
theorem q775 : (Jvm.Cond.code ({ cls := "ApplyFree$Executor", name := "run", desc := "(I)V" } : Jvm.MethodName) prog_2_method_2_code (3 : Nat) (Option.none : Option Jvm.ClassFile.FieldType)) ∈ lw_all := lw_g (lw_at lw_m3 217 rfl) rfl
theorem q776 : (Jvm.Cond.methodLink "ApplyFree$Executor" (85 : Nat) ({ cls := "ApplyFree$Executor", name := "need", desc := "(II)V" } : Jvm.MethodName)) ∈ lw_all := lw_g (lw_at lw_m3 218 rfl) rfl
theorem q777 : (Jvm.Cond.privateMethod ({ cls := "ApplyFree$Executor", name := "need", desc := "(II)V" } : Jvm.MethodName)) ∈ lw_tbl := lw_at lw_m3 219 rfl
theorem q778 : (Jvm.Cond.instanceMethod ({ cls := "ApplyFree$Executor", name := "need", desc := "(II)V" } : Jvm.MethodName)) ∈ lw_all := lw_g (lw_at lw_m3 220 rfl) rfl
theorem q779 : (Jvm.Cond.code ({ cls := "ApplyFree$Executor", name := "need", desc := "(II)V" } : Jvm.MethodName) prog_2_method_3_code (3 : Nat) (Option.none : Option Jvm.ClassFile.FieldType)) ∈ lw_all := lw_g (lw_at lw_m3 221 rfl) rfl
theorem q780 : (Jvm.Cond.methodLink "ApplyFree$Executor" (92 : Nat) ({ cls := "ApplyFree$Executor", name := "step", desc := "(I)V" } : Jvm.MethodName)) ∈ lw_all := lw_g (lw_at lw_m3 222 rfl) rfl
theorem q781 : (Jvm.Cond.privateMethod ({ cls := "ApplyFree$Executor", name := "step", desc := "(I)V" } : Jvm.MethodName)) ∈ lw_tbl := lw_at lw_m3 223 rfl
theorem q782 : (Jvm.Cond.instanceMethod ({ cls := "ApplyFree$Executor", name := "step", desc := "(I)V" } : Jvm.MethodName)) ∈ lw_all := lw_g (lw_at lw_m3 224 rfl) rfl
theorem q783 : (Jvm.Cond.code ({ cls := "ApplyFree$Executor", name := "step", desc := "(I)V" } : Jvm.MethodName) prog_2_method_6_code (4 : Nat) (Option.none : Option Jvm.ClassFile.FieldType)) ∈ lw_all := lw_g (lw_at lw_m3 225 rfl) rfl
theorem q784 : (Jvm.Cond.methodLink "ApplyFree$Executor" (112 : Nat) ({ cls := "ApplyFree$Executor", name := "lay", desc := "(ILApplyFree$Table;)V" } : Jvm.MethodName)) ∈ lw_all := lw_g (lw_at lw_m3 226 rfl) rfl
theorem q785 : (Jvm.Cond.privateMethod ({ cls := "ApplyFree$Executor", name := "lay", desc := "(ILApplyFree$Table;)V" } : Jvm.MethodName)) ∈ lw_tbl := lw_at lw_m3 227 rfl
theorem q786 : (Jvm.Cond.instanceMethod ({ cls := "ApplyFree$Executor", name := "lay", desc := "(ILApplyFree$Table;)V" } : Jvm.MethodName)) ∈ lw_all := lw_g (lw_at lw_m3 228 rfl) rfl
theorem q787 : (Jvm.Cond.code ({ cls := "ApplyFree$Executor", name := "lay", desc := "(ILApplyFree$Table;)V" } : Jvm.MethodName) prog_2_method_11_code (3 : Nat) (Option.none : Option Jvm.ClassFile.FieldType)) ∈ lw_all := lw_g (lw_at lw_m3 229 rfl) rfl
theorem q788 : (Jvm.Cond.methodLink "ApplyFree$Executor" (99 : Nat) ({ cls := "java/lang/System", name := "arraycopy", desc := "(Ljava/lang/Object;ILjava/lang/Object;II)V" } : Jvm.MethodName)) ∈ lw_all := lw_g (lw_at lw_m3 230 rfl) rfl
theorem q791 : (Jvm.Cond.methodLink "ApplyFree$Executor" (116 : Nat) ({ cls := "ApplyFree$Executor", name := "cross", desc := "(III)V" } : Jvm.MethodName)) ∈ lw_all := lw_g (lw_at lw_m3 233 rfl) rfl
theorem q792 : (Jvm.Cond.privateMethod ({ cls := "ApplyFree$Executor", name := "cross", desc := "(III)V" } : Jvm.MethodName)) ∈ lw_tbl := lw_at lw_m3 234 rfl
theorem q793 : (Jvm.Cond.instanceMethod ({ cls := "ApplyFree$Executor", name := "cross", desc := "(III)V" } : Jvm.MethodName)) ∈ lw_all := lw_g (lw_at lw_m3 235 rfl) rfl
theorem q794 : (Jvm.Cond.code ({ cls := "ApplyFree$Executor", name := "cross", desc := "(III)V" } : Jvm.MethodName) prog_2_method_12_code (6 : Nat) (Option.none : Option Jvm.ClassFile.FieldType)) ∈ lw_all := lw_g (lw_at lw_m3 236 rfl) rfl
theorem q795 : (Jvm.Cond.methodLink "ApplyFree$Executor" (150 : Nat) ({ cls := "ApplyFree$Executor", name := "copy", desc := "(III)V" } : Jvm.MethodName)) ∈ lw_all := lw_g (lw_at lw_m3 237 rfl) rfl
theorem q796 : (Jvm.Cond.privateMethod ({ cls := "ApplyFree$Executor", name := "copy", desc := "(III)V" } : Jvm.MethodName)) ∈ lw_tbl := lw_at lw_m3 238 rfl
theorem q797 : (Jvm.Cond.instanceMethod ({ cls := "ApplyFree$Executor", name := "copy", desc := "(III)V" } : Jvm.MethodName)) ∈ lw_all := lw_g (lw_at lw_m3 239 rfl) rfl
theorem q798 : (Jvm.Cond.code ({ cls := "ApplyFree$Executor", name := "copy", desc := "(III)V" } : Jvm.MethodName) prog_2_method_9_code (5 : Nat) (Option.none : Option Jvm.ClassFile.FieldType)) ∈ lw_all := lw_g (lw_at lw_m4 0 rfl) rfl
theorem q799 : (Jvm.Cond.methodLink "ApplyFree$Executor" (146 : Nat) ({ cls := "ApplyFree$Executor", name := "at", desc := "(II)I" } : Jvm.MethodName)) ∈ lw_all := lw_g (lw_at lw_m4 1 rfl) rfl
theorem q800 : (Jvm.Cond.privateMethod ({ cls := "ApplyFree$Executor", name := "at", desc := "(II)I" } : Jvm.MethodName)) ∈ lw_tbl := lw_at lw_m4 2 rfl
theorem q801 : (Jvm.Cond.instanceMethod ({ cls := "ApplyFree$Executor", name := "at", desc := "(II)I" } : Jvm.MethodName)) ∈ lw_all := lw_g (lw_at lw_m4 3 rfl) rfl
theorem q802 : (Jvm.Cond.code ({ cls := "ApplyFree$Executor", name := "at", desc := "(II)I" } : Jvm.MethodName) prog_2_method_7_code (3 : Nat) (Option.some Jvm.ClassFile.FieldType.int)) ∈ lw_all := lw_g (lw_at lw_m4 4 rfl) rfl
theorem q803 : (Jvm.Cond.methodLink "ApplyFree$Executor" (120 : Nat) ({ cls := "ApplyFree$Executor", name := "select", desc := "(II)V" } : Jvm.MethodName)) ∈ lw_all := lw_g (lw_at lw_m4 5 rfl) rfl
theorem q804 : (Jvm.Cond.privateMethod ({ cls := "ApplyFree$Executor", name := "select", desc := "(II)V" } : Jvm.MethodName)) ∈ lw_tbl := lw_at lw_m4 6 rfl
theorem q805 : (Jvm.Cond.instanceMethod ({ cls := "ApplyFree$Executor", name := "select", desc := "(II)V" } : Jvm.MethodName)) ∈ lw_all := lw_g (lw_at lw_m4 7 rfl) rfl
theorem q806 : (Jvm.Cond.code ({ cls := "ApplyFree$Executor", name := "select", desc := "(II)V" } : Jvm.MethodName) prog_2_method_14_code (4 : Nat) (Option.none : Option Jvm.ClassFile.FieldType)) ∈ lw_all := lw_g (lw_at lw_m4 8 rfl) rfl
theorem q807 : (Jvm.Cond.methodLink "ApplyFree$Executor" (174 : Nat) ({ cls := "ApplyFree$Executor", name := "reckon", desc := "(III)I" } : Jvm.MethodName)) ∈ lw_all := lw_g (lw_at lw_m4 9 rfl) rfl
theorem q808 : (Jvm.Cond.privateMethod ({ cls := "ApplyFree$Executor", name := "reckon", desc := "(III)I" } : Jvm.MethodName)) ∈ lw_tbl := lw_at lw_m4 10 rfl
theorem q809 : (Jvm.Cond.instanceMethod ({ cls := "ApplyFree$Executor", name := "reckon", desc := "(III)I" } : Jvm.MethodName)) ∈ lw_all := lw_g (lw_at lw_m4 11 rfl) rfl
theorem q810 : (Jvm.Cond.code ({ cls := "ApplyFree$Executor", name := "reckon", desc := "(III)I" } : Jvm.MethodName) prog_2_method_13_code (4 : Nat) (Option.some Jvm.ClassFile.FieldType.int)) ∈ lw_all := lw_g (lw_at lw_m4 12 rfl) rfl
theorem q811 : (Jvm.Cond.methodLink "ApplyFree$Executor" (170 : Nat) ({ cls := "ApplyFree$Reckoner", name := "run", desc := "([III[II)I" } : Jvm.MethodName)) ∈ lw_all := lw_g (lw_at lw_m4 13 rfl) rfl
theorem q831 : (Jvm.Cond.methodLink "ApplyFree$Executor" (123 : Nat) ({ cls := "ApplyFree$Executor", name := "extend", desc := "(II)V" } : Jvm.MethodName)) ∈ lw_all := lw_g (lw_at lw_m4 33 rfl) rfl
theorem q832 : (Jvm.Cond.privateMethod ({ cls := "ApplyFree$Executor", name := "extend", desc := "(II)V" } : Jvm.MethodName)) ∈ lw_tbl := lw_at lw_m4 34 rfl
theorem q833 : (Jvm.Cond.instanceMethod ({ cls := "ApplyFree$Executor", name := "extend", desc := "(II)V" } : Jvm.MethodName)) ∈ lw_all := lw_g (lw_at lw_m4 35 rfl) rfl
theorem q834 : (Jvm.Cond.code ({ cls := "ApplyFree$Executor", name := "extend", desc := "(II)V" } : Jvm.MethodName) prog_2_method_15_code (5 : Nat) (Option.none : Option Jvm.ClassFile.FieldType)) ∈ lw_all := lw_g (lw_at lw_m4 36 rfl) rfl
theorem q835 : (Jvm.Cond.methodLink "ApplyFree$Executor" (178 : Nat) ({ cls := "ApplyFree$Executor", name := "put", desc := "(I)V" } : Jvm.MethodName)) ∈ lw_all := lw_g (lw_at lw_m4 37 rfl) rfl
theorem q836 : (Jvm.Cond.privateMethod ({ cls := "ApplyFree$Executor", name := "put", desc := "(I)V" } : Jvm.MethodName)) ∈ lw_tbl := lw_at lw_m4 38 rfl
theorem q837 : (Jvm.Cond.instanceMethod ({ cls := "ApplyFree$Executor", name := "put", desc := "(I)V" } : Jvm.MethodName)) ∈ lw_all := lw_g (lw_at lw_m4 39 rfl) rfl
theorem q838 : (Jvm.Cond.code ({ cls := "ApplyFree$Executor", name := "put", desc := "(I)V" } : Jvm.MethodName) prog_2_method_8_code (2 : Nat) (Option.none : Option Jvm.ClassFile.FieldType)) ∈ lw_all := lw_g (lw_at lw_m4 40 rfl) rfl
theorem q839 : (Jvm.Cond.methodLink "ApplyFree$Executor" (126 : Nat) ({ cls := "ApplyFree$Executor", name := "pick", desc := "(II)V" } : Jvm.MethodName)) ∈ lw_all := lw_g (lw_at lw_m4 41 rfl) rfl
theorem q840 : (Jvm.Cond.privateMethod ({ cls := "ApplyFree$Executor", name := "pick", desc := "(II)V" } : Jvm.MethodName)) ∈ lw_tbl := lw_at lw_m4 42 rfl
theorem q841 : (Jvm.Cond.instanceMethod ({ cls := "ApplyFree$Executor", name := "pick", desc := "(II)V" } : Jvm.MethodName)) ∈ lw_all := lw_g (lw_at lw_m4 43 rfl) rfl
theorem q842 : (Jvm.Cond.code ({ cls := "ApplyFree$Executor", name := "pick", desc := "(II)V" } : Jvm.MethodName) prog_2_method_16_code (6 : Nat) (Option.none : Option Jvm.ClassFile.FieldType)) ∈ lw_all := lw_g (lw_at lw_m4 44 rfl) rfl
theorem q843 : (Jvm.Cond.methodLink "ApplyFree$Executor" (129 : Nat) ({ cls := "ApplyFree$Executor", name := "join", desc := "(III)V" } : Jvm.MethodName)) ∈ lw_all := lw_g (lw_at lw_m4 45 rfl) rfl
theorem q844 : (Jvm.Cond.privateMethod ({ cls := "ApplyFree$Executor", name := "join", desc := "(III)V" } : Jvm.MethodName)) ∈ lw_tbl := lw_at lw_m4 46 rfl
theorem q845 : (Jvm.Cond.instanceMethod ({ cls := "ApplyFree$Executor", name := "join", desc := "(III)V" } : Jvm.MethodName)) ∈ lw_all := lw_g (lw_at lw_m4 47 rfl) rfl
theorem q846 : (Jvm.Cond.code ({ cls := "ApplyFree$Executor", name := "join", desc := "(III)V" } : Jvm.MethodName) prog_2_method_17_code (10 : Nat) (Option.none : Option Jvm.ClassFile.FieldType)) ∈ lw_all := lw_g (lw_at lw_m4 48 rfl) rfl
theorem q847 : (Jvm.Cond.methodLink "ApplyFree$Executor" (181 : Nat) ({ cls := "ApplyFree$Index", name := "begin", desc := "([III[III)V" } : Jvm.MethodName)) ∈ lw_all := lw_g (lw_at lw_m4 49 rfl) rfl
theorem q851 : (Jvm.Cond.methodLink "ApplyFree$Executor" (185 : Nat) ({ cls := "ApplyFree$Index", name := "add", desc := "(I)I" } : Jvm.MethodName)) ∈ lw_all := lw_g (lw_at lw_m4 53 rfl) rfl
theorem q867 : (Jvm.Cond.methodLink "ApplyFree$Executor" (189 : Nat) ({ cls := "ApplyFree$Index", name := "find", desc := "([II[II)I" } : Jvm.MethodName)) ∈ lw_all := lw_g (lw_at lw_m4 69 rfl) rfl
theorem q868 : (Jvm.Cond.methodLink "ApplyFree$Executor" (132 : Nat) ({ cls := "ApplyFree$Executor", name := "copyAll", desc := "(II)V" } : Jvm.MethodName)) ∈ lw_all := lw_g (lw_at lw_m4 70 rfl) rfl
theorem q869 : (Jvm.Cond.privateMethod ({ cls := "ApplyFree$Executor", name := "copyAll", desc := "(II)V" } : Jvm.MethodName)) ∈ lw_tbl := lw_at lw_m4 71 rfl
theorem q870 : (Jvm.Cond.instanceMethod ({ cls := "ApplyFree$Executor", name := "copyAll", desc := "(II)V" } : Jvm.MethodName)) ∈ lw_all := lw_g (lw_at lw_m4 72 rfl) rfl
theorem q871 : (Jvm.Cond.code ({ cls := "ApplyFree$Executor", name := "copyAll", desc := "(II)V" } : Jvm.MethodName) prog_2_method_10_code (4 : Nat) (Option.none : Option Jvm.ClassFile.FieldType)) ∈ lw_all := lw_g (lw_at lw_m4 73 rfl) rfl
theorem q872 : (Jvm.Cond.methodLink "ApplyFree$Executor" (135 : Nat) ({ cls := "ApplyFree$Executor", name := "apart", desc := "(III)V" } : Jvm.MethodName)) ∈ lw_all := lw_g (lw_at lw_m4 74 rfl) rfl
theorem q873 : (Jvm.Cond.privateMethod ({ cls := "ApplyFree$Executor", name := "apart", desc := "(III)V" } : Jvm.MethodName)) ∈ lw_tbl := lw_at lw_m4 75 rfl
theorem q874 : (Jvm.Cond.instanceMethod ({ cls := "ApplyFree$Executor", name := "apart", desc := "(III)V" } : Jvm.MethodName)) ∈ lw_all := lw_g (lw_at lw_m4 76 rfl) rfl
theorem q875 : (Jvm.Cond.code ({ cls := "ApplyFree$Executor", name := "apart", desc := "(III)V" } : Jvm.MethodName) prog_2_method_18_code (7 : Nat) (Option.none : Option Jvm.ClassFile.FieldType)) ∈ lw_all := lw_g (lw_at lw_m4 77 rfl) rfl
theorem q876 : (Jvm.Cond.methodLink "ApplyFree$Executor" (138 : Nat) ({ cls := "ApplyFree$Executor", name := "unique", desc := "(II)V" } : Jvm.MethodName)) ∈ lw_all := lw_g (lw_at lw_m4 78 rfl) rfl
theorem q877 : (Jvm.Cond.privateMethod ({ cls := "ApplyFree$Executor", name := "unique", desc := "(II)V" } : Jvm.MethodName)) ∈ lw_tbl := lw_at lw_m4 79 rfl
theorem q878 : (Jvm.Cond.instanceMethod ({ cls := "ApplyFree$Executor", name := "unique", desc := "(II)V" } : Jvm.MethodName)) ∈ lw_all := lw_g (lw_at lw_m4 80 rfl) rfl
theorem q879 : (Jvm.Cond.code ({ cls := "ApplyFree$Executor", name := "unique", desc := "(II)V" } : Jvm.MethodName) prog_2_method_19_code (5 : Nat) (Option.none : Option Jvm.ClassFile.FieldType)) ∈ lw_all := lw_g (lw_at lw_m4 81 rfl) rfl
theorem q880 : (Jvm.Cond.methodLink "ApplyFree$Executor" (141 : Nat) ({ cls := "ApplyFree$Executor", name := "gather", desc := "(II)V" } : Jvm.MethodName)) ∈ lw_all := lw_g (lw_at lw_m4 82 rfl) rfl
theorem q881 : (Jvm.Cond.privateMethod ({ cls := "ApplyFree$Executor", name := "gather", desc := "(II)V" } : Jvm.MethodName)) ∈ lw_tbl := lw_at lw_m4 83 rfl
theorem q882 : (Jvm.Cond.instanceMethod ({ cls := "ApplyFree$Executor", name := "gather", desc := "(II)V" } : Jvm.MethodName)) ∈ lw_all := lw_g (lw_at lw_m4 84 rfl) rfl
theorem q883 : (Jvm.Cond.code ({ cls := "ApplyFree$Executor", name := "gather", desc := "(II)V" } : Jvm.MethodName) prog_2_method_20_code (10 : Nat) (Option.none : Option Jvm.ClassFile.FieldType)) ∈ lw_all := lw_g (lw_at lw_m4 85 rfl) rfl
theorem q884 : (Jvm.Cond.constant "ApplyFree$Executor" (206 : Nat) (-2147483648 : Int32)) ∈ lw_all := lw_g (lw_at lw_m4 86 rfl) rfl
theorem q885 : (Jvm.Cond.methodLink "ApplyFree$Executor" (207 : Nat) ({ cls := "ApplyFree$Executor", name := "folded", desc := "(IIII)I" } : Jvm.MethodName)) ∈ lw_all := lw_g (lw_at lw_m4 87 rfl) rfl
theorem q886 : (Jvm.Cond.privateMethod ({ cls := "ApplyFree$Executor", name := "folded", desc := "(IIII)I" } : Jvm.MethodName)) ∈ lw_tbl := lw_at lw_m4 88 rfl
theorem q887 : (Jvm.Cond.instanceMethod ({ cls := "ApplyFree$Executor", name := "folded", desc := "(IIII)I" } : Jvm.MethodName)) ∈ lw_all := lw_g (lw_at lw_m4 89 rfl) rfl
theorem q888 : (Jvm.Cond.code ({ cls := "ApplyFree$Executor", name := "folded", desc := "(IIII)I" } : Jvm.MethodName) prog_2_method_21_code (6 : Nat) (Option.some Jvm.ClassFile.FieldType.int)) ∈ lw_all := lw_g (lw_at lw_m4 90 rfl) rfl
theorem q889 : (Jvm.Cond.methodLink "ApplyFree$Executor" (144 : Nat) ({ cls := "ApplyFree$Executor", name := "top", desc := "(II)V" } : Jvm.MethodName)) ∈ lw_all := lw_g (lw_at lw_m4 91 rfl) rfl
theorem q890 : (Jvm.Cond.privateMethod ({ cls := "ApplyFree$Executor", name := "top", desc := "(II)V" } : Jvm.MethodName)) ∈ lw_tbl := lw_at lw_m4 92 rfl
theorem q891 : (Jvm.Cond.instanceMethod ({ cls := "ApplyFree$Executor", name := "top", desc := "(II)V" } : Jvm.MethodName)) ∈ lw_all := lw_g (lw_at lw_m4 93 rfl) rfl
theorem q892 : (Jvm.Cond.code ({ cls := "ApplyFree$Executor", name := "top", desc := "(II)V" } : Jvm.MethodName) prog_2_method_25_code (7 : Nat) (Option.none : Option Jvm.ClassFile.FieldType)) ∈ lw_all := lw_g (lw_at lw_m4 94 rfl) rfl
theorem q893 : (Jvm.Cond.methodLink "ApplyFree$Executor" (224 : Nat) ({ cls := "ApplyFree$Executor", name := "sort", desc := "(I)V" } : Jvm.MethodName)) ∈ lw_all := lw_g (lw_at lw_m4 95 rfl) rfl
theorem q894 : (Jvm.Cond.instanceMethod ({ cls := "ApplyFree$Executor", name := "sort", desc := "(I)V" } : Jvm.MethodName)) ∈ lw_all := lw_g (lw_at lw_m4 96 rfl) rfl
theorem q895 : (Jvm.Cond.selects "ApplyFree$Executor" ({ cls := "ApplyFree$Executor", name := "sort", desc := "(I)V" } : Jvm.MethodName) ({ cls := "ApplyFree$Executor", name := "sort", desc := "(I)V" } : Jvm.MethodName)) ∈ lw_all := lw_g (lw_at lw_m4 97 rfl) rfl
theorem q896 : (Jvm.Cond.code ({ cls := "ApplyFree$Executor", name := "sort", desc := "(I)V" } : Jvm.MethodName) prog_2_method_23_code (5 : Nat) (Option.none : Option Jvm.ClassFile.FieldType)) ∈ lw_all := lw_g (lw_at lw_m4 98 rfl) rfl
theorem q897 : (Jvm.Cond.methodLink "ApplyFree$Executor" (211 : Nat) ({ cls := "java/lang/Math", name := "min", desc := "(II)I" } : Jvm.MethodName)) ∈ lw_all := lw_g (lw_at lw_m4 99 rfl) rfl
theorem q900 : (Jvm.Cond.methodLink "ApplyFree$Executor" (216 : Nat) ({ cls := "ApplyFree$Executor", name := "merge", desc := "(IIII)V" } : Jvm.MethodName)) ∈ lw_all := lw_g (lw_at lw_m4 102 rfl) rfl
theorem q901 : (Jvm.Cond.privateMethod ({ cls := "ApplyFree$Executor", name := "merge", desc := "(IIII)V" } : Jvm.MethodName)) ∈ lw_tbl := lw_at lw_m4 103 rfl
theorem q902 : (Jvm.Cond.instanceMethod ({ cls := "ApplyFree$Executor", name := "merge", desc := "(IIII)V" } : Jvm.MethodName)) ∈ lw_all := lw_g (lw_at lw_m4 104 rfl) rfl
theorem q903 : (Jvm.Cond.code ({ cls := "ApplyFree$Executor", name := "merge", desc := "(IIII)V" } : Jvm.MethodName) prog_2_method_24_code (9 : Nat) (Option.none : Option Jvm.ClassFile.FieldType)) ∈ lw_all := lw_g (lw_at lw_m4 105 rfl) rfl
theorem q904 : (Jvm.Cond.methodLink "ApplyFree$Executor" (220 : Nat) ({ cls := "ApplyFree$Executor", name := "isBefore", desc := "(III)Z" } : Jvm.MethodName)) ∈ lw_all := lw_g (lw_at lw_m4 106 rfl) rfl
theorem q905 : (Jvm.Cond.privateMethod ({ cls := "ApplyFree$Executor", name := "isBefore", desc := "(III)Z" } : Jvm.MethodName)) ∈ lw_tbl := lw_at lw_m4 107 rfl
theorem q906 : (Jvm.Cond.instanceMethod ({ cls := "ApplyFree$Executor", name := "isBefore", desc := "(III)Z" } : Jvm.MethodName)) ∈ lw_all := lw_g (lw_at lw_m4 108 rfl) rfl
theorem q907 : (Jvm.Cond.code ({ cls := "ApplyFree$Executor", name := "isBefore", desc := "(III)Z" } : Jvm.MethodName) prog_2_method_22_code (7 : Nat) (Option.some Jvm.ClassFile.FieldType.boolean)) ∈ lw_all := lw_g (lw_at lw_m4 109 rfl) rfl
theorem q908 : (Jvm.Cond.methodLink "ApplyFree$Executor" (96 : Nat) ({ cls := "ApplyFree$Executor", name := "tidy", desc := "(I)V" } : Jvm.MethodName)) ∈ lw_all := lw_g (lw_at lw_m4 110 rfl) rfl
theorem q909 : (Jvm.Cond.privateMethod ({ cls := "ApplyFree$Executor", name := "tidy", desc := "(I)V" } : Jvm.MethodName)) ∈ lw_tbl := lw_at lw_m4 111 rfl
theorem q910 : (Jvm.Cond.instanceMethod ({ cls := "ApplyFree$Executor", name := "tidy", desc := "(I)V" } : Jvm.MethodName)) ∈ lw_all := lw_g (lw_at lw_m4 112 rfl) rfl
theorem q911 : (Jvm.Cond.code ({ cls := "ApplyFree$Executor", name := "tidy", desc := "(I)V" } : Jvm.MethodName) prog_2_method_4_code (7 : Nat) (Option.none : Option Jvm.ClassFile.FieldType)) ∈ lw_all := lw_g (lw_at lw_m4 113 rfl) rfl
theorem q914 : (Jvm.Cond.instanceMethod ({ cls := "ApplyFree$Executor", name := "cell", desc := "(III)I" } : Jvm.MethodName)) ∈ lw_all := lw_g (lw_at lw_m4 116 rfl) rfl
theorem q915 : (Jvm.Cond.selects "ApplyFree$Executor" ({ cls := "ApplyFree$Executor", name := "cell", desc := "(III)I" } : Jvm.MethodName) ({ cls := "ApplyFree$Executor", name := "cell", desc := "(III)I" } : Jvm.MethodName)) ∈ lw_all := lw_g (lw_at lw_m4 117 rfl) rfl
theorem q916 : (Jvm.Cond.code ({ cls := "ApplyFree$Executor", name := "cell", desc := "(III)I" } : Jvm.MethodName) prog_2_method_5_code (4 : Nat) (Option.some Jvm.ClassFile.FieldType.int)) ∈ lw_all := lw_g (lw_at lw_m4 118 rfl) rfl
theorem in_X5 : ∀ w ∈ wsX50, w ∈ lw_all := lw_in wsX50 [351, 353, 355, 357, 359, 361, 363, 365, 367, 369, 371, 373, 375, 377, 379, 381, 383] (by decide +kernel) (by decide +kernel)

/-! ApplyFree$Reckoner -/
set_option maxRecDepth 100000
def RX6 : String := "ApplyFree$Reckoner"
def TX6 : u_T := fun k => match k with
  | _ => ("ApplyFree$Reckoner", "stack", "[I", true)
def tyX6 : Nat → FieldType := fun k => match k with
  | _ => .array .int
abbrev wsX60 : List Cond := u_ws RX6 TX6 1
theorem nmX6 : ∀ a, a < 1 → ∀ b, b < 1 → a ≠ b → (TX6 a).2.1 ≠ (TX6 b).2.1 := by decide +kernel
theorem tyX6_ok : ∀ k, k < 1 → parseFieldDescriptor (TX6 k).2.2.1 = some (tyX6 k) := by decide +kernel
abbrev cX6_init : ByteArray := prog_4_method_1_code
def yX6_init : MethodName := ⟨RX6, "<init>", "()V"⟩
abbrev cX6_run : ByteArray := prog_4_method_7_code
def yX6_run : MethodName := ⟨RX6, "run", "([III[II)I"⟩
abbrev cX6_asTruth : ByteArray := prog_4_method_2_code
def yX6_asTruth : MethodName := ⟨RX6, "asTruth", "(Z)I"⟩
abbrev cX6_test : ByteArray := prog_4_method_4_code
def yX6_test : MethodName := ⟨RX6, "test", "(III)I"⟩
abbrev cX6_compare : ByteArray := prog_4_method_3_code
def yX6_compare : MethodName := ⟨RX6, "compare", "(III)I"⟩
abbrev cX6_logic : ByteArray := prog_4_method_6_code
def yX6_logic : MethodName := ⟨RX6, "logic", "(III)I"⟩
abbrev cX6_reckon : ByteArray := prog_4_method_5_code
def yX6_reckon : MethodName := ⟨RX6, "reckon", "(III)I"⟩
theorem q85 : (Jvm.Cond.initialized "ApplyFree$Reckoner") ∈ lw_all := lw_g (lw_at lw_m1 7 rfl) rfl
theorem q271 : (Jvm.Cond.instantiable "ApplyFree$Reckoner" (1 : Nat)) ∈ lw_all := lw_g (lw_at lw_m1 193 rfl) rfl
theorem q273 : (Jvm.Cond.instanceMethod ({ cls := "ApplyFree$Reckoner", name := "<init>", desc := "()V" } : Jvm.MethodName)) ∈ lw_all := lw_g (lw_at lw_m1 195 rfl) rfl
theorem q274 : (Jvm.Cond.code ({ cls := "ApplyFree$Reckoner", name := "<init>", desc := "()V" } : Jvm.MethodName) prog_4_method_1_code (1 : Nat) (Option.none : Option Jvm.ClassFile.FieldType)) ∈ lw_all := lw_g (lw_at lw_m1 196 rfl) rfl
theorem q275 : (Jvm.Cond.methodLink "ApplyFree$Reckoner" (3 : Nat) ({ cls := "java/lang/Object", name := "<init>", desc := "()V" } : Jvm.MethodName)) ∈ lw_all := lw_g (lw_at lw_m1 197 rfl) rfl
theorem q276 : (Jvm.Cond.fieldLink "ApplyFree$Reckoner" (9 : Nat) "ApplyFree$Reckoner" "stack" "[I") ∈ lw_all := lw_g (lw_at lw_m1 198 rfl) rfl
theorem q277 : (Jvm.Cond.laysFinal "ApplyFree$Reckoner" "ApplyFree$Reckoner" "stack" "[I") ∈ lw_all := lw_g (lw_at lw_m1 199 rfl) rfl
theorem q278 : (Jvm.Cond.soleField "ApplyFree$Reckoner" "stack") ∈ lw_all := lw_g (lw_at lw_m1 200 rfl) rfl
theorem q279 : (Jvm.Cond.superclass "ApplyFree$Reckoner" "java/lang/Object") ∈ lw_all := lw_g (lw_at lw_m1 201 rfl) rfl
theorem q812 : (Jvm.Cond.instanceMethod ({ cls := "ApplyFree$Reckoner", name := "run", desc := "([III[II)I" } : Jvm.MethodName)) ∈ lw_all := lw_g (lw_at lw_m4 14 rfl) rfl
theorem q813 : (Jvm.Cond.selects "ApplyFree$Reckoner" ({ cls := "ApplyFree$Reckoner", name := "run", desc := "([III[II)I" } : Jvm.MethodName) ({ cls := "ApplyFree$Reckoner", name := "run", desc := "([III[II)I" } : Jvm.MethodName)) ∈ lw_all := lw_g (lw_at lw_m4 15 rfl) rfl
theorem q814 : (Jvm.Cond.code ({ cls := "ApplyFree$Reckoner", name := "run", desc := "([III[II)I" } : Jvm.MethodName) prog_4_method_7_code (13 : Nat) (Option.some Jvm.ClassFile.FieldType.int)) ∈ lw_all := lw_g (lw_at lw_m4 16 rfl) rfl
theorem q815 : (Jvm.Cond.constant "ApplyFree$Reckoner" (15 : Nat) (-2147483648 : Int32)) ∈ lw_all := lw_g (lw_at lw_m4 17 rfl) rfl
theorem q816 : (Jvm.Cond.methodLink "ApplyFree$Reckoner" (16 : Nat) ({ cls := "ApplyFree$Reckoner", name := "asTruth", desc := "(Z)I" } : Jvm.MethodName)) ∈ lw_all := lw_g (lw_at lw_m4 18 rfl) rfl
theorem q817 : (Jvm.Cond.static ({ cls := "ApplyFree$Reckoner", name := "asTruth", desc := "(Z)I" } : Jvm.MethodName)) ∈ lw_all := lw_g (lw_at lw_m4 19 rfl) rfl
theorem q818 : (Jvm.Cond.code ({ cls := "ApplyFree$Reckoner", name := "asTruth", desc := "(Z)I" } : Jvm.MethodName) prog_4_method_2_code (1 : Nat) (Option.some Jvm.ClassFile.FieldType.int)) ∈ lw_all := lw_g (lw_at lw_m4 20 rfl) rfl
theorem q819 : (Jvm.Cond.methodLink "ApplyFree$Reckoner" (24 : Nat) ({ cls := "ApplyFree$Reckoner", name := "test", desc := "(III)I" } : Jvm.MethodName)) ∈ lw_all := lw_g (lw_at lw_m4 21 rfl) rfl
theorem q820 : (Jvm.Cond.static ({ cls := "ApplyFree$Reckoner", name := "test", desc := "(III)I" } : Jvm.MethodName)) ∈ lw_all := lw_g (lw_at lw_m4 22 rfl) rfl
theorem q821 : (Jvm.Cond.code ({ cls := "ApplyFree$Reckoner", name := "test", desc := "(III)I" } : Jvm.MethodName) prog_4_method_4_code (4 : Nat) (Option.some Jvm.ClassFile.FieldType.int)) ∈ lw_all := lw_g (lw_at lw_m4 23 rfl) rfl
theorem q822 : (Jvm.Cond.methodLink "ApplyFree$Reckoner" (20 : Nat) ({ cls := "ApplyFree$Reckoner", name := "compare", desc := "(III)I" } : Jvm.MethodName)) ∈ lw_all := lw_g (lw_at lw_m4 24 rfl) rfl
theorem q823 : (Jvm.Cond.static ({ cls := "ApplyFree$Reckoner", name := "compare", desc := "(III)I" } : Jvm.MethodName)) ∈ lw_all := lw_g (lw_at lw_m4 25 rfl) rfl
theorem q824 : (Jvm.Cond.code ({ cls := "ApplyFree$Reckoner", name := "compare", desc := "(III)I" } : Jvm.MethodName) prog_4_method_3_code (3 : Nat) (Option.some Jvm.ClassFile.FieldType.int)) ∈ lw_all := lw_g (lw_at lw_m4 26 rfl) rfl
theorem q825 : (Jvm.Cond.methodLink "ApplyFree$Reckoner" (27 : Nat) ({ cls := "ApplyFree$Reckoner", name := "logic", desc := "(III)I" } : Jvm.MethodName)) ∈ lw_all := lw_g (lw_at lw_m4 27 rfl) rfl
theorem q826 : (Jvm.Cond.static ({ cls := "ApplyFree$Reckoner", name := "logic", desc := "(III)I" } : Jvm.MethodName)) ∈ lw_all := lw_g (lw_at lw_m4 28 rfl) rfl
theorem q827 : (Jvm.Cond.code ({ cls := "ApplyFree$Reckoner", name := "logic", desc := "(III)I" } : Jvm.MethodName) prog_4_method_6_code (4 : Nat) (Option.some Jvm.ClassFile.FieldType.int)) ∈ lw_all := lw_g (lw_at lw_m4 29 rfl) rfl
theorem q828 : (Jvm.Cond.methodLink "ApplyFree$Reckoner" (30 : Nat) ({ cls := "ApplyFree$Reckoner", name := "reckon", desc := "(III)I" } : Jvm.MethodName)) ∈ lw_all := lw_g (lw_at lw_m4 30 rfl) rfl
theorem q829 : (Jvm.Cond.static ({ cls := "ApplyFree$Reckoner", name := "reckon", desc := "(III)I" } : Jvm.MethodName)) ∈ lw_all := lw_g (lw_at lw_m4 31 rfl) rfl
theorem q830 : (Jvm.Cond.code ({ cls := "ApplyFree$Reckoner", name := "reckon", desc := "(III)I" } : Jvm.MethodName) prog_4_method_5_code (3 : Nat) (Option.some Jvm.ClassFile.FieldType.int)) ∈ lw_all := lw_g (lw_at lw_m4 32 rfl) rfl
theorem in_X6 : ∀ w ∈ wsX60, w ∈ lw_all := lw_in wsX60 [277] (by decide +kernel) (by decide +kernel)

/-! ApplyFree$Index -/
set_option maxRecDepth 100000
def RX7 : String := "ApplyFree$Index"
def TX7 : u_T := fun k => match k with
  | 0 => ("ApplyFree$Index", "heads", "[I", true)
  | 1 => ("ApplyFree$Index", "nexts", "[I", true)
  | 2 => ("ApplyFree$Index", "firsts", "[I", true)
  | 3 => ("ApplyFree$Index", "lasts", "[I", true)
  | 4 => ("ApplyFree$Index", "counts", "[I", true)
  | 5 => ("ApplyFree$Index", "rows", "[I", true)
  | 6 => ("ApplyFree$Index", "keys", "I", false)
  | 7 => ("ApplyFree$Index", "cells", "[I", false)
  | 8 => ("ApplyFree$Index", "start", "I", false)
  | 9 => ("ApplyFree$Index", "width", "I", false)
  | 10 => ("ApplyFree$Index", "list", "[I", false)
  | 11 => ("ApplyFree$Index", "from", "I", false)
  | _ => ("ApplyFree$Index", "size", "I", false)
def tyX7 : Nat → FieldType := fun k => match k with
  | 0 => .array .int
  | 1 => .array .int
  | 2 => .array .int
  | 3 => .array .int
  | 4 => .array .int
  | 5 => .array .int
  | 6 => .int
  | 7 => .array .int
  | 8 => .int
  | 9 => .int
  | 10 => .array .int
  | 11 => .int
  | _ => .int
abbrev wsX70 : List Cond := u_ws RX7 TX7 13
set_option maxRecDepth 100000 in
theorem nmX7 : ∀ a, a < 13 → ∀ b, b < 13 → a ≠ b → (TX7 a).2.1 ≠ (TX7 b).2.1 := by decide +kernel
set_option maxRecDepth 100000 in
theorem tyX7_ok : ∀ k, k < 13 → parseFieldDescriptor (TX7 k).2.2.1 = some (tyX7 k) := by decide +kernel
abbrev cX7_init : ByteArray := prog_3_method_1_code
def yX7_init : MethodName := ⟨RX7, "<init>", "()V"⟩
abbrev cX7_begin : ByteArray := prog_3_method_2_code
def yX7_begin : MethodName := ⟨RX7, "begin", "([III[III)V"⟩
abbrev cX7_add : ByteArray := prog_3_method_6_code
def yX7_add : MethodName := ⟨RX7, "add", "(I)I"⟩
abbrev cX7_find : ByteArray := prog_3_method_3_code
def yX7_find : MethodName := ⟨RX7, "find", "([II[II)I"⟩
abbrev cX7_hash : ByteArray := prog_3_method_4_code
def yX7_hash : MethodName := ⟨RX7, "hash", "([II[II)I"⟩
abbrev cX7_isKey : ByteArray := prog_3_method_5_code
def yX7_isKey : MethodName := ⟨RX7, "isKey", "(I[II[II)Z"⟩
theorem q86 : (Jvm.Cond.initialized "ApplyFree$Index") ∈ lw_all := lw_g (lw_at lw_m1 8 rfl) rfl
theorem q281 : (Jvm.Cond.instantiable "ApplyFree$Index" (13 : Nat)) ∈ lw_all := lw_g (lw_at lw_m1 203 rfl) rfl
theorem q283 : (Jvm.Cond.instanceMethod ({ cls := "ApplyFree$Index", name := "<init>", desc := "()V" } : Jvm.MethodName)) ∈ lw_all := lw_g (lw_at lw_m1 205 rfl) rfl
theorem q284 : (Jvm.Cond.code ({ cls := "ApplyFree$Index", name := "<init>", desc := "()V" } : Jvm.MethodName) prog_3_method_1_code (1 : Nat) (Option.none : Option Jvm.ClassFile.FieldType)) ∈ lw_all := lw_g (lw_at lw_m1 206 rfl) rfl
theorem q285 : (Jvm.Cond.methodLink "ApplyFree$Index" (3 : Nat) ({ cls := "java/lang/Object", name := "<init>", desc := "()V" } : Jvm.MethodName)) ∈ lw_all := lw_g (lw_at lw_m1 207 rfl) rfl
theorem q286 : (Jvm.Cond.fieldLink "ApplyFree$Index" (11 : Nat) "ApplyFree$Index" "heads" "[I") ∈ lw_all := lw_g (lw_at lw_m1 208 rfl) rfl
theorem q287 : (Jvm.Cond.fieldLink "ApplyFree$Index" (15 : Nat) "ApplyFree$Index" "nexts" "[I") ∈ lw_all := lw_g (lw_at lw_m1 209 rfl) rfl
theorem q288 : (Jvm.Cond.fieldLink "ApplyFree$Index" (18 : Nat) "ApplyFree$Index" "firsts" "[I") ∈ lw_all := lw_g (lw_at lw_m1 210 rfl) rfl
theorem q290 : (Jvm.Cond.fieldLink "ApplyFree$Index" (21 : Nat) "ApplyFree$Index" "lasts" "[I") ∈ lw_all := lw_g (lw_at lw_m1 212 rfl) rfl
theorem q291 : (Jvm.Cond.fieldLink "ApplyFree$Index" (24 : Nat) "ApplyFree$Index" "counts" "[I") ∈ lw_all := lw_g (lw_at lw_m1 213 rfl) rfl
theorem q293 : (Jvm.Cond.fieldLink "ApplyFree$Index" (27 : Nat) "ApplyFree$Index" "rows" "[I") ∈ lw_all := lw_g (lw_at lw_m1 215 rfl) rfl
theorem q295 : (Jvm.Cond.fieldLink "ApplyFree$Index" (49 : Nat) "ApplyFree$Index" "keys" "I") ∈ lw_all := lw_g (lw_at lw_m1 217 rfl) rfl
theorem q297 : (Jvm.Cond.fieldLink "ApplyFree$Index" (30 : Nat) "ApplyFree$Index" "cells" "[I") ∈ lw_all := lw_g (lw_at lw_m1 219 rfl) rfl
theorem q298 : (Jvm.Cond.fieldLink "ApplyFree$Index" (33 : Nat) "ApplyFree$Index" "start" "I") ∈ lw_all := lw_g (lw_at lw_m1 220 rfl) rfl
theorem q299 : (Jvm.Cond.fieldLink "ApplyFree$Index" (37 : Nat) "ApplyFree$Index" "width" "I") ∈ lw_all := lw_g (lw_at lw_m1 221 rfl) rfl
theorem q300 : (Jvm.Cond.fieldLink "ApplyFree$Index" (40 : Nat) "ApplyFree$Index" "list" "[I") ∈ lw_all := lw_g (lw_at lw_m1 222 rfl) rfl
theorem q301 : (Jvm.Cond.fieldLink "ApplyFree$Index" (43 : Nat) "ApplyFree$Index" "from" "I") ∈ lw_all := lw_g (lw_at lw_m1 223 rfl) rfl
theorem q302 : (Jvm.Cond.fieldLink "ApplyFree$Index" (46 : Nat) "ApplyFree$Index" "size" "I") ∈ lw_all := lw_g (lw_at lw_m1 224 rfl) rfl
theorem q303 : (Jvm.Cond.laysFinal "ApplyFree$Index" "ApplyFree$Index" "heads" "[I") ∈ lw_all := lw_g (lw_at lw_m1 225 rfl) rfl
theorem q304 : (Jvm.Cond.soleField "ApplyFree$Index" "heads") ∈ lw_all := lw_g (lw_at lw_m1 226 rfl) rfl
theorem q305 : (Jvm.Cond.laysFinal "ApplyFree$Index" "ApplyFree$Index" "nexts" "[I") ∈ lw_all := lw_g (lw_at lw_m1 227 rfl) rfl
theorem q306 : (Jvm.Cond.soleField "ApplyFree$Index" "nexts") ∈ lw_all := lw_g (lw_at lw_m1 228 rfl) rfl
theorem q307 : (Jvm.Cond.laysFinal "ApplyFree$Index" "ApplyFree$Index" "firsts" "[I") ∈ lw_all := lw_g (lw_at lw_m1 229 rfl) rfl
theorem q308 : (Jvm.Cond.soleField "ApplyFree$Index" "firsts") ∈ lw_all := lw_g (lw_at lw_m1 230 rfl) rfl
theorem q309 : (Jvm.Cond.laysFinal "ApplyFree$Index" "ApplyFree$Index" "lasts" "[I") ∈ lw_all := lw_g (lw_at lw_m1 231 rfl) rfl
theorem q310 : (Jvm.Cond.soleField "ApplyFree$Index" "lasts") ∈ lw_all := lw_g (lw_at lw_m1 232 rfl) rfl
theorem q311 : (Jvm.Cond.laysFinal "ApplyFree$Index" "ApplyFree$Index" "counts" "[I") ∈ lw_all := lw_g (lw_at lw_m1 233 rfl) rfl
theorem q312 : (Jvm.Cond.soleField "ApplyFree$Index" "counts") ∈ lw_all := lw_g (lw_at lw_m1 234 rfl) rfl
theorem q313 : (Jvm.Cond.laysFinal "ApplyFree$Index" "ApplyFree$Index" "rows" "[I") ∈ lw_all := lw_g (lw_at lw_m1 235 rfl) rfl
theorem q314 : (Jvm.Cond.soleField "ApplyFree$Index" "rows") ∈ lw_all := lw_g (lw_at lw_m1 236 rfl) rfl
theorem q315 : (Jvm.Cond.lays "ApplyFree$Index" "ApplyFree$Index" "keys" "I") ∈ lw_all := lw_g (lw_at lw_m1 237 rfl) rfl
theorem q316 : (Jvm.Cond.soleField "ApplyFree$Index" "keys") ∈ lw_all := lw_g (lw_at lw_m1 238 rfl) rfl
theorem q317 : (Jvm.Cond.lays "ApplyFree$Index" "ApplyFree$Index" "cells" "[I") ∈ lw_all := lw_g (lw_at lw_m1 239 rfl) rfl
theorem q318 : (Jvm.Cond.soleField "ApplyFree$Index" "cells") ∈ lw_all := lw_g (lw_at lw_m2 0 rfl) rfl
theorem q319 : (Jvm.Cond.lays "ApplyFree$Index" "ApplyFree$Index" "start" "I") ∈ lw_all := lw_g (lw_at lw_m2 1 rfl) rfl
theorem q320 : (Jvm.Cond.soleField "ApplyFree$Index" "start") ∈ lw_all := lw_g (lw_at lw_m2 2 rfl) rfl
theorem q321 : (Jvm.Cond.lays "ApplyFree$Index" "ApplyFree$Index" "width" "I") ∈ lw_all := lw_g (lw_at lw_m2 3 rfl) rfl
theorem q322 : (Jvm.Cond.soleField "ApplyFree$Index" "width") ∈ lw_all := lw_g (lw_at lw_m2 4 rfl) rfl
theorem q323 : (Jvm.Cond.lays "ApplyFree$Index" "ApplyFree$Index" "list" "[I") ∈ lw_all := lw_g (lw_at lw_m2 5 rfl) rfl
theorem q324 : (Jvm.Cond.soleField "ApplyFree$Index" "list") ∈ lw_all := lw_g (lw_at lw_m2 6 rfl) rfl
theorem q325 : (Jvm.Cond.lays "ApplyFree$Index" "ApplyFree$Index" "from" "I") ∈ lw_all := lw_g (lw_at lw_m2 7 rfl) rfl
theorem q326 : (Jvm.Cond.soleField "ApplyFree$Index" "from") ∈ lw_all := lw_g (lw_at lw_m2 8 rfl) rfl
theorem q327 : (Jvm.Cond.lays "ApplyFree$Index" "ApplyFree$Index" "size" "I") ∈ lw_all := lw_g (lw_at lw_m2 9 rfl) rfl
theorem q328 : (Jvm.Cond.soleField "ApplyFree$Index" "size") ∈ lw_all := lw_g (lw_at lw_m2 10 rfl) rfl
theorem q329 : (Jvm.Cond.superclass "ApplyFree$Index" "java/lang/Object") ∈ lw_all := lw_g (lw_at lw_m2 11 rfl) rfl
theorem q848 : (Jvm.Cond.instanceMethod ({ cls := "ApplyFree$Index", name := "begin", desc := "([III[III)V" } : Jvm.MethodName)) ∈ lw_all := lw_g (lw_at lw_m4 50 rfl) rfl
theorem q849 : (Jvm.Cond.selects "ApplyFree$Index" ({ cls := "ApplyFree$Index", name := "begin", desc := "([III[III)V" } : Jvm.MethodName) ({ cls := "ApplyFree$Index", name := "begin", desc := "([III[III)V" } : Jvm.MethodName)) ∈ lw_all := lw_g (lw_at lw_m4 51 rfl) rfl
theorem q850 : (Jvm.Cond.code ({ cls := "ApplyFree$Index", name := "begin", desc := "([III[III)V" } : Jvm.MethodName) prog_3_method_2_code (8 : Nat) (Option.none : Option Jvm.ClassFile.FieldType)) ∈ lw_all := lw_g (lw_at lw_m4 52 rfl) rfl
theorem q852 : (Jvm.Cond.instanceMethod ({ cls := "ApplyFree$Index", name := "add", desc := "(I)I" } : Jvm.MethodName)) ∈ lw_all := lw_g (lw_at lw_m4 54 rfl) rfl
theorem q853 : (Jvm.Cond.selects "ApplyFree$Index" ({ cls := "ApplyFree$Index", name := "add", desc := "(I)I" } : Jvm.MethodName) ({ cls := "ApplyFree$Index", name := "add", desc := "(I)I" } : Jvm.MethodName)) ∈ lw_all := lw_g (lw_at lw_m4 55 rfl) rfl
theorem q854 : (Jvm.Cond.code ({ cls := "ApplyFree$Index", name := "add", desc := "(I)I" } : Jvm.MethodName) prog_3_method_6_code (5 : Nat) (Option.some Jvm.ClassFile.FieldType.int)) ∈ lw_all := lw_g (lw_at lw_m4 56 rfl) rfl
theorem q855 : (Jvm.Cond.methodLink "ApplyFree$Index" (60 : Nat) ({ cls := "ApplyFree$Index", name := "find", desc := "([II[II)I" } : Jvm.MethodName)) ∈ lw_all := lw_g (lw_at lw_m4 57 rfl) rfl
theorem q856 : (Jvm.Cond.instanceMethod ({ cls := "ApplyFree$Index", name := "find", desc := "([II[II)I" } : Jvm.MethodName)) ∈ lw_all := lw_g (lw_at lw_m4 58 rfl) rfl
theorem q857 : (Jvm.Cond.selects "ApplyFree$Index" ({ cls := "ApplyFree$Index", name := "find", desc := "([II[II)I" } : Jvm.MethodName) ({ cls := "ApplyFree$Index", name := "find", desc := "([II[II)I" } : Jvm.MethodName)) ∈ lw_all := lw_g (lw_at lw_m4 59 rfl) rfl
theorem q858 : (Jvm.Cond.code ({ cls := "ApplyFree$Index", name := "find", desc := "([II[II)I" } : Jvm.MethodName) prog_3_method_3_code (6 : Nat) (Option.some Jvm.ClassFile.FieldType.int)) ∈ lw_all := lw_g (lw_at lw_m4 60 rfl) rfl
theorem q859 : (Jvm.Cond.methodLink "ApplyFree$Index" (52 : Nat) ({ cls := "ApplyFree$Index", name := "hash", desc := "([II[II)I" } : Jvm.MethodName)) ∈ lw_all := lw_g (lw_at lw_m4 61 rfl) rfl
theorem q860 : (Jvm.Cond.privateMethod ({ cls := "ApplyFree$Index", name := "hash", desc := "([II[II)I" } : Jvm.MethodName)) ∈ lw_tbl := lw_at lw_m4 62 rfl
theorem q861 : (Jvm.Cond.instanceMethod ({ cls := "ApplyFree$Index", name := "hash", desc := "([II[II)I" } : Jvm.MethodName)) ∈ lw_all := lw_g (lw_at lw_m4 63 rfl) rfl
theorem q862 : (Jvm.Cond.code ({ cls := "ApplyFree$Index", name := "hash", desc := "([II[II)I" } : Jvm.MethodName) prog_3_method_4_code (7 : Nat) (Option.some Jvm.ClassFile.FieldType.int)) ∈ lw_all := lw_g (lw_at lw_m4 64 rfl) rfl
theorem q863 : (Jvm.Cond.methodLink "ApplyFree$Index" (56 : Nat) ({ cls := "ApplyFree$Index", name := "isKey", desc := "(I[II[II)Z" } : Jvm.MethodName)) ∈ lw_all := lw_g (lw_at lw_m4 65 rfl) rfl
theorem q864 : (Jvm.Cond.privateMethod ({ cls := "ApplyFree$Index", name := "isKey", desc := "(I[II[II)Z" } : Jvm.MethodName)) ∈ lw_tbl := lw_at lw_m4 66 rfl
theorem q865 : (Jvm.Cond.instanceMethod ({ cls := "ApplyFree$Index", name := "isKey", desc := "(I[II[II)Z" } : Jvm.MethodName)) ∈ lw_all := lw_g (lw_at lw_m4 67 rfl) rfl
theorem q866 : (Jvm.Cond.code ({ cls := "ApplyFree$Index", name := "isKey", desc := "(I[II[II)Z" } : Jvm.MethodName) prog_3_method_5_code (9 : Nat) (Option.some Jvm.ClassFile.FieldType.boolean)) ∈ lw_all := lw_g (lw_at lw_m4 68 rfl) rfl
theorem in_X7 : ∀ w ∈ wsX70, w ∈ lw_all := lw_in wsX70 [303, 305, 307, 309, 311, 313, 315, 317, 319, 321, 323, 325, 327] (by decide +kernel) (by decide +kernel)

/-! ApplyFreeModel -/
set_option maxRecDepth 100000
def RX8 : String := "ApplyFreeModel"
def TX8 : u_T := fun k => match k with
  | 0 => ("ApplyFreeModel", "tables", "I", false)
  | 1 => ("ApplyFreeModel", "tableWide", "[I", true)
  | 2 => ("ApplyFreeModel", "tableRows", "[I", true)
  | 3 => ("ApplyFreeModel", "tableCells", "[I", true)
  | 4 => ("ApplyFreeModel", "terms", "I", false)
  | 5 => ("ApplyFreeModel", "what", "[I", true)
  | 6 => ("ApplyFreeModel", "sort", "[I", true)
  | 7 => ("ApplyFreeModel", "wide", "[I", true)
  | 8 => ("ApplyFreeModel", "one", "[I", true)
  | 9 => ("ApplyFreeModel", "two", "[I", true)
  | 10 => ("ApplyFreeModel", "three", "[I", true)
  | 11 => ("ApplyFreeModel", "four", "[I", true)
  | 12 => ("ApplyFreeModel", "looks", "[I", true)
  | 13 => ("ApplyFreeModel", "sizes", "[J", true)
  | 14 => ("ApplyFreeModel", "costs", "[J", true)
  | 15 => ("ApplyFreeModel", "answerRows", "I", false)
  | 16 => ("ApplyFreeModel", "answerWide", "I", false)
  | 17 => ("ApplyFreeModel", "answer", "[I", true)
  | 18 => ("ApplyFreeModel", "room", "[I", true)
  | 19 => ("ApplyFreeModel", "top", "I", false)
  | 20 => ("ApplyFreeModel", "around", "[I", true)
  | _ => ("ApplyFreeModel", "deep", "I", false)
def tyX8 : Nat → FieldType := fun k => match k with
  | 0 => .int
  | 1 => .array .int
  | 2 => .array .int
  | 3 => .array .int
  | 4 => .int
  | 5 => .array .int
  | 6 => .array .int
  | 7 => .array .int
  | 8 => .array .int
  | 9 => .array .int
  | 10 => .array .int
  | 11 => .array .int
  | 12 => .array .int
  | 13 => .array .long
  | 14 => .array .long
  | 15 => .int
  | 16 => .int
  | 17 => .array .int
  | 18 => .array .int
  | 19 => .int
  | 20 => .array .int
  | _ => .int
abbrev wsX80 : List Cond := u_ws RX8 TX8 22
set_option maxRecDepth 100000 in
theorem nmX8 : ∀ a, a < 22 → ∀ b, b < 22 → a ≠ b → (TX8 a).2.1 ≠ (TX8 b).2.1 := by decide +kernel
set_option maxRecDepth 100000 in
theorem tyX8_ok : ∀ k, k < 22 → parseFieldDescriptor (TX8 k).2.2.1 = some (tyX8 k) := by decide +kernel
abbrev cX8_init : ByteArray := prog_11_method_1_code
def yX8_init : MethodName := ⟨RX8, "<init>", "()V"⟩
abbrev cX8_table : ByteArray := prog_11_method_3_code
def yX8_table : MethodName := ⟨RX8, "table", "(I)I"⟩
abbrev cX8_isIn : ByteArray := prog_11_method_2_code
def yX8_isIn : MethodName := ⟨RX8, "isIn", "(III)Z"⟩
abbrev cX8_row : ByteArray := prog_11_method_4_code
def yX8_row : MethodName := ⟨RX8, "row", "(IIIII)I"⟩
abbrev cX8_empty : ByteArray := prog_11_method_5_code
def yX8_empty : MethodName := ⟨RX8, "empty", "(I)I"⟩
abbrev cX8_constant : ByteArray := prog_11_method_11_code
def yX8_constant : MethodName := ⟨RX8, "constant", "(I)I"⟩
abbrev cX8_make : ByteArray := prog_11_method_7_code
def yX8_make : MethodName := ⟨RX8, "make", "(IIIIIII)I"⟩
abbrev cX8_column : ByteArray := prog_11_method_12_code
def yX8_column : MethodName := ⟨RX8, "column", "(II)I"⟩
abbrev cX8_reckon : ByteArray := prog_11_method_13_code
def yX8_reckon : MethodName := ⟨RX8, "reckon", "(III)I"⟩
abbrev cX8_is : ByteArray := prog_11_method_6_code
def yX8_is : MethodName := ⟨RX8, "is", "(II)Z"⟩
abbrev cX8_looksAs : ByteArray := prog_11_method_8_code
def yX8_looksAs : MethodName := ⟨RX8, "looksAs", "(II)V"⟩
abbrev cX8_number : ByteArray := prog_11_method_14_code
def yX8_number : MethodName := ⟨RX8, "number", "(I)I"⟩
abbrev cX8_fold : ByteArray := prog_11_method_15_code
def yX8_fold : MethodName := ⟨RX8, "fold", "(III)I"⟩
abbrev cX8_compare : ByteArray := prog_11_method_16_code
def yX8_compare : MethodName := ⟨RX8, "compare", "(III)I"⟩
abbrev cX8_isNothing : ByteArray := prog_11_method_17_code
def yX8_isNothing : MethodName := ⟨RX8, "isNothing", "(I)I"⟩
abbrev cX8_logic : ByteArray := prog_11_method_18_code
def yX8_logic : MethodName := ⟨RX8, "logic", "(III)I"⟩
abbrev cX8_has : ByteArray := prog_11_method_19_code
def yX8_has : MethodName := ⟨RX8, "has", "(I)I"⟩
abbrev cX8_some : ByteArray := prog_11_method_21_code
def yX8_some : MethodName := ⟨RX8, "some", "(III)I"⟩
abbrev cX8_quantity : ByteArray := prog_11_method_20_code
def yX8_quantity : MethodName := ⟨RX8, "quantity", "(IIII)I"⟩
abbrev cX8_each : ByteArray := prog_11_method_22_code
def yX8_each : MethodName := ⟨RX8, "each", "(III)I"⟩
abbrev cX8_scan : ByteArray := prog_11_method_23_code
def yX8_scan : MethodName := ⟨RX8, "scan", "(I)I"⟩
abbrev cX8_filter : ByteArray := prog_11_method_24_code
def yX8_filter : MethodName := ⟨RX8, "filter", "(II)I"⟩
abbrev cX8_fits : ByteArray := prog_11_method_10_code
def yX8_fits : MethodName := ⟨RX8, "fits", "(II)Z"⟩
abbrev cX8_looksWithin : ByteArray := prog_11_method_9_code
def yX8_looksWithin : MethodName := ⟨RX8, "looksWithin", "(II)V"⟩
abbrev cX8_more : ByteArray := prog_11_method_25_code
def yX8_more : MethodName := ⟨RX8, "more", "(II)I"⟩
abbrev cX8_only : ByteArray := prog_11_method_26_code
def yX8_only : MethodName := ⟨RX8, "only", "(III)I"⟩
abbrev cX8_pairs : ByteArray := prog_11_method_27_code
def yX8_pairs : MethodName := ⟨RX8, "pairs", "(II)I"⟩
abbrev cX8_apply : ByteArray := prog_11_method_28_code
def yX8_apply : MethodName := ⟨RX8, "apply", "(III)I"⟩
abbrev cX8_both : ByteArray := prog_11_method_29_code
def yX8_both : MethodName := ⟨RX8, "both", "(III)I"⟩
abbrev cX8_once : ByteArray := prog_11_method_30_code
def yX8_once : MethodName := ⟨RX8, "once", "(I)I"⟩
abbrev cX8_first : ByteArray := prog_11_method_31_code
def yX8_first : MethodName := ⟨RX8, "first", "(II)I"⟩
abbrev cX8_groups : ByteArray := prog_11_method_33_code
def yX8_groups : MethodName := ⟨RX8, "groups", "(IIII)I"⟩
abbrev cX8_bits : ByteArray := prog_11_method_32_code
def yX8_bits : MethodName := ⟨RX8, "bits", "(I)I"⟩
abbrev cX8_forget : ByteArray := prog_11_method_34_code
def yX8_forget : MethodName := ⟨RX8, "forget", "()I"⟩
abbrev cX8_told : ByteArray := prog_11_method_39_code
def yX8_told : MethodName := ⟨RX8, "told", "(II)I"⟩
abbrev cX8_measure : ByteArray := prog_11_method_38_code
def yX8_measure : MethodName := ⟨RX8, "measure", "()V"⟩
abbrev cX8_sizeOf : ByteArray := prog_11_method_36_code
def yX8_sizeOf : MethodName := ⟨RX8, "sizeOf", "(I)J"⟩
abbrev cX8_cut : ByteArray := prog_11_method_35_code
def yX8_cut : MethodName := ⟨RX8, "cut", "(J)J"⟩
abbrev cX8_costOf : ByteArray := prog_11_method_37_code
def yX8_costOf : MethodName := ⟨RX8, "costOf", "(I)J"⟩
abbrev cX8_run : ByteArray := prog_11_method_64_code
def yX8_run : MethodName := ⟨RX8, "run", "(I)I"⟩
abbrev cX8_bag : ByteArray := prog_11_method_49_code
def yX8_bag : MethodName := ⟨RX8, "bag", "(I)I"⟩
abbrev cX8_scanned : ByteArray := prog_11_method_50_code
def yX8_scanned : MethodName := ⟨RX8, "scanned", "(I)I"⟩
abbrev cX8_filtered : ByteArray := prog_11_method_52_code
def yX8_filtered : MethodName := ⟨RX8, "filtered", "(I)I"⟩
abbrev cX8_enter : ByteArray := prog_11_method_51_code
def yX8_enter : MethodName := ⟨RX8, "enter", "(I)V"⟩
abbrev cX8_truth : ByteArray := prog_11_method_43_code
def yX8_truth : MethodName := ⟨RX8, "truth", "(I)I"⟩
abbrev cX8_value : ByteArray := prog_11_method_42_code
def yX8_value : MethodName := ⟨RX8, "value", "(I)I"⟩
abbrev cX8_folded : ByteArray := prog_11_method_46_code
def yX8_folded : MethodName := ⟨RX8, "folded", "(IIIIIII)I"⟩
abbrev cX8_areAlike : ByteArray := prog_11_method_45_code
def yX8_areAlike : MethodName := ⟨RX8, "areAlike", "(IIII)Z"⟩
abbrev cX8_compared : ByteArray := prog_11_method_41_code
def yX8_compared : MethodName := ⟨RX8, "compared", "(III)I"⟩
abbrev cX8_truthOf : ByteArray := prog_11_method_40_code
def yX8_truthOf : MethodName := ⟨RX8, "truthOf", "(Z)I"⟩
abbrev cX8_quantified : ByteArray := prog_11_method_44_code
def yX8_quantified : MethodName := ⟨RX8, "quantified", "(I)I"⟩
abbrev cX8_copy : ByteArray := prog_11_method_47_code
def yX8_copy : MethodName := ⟨RX8, "copy", "(III)V"⟩
abbrev cX8_widened : ByteArray := prog_11_method_53_code
def yX8_widened : MethodName := ⟨RX8, "widened", "(I)I"⟩
abbrev cX8_settle : ByteArray := prog_11_method_48_code
def yX8_settle : MethodName := ⟨RX8, "settle", "(IIII)I"⟩
abbrev cX8_chosen : ByteArray := prog_11_method_54_code
def yX8_chosen : MethodName := ⟨RX8, "chosen", "(I)I"⟩
abbrev cX8_paired : ByteArray := prog_11_method_55_code
def yX8_paired : MethodName := ⟨RX8, "paired", "(I)I"⟩
abbrev cX8_applied : ByteArray := prog_11_method_56_code
def yX8_applied : MethodName := ⟨RX8, "applied", "(I)I"⟩
abbrev cX8_bothOf : ByteArray := prog_11_method_58_code
def yX8_bothOf : MethodName := ⟨RX8, "bothOf", "(I)I"⟩
abbrev cX8_exchange : ByteArray := prog_11_method_57_code
def yX8_exchange : MethodName := ⟨RX8, "exchange", "(III)V"⟩
abbrev cX8_onceOf : ByteArray := prog_11_method_59_code
def yX8_onceOf : MethodName := ⟨RX8, "onceOf", "(I)I"⟩
abbrev cX8_firstOf : ByteArray := prog_11_method_62_code
def yX8_firstOf : MethodName := ⟨RX8, "firstOf", "(I)I"⟩
abbrev cX8_order : ByteArray := prog_11_method_61_code
def yX8_order : MethodName := ⟨RX8, "order", "(IIII)V"⟩
abbrev cX8_isBefore : ByteArray := prog_11_method_60_code
def yX8_isBefore : MethodName := ⟨RX8, "isBefore", "(III)Z"⟩
abbrev cX8_grouped : ByteArray := prog_11_method_63_code
def yX8_grouped : MethodName := ⟨RX8, "grouped", "(I)I"⟩
abbrev cX8_cell : ByteArray := prog_11_method_65_code
def yX8_cell : MethodName := ⟨RX8, "cell", "(II)J"⟩
abbrev cX8_count : ByteArray := prog_11_method_66_code
def yX8_count : MethodName := ⟨RX8, "count", "(I)I"⟩
theorem q87 : (Jvm.Cond.initialized "ApplyFreeModel") ∈ lw_all := lw_g (lw_at lw_m1 9 rfl) rfl
theorem q927 : (Jvm.Cond.instantiable "ApplyFreeModel" (22 : Nat)) ∈ lw_all := lw_g (lw_at lw_m4 129 rfl) rfl
theorem q929 : (Jvm.Cond.instanceMethod ({ cls := "ApplyFreeModel", name := "<init>", desc := "()V" } : Jvm.MethodName)) ∈ lw_all := lw_g (lw_at lw_m4 131 rfl) rfl
theorem q930 : (Jvm.Cond.code ({ cls := "ApplyFreeModel", name := "<init>", desc := "()V" } : Jvm.MethodName) prog_11_method_1_code (1 : Nat) (Option.none : Option Jvm.ClassFile.FieldType)) ∈ lw_all := lw_g (lw_at lw_m4 132 rfl) rfl
theorem q931 : (Jvm.Cond.methodLink "ApplyFreeModel" (1 : Nat) ({ cls := "java/lang/Object", name := "<init>", desc := "()V" } : Jvm.MethodName)) ∈ lw_all := lw_g (lw_at lw_m4 133 rfl) rfl
theorem q932 : (Jvm.Cond.constant "ApplyFreeModel" (50 : Nat) (40000 : Int32)) ∈ lw_all := lw_g (lw_at lw_m4 134 rfl) rfl
theorem q933 : (Jvm.Cond.constant "ApplyFreeModel" (54 : Nat) (600000 : Int32)) ∈ lw_all := lw_g (lw_at lw_m4 135 rfl) rfl
theorem q934 : (Jvm.Cond.fieldLink "ApplyFreeModel" (61 : Nat) "ApplyFreeModel" "tables" "I") ∈ lw_all := lw_g (lw_at lw_m4 136 rfl) rfl
theorem q935 : (Jvm.Cond.fieldLink "ApplyFreeModel" (7 : Nat) "ApplyFreeModel" "tableWide" "[I") ∈ lw_all := lw_g (lw_at lw_m4 137 rfl) rfl
theorem q936 : (Jvm.Cond.fieldLink "ApplyFreeModel" (13 : Nat) "ApplyFreeModel" "tableRows" "[I") ∈ lw_all := lw_g (lw_at lw_m4 138 rfl) rfl
theorem q937 : (Jvm.Cond.fieldLink "ApplyFreeModel" (16 : Nat) "ApplyFreeModel" "tableCells" "[I") ∈ lw_all := lw_g (lw_at lw_m4 139 rfl) rfl
theorem q938 : (Jvm.Cond.fieldLink "ApplyFreeModel" (69 : Nat) "ApplyFreeModel" "terms" "I") ∈ lw_all := lw_g (lw_at lw_m4 140 rfl) rfl
theorem q939 : (Jvm.Cond.fieldLink "ApplyFreeModel" (19 : Nat) "ApplyFreeModel" "what" "[I") ∈ lw_all := lw_g (lw_at lw_m4 141 rfl) rfl
theorem q940 : (Jvm.Cond.fieldLink "ApplyFreeModel" (22 : Nat) "ApplyFreeModel" "sort" "[I") ∈ lw_all := lw_g (lw_at lw_m4 142 rfl) rfl
theorem q941 : (Jvm.Cond.fieldLink "ApplyFreeModel" (25 : Nat) "ApplyFreeModel" "wide" "[I") ∈ lw_all := lw_g (lw_at lw_m4 143 rfl) rfl
theorem q942 : (Jvm.Cond.fieldLink "ApplyFreeModel" (28 : Nat) "ApplyFreeModel" "one" "[I") ∈ lw_all := lw_g (lw_at lw_m4 144 rfl) rfl
theorem q943 : (Jvm.Cond.fieldLink "ApplyFreeModel" (31 : Nat) "ApplyFreeModel" "two" "[I") ∈ lw_all := lw_g (lw_at lw_m4 145 rfl) rfl
theorem q944 : (Jvm.Cond.fieldLink "ApplyFreeModel" (34 : Nat) "ApplyFreeModel" "three" "[I") ∈ lw_all := lw_g (lw_at lw_m4 146 rfl) rfl
theorem q945 : (Jvm.Cond.fieldLink "ApplyFreeModel" (37 : Nat) "ApplyFreeModel" "four" "[I") ∈ lw_all := lw_g (lw_at lw_m4 147 rfl) rfl
theorem q946 : (Jvm.Cond.fieldLink "ApplyFreeModel" (40 : Nat) "ApplyFreeModel" "looks" "[I") ∈ lw_all := lw_g (lw_at lw_m4 148 rfl) rfl
theorem q947 : (Jvm.Cond.fieldLink "ApplyFreeModel" (43 : Nat) "ApplyFreeModel" "sizes" "[J") ∈ lw_all := lw_g (lw_at lw_m4 149 rfl) rfl
theorem q948 : (Jvm.Cond.fieldLink "ApplyFreeModel" (47 : Nat) "ApplyFreeModel" "costs" "[J") ∈ lw_all := lw_g (lw_at lw_m4 150 rfl) rfl
theorem q949 : (Jvm.Cond.fieldLink "ApplyFreeModel" (207 : Nat) "ApplyFreeModel" "answerRows" "I") ∈ lw_all := lw_g (lw_at lw_m4 151 rfl) rfl
theorem q950 : (Jvm.Cond.fieldLink "ApplyFreeModel" (210 : Nat) "ApplyFreeModel" "answerWide" "I") ∈ lw_all := lw_g (lw_at lw_m4 152 rfl) rfl
theorem q951 : (Jvm.Cond.fieldLink "ApplyFreeModel" (51 : Nat) "ApplyFreeModel" "answer" "[I") ∈ lw_all := lw_g (lw_at lw_m4 153 rfl) rfl
theorem q952 : (Jvm.Cond.fieldLink "ApplyFreeModel" (55 : Nat) "ApplyFreeModel" "room" "[I") ∈ lw_all := lw_g (lw_at lw_m4 154 rfl) rfl
theorem q953 : (Jvm.Cond.fieldLink "ApplyFreeModel" (128 : Nat) "ApplyFreeModel" "top" "I") ∈ lw_all := lw_g (lw_at lw_m4 155 rfl) rfl
theorem q954 : (Jvm.Cond.fieldLink "ApplyFreeModel" (58 : Nat) "ApplyFreeModel" "around" "[I") ∈ lw_all := lw_g (lw_at lw_m4 156 rfl) rfl
theorem q955 : (Jvm.Cond.fieldLink "ApplyFreeModel" (119 : Nat) "ApplyFreeModel" "deep" "I") ∈ lw_all := lw_g (lw_at lw_m4 157 rfl) rfl
theorem q956 : (Jvm.Cond.lays "ApplyFreeModel" "ApplyFreeModel" "tables" "I") ∈ lw_all := lw_g (lw_at lw_m4 158 rfl) rfl
theorem q957 : (Jvm.Cond.soleField "ApplyFreeModel" "tables") ∈ lw_all := lw_g (lw_at lw_m4 159 rfl) rfl
theorem q958 : (Jvm.Cond.laysFinal "ApplyFreeModel" "ApplyFreeModel" "tableWide" "[I") ∈ lw_all := lw_g (lw_at lw_m4 160 rfl) rfl
theorem q959 : (Jvm.Cond.soleField "ApplyFreeModel" "tableWide") ∈ lw_all := lw_g (lw_at lw_m4 161 rfl) rfl
theorem q960 : (Jvm.Cond.laysFinal "ApplyFreeModel" "ApplyFreeModel" "tableRows" "[I") ∈ lw_all := lw_g (lw_at lw_m4 162 rfl) rfl
theorem q961 : (Jvm.Cond.soleField "ApplyFreeModel" "tableRows") ∈ lw_all := lw_g (lw_at lw_m4 163 rfl) rfl
theorem q962 : (Jvm.Cond.laysFinal "ApplyFreeModel" "ApplyFreeModel" "tableCells" "[I") ∈ lw_all := lw_g (lw_at lw_m4 164 rfl) rfl
theorem q963 : (Jvm.Cond.soleField "ApplyFreeModel" "tableCells") ∈ lw_all := lw_g (lw_at lw_m4 165 rfl) rfl
theorem q964 : (Jvm.Cond.lays "ApplyFreeModel" "ApplyFreeModel" "terms" "I") ∈ lw_all := lw_g (lw_at lw_m4 166 rfl) rfl
theorem q965 : (Jvm.Cond.soleField "ApplyFreeModel" "terms") ∈ lw_all := lw_g (lw_at lw_m4 167 rfl) rfl
theorem q966 : (Jvm.Cond.laysFinal "ApplyFreeModel" "ApplyFreeModel" "what" "[I") ∈ lw_all := lw_g (lw_at lw_m4 168 rfl) rfl
theorem q967 : (Jvm.Cond.soleField "ApplyFreeModel" "what") ∈ lw_all := lw_g (lw_at lw_m4 169 rfl) rfl
theorem q968 : (Jvm.Cond.laysFinal "ApplyFreeModel" "ApplyFreeModel" "sort" "[I") ∈ lw_all := lw_g (lw_at lw_m4 170 rfl) rfl
theorem q969 : (Jvm.Cond.soleField "ApplyFreeModel" "sort") ∈ lw_all := lw_g (lw_at lw_m4 171 rfl) rfl
theorem q970 : (Jvm.Cond.laysFinal "ApplyFreeModel" "ApplyFreeModel" "wide" "[I") ∈ lw_all := lw_g (lw_at lw_m4 172 rfl) rfl
theorem q971 : (Jvm.Cond.soleField "ApplyFreeModel" "wide") ∈ lw_all := lw_g (lw_at lw_m4 173 rfl) rfl
theorem q972 : (Jvm.Cond.laysFinal "ApplyFreeModel" "ApplyFreeModel" "one" "[I") ∈ lw_all := lw_g (lw_at lw_m4 174 rfl) rfl
theorem q973 : (Jvm.Cond.soleField "ApplyFreeModel" "one") ∈ lw_all := lw_g (lw_at lw_m4 175 rfl) rfl
theorem q974 : (Jvm.Cond.laysFinal "ApplyFreeModel" "ApplyFreeModel" "two" "[I") ∈ lw_all := lw_g (lw_at lw_m4 176 rfl) rfl
theorem q975 : (Jvm.Cond.soleField "ApplyFreeModel" "two") ∈ lw_all := lw_g (lw_at lw_m4 177 rfl) rfl
theorem q976 : (Jvm.Cond.laysFinal "ApplyFreeModel" "ApplyFreeModel" "three" "[I") ∈ lw_all := lw_g (lw_at lw_m4 178 rfl) rfl
theorem q977 : (Jvm.Cond.soleField "ApplyFreeModel" "three") ∈ lw_all := lw_g (lw_at lw_m4 179 rfl) rfl
theorem q978 : (Jvm.Cond.laysFinal "ApplyFreeModel" "ApplyFreeModel" "four" "[I") ∈ lw_all := lw_g (lw_at lw_m4 180 rfl) rfl
theorem q979 : (Jvm.Cond.soleField "ApplyFreeModel" "four") ∈ lw_all := lw_g (lw_at lw_m4 181 rfl) rfl
theorem q980 : (Jvm.Cond.laysFinal "ApplyFreeModel" "ApplyFreeModel" "looks" "[I") ∈ lw_all := lw_g (lw_at lw_m4 182 rfl) rfl
theorem q981 : (Jvm.Cond.soleField "ApplyFreeModel" "looks") ∈ lw_all := lw_g (lw_at lw_m4 183 rfl) rfl
theorem q982 : (Jvm.Cond.laysFinal "ApplyFreeModel" "ApplyFreeModel" "sizes" "[J") ∈ lw_all := lw_g (lw_at lw_m4 184 rfl) rfl
theorem q983 : (Jvm.Cond.soleField "ApplyFreeModel" "sizes") ∈ lw_all := lw_g (lw_at lw_m4 185 rfl) rfl
theorem q984 : (Jvm.Cond.laysFinal "ApplyFreeModel" "ApplyFreeModel" "costs" "[J") ∈ lw_all := lw_g (lw_at lw_m4 186 rfl) rfl
theorem q985 : (Jvm.Cond.soleField "ApplyFreeModel" "costs") ∈ lw_all := lw_g (lw_at lw_m4 187 rfl) rfl
theorem q986 : (Jvm.Cond.lays "ApplyFreeModel" "ApplyFreeModel" "answerRows" "I") ∈ lw_all := lw_g (lw_at lw_m4 188 rfl) rfl
theorem q987 : (Jvm.Cond.soleField "ApplyFreeModel" "answerRows") ∈ lw_all := lw_g (lw_at lw_m4 189 rfl) rfl
theorem q988 : (Jvm.Cond.lays "ApplyFreeModel" "ApplyFreeModel" "answerWide" "I") ∈ lw_all := lw_g (lw_at lw_m4 190 rfl) rfl
theorem q989 : (Jvm.Cond.soleField "ApplyFreeModel" "answerWide") ∈ lw_all := lw_g (lw_at lw_m4 191 rfl) rfl
theorem q990 : (Jvm.Cond.laysFinal "ApplyFreeModel" "ApplyFreeModel" "answer" "[I") ∈ lw_all := lw_g (lw_at lw_m4 192 rfl) rfl
theorem q991 : (Jvm.Cond.soleField "ApplyFreeModel" "answer") ∈ lw_all := lw_g (lw_at lw_m4 193 rfl) rfl
theorem q992 : (Jvm.Cond.laysFinal "ApplyFreeModel" "ApplyFreeModel" "room" "[I") ∈ lw_all := lw_g (lw_at lw_m4 194 rfl) rfl
theorem q993 : (Jvm.Cond.soleField "ApplyFreeModel" "room") ∈ lw_all := lw_g (lw_at lw_m4 195 rfl) rfl
theorem q994 : (Jvm.Cond.lays "ApplyFreeModel" "ApplyFreeModel" "top" "I") ∈ lw_all := lw_g (lw_at lw_m4 196 rfl) rfl
theorem q995 : (Jvm.Cond.soleField "ApplyFreeModel" "top") ∈ lw_all := lw_g (lw_at lw_m4 197 rfl) rfl
theorem q996 : (Jvm.Cond.laysFinal "ApplyFreeModel" "ApplyFreeModel" "around" "[I") ∈ lw_all := lw_g (lw_at lw_m4 198 rfl) rfl
theorem q997 : (Jvm.Cond.soleField "ApplyFreeModel" "around") ∈ lw_all := lw_g (lw_at lw_m4 199 rfl) rfl
theorem q998 : (Jvm.Cond.lays "ApplyFreeModel" "ApplyFreeModel" "deep" "I") ∈ lw_all := lw_g (lw_at lw_m4 200 rfl) rfl
theorem q999 : (Jvm.Cond.soleField "ApplyFreeModel" "deep") ∈ lw_all := lw_g (lw_at lw_m4 201 rfl) rfl
theorem q1000 : (Jvm.Cond.superclass "ApplyFreeModel" "java/lang/Object") ∈ lw_all := lw_g (lw_at lw_m4 202 rfl) rfl
theorem q1003 : (Jvm.Cond.instanceMethod ({ cls := "ApplyFreeModel", name := "table", desc := "(I)I" } : Jvm.MethodName)) ∈ lw_all := lw_g (lw_at lw_m4 205 rfl) rfl
theorem q1004 : (Jvm.Cond.selects "ApplyFreeModel" ({ cls := "ApplyFreeModel", name := "table", desc := "(I)I" } : Jvm.MethodName) ({ cls := "ApplyFreeModel", name := "table", desc := "(I)I" } : Jvm.MethodName)) ∈ lw_all := lw_g (lw_at lw_m4 206 rfl) rfl
theorem q1005 : (Jvm.Cond.code ({ cls := "ApplyFreeModel", name := "table", desc := "(I)I" } : Jvm.MethodName) prog_11_method_3_code (2 : Nat) (Option.some Jvm.ClassFile.FieldType.int)) ∈ lw_all := lw_g (lw_at lw_m4 207 rfl) rfl
theorem q1006 : (Jvm.Cond.methodLink "ApplyFreeModel" (65 : Nat) ({ cls := "ApplyFreeModel", name := "isIn", desc := "(III)Z" } : Jvm.MethodName)) ∈ lw_all := lw_g (lw_at lw_m4 208 rfl) rfl
theorem q1007 : (Jvm.Cond.static ({ cls := "ApplyFreeModel", name := "isIn", desc := "(III)Z" } : Jvm.MethodName)) ∈ lw_all := lw_g (lw_at lw_m4 209 rfl) rfl
theorem q1008 : (Jvm.Cond.code ({ cls := "ApplyFreeModel", name := "isIn", desc := "(III)Z" } : Jvm.MethodName) prog_11_method_2_code (3 : Nat) (Option.some Jvm.ClassFile.FieldType.boolean)) ∈ lw_all := lw_g (lw_at lw_m4 210 rfl) rfl
theorem q1010 : (Jvm.Cond.instanceMethod ({ cls := "ApplyFreeModel", name := "row", desc := "(IIIII)I" } : Jvm.MethodName)) ∈ lw_all := lw_g (lw_at lw_m4 212 rfl) rfl
theorem q1011 : (Jvm.Cond.selects "ApplyFreeModel" ({ cls := "ApplyFreeModel", name := "row", desc := "(IIIII)I" } : Jvm.MethodName) ({ cls := "ApplyFreeModel", name := "row", desc := "(IIIII)I" } : Jvm.MethodName)) ∈ lw_all := lw_g (lw_at lw_m4 213 rfl) rfl
theorem q1012 : (Jvm.Cond.code ({ cls := "ApplyFreeModel", name := "row", desc := "(IIIII)I" } : Jvm.MethodName) prog_11_method_4_code (7 : Nat) (Option.some Jvm.ClassFile.FieldType.int)) ∈ lw_all := lw_g (lw_at lw_m4 214 rfl) rfl
theorem q1014 : (Jvm.Cond.instanceMethod ({ cls := "ApplyFreeModel", name := "empty", desc := "(I)I" } : Jvm.MethodName)) ∈ lw_all := lw_g (lw_at lw_m4 216 rfl) rfl
theorem q1015 : (Jvm.Cond.selects "ApplyFreeModel" ({ cls := "ApplyFreeModel", name := "empty", desc := "(I)I" } : Jvm.MethodName) ({ cls := "ApplyFreeModel", name := "empty", desc := "(I)I" } : Jvm.MethodName)) ∈ lw_all := lw_g (lw_at lw_m4 217 rfl) rfl
theorem q1016 : (Jvm.Cond.code ({ cls := "ApplyFreeModel", name := "empty", desc := "(I)I" } : Jvm.MethodName) prog_11_method_5_code (3 : Nat) (Option.some Jvm.ClassFile.FieldType.int)) ∈ lw_all := lw_g (lw_at lw_m4 218 rfl) rfl
theorem q1018 : (Jvm.Cond.instanceMethod ({ cls := "ApplyFreeModel", name := "constant", desc := "(I)I" } : Jvm.MethodName)) ∈ lw_all := lw_g (lw_at lw_m4 220 rfl) rfl
theorem q1019 : (Jvm.Cond.selects "ApplyFreeModel" ({ cls := "ApplyFreeModel", name := "constant", desc := "(I)I" } : Jvm.MethodName) ({ cls := "ApplyFreeModel", name := "constant", desc := "(I)I" } : Jvm.MethodName)) ∈ lw_all := lw_g (lw_at lw_m4 221 rfl) rfl
theorem q1020 : (Jvm.Cond.code ({ cls := "ApplyFreeModel", name := "constant", desc := "(I)I" } : Jvm.MethodName) prog_11_method_11_code (2 : Nat) (Option.some Jvm.ClassFile.FieldType.int)) ∈ lw_all := lw_g (lw_at lw_m4 222 rfl) rfl
theorem q1021 : (Jvm.Cond.methodLink "ApplyFreeModel" (72 : Nat) ({ cls := "ApplyFreeModel", name := "make", desc := "(IIIIIII)I" } : Jvm.MethodName)) ∈ lw_all := lw_g (lw_at lw_m4 223 rfl) rfl
theorem q1022 : (Jvm.Cond.privateMethod ({ cls := "ApplyFreeModel", name := "make", desc := "(IIIIIII)I" } : Jvm.MethodName)) ∈ lw_tbl := lw_at lw_m4 224 rfl
theorem q1023 : (Jvm.Cond.instanceMethod ({ cls := "ApplyFreeModel", name := "make", desc := "(IIIIIII)I" } : Jvm.MethodName)) ∈ lw_all := lw_g (lw_at lw_m4 225 rfl) rfl
theorem q1024 : (Jvm.Cond.code ({ cls := "ApplyFreeModel", name := "make", desc := "(IIIIIII)I" } : Jvm.MethodName) prog_11_method_7_code (9 : Nat) (Option.some Jvm.ClassFile.FieldType.int)) ∈ lw_all := lw_g (lw_at lw_m4 226 rfl) rfl
theorem q1026 : (Jvm.Cond.instanceMethod ({ cls := "ApplyFreeModel", name := "column", desc := "(II)I" } : Jvm.MethodName)) ∈ lw_all := lw_g (lw_at lw_m4 228 rfl) rfl
theorem q1027 : (Jvm.Cond.selects "ApplyFreeModel" ({ cls := "ApplyFreeModel", name := "column", desc := "(II)I" } : Jvm.MethodName) ({ cls := "ApplyFreeModel", name := "column", desc := "(II)I" } : Jvm.MethodName)) ∈ lw_all := lw_g (lw_at lw_m4 229 rfl) rfl
theorem q1028 : (Jvm.Cond.code ({ cls := "ApplyFreeModel", name := "column", desc := "(II)I" } : Jvm.MethodName) prog_11_method_12_code (4 : Nat) (Option.some Jvm.ClassFile.FieldType.int)) ∈ lw_all := lw_g (lw_at lw_m4 230 rfl) rfl
theorem q1030 : (Jvm.Cond.instanceMethod ({ cls := "ApplyFreeModel", name := "reckon", desc := "(III)I" } : Jvm.MethodName)) ∈ lw_all := lw_g (lw_at lw_m4 232 rfl) rfl
theorem q1031 : (Jvm.Cond.selects "ApplyFreeModel" ({ cls := "ApplyFreeModel", name := "reckon", desc := "(III)I" } : Jvm.MethodName) ({ cls := "ApplyFreeModel", name := "reckon", desc := "(III)I" } : Jvm.MethodName)) ∈ lw_all := lw_g (lw_at lw_m4 233 rfl) rfl
theorem q1032 : (Jvm.Cond.code ({ cls := "ApplyFreeModel", name := "reckon", desc := "(III)I" } : Jvm.MethodName) prog_11_method_13_code (5 : Nat) (Option.some Jvm.ClassFile.FieldType.int)) ∈ lw_all := lw_g (lw_at lw_m4 234 rfl) rfl
theorem q1033 : (Jvm.Cond.methodLink "ApplyFreeModel" (76 : Nat) ({ cls := "ApplyFreeModel", name := "is", desc := "(II)Z" } : Jvm.MethodName)) ∈ lw_all := lw_g (lw_at lw_m4 235 rfl) rfl
theorem q1034 : (Jvm.Cond.privateMethod ({ cls := "ApplyFreeModel", name := "is", desc := "(II)Z" } : Jvm.MethodName)) ∈ lw_tbl := lw_at lw_m4 236 rfl
theorem q1035 : (Jvm.Cond.instanceMethod ({ cls := "ApplyFreeModel", name := "is", desc := "(II)Z" } : Jvm.MethodName)) ∈ lw_all := lw_g (lw_at lw_m4 237 rfl) rfl
theorem q1036 : (Jvm.Cond.code ({ cls := "ApplyFreeModel", name := "is", desc := "(II)Z" } : Jvm.MethodName) prog_11_method_6_code (3 : Nat) (Option.some Jvm.ClassFile.FieldType.boolean)) ∈ lw_all := lw_g (lw_at lw_m4 238 rfl) rfl
theorem q1037 : (Jvm.Cond.methodLink "ApplyFreeModel" (80 : Nat) ({ cls := "ApplyFreeModel", name := "looksAs", desc := "(II)V" } : Jvm.MethodName)) ∈ lw_all := lw_g (lw_at lw_m4 239 rfl) rfl
theorem q1038 : (Jvm.Cond.privateMethod ({ cls := "ApplyFreeModel", name := "looksAs", desc := "(II)V" } : Jvm.MethodName)) ∈ lw_tbl := lw_at lw_m5 0 rfl
theorem q1039 : (Jvm.Cond.instanceMethod ({ cls := "ApplyFreeModel", name := "looksAs", desc := "(II)V" } : Jvm.MethodName)) ∈ lw_all := lw_g (lw_at lw_m5 1 rfl) rfl
theorem q1040 : (Jvm.Cond.code ({ cls := "ApplyFreeModel", name := "looksAs", desc := "(II)V" } : Jvm.MethodName) prog_11_method_8_code (4 : Nat) (Option.none : Option Jvm.ClassFile.FieldType)) ∈ lw_all := lw_g (lw_at lw_m5 2 rfl) rfl
theorem q1042 : (Jvm.Cond.instanceMethod ({ cls := "ApplyFreeModel", name := "number", desc := "(I)I" } : Jvm.MethodName)) ∈ lw_all := lw_g (lw_at lw_m5 4 rfl) rfl
theorem q1043 : (Jvm.Cond.selects "ApplyFreeModel" ({ cls := "ApplyFreeModel", name := "number", desc := "(I)I" } : Jvm.MethodName) ({ cls := "ApplyFreeModel", name := "number", desc := "(I)I" } : Jvm.MethodName)) ∈ lw_all := lw_g (lw_at lw_m5 5 rfl) rfl
theorem q1044 : (Jvm.Cond.code ({ cls := "ApplyFreeModel", name := "number", desc := "(I)I" } : Jvm.MethodName) prog_11_method_14_code (3 : Nat) (Option.some Jvm.ClassFile.FieldType.int)) ∈ lw_all := lw_g (lw_at lw_m5 6 rfl) rfl
theorem q1046 : (Jvm.Cond.instanceMethod ({ cls := "ApplyFreeModel", name := "fold", desc := "(III)I" } : Jvm.MethodName)) ∈ lw_all := lw_g (lw_at lw_m5 8 rfl) rfl
theorem q1047 : (Jvm.Cond.selects "ApplyFreeModel" ({ cls := "ApplyFreeModel", name := "fold", desc := "(III)I" } : Jvm.MethodName) ({ cls := "ApplyFreeModel", name := "fold", desc := "(III)I" } : Jvm.MethodName)) ∈ lw_all := lw_g (lw_at lw_m5 9 rfl) rfl
theorem q1048 : (Jvm.Cond.code ({ cls := "ApplyFreeModel", name := "fold", desc := "(III)I" } : Jvm.MethodName) prog_11_method_15_code (5 : Nat) (Option.some Jvm.ClassFile.FieldType.int)) ∈ lw_all := lw_g (lw_at lw_m5 10 rfl) rfl
theorem q1050 : (Jvm.Cond.instanceMethod ({ cls := "ApplyFreeModel", name := "compare", desc := "(III)I" } : Jvm.MethodName)) ∈ lw_all := lw_g (lw_at lw_m5 12 rfl) rfl
theorem q1051 : (Jvm.Cond.selects "ApplyFreeModel" ({ cls := "ApplyFreeModel", name := "compare", desc := "(III)I" } : Jvm.MethodName) ({ cls := "ApplyFreeModel", name := "compare", desc := "(III)I" } : Jvm.MethodName)) ∈ lw_all := lw_g (lw_at lw_m5 13 rfl) rfl
theorem q1052 : (Jvm.Cond.code ({ cls := "ApplyFreeModel", name := "compare", desc := "(III)I" } : Jvm.MethodName) prog_11_method_16_code (5 : Nat) (Option.some Jvm.ClassFile.FieldType.int)) ∈ lw_all := lw_g (lw_at lw_m5 14 rfl) rfl
theorem q1054 : (Jvm.Cond.instanceMethod ({ cls := "ApplyFreeModel", name := "isNothing", desc := "(I)I" } : Jvm.MethodName)) ∈ lw_all := lw_g (lw_at lw_m5 16 rfl) rfl
theorem q1055 : (Jvm.Cond.selects "ApplyFreeModel" ({ cls := "ApplyFreeModel", name := "isNothing", desc := "(I)I" } : Jvm.MethodName) ({ cls := "ApplyFreeModel", name := "isNothing", desc := "(I)I" } : Jvm.MethodName)) ∈ lw_all := lw_g (lw_at lw_m5 17 rfl) rfl
theorem q1056 : (Jvm.Cond.code ({ cls := "ApplyFreeModel", name := "isNothing", desc := "(I)I" } : Jvm.MethodName) prog_11_method_17_code (3 : Nat) (Option.some Jvm.ClassFile.FieldType.int)) ∈ lw_all := lw_g (lw_at lw_m5 18 rfl) rfl
theorem q1058 : (Jvm.Cond.instanceMethod ({ cls := "ApplyFreeModel", name := "logic", desc := "(III)I" } : Jvm.MethodName)) ∈ lw_all := lw_g (lw_at lw_m5 20 rfl) rfl
theorem q1059 : (Jvm.Cond.selects "ApplyFreeModel" ({ cls := "ApplyFreeModel", name := "logic", desc := "(III)I" } : Jvm.MethodName) ({ cls := "ApplyFreeModel", name := "logic", desc := "(III)I" } : Jvm.MethodName)) ∈ lw_all := lw_g (lw_at lw_m5 21 rfl) rfl
theorem q1060 : (Jvm.Cond.code ({ cls := "ApplyFreeModel", name := "logic", desc := "(III)I" } : Jvm.MethodName) prog_11_method_18_code (5 : Nat) (Option.some Jvm.ClassFile.FieldType.int)) ∈ lw_all := lw_g (lw_at lw_m5 22 rfl) rfl
theorem q1062 : (Jvm.Cond.instanceMethod ({ cls := "ApplyFreeModel", name := "has", desc := "(I)I" } : Jvm.MethodName)) ∈ lw_all := lw_g (lw_at lw_m5 24 rfl) rfl
theorem q1063 : (Jvm.Cond.selects "ApplyFreeModel" ({ cls := "ApplyFreeModel", name := "has", desc := "(I)I" } : Jvm.MethodName) ({ cls := "ApplyFreeModel", name := "has", desc := "(I)I" } : Jvm.MethodName)) ∈ lw_all := lw_g (lw_at lw_m5 25 rfl) rfl
theorem q1064 : (Jvm.Cond.code ({ cls := "ApplyFreeModel", name := "has", desc := "(I)I" } : Jvm.MethodName) prog_11_method_19_code (3 : Nat) (Option.some Jvm.ClassFile.FieldType.int)) ∈ lw_all := lw_g (lw_at lw_m5 26 rfl) rfl
theorem q1066 : (Jvm.Cond.instanceMethod ({ cls := "ApplyFreeModel", name := "some", desc := "(III)I" } : Jvm.MethodName)) ∈ lw_all := lw_g (lw_at lw_m5 28 rfl) rfl
theorem q1067 : (Jvm.Cond.selects "ApplyFreeModel" ({ cls := "ApplyFreeModel", name := "some", desc := "(III)I" } : Jvm.MethodName) ({ cls := "ApplyFreeModel", name := "some", desc := "(III)I" } : Jvm.MethodName)) ∈ lw_all := lw_g (lw_at lw_m5 29 rfl) rfl
theorem q1068 : (Jvm.Cond.code ({ cls := "ApplyFreeModel", name := "some", desc := "(III)I" } : Jvm.MethodName) prog_11_method_21_code (4 : Nat) (Option.some Jvm.ClassFile.FieldType.int)) ∈ lw_all := lw_g (lw_at lw_m5 30 rfl) rfl
theorem q1069 : (Jvm.Cond.methodLink "ApplyFreeModel" (84 : Nat) ({ cls := "ApplyFreeModel", name := "quantity", desc := "(IIII)I" } : Jvm.MethodName)) ∈ lw_all := lw_g (lw_at lw_m5 31 rfl) rfl
theorem q1070 : (Jvm.Cond.privateMethod ({ cls := "ApplyFreeModel", name := "quantity", desc := "(IIII)I" } : Jvm.MethodName)) ∈ lw_tbl := lw_at lw_m5 32 rfl
theorem q1071 : (Jvm.Cond.instanceMethod ({ cls := "ApplyFreeModel", name := "quantity", desc := "(IIII)I" } : Jvm.MethodName)) ∈ lw_all := lw_g (lw_at lw_m5 33 rfl) rfl
theorem q1072 : (Jvm.Cond.code ({ cls := "ApplyFreeModel", name := "quantity", desc := "(IIII)I" } : Jvm.MethodName) prog_11_method_20_code (6 : Nat) (Option.some Jvm.ClassFile.FieldType.int)) ∈ lw_all := lw_g (lw_at lw_m5 34 rfl) rfl
theorem q1074 : (Jvm.Cond.instanceMethod ({ cls := "ApplyFreeModel", name := "each", desc := "(III)I" } : Jvm.MethodName)) ∈ lw_all := lw_g (lw_at lw_m5 36 rfl) rfl
theorem q1075 : (Jvm.Cond.selects "ApplyFreeModel" ({ cls := "ApplyFreeModel", name := "each", desc := "(III)I" } : Jvm.MethodName) ({ cls := "ApplyFreeModel", name := "each", desc := "(III)I" } : Jvm.MethodName)) ∈ lw_all := lw_g (lw_at lw_m5 37 rfl) rfl
theorem q1076 : (Jvm.Cond.code ({ cls := "ApplyFreeModel", name := "each", desc := "(III)I" } : Jvm.MethodName) prog_11_method_22_code (4 : Nat) (Option.some Jvm.ClassFile.FieldType.int)) ∈ lw_all := lw_g (lw_at lw_m5 38 rfl) rfl
theorem q1078 : (Jvm.Cond.instanceMethod ({ cls := "ApplyFreeModel", name := "scan", desc := "(I)I" } : Jvm.MethodName)) ∈ lw_all := lw_g (lw_at lw_m5 40 rfl) rfl
theorem q1079 : (Jvm.Cond.selects "ApplyFreeModel" ({ cls := "ApplyFreeModel", name := "scan", desc := "(I)I" } : Jvm.MethodName) ({ cls := "ApplyFreeModel", name := "scan", desc := "(I)I" } : Jvm.MethodName)) ∈ lw_all := lw_g (lw_at lw_m5 41 rfl) rfl
theorem q1080 : (Jvm.Cond.code ({ cls := "ApplyFreeModel", name := "scan", desc := "(I)I" } : Jvm.MethodName) prog_11_method_23_code (2 : Nat) (Option.some Jvm.ClassFile.FieldType.int)) ∈ lw_all := lw_g (lw_at lw_m5 42 rfl) rfl
theorem q1082 : (Jvm.Cond.instanceMethod ({ cls := "ApplyFreeModel", name := "filter", desc := "(II)I" } : Jvm.MethodName)) ∈ lw_all := lw_g (lw_at lw_m5 44 rfl) rfl
theorem q1083 : (Jvm.Cond.selects "ApplyFreeModel" ({ cls := "ApplyFreeModel", name := "filter", desc := "(II)I" } : Jvm.MethodName) ({ cls := "ApplyFreeModel", name := "filter", desc := "(II)I" } : Jvm.MethodName)) ∈ lw_all := lw_g (lw_at lw_m5 45 rfl) rfl
theorem q1084 : (Jvm.Cond.code ({ cls := "ApplyFreeModel", name := "filter", desc := "(II)I" } : Jvm.MethodName) prog_11_method_24_code (4 : Nat) (Option.some Jvm.ClassFile.FieldType.int)) ∈ lw_all := lw_g (lw_at lw_m5 46 rfl) rfl
theorem q1085 : (Jvm.Cond.methodLink "ApplyFreeModel" (88 : Nat) ({ cls := "ApplyFreeModel", name := "fits", desc := "(II)Z" } : Jvm.MethodName)) ∈ lw_all := lw_g (lw_at lw_m5 47 rfl) rfl
theorem q1086 : (Jvm.Cond.privateMethod ({ cls := "ApplyFreeModel", name := "fits", desc := "(II)Z" } : Jvm.MethodName)) ∈ lw_tbl := lw_at lw_m5 48 rfl
theorem q1087 : (Jvm.Cond.instanceMethod ({ cls := "ApplyFreeModel", name := "fits", desc := "(II)Z" } : Jvm.MethodName)) ∈ lw_all := lw_g (lw_at lw_m5 49 rfl) rfl
theorem q1088 : (Jvm.Cond.code ({ cls := "ApplyFreeModel", name := "fits", desc := "(II)Z" } : Jvm.MethodName) prog_11_method_10_code (3 : Nat) (Option.some Jvm.ClassFile.FieldType.boolean)) ∈ lw_all := lw_g (lw_at lw_m5 50 rfl) rfl
theorem q1089 : (Jvm.Cond.methodLink "ApplyFreeModel" (91 : Nat) ({ cls := "ApplyFreeModel", name := "looksWithin", desc := "(II)V" } : Jvm.MethodName)) ∈ lw_all := lw_g (lw_at lw_m5 51 rfl) rfl
theorem q1090 : (Jvm.Cond.privateMethod ({ cls := "ApplyFreeModel", name := "looksWithin", desc := "(II)V" } : Jvm.MethodName)) ∈ lw_tbl := lw_at lw_m5 52 rfl
theorem q1091 : (Jvm.Cond.instanceMethod ({ cls := "ApplyFreeModel", name := "looksWithin", desc := "(II)V" } : Jvm.MethodName)) ∈ lw_all := lw_g (lw_at lw_m5 53 rfl) rfl
theorem q1092 : (Jvm.Cond.code ({ cls := "ApplyFreeModel", name := "looksWithin", desc := "(II)V" } : Jvm.MethodName) prog_11_method_9_code (4 : Nat) (Option.none : Option Jvm.ClassFile.FieldType)) ∈ lw_all := lw_g (lw_at lw_m5 54 rfl) rfl
theorem q1094 : (Jvm.Cond.instanceMethod ({ cls := "ApplyFreeModel", name := "more", desc := "(II)I" } : Jvm.MethodName)) ∈ lw_all := lw_g (lw_at lw_m5 56 rfl) rfl
theorem q1095 : (Jvm.Cond.selects "ApplyFreeModel" ({ cls := "ApplyFreeModel", name := "more", desc := "(II)I" } : Jvm.MethodName) ({ cls := "ApplyFreeModel", name := "more", desc := "(II)I" } : Jvm.MethodName)) ∈ lw_all := lw_g (lw_at lw_m5 57 rfl) rfl
theorem q1096 : (Jvm.Cond.code ({ cls := "ApplyFreeModel", name := "more", desc := "(II)I" } : Jvm.MethodName) prog_11_method_25_code (4 : Nat) (Option.some Jvm.ClassFile.FieldType.int)) ∈ lw_all := lw_g (lw_at lw_m5 58 rfl) rfl
theorem q1098 : (Jvm.Cond.instanceMethod ({ cls := "ApplyFreeModel", name := "only", desc := "(III)I" } : Jvm.MethodName)) ∈ lw_all := lw_g (lw_at lw_m5 60 rfl) rfl
theorem q1099 : (Jvm.Cond.selects "ApplyFreeModel" ({ cls := "ApplyFreeModel", name := "only", desc := "(III)I" } : Jvm.MethodName) ({ cls := "ApplyFreeModel", name := "only", desc := "(III)I" } : Jvm.MethodName)) ∈ lw_all := lw_g (lw_at lw_m5 61 rfl) rfl
theorem q1100 : (Jvm.Cond.code ({ cls := "ApplyFreeModel", name := "only", desc := "(III)I" } : Jvm.MethodName) prog_11_method_26_code (5 : Nat) (Option.some Jvm.ClassFile.FieldType.int)) ∈ lw_all := lw_g (lw_at lw_m5 62 rfl) rfl
theorem q1102 : (Jvm.Cond.instanceMethod ({ cls := "ApplyFreeModel", name := "pairs", desc := "(II)I" } : Jvm.MethodName)) ∈ lw_all := lw_g (lw_at lw_m5 64 rfl) rfl
theorem q1103 : (Jvm.Cond.selects "ApplyFreeModel" ({ cls := "ApplyFreeModel", name := "pairs", desc := "(II)I" } : Jvm.MethodName) ({ cls := "ApplyFreeModel", name := "pairs", desc := "(II)I" } : Jvm.MethodName)) ∈ lw_all := lw_g (lw_at lw_m5 65 rfl) rfl
theorem q1104 : (Jvm.Cond.code ({ cls := "ApplyFreeModel", name := "pairs", desc := "(II)I" } : Jvm.MethodName) prog_11_method_27_code (4 : Nat) (Option.some Jvm.ClassFile.FieldType.int)) ∈ lw_all := lw_g (lw_at lw_m5 66 rfl) rfl
theorem q1106 : (Jvm.Cond.instanceMethod ({ cls := "ApplyFreeModel", name := "apply", desc := "(III)I" } : Jvm.MethodName)) ∈ lw_all := lw_g (lw_at lw_m5 68 rfl) rfl
theorem q1107 : (Jvm.Cond.selects "ApplyFreeModel" ({ cls := "ApplyFreeModel", name := "apply", desc := "(III)I" } : Jvm.MethodName) ({ cls := "ApplyFreeModel", name := "apply", desc := "(III)I" } : Jvm.MethodName)) ∈ lw_all := lw_g (lw_at lw_m5 69 rfl) rfl
theorem q1108 : (Jvm.Cond.code ({ cls := "ApplyFreeModel", name := "apply", desc := "(III)I" } : Jvm.MethodName) prog_11_method_28_code (5 : Nat) (Option.some Jvm.ClassFile.FieldType.int)) ∈ lw_all := lw_g (lw_at lw_m5 70 rfl) rfl
theorem q1110 : (Jvm.Cond.instanceMethod ({ cls := "ApplyFreeModel", name := "both", desc := "(III)I" } : Jvm.MethodName)) ∈ lw_all := lw_g (lw_at lw_m5 72 rfl) rfl
theorem q1111 : (Jvm.Cond.selects "ApplyFreeModel" ({ cls := "ApplyFreeModel", name := "both", desc := "(III)I" } : Jvm.MethodName) ({ cls := "ApplyFreeModel", name := "both", desc := "(III)I" } : Jvm.MethodName)) ∈ lw_all := lw_g (lw_at lw_m5 73 rfl) rfl
theorem q1112 : (Jvm.Cond.code ({ cls := "ApplyFreeModel", name := "both", desc := "(III)I" } : Jvm.MethodName) prog_11_method_29_code (5 : Nat) (Option.some Jvm.ClassFile.FieldType.int)) ∈ lw_all := lw_g (lw_at lw_m5 74 rfl) rfl
theorem q1114 : (Jvm.Cond.instanceMethod ({ cls := "ApplyFreeModel", name := "once", desc := "(I)I" } : Jvm.MethodName)) ∈ lw_all := lw_g (lw_at lw_m5 76 rfl) rfl
theorem q1115 : (Jvm.Cond.selects "ApplyFreeModel" ({ cls := "ApplyFreeModel", name := "once", desc := "(I)I" } : Jvm.MethodName) ({ cls := "ApplyFreeModel", name := "once", desc := "(I)I" } : Jvm.MethodName)) ∈ lw_all := lw_g (lw_at lw_m5 77 rfl) rfl
theorem q1116 : (Jvm.Cond.code ({ cls := "ApplyFreeModel", name := "once", desc := "(I)I" } : Jvm.MethodName) prog_11_method_30_code (3 : Nat) (Option.some Jvm.ClassFile.FieldType.int)) ∈ lw_all := lw_g (lw_at lw_m5 78 rfl) rfl
theorem q1118 : (Jvm.Cond.instanceMethod ({ cls := "ApplyFreeModel", name := "first", desc := "(II)I" } : Jvm.MethodName)) ∈ lw_all := lw_g (lw_at lw_m5 80 rfl) rfl
theorem q1119 : (Jvm.Cond.selects "ApplyFreeModel" ({ cls := "ApplyFreeModel", name := "first", desc := "(II)I" } : Jvm.MethodName) ({ cls := "ApplyFreeModel", name := "first", desc := "(II)I" } : Jvm.MethodName)) ∈ lw_all := lw_g (lw_at lw_m5 81 rfl) rfl
theorem q1120 : (Jvm.Cond.code ({ cls := "ApplyFreeModel", name := "first", desc := "(II)I" } : Jvm.MethodName) prog_11_method_31_code (4 : Nat) (Option.some Jvm.ClassFile.FieldType.int)) ∈ lw_all := lw_g (lw_at lw_m5 82 rfl) rfl
theorem q1122 : (Jvm.Cond.instanceMethod ({ cls := "ApplyFreeModel", name := "groups", desc := "(IIII)I" } : Jvm.MethodName)) ∈ lw_all := lw_g (lw_at lw_m5 84 rfl) rfl
theorem q1123 : (Jvm.Cond.selects "ApplyFreeModel" ({ cls := "ApplyFreeModel", name := "groups", desc := "(IIII)I" } : Jvm.MethodName) ({ cls := "ApplyFreeModel", name := "groups", desc := "(IIII)I" } : Jvm.MethodName)) ∈ lw_all := lw_g (lw_at lw_m5 85 rfl) rfl
theorem q1124 : (Jvm.Cond.code ({ cls := "ApplyFreeModel", name := "groups", desc := "(IIII)I" } : Jvm.MethodName) prog_11_method_33_code (6 : Nat) (Option.some Jvm.ClassFile.FieldType.int)) ∈ lw_all := lw_g (lw_at lw_m5 86 rfl) rfl
theorem q1125 : (Jvm.Cond.methodLink "ApplyFreeModel" (94 : Nat) ({ cls := "ApplyFreeModel", name := "bits", desc := "(I)I" } : Jvm.MethodName)) ∈ lw_all := lw_g (lw_at lw_m5 87 rfl) rfl
theorem q1126 : (Jvm.Cond.static ({ cls := "ApplyFreeModel", name := "bits", desc := "(I)I" } : Jvm.MethodName)) ∈ lw_all := lw_g (lw_at lw_m5 88 rfl) rfl
theorem q1127 : (Jvm.Cond.code ({ cls := "ApplyFreeModel", name := "bits", desc := "(I)I" } : Jvm.MethodName) prog_11_method_32_code (3 : Nat) (Option.some Jvm.ClassFile.FieldType.int)) ∈ lw_all := lw_g (lw_at lw_m5 89 rfl) rfl
theorem q1129 : (Jvm.Cond.instanceMethod ({ cls := "ApplyFreeModel", name := "forget", desc := "()I" } : Jvm.MethodName)) ∈ lw_all := lw_g (lw_at lw_m5 91 rfl) rfl
theorem q1130 : (Jvm.Cond.selects "ApplyFreeModel" ({ cls := "ApplyFreeModel", name := "forget", desc := "()I" } : Jvm.MethodName) ({ cls := "ApplyFreeModel", name := "forget", desc := "()I" } : Jvm.MethodName)) ∈ lw_all := lw_g (lw_at lw_m5 92 rfl) rfl
theorem q1131 : (Jvm.Cond.code ({ cls := "ApplyFreeModel", name := "forget", desc := "()I" } : Jvm.MethodName) prog_11_method_34_code (2 : Nat) (Option.some Jvm.ClassFile.FieldType.int)) ∈ lw_all := lw_g (lw_at lw_m5 93 rfl) rfl
theorem q1133 : (Jvm.Cond.instanceMethod ({ cls := "ApplyFreeModel", name := "told", desc := "(II)I" } : Jvm.MethodName)) ∈ lw_all := lw_g (lw_at lw_m5 95 rfl) rfl
theorem q1134 : (Jvm.Cond.selects "ApplyFreeModel" ({ cls := "ApplyFreeModel", name := "told", desc := "(II)I" } : Jvm.MethodName) ({ cls := "ApplyFreeModel", name := "told", desc := "(II)I" } : Jvm.MethodName)) ∈ lw_all := lw_g (lw_at lw_m5 96 rfl) rfl
theorem q1135 : (Jvm.Cond.code ({ cls := "ApplyFreeModel", name := "told", desc := "(II)I" } : Jvm.MethodName) prog_11_method_39_code (3 : Nat) (Option.some Jvm.ClassFile.FieldType.int)) ∈ lw_all := lw_g (lw_at lw_m5 97 rfl) rfl
theorem q1136 : (Jvm.Cond.methodLink "ApplyFreeModel" (111 : Nat) ({ cls := "ApplyFreeModel", name := "measure", desc := "()V" } : Jvm.MethodName)) ∈ lw_all := lw_g (lw_at lw_m5 98 rfl) rfl
theorem q1137 : (Jvm.Cond.privateMethod ({ cls := "ApplyFreeModel", name := "measure", desc := "()V" } : Jvm.MethodName)) ∈ lw_tbl := lw_at lw_m5 99 rfl
theorem q1138 : (Jvm.Cond.instanceMethod ({ cls := "ApplyFreeModel", name := "measure", desc := "()V" } : Jvm.MethodName)) ∈ lw_all := lw_g (lw_at lw_m5 100 rfl) rfl
theorem q1139 : (Jvm.Cond.code ({ cls := "ApplyFreeModel", name := "measure", desc := "()V" } : Jvm.MethodName) prog_11_method_38_code (2 : Nat) (Option.none : Option Jvm.ClassFile.FieldType)) ∈ lw_all := lw_g (lw_at lw_m5 101 rfl) rfl
theorem q1140 : (Jvm.Cond.methodLink "ApplyFreeModel" (100 : Nat) ({ cls := "ApplyFreeModel", name := "sizeOf", desc := "(I)J" } : Jvm.MethodName)) ∈ lw_all := lw_g (lw_at lw_m5 102 rfl) rfl
theorem q1141 : (Jvm.Cond.privateMethod ({ cls := "ApplyFreeModel", name := "sizeOf", desc := "(I)J" } : Jvm.MethodName)) ∈ lw_tbl := lw_at lw_m5 103 rfl
theorem q1142 : (Jvm.Cond.instanceMethod ({ cls := "ApplyFreeModel", name := "sizeOf", desc := "(I)J" } : Jvm.MethodName)) ∈ lw_all := lw_g (lw_at lw_m5 104 rfl) rfl
theorem q1143 : (Jvm.Cond.code ({ cls := "ApplyFreeModel", name := "sizeOf", desc := "(I)J" } : Jvm.MethodName) prog_11_method_36_code (4 : Nat) (Option.some Jvm.ClassFile.FieldType.long)) ∈ lw_all := lw_g (lw_at lw_m5 105 rfl) rfl
theorem q1144 : (Jvm.Cond.methodLink "ApplyFreeModel" (104 : Nat) ({ cls := "ApplyFreeModel", name := "cut", desc := "(J)J" } : Jvm.MethodName)) ∈ lw_all := lw_g (lw_at lw_m5 106 rfl) rfl
theorem q1145 : (Jvm.Cond.static ({ cls := "ApplyFreeModel", name := "cut", desc := "(J)J" } : Jvm.MethodName)) ∈ lw_all := lw_g (lw_at lw_m5 107 rfl) rfl
theorem q1146 : (Jvm.Cond.code ({ cls := "ApplyFreeModel", name := "cut", desc := "(J)J" } : Jvm.MethodName) prog_11_method_35_code (2 : Nat) (Option.some Jvm.ClassFile.FieldType.long)) ∈ lw_all := lw_g (lw_at lw_m5 108 rfl) rfl
theorem q1147 : (Jvm.Cond.constantLong "ApplyFreeModel" (98 : Nat) (1000000 : Int64)) ∈ lw_all := lw_g (lw_at lw_m5 109 rfl) rfl
theorem q1148 : (Jvm.Cond.methodLink "ApplyFreeModel" (108 : Nat) ({ cls := "ApplyFreeModel", name := "costOf", desc := "(I)J" } : Jvm.MethodName)) ∈ lw_all := lw_g (lw_at lw_m5 110 rfl) rfl
theorem q1149 : (Jvm.Cond.privateMethod ({ cls := "ApplyFreeModel", name := "costOf", desc := "(I)J" } : Jvm.MethodName)) ∈ lw_tbl := lw_at lw_m5 111 rfl
theorem q1150 : (Jvm.Cond.instanceMethod ({ cls := "ApplyFreeModel", name := "costOf", desc := "(I)J" } : Jvm.MethodName)) ∈ lw_all := lw_g (lw_at lw_m5 112 rfl) rfl
theorem q1151 : (Jvm.Cond.code ({ cls := "ApplyFreeModel", name := "costOf", desc := "(I)J" } : Jvm.MethodName) prog_11_method_37_code (3 : Nat) (Option.some Jvm.ClassFile.FieldType.long)) ∈ lw_all := lw_g (lw_at lw_m5 113 rfl) rfl
theorem q1153 : (Jvm.Cond.instanceMethod ({ cls := "ApplyFreeModel", name := "run", desc := "(I)I" } : Jvm.MethodName)) ∈ lw_all := lw_g (lw_at lw_m5 115 rfl) rfl
theorem q1154 : (Jvm.Cond.selects "ApplyFreeModel" ({ cls := "ApplyFreeModel", name := "run", desc := "(I)I" } : Jvm.MethodName) ({ cls := "ApplyFreeModel", name := "run", desc := "(I)I" } : Jvm.MethodName)) ∈ lw_all := lw_g (lw_at lw_m5 116 rfl) rfl
theorem q1155 : (Jvm.Cond.code ({ cls := "ApplyFreeModel", name := "run", desc := "(I)I" } : Jvm.MethodName) prog_11_method_64_code (2 : Nat) (Option.some Jvm.ClassFile.FieldType.int)) ∈ lw_all := lw_g (lw_at lw_m5 117 rfl) rfl
theorem q1156 : (Jvm.Cond.constantLong "ApplyFreeModel" (205 : Nat) (3000 : Int64)) ∈ lw_all := lw_g (lw_at lw_m5 118 rfl) rfl
theorem q1157 : (Jvm.Cond.methodLink "ApplyFreeModel" (131 : Nat) ({ cls := "ApplyFreeModel", name := "bag", desc := "(I)I" } : Jvm.MethodName)) ∈ lw_all := lw_g (lw_at lw_m5 119 rfl) rfl
theorem q1158 : (Jvm.Cond.privateMethod ({ cls := "ApplyFreeModel", name := "bag", desc := "(I)I" } : Jvm.MethodName)) ∈ lw_tbl := lw_at lw_m5 120 rfl
theorem q1159 : (Jvm.Cond.instanceMethod ({ cls := "ApplyFreeModel", name := "bag", desc := "(I)I" } : Jvm.MethodName)) ∈ lw_all := lw_g (lw_at lw_m5 121 rfl) rfl
theorem q1160 : (Jvm.Cond.code ({ cls := "ApplyFreeModel", name := "bag", desc := "(I)I" } : Jvm.MethodName) prog_11_method_49_code (2 : Nat) (Option.some Jvm.ClassFile.FieldType.int)) ∈ lw_all := lw_g (lw_at lw_m5 122 rfl) rfl
theorem q1161 : (Jvm.Cond.methodLink "ApplyFreeModel" (158 : Nat) ({ cls := "ApplyFreeModel", name := "scanned", desc := "(I)I" } : Jvm.MethodName)) ∈ lw_all := lw_g (lw_at lw_m5 123 rfl) rfl
theorem q1162 : (Jvm.Cond.privateMethod ({ cls := "ApplyFreeModel", name := "scanned", desc := "(I)I" } : Jvm.MethodName)) ∈ lw_tbl := lw_at lw_m5 124 rfl
theorem q1163 : (Jvm.Cond.instanceMethod ({ cls := "ApplyFreeModel", name := "scanned", desc := "(I)I" } : Jvm.MethodName)) ∈ lw_all := lw_g (lw_at lw_m5 125 rfl) rfl
theorem q1164 : (Jvm.Cond.code ({ cls := "ApplyFreeModel", name := "scanned", desc := "(I)I" } : Jvm.MethodName) prog_11_method_50_code (5 : Nat) (Option.some Jvm.ClassFile.FieldType.int)) ∈ lw_all := lw_g (lw_at lw_m5 126 rfl) rfl
theorem q1165 : (Jvm.Cond.methodLink "ApplyFreeModel" (161 : Nat) ({ cls := "ApplyFreeModel", name := "filtered", desc := "(I)I" } : Jvm.MethodName)) ∈ lw_all := lw_g (lw_at lw_m5 127 rfl) rfl
theorem q1166 : (Jvm.Cond.privateMethod ({ cls := "ApplyFreeModel", name := "filtered", desc := "(I)I" } : Jvm.MethodName)) ∈ lw_tbl := lw_at lw_m5 128 rfl
theorem q1167 : (Jvm.Cond.instanceMethod ({ cls := "ApplyFreeModel", name := "filtered", desc := "(I)I" } : Jvm.MethodName)) ∈ lw_all := lw_g (lw_at lw_m5 129 rfl) rfl
theorem q1168 : (Jvm.Cond.code ({ cls := "ApplyFreeModel", name := "filtered", desc := "(I)I" } : Jvm.MethodName) prog_11_method_52_code (8 : Nat) (Option.some Jvm.ClassFile.FieldType.int)) ∈ lw_all := lw_g (lw_at lw_m5 130 rfl) rfl
theorem q1169 : (Jvm.Cond.methodLink "ApplyFreeModel" (188 : Nat) ({ cls := "ApplyFreeModel", name := "enter", desc := "(I)V" } : Jvm.MethodName)) ∈ lw_all := lw_g (lw_at lw_m5 131 rfl) rfl
theorem q1170 : (Jvm.Cond.privateMethod ({ cls := "ApplyFreeModel", name := "enter", desc := "(I)V" } : Jvm.MethodName)) ∈ lw_tbl := lw_at lw_m5 132 rfl
theorem q1171 : (Jvm.Cond.instanceMethod ({ cls := "ApplyFreeModel", name := "enter", desc := "(I)V" } : Jvm.MethodName)) ∈ lw_all := lw_g (lw_at lw_m5 133 rfl) rfl
theorem q1172 : (Jvm.Cond.code ({ cls := "ApplyFreeModel", name := "enter", desc := "(I)V" } : Jvm.MethodName) prog_11_method_51_code (2 : Nat) (Option.none : Option Jvm.ClassFile.FieldType)) ∈ lw_all := lw_g (lw_at lw_m5 134 rfl) rfl
theorem q1173 : (Jvm.Cond.methodLink "ApplyFreeModel" (125 : Nat) ({ cls := "ApplyFreeModel", name := "truth", desc := "(I)I" } : Jvm.MethodName)) ∈ lw_all := lw_g (lw_at lw_m5 135 rfl) rfl
theorem q1174 : (Jvm.Cond.privateMethod ({ cls := "ApplyFreeModel", name := "truth", desc := "(I)I" } : Jvm.MethodName)) ∈ lw_tbl := lw_at lw_m5 136 rfl
theorem q1175 : (Jvm.Cond.instanceMethod ({ cls := "ApplyFreeModel", name := "truth", desc := "(I)I" } : Jvm.MethodName)) ∈ lw_all := lw_g (lw_at lw_m5 137 rfl) rfl
theorem q1176 : (Jvm.Cond.code ({ cls := "ApplyFreeModel", name := "truth", desc := "(I)I" } : Jvm.MethodName) prog_11_method_43_code (8 : Nat) (Option.some Jvm.ClassFile.FieldType.int)) ∈ lw_all := lw_g (lw_at lw_m5 138 rfl) rfl
theorem q1177 : (Jvm.Cond.methodLink "ApplyFreeModel" (122 : Nat) ({ cls := "ApplyFreeModel", name := "value", desc := "(I)I" } : Jvm.MethodName)) ∈ lw_all := lw_g (lw_at lw_m5 139 rfl) rfl
theorem q1178 : (Jvm.Cond.privateMethod ({ cls := "ApplyFreeModel", name := "value", desc := "(I)I" } : Jvm.MethodName)) ∈ lw_tbl := lw_at lw_m5 140 rfl
theorem q1179 : (Jvm.Cond.instanceMethod ({ cls := "ApplyFreeModel", name := "value", desc := "(I)I" } : Jvm.MethodName)) ∈ lw_all := lw_g (lw_at lw_m5 141 rfl) rfl
theorem q1180 : (Jvm.Cond.code ({ cls := "ApplyFreeModel", name := "value", desc := "(I)I" } : Jvm.MethodName) prog_11_method_42_code (8 : Nat) (Option.some Jvm.ClassFile.FieldType.int)) ∈ lw_all := lw_g (lw_at lw_m5 142 rfl) rfl
theorem q1181 : (Jvm.Cond.constant "ApplyFreeModel" (118 : Nat) (-2147483648 : Int32)) ∈ lw_all := lw_g (lw_at lw_m5 143 rfl) rfl
theorem q1182 : (Jvm.Cond.methodLink "ApplyFreeModel" (134 : Nat) ({ cls := "ApplyFreeModel", name := "folded", desc := "(IIIIIII)I" } : Jvm.MethodName)) ∈ lw_all := lw_g (lw_at lw_m5 144 rfl) rfl
theorem q1183 : (Jvm.Cond.privateMethod ({ cls := "ApplyFreeModel", name := "folded", desc := "(IIIIIII)I" } : Jvm.MethodName)) ∈ lw_tbl := lw_at lw_m5 145 rfl
theorem q1184 : (Jvm.Cond.instanceMethod ({ cls := "ApplyFreeModel", name := "folded", desc := "(IIIIIII)I" } : Jvm.MethodName)) ∈ lw_all := lw_g (lw_at lw_m5 146 rfl) rfl
theorem q1185 : (Jvm.Cond.code ({ cls := "ApplyFreeModel", name := "folded", desc := "(IIIIIII)I" } : Jvm.MethodName) prog_11_method_46_code (21 : Nat) (Option.some Jvm.ClassFile.FieldType.int)) ∈ lw_all := lw_g (lw_at lw_m5 147 rfl) rfl
theorem q1186 : (Jvm.Cond.methodLink "ApplyFreeModel" (144 : Nat) ({ cls := "ApplyFreeModel", name := "areAlike", desc := "(IIII)Z" } : Jvm.MethodName)) ∈ lw_all := lw_g (lw_at lw_m5 148 rfl) rfl
theorem q1187 : (Jvm.Cond.privateMethod ({ cls := "ApplyFreeModel", name := "areAlike", desc := "(IIII)Z" } : Jvm.MethodName)) ∈ lw_tbl := lw_at lw_m5 149 rfl
theorem q1188 : (Jvm.Cond.instanceMethod ({ cls := "ApplyFreeModel", name := "areAlike", desc := "(IIII)Z" } : Jvm.MethodName)) ∈ lw_all := lw_g (lw_at lw_m5 150 rfl) rfl
theorem q1189 : (Jvm.Cond.code ({ cls := "ApplyFreeModel", name := "areAlike", desc := "(IIII)Z" } : Jvm.MethodName) prog_11_method_45_code (7 : Nat) (Option.some Jvm.ClassFile.FieldType.boolean)) ∈ lw_all := lw_g (lw_at lw_m5 151 rfl) rfl
theorem q1190 : (Jvm.Cond.methodLink "ApplyFreeModel" (137 : Nat) ({ cls := "ApplyFreeModel", name := "compared", desc := "(III)I" } : Jvm.MethodName)) ∈ lw_all := lw_g (lw_at lw_m5 152 rfl) rfl
theorem q1191 : (Jvm.Cond.static ({ cls := "ApplyFreeModel", name := "compared", desc := "(III)I" } : Jvm.MethodName)) ∈ lw_all := lw_g (lw_at lw_m5 153 rfl) rfl
theorem q1192 : (Jvm.Cond.code ({ cls := "ApplyFreeModel", name := "compared", desc := "(III)I" } : Jvm.MethodName) prog_11_method_41_code (3 : Nat) (Option.some Jvm.ClassFile.FieldType.int)) ∈ lw_all := lw_g (lw_at lw_m5 154 rfl) rfl
theorem q1193 : (Jvm.Cond.methodLink "ApplyFreeModel" (114 : Nat) ({ cls := "ApplyFreeModel", name := "truthOf", desc := "(Z)I" } : Jvm.MethodName)) ∈ lw_all := lw_g (lw_at lw_m5 155 rfl) rfl
theorem q1194 : (Jvm.Cond.static ({ cls := "ApplyFreeModel", name := "truthOf", desc := "(Z)I" } : Jvm.MethodName)) ∈ lw_all := lw_g (lw_at lw_m5 156 rfl) rfl
theorem q1195 : (Jvm.Cond.code ({ cls := "ApplyFreeModel", name := "truthOf", desc := "(Z)I" } : Jvm.MethodName) prog_11_method_40_code (1 : Nat) (Option.some Jvm.ClassFile.FieldType.int)) ∈ lw_all := lw_g (lw_at lw_m5 157 rfl) rfl
theorem q1196 : (Jvm.Cond.methodLink "ApplyFreeModel" (141 : Nat) ({ cls := "ApplyFreeModel", name := "quantified", desc := "(I)I" } : Jvm.MethodName)) ∈ lw_all := lw_g (lw_at lw_m5 158 rfl) rfl
theorem q1197 : (Jvm.Cond.privateMethod ({ cls := "ApplyFreeModel", name := "quantified", desc := "(I)I" } : Jvm.MethodName)) ∈ lw_tbl := lw_at lw_m5 159 rfl
theorem q1198 : (Jvm.Cond.instanceMethod ({ cls := "ApplyFreeModel", name := "quantified", desc := "(I)I" } : Jvm.MethodName)) ∈ lw_all := lw_g (lw_at lw_m5 160 rfl) rfl
theorem q1199 : (Jvm.Cond.code ({ cls := "ApplyFreeModel", name := "quantified", desc := "(I)I" } : Jvm.MethodName) prog_11_method_44_code (9 : Nat) (Option.some Jvm.ClassFile.FieldType.int)) ∈ lw_all := lw_g (lw_at lw_m5 161 rfl) rfl
theorem q1200 : (Jvm.Cond.methodLink "ApplyFreeModel" (154 : Nat) ({ cls := "ApplyFreeModel", name := "copy", desc := "(III)V" } : Jvm.MethodName)) ∈ lw_all := lw_g (lw_at lw_m5 162 rfl) rfl
theorem q1201 : (Jvm.Cond.privateMethod ({ cls := "ApplyFreeModel", name := "copy", desc := "(III)V" } : Jvm.MethodName)) ∈ lw_tbl := lw_at lw_m5 163 rfl
theorem q1202 : (Jvm.Cond.instanceMethod ({ cls := "ApplyFreeModel", name := "copy", desc := "(III)V" } : Jvm.MethodName)) ∈ lw_all := lw_g (lw_at lw_m5 164 rfl) rfl
theorem q1203 : (Jvm.Cond.code ({ cls := "ApplyFreeModel", name := "copy", desc := "(III)V" } : Jvm.MethodName) prog_11_method_47_code (4 : Nat) (Option.none : Option Jvm.ClassFile.FieldType)) ∈ lw_all := lw_g (lw_at lw_m5 165 rfl) rfl
theorem q1204 : (Jvm.Cond.methodLink "ApplyFreeModel" (148 : Nat) ({ cls := "java/lang/System", name := "arraycopy", desc := "(Ljava/lang/Object;ILjava/lang/Object;II)V" } : Jvm.MethodName)) ∈ lw_all := lw_g (lw_at lw_m5 166 rfl) rfl
theorem q1205 : (Jvm.Cond.methodLink "ApplyFreeModel" (164 : Nat) ({ cls := "ApplyFreeModel", name := "widened", desc := "(I)I" } : Jvm.MethodName)) ∈ lw_all := lw_g (lw_at lw_m5 167 rfl) rfl
theorem q1206 : (Jvm.Cond.privateMethod ({ cls := "ApplyFreeModel", name := "widened", desc := "(I)I" } : Jvm.MethodName)) ∈ lw_tbl := lw_at lw_m5 168 rfl
theorem q1207 : (Jvm.Cond.instanceMethod ({ cls := "ApplyFreeModel", name := "widened", desc := "(I)I" } : Jvm.MethodName)) ∈ lw_all := lw_g (lw_at lw_m5 169 rfl) rfl
theorem q1208 : (Jvm.Cond.code ({ cls := "ApplyFreeModel", name := "widened", desc := "(I)I" } : Jvm.MethodName) prog_11_method_53_code (8 : Nat) (Option.some Jvm.ClassFile.FieldType.int)) ∈ lw_all := lw_g (lw_at lw_m5 170 rfl) rfl
theorem q1209 : (Jvm.Cond.methodLink "ApplyFreeModel" (192 : Nat) ({ cls := "ApplyFreeModel", name := "settle", desc := "(IIII)I" } : Jvm.MethodName)) ∈ lw_all := lw_g (lw_at lw_m5 171 rfl) rfl
theorem q1210 : (Jvm.Cond.privateMethod ({ cls := "ApplyFreeModel", name := "settle", desc := "(IIII)I" } : Jvm.MethodName)) ∈ lw_tbl := lw_at lw_m5 172 rfl
theorem q1211 : (Jvm.Cond.instanceMethod ({ cls := "ApplyFreeModel", name := "settle", desc := "(IIII)I" } : Jvm.MethodName)) ∈ lw_all := lw_g (lw_at lw_m5 173 rfl) rfl
theorem q1212 : (Jvm.Cond.code ({ cls := "ApplyFreeModel", name := "settle", desc := "(IIII)I" } : Jvm.MethodName) prog_11_method_48_code (5 : Nat) (Option.some Jvm.ClassFile.FieldType.int)) ∈ lw_all := lw_g (lw_at lw_m5 174 rfl) rfl
theorem q1213 : (Jvm.Cond.methodLink "ApplyFreeModel" (167 : Nat) ({ cls := "ApplyFreeModel", name := "chosen", desc := "(I)I" } : Jvm.MethodName)) ∈ lw_all := lw_g (lw_at lw_m5 175 rfl) rfl
theorem q1214 : (Jvm.Cond.privateMethod ({ cls := "ApplyFreeModel", name := "chosen", desc := "(I)I" } : Jvm.MethodName)) ∈ lw_tbl := lw_at lw_m5 176 rfl
theorem q1215 : (Jvm.Cond.instanceMethod ({ cls := "ApplyFreeModel", name := "chosen", desc := "(I)I" } : Jvm.MethodName)) ∈ lw_all := lw_g (lw_at lw_m5 177 rfl) rfl
theorem q1216 : (Jvm.Cond.code ({ cls := "ApplyFreeModel", name := "chosen", desc := "(I)I" } : Jvm.MethodName) prog_11_method_54_code (8 : Nat) (Option.some Jvm.ClassFile.FieldType.int)) ∈ lw_all := lw_g (lw_at lw_m5 178 rfl) rfl
theorem q1217 : (Jvm.Cond.methodLink "ApplyFreeModel" (170 : Nat) ({ cls := "ApplyFreeModel", name := "paired", desc := "(I)I" } : Jvm.MethodName)) ∈ lw_all := lw_g (lw_at lw_m5 179 rfl) rfl
theorem q1218 : (Jvm.Cond.privateMethod ({ cls := "ApplyFreeModel", name := "paired", desc := "(I)I" } : Jvm.MethodName)) ∈ lw_tbl := lw_at lw_m5 180 rfl
theorem q1219 : (Jvm.Cond.instanceMethod ({ cls := "ApplyFreeModel", name := "paired", desc := "(I)I" } : Jvm.MethodName)) ∈ lw_all := lw_g (lw_at lw_m5 181 rfl) rfl
theorem q1220 : (Jvm.Cond.code ({ cls := "ApplyFreeModel", name := "paired", desc := "(I)I" } : Jvm.MethodName) prog_11_method_55_code (9 : Nat) (Option.some Jvm.ClassFile.FieldType.int)) ∈ lw_all := lw_g (lw_at lw_m5 182 rfl) rfl
theorem q1221 : (Jvm.Cond.methodLink "ApplyFreeModel" (173 : Nat) ({ cls := "ApplyFreeModel", name := "applied", desc := "(I)I" } : Jvm.MethodName)) ∈ lw_all := lw_g (lw_at lw_m5 183 rfl) rfl
theorem q1222 : (Jvm.Cond.privateMethod ({ cls := "ApplyFreeModel", name := "applied", desc := "(I)I" } : Jvm.MethodName)) ∈ lw_tbl := lw_at lw_m5 184 rfl
theorem q1223 : (Jvm.Cond.instanceMethod ({ cls := "ApplyFreeModel", name := "applied", desc := "(I)I" } : Jvm.MethodName)) ∈ lw_all := lw_g (lw_at lw_m5 185 rfl) rfl
theorem q1224 : (Jvm.Cond.code ({ cls := "ApplyFreeModel", name := "applied", desc := "(I)I" } : Jvm.MethodName) prog_11_method_56_code (12 : Nat) (Option.some Jvm.ClassFile.FieldType.int)) ∈ lw_all := lw_g (lw_at lw_m5 186 rfl) rfl
theorem q1225 : (Jvm.Cond.methodLink "ApplyFreeModel" (176 : Nat) ({ cls := "ApplyFreeModel", name := "bothOf", desc := "(I)I" } : Jvm.MethodName)) ∈ lw_all := lw_g (lw_at lw_m5 187 rfl) rfl
theorem q1226 : (Jvm.Cond.privateMethod ({ cls := "ApplyFreeModel", name := "bothOf", desc := "(I)I" } : Jvm.MethodName)) ∈ lw_tbl := lw_at lw_m5 188 rfl
theorem q1227 : (Jvm.Cond.instanceMethod ({ cls := "ApplyFreeModel", name := "bothOf", desc := "(I)I" } : Jvm.MethodName)) ∈ lw_all := lw_g (lw_at lw_m5 189 rfl) rfl
theorem q1228 : (Jvm.Cond.code ({ cls := "ApplyFreeModel", name := "bothOf", desc := "(I)I" } : Jvm.MethodName) prog_11_method_58_code (10 : Nat) (Option.some Jvm.ClassFile.FieldType.int)) ∈ lw_all := lw_g (lw_at lw_m5 190 rfl) rfl
theorem q1229 : (Jvm.Cond.methodLink "ApplyFreeModel" (195 : Nat) ({ cls := "ApplyFreeModel", name := "exchange", desc := "(III)V" } : Jvm.MethodName)) ∈ lw_all := lw_g (lw_at lw_m5 191 rfl) rfl
theorem q1230 : (Jvm.Cond.privateMethod ({ cls := "ApplyFreeModel", name := "exchange", desc := "(III)V" } : Jvm.MethodName)) ∈ lw_tbl := lw_at lw_m5 192 rfl
theorem q1231 : (Jvm.Cond.instanceMethod ({ cls := "ApplyFreeModel", name := "exchange", desc := "(III)V" } : Jvm.MethodName)) ∈ lw_all := lw_g (lw_at lw_m5 193 rfl) rfl
theorem q1232 : (Jvm.Cond.code ({ cls := "ApplyFreeModel", name := "exchange", desc := "(III)V" } : Jvm.MethodName) prog_11_method_57_code (6 : Nat) (Option.none : Option Jvm.ClassFile.FieldType)) ∈ lw_all := lw_g (lw_at lw_m5 194 rfl) rfl
theorem q1233 : (Jvm.Cond.methodLink "ApplyFreeModel" (179 : Nat) ({ cls := "ApplyFreeModel", name := "onceOf", desc := "(I)I" } : Jvm.MethodName)) ∈ lw_all := lw_g (lw_at lw_m5 195 rfl) rfl
theorem q1234 : (Jvm.Cond.privateMethod ({ cls := "ApplyFreeModel", name := "onceOf", desc := "(I)I" } : Jvm.MethodName)) ∈ lw_tbl := lw_at lw_m5 196 rfl
theorem q1235 : (Jvm.Cond.instanceMethod ({ cls := "ApplyFreeModel", name := "onceOf", desc := "(I)I" } : Jvm.MethodName)) ∈ lw_all := lw_g (lw_at lw_m5 197 rfl) rfl
theorem q1236 : (Jvm.Cond.code ({ cls := "ApplyFreeModel", name := "onceOf", desc := "(I)I" } : Jvm.MethodName) prog_11_method_59_code (9 : Nat) (Option.some Jvm.ClassFile.FieldType.int)) ∈ lw_all := lw_g (lw_at lw_m5 198 rfl) rfl
theorem q1237 : (Jvm.Cond.methodLink "ApplyFreeModel" (182 : Nat) ({ cls := "ApplyFreeModel", name := "firstOf", desc := "(I)I" } : Jvm.MethodName)) ∈ lw_all := lw_g (lw_at lw_m5 199 rfl) rfl
theorem q1238 : (Jvm.Cond.privateMethod ({ cls := "ApplyFreeModel", name := "firstOf", desc := "(I)I" } : Jvm.MethodName)) ∈ lw_tbl := lw_at lw_m5 200 rfl
theorem q1239 : (Jvm.Cond.instanceMethod ({ cls := "ApplyFreeModel", name := "firstOf", desc := "(I)I" } : Jvm.MethodName)) ∈ lw_all := lw_g (lw_at lw_m5 201 rfl) rfl
theorem q1240 : (Jvm.Cond.code ({ cls := "ApplyFreeModel", name := "firstOf", desc := "(I)I" } : Jvm.MethodName) prog_11_method_62_code (5 : Nat) (Option.some Jvm.ClassFile.FieldType.int)) ∈ lw_all := lw_g (lw_at lw_m5 202 rfl) rfl
theorem q1241 : (Jvm.Cond.methodLink "ApplyFreeModel" (201 : Nat) ({ cls := "ApplyFreeModel", name := "order", desc := "(IIII)V" } : Jvm.MethodName)) ∈ lw_all := lw_g (lw_at lw_m5 203 rfl) rfl
theorem q1242 : (Jvm.Cond.privateMethod ({ cls := "ApplyFreeModel", name := "order", desc := "(IIII)V" } : Jvm.MethodName)) ∈ lw_tbl := lw_at lw_m5 204 rfl
theorem q1243 : (Jvm.Cond.instanceMethod ({ cls := "ApplyFreeModel", name := "order", desc := "(IIII)V" } : Jvm.MethodName)) ∈ lw_all := lw_g (lw_at lw_m5 205 rfl) rfl
theorem q1244 : (Jvm.Cond.code ({ cls := "ApplyFreeModel", name := "order", desc := "(IIII)V" } : Jvm.MethodName) prog_11_method_61_code (8 : Nat) (Option.none : Option Jvm.ClassFile.FieldType)) ∈ lw_all := lw_g (lw_at lw_m5 206 rfl) rfl
theorem q1245 : (Jvm.Cond.methodLink "ApplyFreeModel" (198 : Nat) ({ cls := "ApplyFreeModel", name := "isBefore", desc := "(III)Z" } : Jvm.MethodName)) ∈ lw_all := lw_g (lw_at lw_m5 207 rfl) rfl
theorem q1246 : (Jvm.Cond.privateMethod ({ cls := "ApplyFreeModel", name := "isBefore", desc := "(III)Z" } : Jvm.MethodName)) ∈ lw_tbl := lw_at lw_m5 208 rfl
theorem q1247 : (Jvm.Cond.instanceMethod ({ cls := "ApplyFreeModel", name := "isBefore", desc := "(III)Z" } : Jvm.MethodName)) ∈ lw_all := lw_g (lw_at lw_m5 209 rfl) rfl
theorem q1248 : (Jvm.Cond.code ({ cls := "ApplyFreeModel", name := "isBefore", desc := "(III)Z" } : Jvm.MethodName) prog_11_method_60_code (5 : Nat) (Option.some Jvm.ClassFile.FieldType.boolean)) ∈ lw_all := lw_g (lw_at lw_m5 210 rfl) rfl
theorem q1249 : (Jvm.Cond.methodLink "ApplyFreeModel" (185 : Nat) ({ cls := "ApplyFreeModel", name := "grouped", desc := "(I)I" } : Jvm.MethodName)) ∈ lw_all := lw_g (lw_at lw_m5 211 rfl) rfl
theorem q1250 : (Jvm.Cond.privateMethod ({ cls := "ApplyFreeModel", name := "grouped", desc := "(I)I" } : Jvm.MethodName)) ∈ lw_tbl := lw_at lw_m5 212 rfl
theorem q1251 : (Jvm.Cond.instanceMethod ({ cls := "ApplyFreeModel", name := "grouped", desc := "(I)I" } : Jvm.MethodName)) ∈ lw_all := lw_g (lw_at lw_m5 213 rfl) rfl
theorem q1252 : (Jvm.Cond.code ({ cls := "ApplyFreeModel", name := "grouped", desc := "(I)I" } : Jvm.MethodName) prog_11_method_63_code (10 : Nat) (Option.some Jvm.ClassFile.FieldType.int)) ∈ lw_all := lw_g (lw_at lw_m5 214 rfl) rfl
theorem q1254 : (Jvm.Cond.instanceMethod ({ cls := "ApplyFreeModel", name := "cell", desc := "(II)J" } : Jvm.MethodName)) ∈ lw_all := lw_g (lw_at lw_m5 216 rfl) rfl
theorem q1255 : (Jvm.Cond.selects "ApplyFreeModel" ({ cls := "ApplyFreeModel", name := "cell", desc := "(II)J" } : Jvm.MethodName) ({ cls := "ApplyFreeModel", name := "cell", desc := "(II)J" } : Jvm.MethodName)) ∈ lw_all := lw_g (lw_at lw_m5 217 rfl) rfl
theorem q1256 : (Jvm.Cond.code ({ cls := "ApplyFreeModel", name := "cell", desc := "(II)J" } : Jvm.MethodName) prog_11_method_65_code (3 : Nat) (Option.some Jvm.ClassFile.FieldType.long)) ∈ lw_all := lw_g (lw_at lw_m5 218 rfl) rfl
theorem q1257 : (Jvm.Cond.constantLong "ApplyFreeModel" (213 : Nat) (1099511627776 : Int64)) ∈ lw_all := lw_g (lw_at lw_m5 219 rfl) rfl
theorem q1259 : (Jvm.Cond.instanceMethod ({ cls := "ApplyFreeModel", name := "count", desc := "(I)I" } : Jvm.MethodName)) ∈ lw_all := lw_g (lw_at lw_m5 221 rfl) rfl
theorem q1260 : (Jvm.Cond.selects "ApplyFreeModel" ({ cls := "ApplyFreeModel", name := "count", desc := "(I)I" } : Jvm.MethodName) ({ cls := "ApplyFreeModel", name := "count", desc := "(I)I" } : Jvm.MethodName)) ∈ lw_all := lw_g (lw_at lw_m5 222 rfl) rfl
theorem q1261 : (Jvm.Cond.code ({ cls := "ApplyFreeModel", name := "count", desc := "(I)I" } : Jvm.MethodName) prog_11_method_66_code (2 : Nat) (Option.some Jvm.ClassFile.FieldType.int)) ∈ lw_all := lw_g (lw_at lw_m5 223 rfl) rfl
theorem in_X8 : ∀ w ∈ wsX80, w ∈ lw_all := lw_in wsX80 [956, 958, 960, 962, 964, 966, 968, 970, 972, 974, 976, 978, 980, 982, 984, 986, 988, 990, 992, 994, 996, 998] (by decide +kernel) (by decide +kernel)

/-! ApplyFree$Table -/
set_option maxRecDepth 100000
def RX9 : String := "ApplyFree$Table"
def TX9 : u_T := fun k => match k with
  | 0 => ("ApplyFree$Table", "columns", "I", true)
  | 1 => ("ApplyFree$Table", "cells", "[I", true)
  | _ => ("ApplyFree$Table", "rows", "I", false)
def tyX9 : Nat → FieldType := fun k => match k with
  | 0 => .int
  | 1 => .array .int
  | _ => .int
abbrev wsX90 : List Cond := u_ws RX9 TX9 3
theorem nmX9 : ∀ a, a < 3 → ∀ b, b < 3 → a ≠ b → (TX9 a).2.1 ≠ (TX9 b).2.1 := by decide +kernel
theorem tyX9_ok : ∀ k, k < 3 → parseFieldDescriptor (TX9 k).2.2.1 = some (tyX9 k) := by decide +kernel
abbrev cX9_init : ByteArray := prog_8_method_1_code
def yX9_init : MethodName := ⟨RX9, "<init>", "(I)V"⟩
theorem q88 : (Jvm.Cond.initialized "ApplyFree$Table") ∈ lw_all := lw_g (lw_at lw_m1 10 rfl) rfl
theorem q422 : (Jvm.Cond.instantiable "ApplyFree$Table" (3 : Nat)) ∈ lw_all := lw_g (lw_at lw_m2 104 rfl) rfl
theorem q424 : (Jvm.Cond.instanceMethod ({ cls := "ApplyFree$Table", name := "<init>", desc := "(I)V" } : Jvm.MethodName)) ∈ lw_all := lw_g (lw_at lw_m2 106 rfl) rfl
theorem q425 : (Jvm.Cond.code ({ cls := "ApplyFree$Table", name := "<init>", desc := "(I)V" } : Jvm.MethodName) prog_8_method_1_code (2 : Nat) (Option.none : Option Jvm.ClassFile.FieldType)) ∈ lw_all := lw_g (lw_at lw_m2 107 rfl) rfl
theorem q426 : (Jvm.Cond.methodLink "ApplyFree$Table" (3 : Nat) ({ cls := "java/lang/Object", name := "<init>", desc := "()V" } : Jvm.MethodName)) ∈ lw_all := lw_g (lw_at lw_m2 108 rfl) rfl
theorem q427 : (Jvm.Cond.fieldLink "ApplyFree$Table" (9 : Nat) "ApplyFree$Table" "columns" "I") ∈ lw_all := lw_g (lw_at lw_m2 109 rfl) rfl
theorem q430 : (Jvm.Cond.fieldLink "ApplyFree$Table" (15 : Nat) "ApplyFree$Table" "cells" "[I") ∈ lw_all := lw_g (lw_at lw_m2 112 rfl) rfl
theorem q436 : (Jvm.Cond.laysFinal "ApplyFree$Table" "ApplyFree$Table" "columns" "I") ∈ lw_all := lw_g (lw_at lw_m2 118 rfl) rfl
theorem q437 : (Jvm.Cond.soleField "ApplyFree$Table" "columns") ∈ lw_all := lw_g (lw_at lw_m2 119 rfl) rfl
theorem q438 : (Jvm.Cond.laysFinal "ApplyFree$Table" "ApplyFree$Table" "cells" "[I") ∈ lw_all := lw_g (lw_at lw_m2 120 rfl) rfl
theorem q439 : (Jvm.Cond.soleField "ApplyFree$Table" "cells") ∈ lw_all := lw_g (lw_at lw_m2 121 rfl) rfl
theorem q440 : (Jvm.Cond.lays "ApplyFree$Table" "ApplyFree$Table" "rows" "I") ∈ lw_all := lw_g (lw_at lw_m2 122 rfl) rfl
theorem q441 : (Jvm.Cond.soleField "ApplyFree$Table" "rows") ∈ lw_all := lw_g (lw_at lw_m2 123 rfl) rfl
theorem q442 : (Jvm.Cond.superclass "ApplyFree$Table" "java/lang/Object") ∈ lw_all := lw_g (lw_at lw_m2 124 rfl) rfl
theorem in_X9 : ∀ w ∈ wsX90, w ∈ lw_all := lw_in wsX90 [436, 438, 440] (by decide +kernel) (by decide +kernel)

theorem q78 : (Jvm.Cond.initialized "ApplyFreeLaw") ∈ lw_all := lw_g (lw_at lw_m1 0 rfl) rfl
set_option maxRecDepth 100000
theorem q92 : (Jvm.Cond.classLink "ApplyFreeLaw" (7 : Nat) "ApplyFree") ∈ lw_all := lw_g (lw_at lw_m1 14 rfl) rfl
theorem q94 : (Jvm.Cond.methodLink "ApplyFreeLaw" (9 : Nat) ({ cls := "ApplyFree", name := "<init>", desc := "()V" } : Jvm.MethodName)) ∈ lw_all := lw_g (lw_at lw_m1 16 rfl) rfl
theorem q415 : (Jvm.Cond.methodLink "ApplyFreeLaw" (13 : Nat) ({ cls := "ApplyFree", name := "table", desc := "(I)I" } : Jvm.MethodName)) ∈ lw_all := lw_g (lw_at lw_m2 97 rfl) rfl
theorem q443 : (Jvm.Cond.methodLink "ApplyFreeLaw" (18 : Nat) ({ cls := "ApplyFree", name := "row", desc := "(IIIII)I" } : Jvm.MethodName)) ∈ lw_all := lw_g (lw_at lw_m2 125 rfl) rfl
theorem q451 : (Jvm.Cond.methodLink "ApplyFreeLaw" (23 : Nat) ({ cls := "ApplyFree", name := "empty", desc := "(I)I" } : Jvm.MethodName)) ∈ lw_all := lw_g (lw_at lw_m2 133 rfl) rfl
theorem q455 : (Jvm.Cond.methodLink "ApplyFreeLaw" (27 : Nat) ({ cls := "ApplyFree", name := "constant", desc := "(I)I" } : Jvm.MethodName)) ∈ lw_all := lw_g (lw_at lw_m2 137 rfl) rfl
theorem q470 : (Jvm.Cond.methodLink "ApplyFreeLaw" (31 : Nat) ({ cls := "ApplyFree", name := "column", desc := "(II)I" } : Jvm.MethodName)) ∈ lw_all := lw_g (lw_at lw_m2 152 rfl) rfl
theorem q474 : (Jvm.Cond.methodLink "ApplyFreeLaw" (36 : Nat) ({ cls := "ApplyFree", name := "reckon", desc := "(III)I" } : Jvm.MethodName)) ∈ lw_all := lw_g (lw_at lw_m2 156 rfl) rfl
theorem q489 : (Jvm.Cond.methodLink "ApplyFreeLaw" (41 : Nat) ({ cls := "ApplyFree", name := "number", desc := "(I)I" } : Jvm.MethodName)) ∈ lw_all := lw_g (lw_at lw_m2 171 rfl) rfl
theorem q497 : (Jvm.Cond.methodLink "ApplyFreeLaw" (45 : Nat) ({ cls := "ApplyFree", name := "fold", desc := "(III)I" } : Jvm.MethodName)) ∈ lw_all := lw_g (lw_at lw_m2 179 rfl) rfl
theorem q505 : (Jvm.Cond.methodLink "ApplyFreeLaw" (49 : Nat) ({ cls := "ApplyFree", name := "compare", desc := "(III)I" } : Jvm.MethodName)) ∈ lw_all := lw_g (lw_at lw_m2 187 rfl) rfl
theorem q509 : (Jvm.Cond.methodLink "ApplyFreeLaw" (53 : Nat) ({ cls := "ApplyFree", name := "isNothing", desc := "(I)I" } : Jvm.MethodName)) ∈ lw_all := lw_g (lw_at lw_m2 191 rfl) rfl
theorem q513 : (Jvm.Cond.methodLink "ApplyFreeLaw" (57 : Nat) ({ cls := "ApplyFree", name := "logic", desc := "(III)I" } : Jvm.MethodName)) ∈ lw_all := lw_g (lw_at lw_m2 195 rfl) rfl
theorem q517 : (Jvm.Cond.methodLink "ApplyFreeLaw" (61 : Nat) ({ cls := "ApplyFree", name := "has", desc := "(I)I" } : Jvm.MethodName)) ∈ lw_all := lw_g (lw_at lw_m2 199 rfl) rfl
theorem q521 : (Jvm.Cond.methodLink "ApplyFreeLaw" (65 : Nat) ({ cls := "ApplyFree", name := "some", desc := "(III)I" } : Jvm.MethodName)) ∈ lw_all := lw_g (lw_at lw_m2 203 rfl) rfl
theorem q529 : (Jvm.Cond.methodLink "ApplyFreeLaw" (69 : Nat) ({ cls := "ApplyFree", name := "each", desc := "(III)I" } : Jvm.MethodName)) ∈ lw_all := lw_g (lw_at lw_m2 211 rfl) rfl
theorem q533 : (Jvm.Cond.methodLink "ApplyFreeLaw" (73 : Nat) ({ cls := "ApplyFree", name := "scan", desc := "(I)I" } : Jvm.MethodName)) ∈ lw_all := lw_g (lw_at lw_m2 215 rfl) rfl
theorem q537 : (Jvm.Cond.methodLink "ApplyFreeLaw" (77 : Nat) ({ cls := "ApplyFree", name := "filter", desc := "(II)I" } : Jvm.MethodName)) ∈ lw_all := lw_g (lw_at lw_m2 219 rfl) rfl
theorem q545 : (Jvm.Cond.methodLink "ApplyFreeLaw" (81 : Nat) ({ cls := "ApplyFree", name := "more", desc := "(II)I" } : Jvm.MethodName)) ∈ lw_all := lw_g (lw_at lw_m2 227 rfl) rfl
theorem q549 : (Jvm.Cond.methodLink "ApplyFreeLaw" (85 : Nat) ({ cls := "ApplyFree", name := "only", desc := "(III)I" } : Jvm.MethodName)) ∈ lw_all := lw_g (lw_at lw_m2 231 rfl) rfl
theorem q553 : (Jvm.Cond.methodLink "ApplyFreeLaw" (89 : Nat) ({ cls := "ApplyFree", name := "pairs", desc := "(II)I" } : Jvm.MethodName)) ∈ lw_all := lw_g (lw_at lw_m2 235 rfl) rfl
theorem q561 : (Jvm.Cond.methodLink "ApplyFreeLaw" (93 : Nat) ({ cls := "ApplyFree", name := "apply", desc := "(III)I" } : Jvm.MethodName)) ∈ lw_all := lw_g (lw_at lw_m3 3 rfl) rfl
theorem q565 : (Jvm.Cond.methodLink "ApplyFreeLaw" (97 : Nat) ({ cls := "ApplyFree", name := "both", desc := "(III)I" } : Jvm.MethodName)) ∈ lw_all := lw_g (lw_at lw_m3 7 rfl) rfl
theorem q569 : (Jvm.Cond.methodLink "ApplyFreeLaw" (101 : Nat) ({ cls := "ApplyFree", name := "once", desc := "(I)I" } : Jvm.MethodName)) ∈ lw_all := lw_g (lw_at lw_m3 11 rfl) rfl
theorem q573 : (Jvm.Cond.methodLink "ApplyFreeLaw" (105 : Nat) ({ cls := "ApplyFree", name := "first", desc := "(II)I" } : Jvm.MethodName)) ∈ lw_all := lw_g (lw_at lw_m3 15 rfl) rfl
theorem q577 : (Jvm.Cond.methodLink "ApplyFreeLaw" (109 : Nat) ({ cls := "ApplyFree", name := "groups", desc := "(IIII)I" } : Jvm.MethodName)) ∈ lw_all := lw_g (lw_at lw_m3 19 rfl) rfl
theorem q587 : (Jvm.Cond.methodLink "ApplyFreeLaw" (114 : Nat) ({ cls := "ApplyFree", name := "forget", desc := "()I" } : Jvm.MethodName)) ∈ lw_all := lw_g (lw_at lw_m3 29 rfl) rfl
theorem q591 : (Jvm.Cond.methodLink "ApplyFreeLaw" (119 : Nat) ({ cls := "ApplyFree", name := "told", desc := "(II)I" } : Jvm.MethodName)) ∈ lw_all := lw_g (lw_at lw_m3 33 rfl) rfl
theorem q624 : (Jvm.Cond.methodLink "ApplyFreeLaw" (123 : Nat) ({ cls := "ApplyFree", name := "run", desc := "(I)I" } : Jvm.MethodName)) ∈ lw_all := lw_g (lw_at lw_m3 66 rfl) rfl
theorem q917 : (Jvm.Cond.methodLink "ApplyFreeLaw" (127 : Nat) ({ cls := "ApplyFree", name := "cell", desc := "(II)J" } : Jvm.MethodName)) ∈ lw_all := lw_g (lw_at lw_m4 119 rfl) rfl
theorem q922 : (Jvm.Cond.methodLink "ApplyFreeLaw" (132 : Nat) ({ cls := "ApplyFree", name := "count", desc := "(I)I" } : Jvm.MethodName)) ∈ lw_all := lw_g (lw_at lw_m4 124 rfl) rfl
theorem q926 : (Jvm.Cond.classLink "ApplyFreeLaw" (10 : Nat) "ApplyFreeModel") ∈ lw_all := lw_g (lw_at lw_m4 128 rfl) rfl
theorem q928 : (Jvm.Cond.methodLink "ApplyFreeLaw" (12 : Nat) ({ cls := "ApplyFreeModel", name := "<init>", desc := "()V" } : Jvm.MethodName)) ∈ lw_all := lw_g (lw_at lw_m4 130 rfl) rfl
theorem q1002 : (Jvm.Cond.methodLink "ApplyFreeLaw" (17 : Nat) ({ cls := "ApplyFreeModel", name := "table", desc := "(I)I" } : Jvm.MethodName)) ∈ lw_all := lw_g (lw_at lw_m4 204 rfl) rfl
theorem q1009 : (Jvm.Cond.methodLink "ApplyFreeLaw" (22 : Nat) ({ cls := "ApplyFreeModel", name := "row", desc := "(IIIII)I" } : Jvm.MethodName)) ∈ lw_all := lw_g (lw_at lw_m4 211 rfl) rfl
theorem q1013 : (Jvm.Cond.methodLink "ApplyFreeLaw" (26 : Nat) ({ cls := "ApplyFreeModel", name := "empty", desc := "(I)I" } : Jvm.MethodName)) ∈ lw_all := lw_g (lw_at lw_m4 215 rfl) rfl
theorem q1017 : (Jvm.Cond.methodLink "ApplyFreeLaw" (30 : Nat) ({ cls := "ApplyFreeModel", name := "constant", desc := "(I)I" } : Jvm.MethodName)) ∈ lw_all := lw_g (lw_at lw_m4 219 rfl) rfl
theorem q1025 : (Jvm.Cond.methodLink "ApplyFreeLaw" (35 : Nat) ({ cls := "ApplyFreeModel", name := "column", desc := "(II)I" } : Jvm.MethodName)) ∈ lw_all := lw_g (lw_at lw_m4 227 rfl) rfl
theorem q1029 : (Jvm.Cond.methodLink "ApplyFreeLaw" (40 : Nat) ({ cls := "ApplyFreeModel", name := "reckon", desc := "(III)I" } : Jvm.MethodName)) ∈ lw_all := lw_g (lw_at lw_m4 231 rfl) rfl
theorem q1041 : (Jvm.Cond.methodLink "ApplyFreeLaw" (44 : Nat) ({ cls := "ApplyFreeModel", name := "number", desc := "(I)I" } : Jvm.MethodName)) ∈ lw_all := lw_g (lw_at lw_m5 3 rfl) rfl
theorem q1045 : (Jvm.Cond.methodLink "ApplyFreeLaw" (48 : Nat) ({ cls := "ApplyFreeModel", name := "fold", desc := "(III)I" } : Jvm.MethodName)) ∈ lw_all := lw_g (lw_at lw_m5 7 rfl) rfl
theorem q1049 : (Jvm.Cond.methodLink "ApplyFreeLaw" (52 : Nat) ({ cls := "ApplyFreeModel", name := "compare", desc := "(III)I" } : Jvm.MethodName)) ∈ lw_all := lw_g (lw_at lw_m5 11 rfl) rfl
theorem q1053 : (Jvm.Cond.methodLink "ApplyFreeLaw" (56 : Nat) ({ cls := "ApplyFreeModel", name := "isNothing", desc := "(I)I" } : Jvm.MethodName)) ∈ lw_all := lw_g (lw_at lw_m5 15 rfl) rfl
theorem q1057 : (Jvm.Cond.methodLink "ApplyFreeLaw" (60 : Nat) ({ cls := "ApplyFreeModel", name := "logic", desc := "(III)I" } : Jvm.MethodName)) ∈ lw_all := lw_g (lw_at lw_m5 19 rfl) rfl
theorem q1061 : (Jvm.Cond.methodLink "ApplyFreeLaw" (64 : Nat) ({ cls := "ApplyFreeModel", name := "has", desc := "(I)I" } : Jvm.MethodName)) ∈ lw_all := lw_g (lw_at lw_m5 23 rfl) rfl
theorem q1065 : (Jvm.Cond.methodLink "ApplyFreeLaw" (68 : Nat) ({ cls := "ApplyFreeModel", name := "some", desc := "(III)I" } : Jvm.MethodName)) ∈ lw_all := lw_g (lw_at lw_m5 27 rfl) rfl
theorem q1073 : (Jvm.Cond.methodLink "ApplyFreeLaw" (72 : Nat) ({ cls := "ApplyFreeModel", name := "each", desc := "(III)I" } : Jvm.MethodName)) ∈ lw_all := lw_g (lw_at lw_m5 35 rfl) rfl
theorem q1077 : (Jvm.Cond.methodLink "ApplyFreeLaw" (76 : Nat) ({ cls := "ApplyFreeModel", name := "scan", desc := "(I)I" } : Jvm.MethodName)) ∈ lw_all := lw_g (lw_at lw_m5 39 rfl) rfl
theorem q1081 : (Jvm.Cond.methodLink "ApplyFreeLaw" (80 : Nat) ({ cls := "ApplyFreeModel", name := "filter", desc := "(II)I" } : Jvm.MethodName)) ∈ lw_all := lw_g (lw_at lw_m5 43 rfl) rfl
theorem q1093 : (Jvm.Cond.methodLink "ApplyFreeLaw" (84 : Nat) ({ cls := "ApplyFreeModel", name := "more", desc := "(II)I" } : Jvm.MethodName)) ∈ lw_all := lw_g (lw_at lw_m5 55 rfl) rfl
theorem q1097 : (Jvm.Cond.methodLink "ApplyFreeLaw" (88 : Nat) ({ cls := "ApplyFreeModel", name := "only", desc := "(III)I" } : Jvm.MethodName)) ∈ lw_all := lw_g (lw_at lw_m5 59 rfl) rfl
theorem q1101 : (Jvm.Cond.methodLink "ApplyFreeLaw" (92 : Nat) ({ cls := "ApplyFreeModel", name := "pairs", desc := "(II)I" } : Jvm.MethodName)) ∈ lw_all := lw_g (lw_at lw_m5 63 rfl) rfl
theorem q1105 : (Jvm.Cond.methodLink "ApplyFreeLaw" (96 : Nat) ({ cls := "ApplyFreeModel", name := "apply", desc := "(III)I" } : Jvm.MethodName)) ∈ lw_all := lw_g (lw_at lw_m5 67 rfl) rfl
theorem q1109 : (Jvm.Cond.methodLink "ApplyFreeLaw" (100 : Nat) ({ cls := "ApplyFreeModel", name := "both", desc := "(III)I" } : Jvm.MethodName)) ∈ lw_all := lw_g (lw_at lw_m5 71 rfl) rfl
theorem q1113 : (Jvm.Cond.methodLink "ApplyFreeLaw" (104 : Nat) ({ cls := "ApplyFreeModel", name := "once", desc := "(I)I" } : Jvm.MethodName)) ∈ lw_all := lw_g (lw_at lw_m5 75 rfl) rfl
theorem q1117 : (Jvm.Cond.methodLink "ApplyFreeLaw" (108 : Nat) ({ cls := "ApplyFreeModel", name := "first", desc := "(II)I" } : Jvm.MethodName)) ∈ lw_all := lw_g (lw_at lw_m5 79 rfl) rfl
theorem q1121 : (Jvm.Cond.methodLink "ApplyFreeLaw" (113 : Nat) ({ cls := "ApplyFreeModel", name := "groups", desc := "(IIII)I" } : Jvm.MethodName)) ∈ lw_all := lw_g (lw_at lw_m5 83 rfl) rfl
theorem q1128 : (Jvm.Cond.methodLink "ApplyFreeLaw" (118 : Nat) ({ cls := "ApplyFreeModel", name := "forget", desc := "()I" } : Jvm.MethodName)) ∈ lw_all := lw_g (lw_at lw_m5 90 rfl) rfl
theorem q1132 : (Jvm.Cond.methodLink "ApplyFreeLaw" (122 : Nat) ({ cls := "ApplyFreeModel", name := "told", desc := "(II)I" } : Jvm.MethodName)) ∈ lw_all := lw_g (lw_at lw_m5 94 rfl) rfl
theorem q1152 : (Jvm.Cond.methodLink "ApplyFreeLaw" (126 : Nat) ({ cls := "ApplyFreeModel", name := "run", desc := "(I)I" } : Jvm.MethodName)) ∈ lw_all := lw_g (lw_at lw_m5 114 rfl) rfl
theorem q1253 : (Jvm.Cond.methodLink "ApplyFreeLaw" (131 : Nat) ({ cls := "ApplyFreeModel", name := "cell", desc := "(II)J" } : Jvm.MethodName)) ∈ lw_all := lw_g (lw_at lw_m5 215 rfl) rfl
theorem q1258 : (Jvm.Cond.methodLink "ApplyFreeLaw" (135 : Nat) ({ cls := "ApplyFreeModel", name := "count", desc := "(I)I" } : Jvm.MethodName)) ∈ lw_all := lw_g (lw_at lw_m5 220 rfl) rfl

theorem q91 : (Jvm.Cond.initialized "java/lang/System") ∈ lw_all := lw_g (lw_at lw_m1 13 rfl) rfl
set_option maxRecDepth 100000
theorem q789 : (Jvm.Cond.static ({ cls := "java/lang/System", name := "arraycopy", desc := "(Ljava/lang/Object;ILjava/lang/Object;II)V" } : Jvm.MethodName)) ∈ lw_all := lw_g (lw_at lw_m3 231 rfl) rfl
theorem q790 : (Jvm.Cond.native ({ cls := "java/lang/System", name := "arraycopy", desc := "(Ljava/lang/Object;ILjava/lang/Object;II)V" } : Jvm.MethodName)) ∈ lw_all := lw_g (lw_at lw_m3 232 rfl) rfl

theorem q101 : (Jvm.Cond.arrayOver (Jvm.ClassFile.FieldType.object "ApplyFree$Table")) ∈ lw_tbl := lw_at lw_m1 23 rfl
set_option maxRecDepth 100000
theorem q159 : (Jvm.Cond.arrayClass Jvm.ClassFile.FieldType.byte) ∈ lw_all := lw_g (lw_at lw_m1 81 rfl) rfl
theorem q160 : (Jvm.Cond.arrayClass Jvm.ClassFile.FieldType.short) ∈ lw_all := lw_g (lw_at lw_m1 82 rfl) rfl
theorem q161 : (Jvm.Cond.arrayClass Jvm.ClassFile.FieldType.int) ∈ lw_all := lw_g (lw_at lw_m1 83 rfl) rfl
theorem q238 : (Jvm.Cond.arrayOver (Jvm.ClassFile.FieldType.object "ApplyFree$Scope")) ∈ lw_tbl := lw_at lw_m1 160 rfl
theorem q386 : (Jvm.Cond.arrayClass Jvm.ClassFile.FieldType.boolean) ∈ lw_all := lw_g (lw_at lw_m2 68 rfl) rfl
theorem q1001 : (Jvm.Cond.arrayClass Jvm.ClassFile.FieldType.long) ∈ lw_all := lw_g (lw_at lw_m4 203 rfl) rfl

