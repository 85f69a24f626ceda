set_option maxRecDepth 100000
/-! AlgebraHouse -/
def RX0 : String := "AlgebraHouse"
def TX0 : u_T := fun k => match k with
  | 0 => ("AlgebraHouse", "tape", "[B", true)
  | 1 => ("AlgebraHouse", "size", "I", false)
  | 2 => ("AlgebraHouse", "book", "LAlgebraHouse$Book;", true)
  | 3 => ("AlgebraHouse", "parser", "LAlgebraHouse$Parser;", true)
  | 4 => ("AlgebraHouse", "judge", "LAlgebraHouse$Judge;", true)
  | 5 => ("AlgebraHouse", "kept", "[I", true)
  | 6 => ("AlgebraHouse", "keptVariables", "[I", true)
  | 7 => ("AlgebraHouse", "machine", "LAlgebraHouse$Machine;", true)
  | 8 => ("AlgebraHouse", "asked", "[I", true)
  | 9 => ("AlgebraHouse", "fault", "I", false)
  | 10 => ("AlgebraHouse", "place", "I", false)
  | 11 => ("AlgebraHouse", "steps", "I", false)
  | 12 => ("AlgebraHouse", "calls", "I", false)
  | 13 => ("AlgebraHouse", "error", "I", false)
  | _ => ("AlgebraHouse", "result", "I", false)
def tyX0 : Nat → FieldType := fun k => match k with
  | 0 => .array .byte
  | 1 => .int
  | 2 => .object "AlgebraHouse$Book"
  | 3 => .object "AlgebraHouse$Parser"
  | 4 => .object "AlgebraHouse$Judge"
  | 5 => .array .int
  | 6 => .array .int
  | 7 => .object "AlgebraHouse$Machine"
  | 8 => .array .int
  | 9 => .int
  | 10 => .int
  | 11 => .int
  | 12 => .int
  | 13 => .int
  | _ => .int
abbrev wsX00 : List Cond := u_ws RX0 TX0 15
set_option maxRecDepth 100000 in
theorem nmX0 : ∀ a, a < 15 → ∀ b, b < 15 → a ≠ b → (TX0 a).2.1 ≠ (TX0 b).2.1 := by decide +kernel
set_option maxRecDepth 100000 in
theorem tyX0_ok : ∀ k, k < 15 → parseFieldDescriptor (TX0 k).2.2.1 = some (tyX0 k) := by decide +kernel
abbrev cX0_init : ByteArray := prog_1_method_1_code
def yX0_init : MethodName := ⟨RX0, "<init>", "()V"⟩
abbrev cX0_feed : ByteArray := prog_1_method_2_code
def yX0_feed : MethodName := ⟨RX0, "feed", "(IIIII)I"⟩
abbrev cX0_line : ByteArray := prog_1_method_3_code
def yX0_line : MethodName := ⟨RX0, "line", "(I)I"⟩
abbrev cX0_keep : ByteArray := prog_1_method_4_code
def yX0_keep : MethodName := ⟨RX0, "keep", "(LAlgebraHouse$Text;I)V"⟩
abbrev cX0_told : ByteArray := prog_1_method_5_code
def yX0_told : MethodName := ⟨RX0, "told", "(I)I"⟩
abbrev cX0_count : ByteArray := prog_1_method_6_code
def yX0_count : MethodName := ⟨RX0, "count", "(I)I"⟩
abbrev cX0_ring : ByteArray := prog_1_method_10_code
def yX0_ring : MethodName := ⟨RX0, "ring", "(II)I"⟩
abbrev cX0_isThere : ByteArray := prog_1_method_7_code
def yX0_isThere : MethodName := ⟨RX0, "isThere", "(I)Z"⟩
abbrev cX0_ringOf : ByteArray := prog_1_method_9_code
def yX0_ringOf : MethodName := ⟨RX0, "ringOf", "(I)I"⟩
abbrev cX0_shown : ByteArray := prog_1_method_8_code
def yX0_shown : MethodName := ⟨RX0, "shown", "(II)I"⟩
abbrev cX0_entry : ByteArray := prog_1_method_11_code
def yX0_entry : MethodName := ⟨RX0, "entry", "(IIIIII)I"⟩
abbrev cX0_function : ByteArray := prog_1_method_12_code
def yX0_function : MethodName := ⟨RX0, "function", "(II)I"⟩
abbrev cX0_meant : ByteArray := prog_1_method_13_code
def yX0_meant : MethodName := ⟨RX0, "meant", "(JIIII)I"⟩
theorem q218 : (Jvm.Cond.initialized "AlgebraHouse") ∈ lw_all := lw_g (lw_at lw_m1 1 rfl) rfl
theorem q239 : (Jvm.Cond.instantiable "AlgebraHouse" (15 : Nat)) ∈ lw_all := lw_g (lw_at lw_m1 22 rfl) rfl
theorem q241 : (Jvm.Cond.instanceMethod ({ cls := "AlgebraHouse", name := "<init>", desc := "()V" } : Jvm.MethodName)) ∈ lw_all := lw_g (lw_at lw_m1 24 rfl) rfl
theorem q242 : (Jvm.Cond.code ({ cls := "AlgebraHouse", name := "<init>", desc := "()V" } : Jvm.MethodName) prog_1_method_1_code (1 : Nat) (Option.none : Option Jvm.ClassFile.FieldType)) ∈ lw_all := lw_g (lw_at lw_m1 25 rfl) rfl
theorem q243 : (Jvm.Cond.methodLink "AlgebraHouse" (1 : Nat) ({ cls := "java/lang/Object", name := "<init>", desc := "()V" } : Jvm.MethodName)) ∈ lw_all := lw_g (lw_at lw_m1 26 rfl) rfl
theorem q246 : (Jvm.Cond.classLink "AlgebraHouse" (13 : Nat) "AlgebraHouse$Book") ∈ lw_all := lw_g (lw_at lw_m1 29 rfl) rfl
theorem q248 : (Jvm.Cond.methodLink "AlgebraHouse" (15 : Nat) ({ cls := "AlgebraHouse$Book", name := "<init>", desc := "()V" } : Jvm.MethodName)) ∈ lw_all := lw_g (lw_at lw_m1 31 rfl) rfl
theorem q261 : (Jvm.Cond.fieldLinkNest "AlgebraHouse" (99 : Nat) "AlgebraHouse$Text" "sort" "I" "AlgebraHouse") ∈ lw_tbl := lw_at lw_m1 44 rfl
theorem q267 : (Jvm.Cond.fieldLinkNest "AlgebraHouse" (115 : Nat) "AlgebraHouse$Text" "root" "I" "AlgebraHouse") ∈ lw_tbl := lw_at lw_m1 50 rfl
theorem q277 : (Jvm.Cond.fieldLinkNest "AlgebraHouse" (187 : Nat) "AlgebraHouse$Text" "params" "I" "AlgebraHouse") ∈ lw_tbl := lw_at lw_m1 60 rfl
theorem q301 : (Jvm.Cond.fieldLinkNest "AlgebraHouse" (112 : Nat) "AlgebraHouse$Text" "ring" "[I" "AlgebraHouse") ∈ lw_tbl := lw_at lw_m1 84 rfl
theorem q313 : (Jvm.Cond.fieldLinkNest "AlgebraHouse" (143 : Nat) "AlgebraHouse$Text" "called" "J" "AlgebraHouse") ∈ lw_tbl := lw_at lw_m1 96 rfl
theorem q335 : (Jvm.Cond.fieldLinkNest "AlgebraHouse" (190 : Nat) "AlgebraHouse$Text" "rule" "I" "AlgebraHouse") ∈ lw_tbl := lw_at lw_m1 118 rfl
theorem q340 : (Jvm.Cond.fieldLinkNest "AlgebraHouse" (193 : Nat) "AlgebraHouse$Text" "hasR" "[Z" "AlgebraHouse") ∈ lw_tbl := lw_at lw_m1 123 rfl
theorem q344 : (Jvm.Cond.fieldLinkNest "AlgebraHouse" (197 : Nat) "AlgebraHouse$Text" "told" "[I" "AlgebraHouse") ∈ lw_tbl := lw_at lw_m1 127 rfl
theorem q348 : (Jvm.Cond.fieldLinkNest "AlgebraHouse" (199 : Nat) "AlgebraHouse$Text" "over" "[I" "AlgebraHouse") ∈ lw_tbl := lw_at lw_m1 131 rfl
theorem q352 : (Jvm.Cond.fieldLinkNest "AlgebraHouse" (202 : Nat) "AlgebraHouse$Text" "around" "[I" "AlgebraHouse") ∈ lw_tbl := lw_at lw_m1 135 rfl
theorem q413 : (Jvm.Cond.fieldLinkNest "AlgebraHouse" (77 : Nat) "AlgebraHouse$Book" "told" "[LAlgebraHouse$Text;" "AlgebraHouse") ∈ lw_tbl := lw_at lw_m1 196 rfl
theorem q418 : (Jvm.Cond.fieldLinkNest "AlgebraHouse" (81 : Nat) "AlgebraHouse$Book" "tolds" "I" "AlgebraHouse") ∈ lw_tbl := lw_at lw_m1 201 rfl
theorem q420 : (Jvm.Cond.fieldLinkNest "AlgebraHouse" (151 : Nat) "AlgebraHouse$Book" "variables" "I" "AlgebraHouse") ∈ lw_tbl := lw_at lw_m1 203 rfl
theorem q422 : (Jvm.Cond.fieldLinkNest "AlgebraHouse" (131 : Nat) "AlgebraHouse$Book" "results" "I" "AlgebraHouse") ∈ lw_tbl := lw_at lw_m1 205 rfl
theorem q425 : (Jvm.Cond.fieldLinkNest "AlgebraHouse" (154 : Nat) "AlgebraHouse$Book" "variable" "[J" "AlgebraHouse") ∈ lw_tbl := lw_at lw_m1 208 rfl
theorem q427 : (Jvm.Cond.fieldLinkNest "AlgebraHouse" (157 : Nat) "AlgebraHouse$Book" "variableRing" "[I" "AlgebraHouse") ∈ lw_tbl := lw_at lw_m1 210 rfl
theorem q430 : (Jvm.Cond.fieldLinkNest "AlgebraHouse" (140 : Nat) "AlgebraHouse$Book" "resultRing" "[I" "AlgebraHouse") ∈ lw_tbl := lw_at lw_m1 213 rfl
theorem q433 : (Jvm.Cond.fieldLinkNest "AlgebraHouse" (211 : Nat) "AlgebraHouse$Book" "with" "I" "AlgebraHouse") ∈ lw_tbl := lw_at lw_m1 216 rfl
theorem q452 : (Jvm.Cond.classLink "AlgebraHouse" (20 : Nat) "AlgebraHouse$Parser") ∈ lw_all := lw_g (lw_at lw_m1 235 rfl) rfl
theorem q454 : (Jvm.Cond.methodLinkNest "AlgebraHouse" (22 : Nat) ({ cls := "AlgebraHouse$Parser", name := "<init>", desc := "()V" } : Jvm.MethodName) "AlgebraHouse") ∈ lw_tbl := lw_at lw_m1 237 rfl
theorem q496 : (Jvm.Cond.fieldLinkNest "AlgebraHouse" (88 : Nat) "AlgebraHouse$Parser" "fault" "I" "AlgebraHouse") ∈ lw_tbl := lw_at lw_m2 39 rfl
theorem q498 : (Jvm.Cond.fieldLinkNest "AlgebraHouse" (92 : Nat) "AlgebraHouse$Parser" "place" "I" "AlgebraHouse") ∈ lw_tbl := lw_at lw_m2 41 rfl
theorem q512 : (Jvm.Cond.classLink "AlgebraHouse" (27 : Nat) "AlgebraHouse$Judge") ∈ lw_all := lw_g (lw_at lw_m2 55 rfl) rfl
theorem q514 : (Jvm.Cond.methodLink "AlgebraHouse" (29 : Nat) ({ cls := "AlgebraHouse$Judge", name := "<init>", desc := "(LAlgebraHouse$Book;)V" } : Jvm.MethodName)) ∈ lw_all := lw_g (lw_at lw_m2 57 rfl) rfl
theorem q524 : (Jvm.Cond.fieldLinkNest "AlgebraHouse" (97 : Nat) "AlgebraHouse$Judge" "fault" "I" "AlgebraHouse") ∈ lw_tbl := lw_at lw_m2 67 rfl
theorem q526 : (Jvm.Cond.fieldLinkNest "AlgebraHouse" (98 : Nat) "AlgebraHouse$Judge" "place" "I" "AlgebraHouse") ∈ lw_tbl := lw_at lw_m2 69 rfl
theorem q545 : (Jvm.Cond.constant "AlgebraHouse" (38 : Nat) (176400 : Int32)) ∈ lw_all := lw_g (lw_at lw_m2 88 rfl) rfl
theorem q546 : (Jvm.Cond.classLink "AlgebraHouse" (46 : Nat) "AlgebraHouse$Machine") ∈ lw_all := lw_g (lw_at lw_m2 89 rfl) rfl
theorem q548 : (Jvm.Cond.methodLink "AlgebraHouse" (48 : Nat) ({ cls := "AlgebraHouse$Machine", name := "<init>", desc := "(LAlgebraHouse$Book;LAlgebraHouse$Judge;[I[I)V" } : Jvm.MethodName)) ∈ lw_all := lw_g (lw_at lw_m2 91 rfl) rfl
theorem q627 : (Jvm.Cond.fieldLinkNest "AlgebraHouse" (128 : Nat) "AlgebraHouse$Machine" "c" "[I" "AlgebraHouse") ∈ lw_tbl := lw_at lw_m2 170 rfl
theorem q638 : (Jvm.Cond.fieldLinkNest "AlgebraHouse" (108 : Nat) "AlgebraHouse$Machine" "steps" "I" "AlgebraHouse") ∈ lw_tbl := lw_at lw_m2 181 rfl
theorem q640 : (Jvm.Cond.fieldLinkNest "AlgebraHouse" (109 : Nat) "AlgebraHouse$Machine" "most" "I" "AlgebraHouse") ∈ lw_tbl := lw_at lw_m2 183 rfl
theorem q692 : (Jvm.Cond.fieldLink "AlgebraHouse" (9 : Nat) "AlgebraHouse" "tape" "[B") ∈ lw_all := lw_g (lw_at lw_m2 235 rfl) rfl
theorem q693 : (Jvm.Cond.fieldLink "AlgebraHouse" (65 : Nat) "AlgebraHouse" "size" "I") ∈ lw_all := lw_g (lw_at lw_m2 236 rfl) rfl
theorem q694 : (Jvm.Cond.fieldLink "AlgebraHouse" (16 : Nat) "AlgebraHouse" "book" "LAlgebraHouse$Book;") ∈ lw_all := lw_g (lw_at lw_m2 237 rfl) rfl
theorem q695 : (Jvm.Cond.fieldLink "AlgebraHouse" (23 : Nat) "AlgebraHouse" "parser" "LAlgebraHouse$Parser;") ∈ lw_all := lw_g (lw_at lw_m2 238 rfl) rfl
theorem q696 : (Jvm.Cond.fieldLink "AlgebraHouse" (32 : Nat) "AlgebraHouse" "judge" "LAlgebraHouse$Judge;") ∈ lw_all := lw_g (lw_at lw_m2 239 rfl) rfl
theorem q697 : (Jvm.Cond.fieldLink "AlgebraHouse" (39 : Nat) "AlgebraHouse" "kept" "[I") ∈ lw_all := lw_g (lw_at lw_m3 0 rfl) rfl
theorem q698 : (Jvm.Cond.fieldLink "AlgebraHouse" (43 : Nat) "AlgebraHouse" "keptVariables" "[I") ∈ lw_all := lw_g (lw_at lw_m3 1 rfl) rfl
theorem q699 : (Jvm.Cond.fieldLink "AlgebraHouse" (51 : Nat) "AlgebraHouse" "machine" "LAlgebraHouse$Machine;") ∈ lw_all := lw_g (lw_at lw_m3 2 rfl) rfl
theorem q700 : (Jvm.Cond.fieldLink "AlgebraHouse" (55 : Nat) "AlgebraHouse" "asked" "[I") ∈ lw_all := lw_g (lw_at lw_m3 3 rfl) rfl
theorem q701 : (Jvm.Cond.fieldLink "AlgebraHouse" (91 : Nat) "AlgebraHouse" "fault" "I") ∈ lw_all := lw_g (lw_at lw_m3 4 rfl) rfl
theorem q702 : (Jvm.Cond.fieldLink "AlgebraHouse" (58 : Nat) "AlgebraHouse" "place" "I") ∈ lw_all := lw_g (lw_at lw_m3 5 rfl) rfl
theorem q703 : (Jvm.Cond.fieldLink "AlgebraHouse" (68 : Nat) "AlgebraHouse" "steps" "I") ∈ lw_all := lw_g (lw_at lw_m3 6 rfl) rfl
theorem q704 : (Jvm.Cond.fieldLink "AlgebraHouse" (71 : Nat) "AlgebraHouse" "calls" "I") ∈ lw_all := lw_g (lw_at lw_m3 7 rfl) rfl
theorem q705 : (Jvm.Cond.fieldLink "AlgebraHouse" (74 : Nat) "AlgebraHouse" "error" "I") ∈ lw_all := lw_g (lw_at lw_m3 8 rfl) rfl
theorem q706 : (Jvm.Cond.fieldLink "AlgebraHouse" (62 : Nat) "AlgebraHouse" "result" "I") ∈ lw_all := lw_g (lw_at lw_m3 9 rfl) rfl
theorem q707 : (Jvm.Cond.laysFinal "AlgebraHouse" "AlgebraHouse" "tape" "[B") ∈ lw_all := lw_g (lw_at lw_m3 10 rfl) rfl
theorem q708 : (Jvm.Cond.soleField "AlgebraHouse" "tape") ∈ lw_all := lw_g (lw_at lw_m3 11 rfl) rfl
theorem q709 : (Jvm.Cond.lays "AlgebraHouse" "AlgebraHouse" "size" "I") ∈ lw_all := lw_g (lw_at lw_m3 12 rfl) rfl
theorem q710 : (Jvm.Cond.soleField "AlgebraHouse" "size") ∈ lw_all := lw_g (lw_at lw_m3 13 rfl) rfl
theorem q711 : (Jvm.Cond.laysFinal "AlgebraHouse" "AlgebraHouse" "book" "LAlgebraHouse$Book;") ∈ lw_all := lw_g (lw_at lw_m3 14 rfl) rfl
theorem q712 : (Jvm.Cond.soleField "AlgebraHouse" "book") ∈ lw_all := lw_g (lw_at lw_m3 15 rfl) rfl
theorem q713 : (Jvm.Cond.laysFinal "AlgebraHouse" "AlgebraHouse" "parser" "LAlgebraHouse$Parser;") ∈ lw_all := lw_g (lw_at lw_m3 16 rfl) rfl
theorem q714 : (Jvm.Cond.soleField "AlgebraHouse" "parser") ∈ lw_all := lw_g (lw_at lw_m3 17 rfl) rfl
theorem q715 : (Jvm.Cond.laysFinal "AlgebraHouse" "AlgebraHouse" "judge" "LAlgebraHouse$Judge;") ∈ lw_all := lw_g (lw_at lw_m3 18 rfl) rfl
theorem q716 : (Jvm.Cond.soleField "AlgebraHouse" "judge") ∈ lw_all := lw_g (lw_at lw_m3 19 rfl) rfl
theorem q717 : (Jvm.Cond.laysFinal "AlgebraHouse" "AlgebraHouse" "kept" "[I") ∈ lw_all := lw_g (lw_at lw_m3 20 rfl) rfl
theorem q718 : (Jvm.Cond.soleField "AlgebraHouse" "kept") ∈ lw_all := lw_g (lw_at lw_m3 21 rfl) rfl
theorem q719 : (Jvm.Cond.laysFinal "AlgebraHouse" "AlgebraHouse" "keptVariables" "[I") ∈ lw_all := lw_g (lw_at lw_m3 22 rfl) rfl
theorem q720 : (Jvm.Cond.soleField "AlgebraHouse" "keptVariables") ∈ lw_all := lw_g (lw_at lw_m3 23 rfl) rfl
theorem q721 : (Jvm.Cond.laysFinal "AlgebraHouse" "AlgebraHouse" "machine" "LAlgebraHouse$Machine;") ∈ lw_all := lw_g (lw_at lw_m3 24 rfl) rfl
theorem q722 : (Jvm.Cond.soleField "AlgebraHouse" "machine") ∈ lw_all := lw_g (lw_at lw_m3 25 rfl) rfl
theorem q723 : (Jvm.Cond.laysFinal "AlgebraHouse" "AlgebraHouse" "asked" "[I") ∈ lw_all := lw_g (lw_at lw_m3 26 rfl) rfl
theorem q724 : (Jvm.Cond.soleField "AlgebraHouse" "asked") ∈ lw_all := lw_g (lw_at lw_m3 27 rfl) rfl
theorem q725 : (Jvm.Cond.lays "AlgebraHouse" "AlgebraHouse" "fault" "I") ∈ lw_all := lw_g (lw_at lw_m3 28 rfl) rfl
theorem q726 : (Jvm.Cond.soleField "AlgebraHouse" "fault") ∈ lw_all := lw_g (lw_at lw_m3 29 rfl) rfl
theorem q727 : (Jvm.Cond.lays "AlgebraHouse" "AlgebraHouse" "place" "I") ∈ lw_all := lw_g (lw_at lw_m3 30 rfl) rfl
theorem q728 : (Jvm.Cond.soleField "AlgebraHouse" "place") ∈ lw_all := lw_g (lw_at lw_m3 31 rfl) rfl
theorem q729 : (Jvm.Cond.lays "AlgebraHouse" "AlgebraHouse" "steps" "I") ∈ lw_all := lw_g (lw_at lw_m3 32 rfl) rfl
theorem q730 : (Jvm.Cond.soleField "AlgebraHouse" "steps") ∈ lw_all := lw_g (lw_at lw_m3 33 rfl) rfl
theorem q731 : (Jvm.Cond.lays "AlgebraHouse" "AlgebraHouse" "calls" "I") ∈ lw_all := lw_g (lw_at lw_m3 34 rfl) rfl
theorem q732 : (Jvm.Cond.soleField "AlgebraHouse" "calls") ∈ lw_all := lw_g (lw_at lw_m3 35 rfl) rfl
theorem q733 : (Jvm.Cond.lays "AlgebraHouse" "AlgebraHouse" "error" "I") ∈ lw_all := lw_g (lw_at lw_m3 36 rfl) rfl
theorem q734 : (Jvm.Cond.soleField "AlgebraHouse" "error") ∈ lw_all := lw_g (lw_at lw_m3 37 rfl) rfl
theorem q735 : (Jvm.Cond.lays "AlgebraHouse" "AlgebraHouse" "result" "I") ∈ lw_all := lw_g (lw_at lw_m3 38 rfl) rfl
theorem q736 : (Jvm.Cond.soleField "AlgebraHouse" "result") ∈ lw_all := lw_g (lw_at lw_m3 39 rfl) rfl
theorem q737 : (Jvm.Cond.superclass "AlgebraHouse" "java/lang/Object") ∈ lw_all := lw_g (lw_at lw_m3 40 rfl) rfl
theorem q739 : (Jvm.Cond.instanceMethod ({ cls := "AlgebraHouse", name := "feed", desc := "(IIIII)I" } : Jvm.MethodName)) ∈ lw_all := lw_g (lw_at lw_m3 42 rfl) rfl
theorem q740 : (Jvm.Cond.selects "AlgebraHouse" ({ cls := "AlgebraHouse", name := "feed", desc := "(IIIII)I" } : Jvm.MethodName) ({ cls := "AlgebraHouse", name := "feed", desc := "(IIIII)I" } : Jvm.MethodName)) ∈ lw_all := lw_g (lw_at lw_m3 43 rfl) rfl
theorem q741 : (Jvm.Cond.code ({ cls := "AlgebraHouse", name := "feed", desc := "(IIIII)I" } : Jvm.MethodName) prog_1_method_2_code (8 : Nat) (Option.some Jvm.ClassFile.FieldType.int)) ∈ lw_all := lw_g (lw_at lw_m3 44 rfl) rfl
theorem q743 : (Jvm.Cond.instanceMethod ({ cls := "AlgebraHouse", name := "line", desc := "(I)I" } : Jvm.MethodName)) ∈ lw_all := lw_g (lw_at lw_m3 46 rfl) rfl
theorem q744 : (Jvm.Cond.selects "AlgebraHouse" ({ cls := "AlgebraHouse", name := "line", desc := "(I)I" } : Jvm.MethodName) ({ cls := "AlgebraHouse", name := "line", desc := "(I)I" } : Jvm.MethodName)) ∈ lw_all := lw_g (lw_at lw_m3 47 rfl) rfl
theorem q745 : (Jvm.Cond.code ({ cls := "AlgebraHouse", name := "line", desc := "(I)I" } : Jvm.MethodName) prog_1_method_3_code (4 : Nat) (Option.some Jvm.ClassFile.FieldType.int)) ∈ lw_all := lw_g (lw_at lw_m3 48 rfl) rfl
theorem q746 : (Jvm.Cond.methodLink "AlgebraHouse" (84 : Nat) ({ cls := "AlgebraHouse$Parser", name := "reads", desc := "(LAlgebraHouse$Text;[BI)Z" } : Jvm.MethodName)) ∈ lw_all := lw_g (lw_at lw_m3 49 rfl) rfl
theorem q1032 : (Jvm.Cond.methodLink "AlgebraHouse" (93 : Nat) ({ cls := "AlgebraHouse$Judge", name := "looks", desc := "(LAlgebraHouse$Text;)Z" } : Jvm.MethodName)) ∈ lw_all := lw_g (lw_at lw_m4 95 rfl) rfl
theorem q1221 : (Jvm.Cond.methodLink "AlgebraHouse" (104 : Nat) ({ cls := "AlgebraHouse$Machine", name := "run", desc := "(LAlgebraHouse$Text;)I" } : Jvm.MethodName)) ∈ lw_all := lw_g (lw_at lw_m5 44 rfl) rfl
theorem q1562 : (Jvm.Cond.methodLink "AlgebraHouse" (118 : Nat) ({ cls := "AlgebraHouse", name := "keep", desc := "(LAlgebraHouse$Text;I)V" } : Jvm.MethodName)) ∈ lw_all := lw_g (lw_at lw_m6 145 rfl) rfl
theorem q1563 : (Jvm.Cond.privateMethod ({ cls := "AlgebraHouse", name := "keep", desc := "(LAlgebraHouse$Text;I)V" } : Jvm.MethodName)) ∈ lw_tbl := lw_at lw_m6 146 rfl
theorem q1564 : (Jvm.Cond.instanceMethod ({ cls := "AlgebraHouse", name := "keep", desc := "(LAlgebraHouse$Text;I)V" } : Jvm.MethodName)) ∈ lw_all := lw_g (lw_at lw_m6 147 rfl) rfl
theorem q1565 : (Jvm.Cond.code ({ cls := "AlgebraHouse", name := "keep", desc := "(LAlgebraHouse$Text;I)V" } : Jvm.MethodName) prog_1_method_4_code (5 : Nat) (Option.none : Option Jvm.ClassFile.FieldType)) ∈ lw_all := lw_g (lw_at lw_m6 148 rfl) rfl
theorem q1566 : (Jvm.Cond.methodLink "AlgebraHouse" (122 : Nat) ({ cls := "AlgebraHouse$Rings", name := "cells", desc := "(I)I" } : Jvm.MethodName)) ∈ lw_all := lw_g (lw_at lw_m6 149 rfl) rfl
theorem q1567 : (Jvm.Cond.methodLink "AlgebraHouse" (134 : Nat) ({ cls := "java/lang/System", name := "arraycopy", desc := "(Ljava/lang/Object;ILjava/lang/Object;II)V" } : Jvm.MethodName)) ∈ lw_all := lw_g (lw_at lw_m6 150 rfl) rfl
theorem q1568 : (Jvm.Cond.methodLink "AlgebraHouse" (147 : Nat) ({ cls := "AlgebraHouse$Book", name := "variable", desc := "(J)I" } : Jvm.MethodName)) ∈ lw_all := lw_g (lw_at lw_m6 151 rfl) rfl
theorem q1570 : (Jvm.Cond.instanceMethod ({ cls := "AlgebraHouse", name := "told", desc := "(I)I" } : Jvm.MethodName)) ∈ lw_all := lw_g (lw_at lw_m6 153 rfl) rfl
theorem q1571 : (Jvm.Cond.selects "AlgebraHouse" ({ cls := "AlgebraHouse", name := "told", desc := "(I)I" } : Jvm.MethodName) ({ cls := "AlgebraHouse", name := "told", desc := "(I)I" } : Jvm.MethodName)) ∈ lw_all := lw_g (lw_at lw_m6 154 rfl) rfl
theorem q1572 : (Jvm.Cond.code ({ cls := "AlgebraHouse", name := "told", desc := "(I)I" } : Jvm.MethodName) prog_1_method_5_code (2 : Nat) (Option.some Jvm.ClassFile.FieldType.int)) ∈ lw_all := lw_g (lw_at lw_m6 155 rfl) rfl
theorem q1574 : (Jvm.Cond.instanceMethod ({ cls := "AlgebraHouse", name := "count", desc := "(I)I" } : Jvm.MethodName)) ∈ lw_all := lw_g (lw_at lw_m6 157 rfl) rfl
theorem q1575 : (Jvm.Cond.selects "AlgebraHouse" ({ cls := "AlgebraHouse", name := "count", desc := "(I)I" } : Jvm.MethodName) ({ cls := "AlgebraHouse", name := "count", desc := "(I)I" } : Jvm.MethodName)) ∈ lw_all := lw_g (lw_at lw_m6 158 rfl) rfl
theorem q1576 : (Jvm.Cond.code ({ cls := "AlgebraHouse", name := "count", desc := "(I)I" } : Jvm.MethodName) prog_1_method_6_code (2 : Nat) (Option.some Jvm.ClassFile.FieldType.int)) ∈ lw_all := lw_g (lw_at lw_m6 159 rfl) rfl
theorem q1578 : (Jvm.Cond.instanceMethod ({ cls := "AlgebraHouse", name := "ring", desc := "(II)I" } : Jvm.MethodName)) ∈ lw_all := lw_g (lw_at lw_m6 161 rfl) rfl
theorem q1579 : (Jvm.Cond.selects "AlgebraHouse" ({ cls := "AlgebraHouse", name := "ring", desc := "(II)I" } : Jvm.MethodName) ({ cls := "AlgebraHouse", name := "ring", desc := "(II)I" } : Jvm.MethodName)) ∈ lw_all := lw_g (lw_at lw_m6 162 rfl) rfl
theorem q1580 : (Jvm.Cond.code ({ cls := "AlgebraHouse", name := "ring", desc := "(II)I" } : Jvm.MethodName) prog_1_method_10_code (3 : Nat) (Option.some Jvm.ClassFile.FieldType.int)) ∈ lw_all := lw_g (lw_at lw_m6 163 rfl) rfl
theorem q1581 : (Jvm.Cond.methodLink "AlgebraHouse" (168 : Nat) ({ cls := "AlgebraHouse", name := "isThere", desc := "(I)Z" } : Jvm.MethodName)) ∈ lw_all := lw_g (lw_at lw_m6 164 rfl) rfl
theorem q1582 : (Jvm.Cond.privateMethod ({ cls := "AlgebraHouse", name := "isThere", desc := "(I)Z" } : Jvm.MethodName)) ∈ lw_tbl := lw_at lw_m6 165 rfl
theorem q1583 : (Jvm.Cond.instanceMethod ({ cls := "AlgebraHouse", name := "isThere", desc := "(I)Z" } : Jvm.MethodName)) ∈ lw_all := lw_g (lw_at lw_m6 166 rfl) rfl
theorem q1584 : (Jvm.Cond.code ({ cls := "AlgebraHouse", name := "isThere", desc := "(I)Z" } : Jvm.MethodName) prog_1_method_7_code (2 : Nat) (Option.some Jvm.ClassFile.FieldType.boolean)) ∈ lw_all := lw_g (lw_at lw_m6 167 rfl) rfl
theorem q1585 : (Jvm.Cond.methodLink "AlgebraHouse" (172 : Nat) ({ cls := "AlgebraHouse", name := "ringOf", desc := "(I)I" } : Jvm.MethodName)) ∈ lw_all := lw_g (lw_at lw_m6 168 rfl) rfl
theorem q1586 : (Jvm.Cond.privateMethod ({ cls := "AlgebraHouse", name := "ringOf", desc := "(I)I" } : Jvm.MethodName)) ∈ lw_tbl := lw_at lw_m6 169 rfl
theorem q1587 : (Jvm.Cond.instanceMethod ({ cls := "AlgebraHouse", name := "ringOf", desc := "(I)I" } : Jvm.MethodName)) ∈ lw_all := lw_g (lw_at lw_m6 170 rfl) rfl
theorem q1588 : (Jvm.Cond.code ({ cls := "AlgebraHouse", name := "ringOf", desc := "(I)I" } : Jvm.MethodName) prog_1_method_9_code (2 : Nat) (Option.some Jvm.ClassFile.FieldType.int)) ∈ lw_all := lw_g (lw_at lw_m6 171 rfl) rfl
theorem q1589 : (Jvm.Cond.methodLink "AlgebraHouse" (175 : Nat) ({ cls := "AlgebraHouse", name := "shown", desc := "(II)I" } : Jvm.MethodName)) ∈ lw_all := lw_g (lw_at lw_m6 172 rfl) rfl
theorem q1590 : (Jvm.Cond.static ({ cls := "AlgebraHouse", name := "shown", desc := "(II)I" } : Jvm.MethodName)) ∈ lw_all := lw_g (lw_at lw_m6 173 rfl) rfl
theorem q1591 : (Jvm.Cond.code ({ cls := "AlgebraHouse", name := "shown", desc := "(II)I" } : Jvm.MethodName) prog_1_method_8_code (2 : Nat) (Option.some Jvm.ClassFile.FieldType.int)) ∈ lw_all := lw_g (lw_at lw_m6 174 rfl) rfl
theorem q1592 : (Jvm.Cond.methodLink "AlgebraHouse" (160 : Nat) ({ cls := "AlgebraHouse$Rings", name := "base", desc := "(I)I" } : Jvm.MethodName)) ∈ lw_all := lw_g (lw_at lw_m6 175 rfl) rfl
theorem q1593 : (Jvm.Cond.methodLink "AlgebraHouse" (163 : Nat) ({ cls := "AlgebraHouse$Rings", name := "depth", desc := "(I)I" } : Jvm.MethodName)) ∈ lw_all := lw_g (lw_at lw_m6 176 rfl) rfl
theorem q1594 : (Jvm.Cond.methodLink "AlgebraHouse" (166 : Nat) ({ cls := "AlgebraHouse$Rings", name := "size", desc := "(I)I" } : Jvm.MethodName)) ∈ lw_all := lw_g (lw_at lw_m6 177 rfl) rfl
theorem q1596 : (Jvm.Cond.instanceMethod ({ cls := "AlgebraHouse", name := "entry", desc := "(IIIIII)I" } : Jvm.MethodName)) ∈ lw_all := lw_g (lw_at lw_m6 179 rfl) rfl
theorem q1597 : (Jvm.Cond.selects "AlgebraHouse" ({ cls := "AlgebraHouse", name := "entry", desc := "(IIIIII)I" } : Jvm.MethodName) ({ cls := "AlgebraHouse", name := "entry", desc := "(IIIIII)I" } : Jvm.MethodName)) ∈ lw_all := lw_g (lw_at lw_m6 180 rfl) rfl
theorem q1598 : (Jvm.Cond.code ({ cls := "AlgebraHouse", name := "entry", desc := "(IIIIII)I" } : Jvm.MethodName) prog_1_method_11_code (12 : Nat) (Option.some Jvm.ClassFile.FieldType.int)) ∈ lw_all := lw_g (lw_at lw_m6 181 rfl) rfl
theorem q1599 : (Jvm.Cond.methodLink "AlgebraHouse" (179 : Nat) ({ cls := "java/lang/Math", name := "max", desc := "(II)I" } : Jvm.MethodName)) ∈ lw_all := lw_g (lw_at lw_m6 182 rfl) rfl
theorem q1600 : (Jvm.Cond.methodLink "AlgebraHouse" (184 : Nat) ({ cls := "AlgebraHouse$Rings", name := "coefficients", desc := "(I)I" } : Jvm.MethodName)) ∈ lw_all := lw_g (lw_at lw_m6 183 rfl) rfl
theorem q1602 : (Jvm.Cond.instanceMethod ({ cls := "AlgebraHouse", name := "function", desc := "(II)I" } : Jvm.MethodName)) ∈ lw_all := lw_g (lw_at lw_m6 185 rfl) rfl
theorem q1603 : (Jvm.Cond.selects "AlgebraHouse" ({ cls := "AlgebraHouse", name := "function", desc := "(II)I" } : Jvm.MethodName) ({ cls := "AlgebraHouse", name := "function", desc := "(II)I" } : Jvm.MethodName)) ∈ lw_all := lw_g (lw_at lw_m6 186 rfl) rfl
theorem q1604 : (Jvm.Cond.code ({ cls := "AlgebraHouse", name := "function", desc := "(II)I" } : Jvm.MethodName) prog_1_method_12_code (7 : Nat) (Option.some Jvm.ClassFile.FieldType.int)) ∈ lw_all := lw_g (lw_at lw_m6 187 rfl) rfl
theorem q1606 : (Jvm.Cond.instanceMethod ({ cls := "AlgebraHouse", name := "meant", desc := "(JIIII)I" } : Jvm.MethodName)) ∈ lw_all := lw_g (lw_at lw_m6 189 rfl) rfl
theorem q1607 : (Jvm.Cond.selects "AlgebraHouse" ({ cls := "AlgebraHouse", name := "meant", desc := "(JIIII)I" } : Jvm.MethodName) ({ cls := "AlgebraHouse", name := "meant", desc := "(JIIII)I" } : Jvm.MethodName)) ∈ lw_all := lw_g (lw_at lw_m6 190 rfl) rfl
theorem q1608 : (Jvm.Cond.code ({ cls := "AlgebraHouse", name := "meant", desc := "(JIIII)I" } : Jvm.MethodName) prog_1_method_13_code (11 : Nat) (Option.some Jvm.ClassFile.FieldType.int)) ∈ lw_all := lw_g (lw_at lw_m6 191 rfl) rfl
theorem q1609 : (Jvm.Cond.constantLong "AlgebraHouse" (205 : Nat) (255 : Int64)) ∈ lw_all := lw_g (lw_at lw_m6 192 rfl) rfl
theorem q1610 : (Jvm.Cond.methodLink "AlgebraHouse" (207 : Nat) ({ cls := "AlgebraHouse$Book", name := "meant", desc := "(J[III)I" } : Jvm.MethodName)) ∈ lw_all := lw_g (lw_at lw_m6 193 rfl) rfl
theorem in_X0 : ∀ w ∈ wsX00, w ∈ lw_all := lw_in wsX00 [707, 709, 711, 713, 715, 717, 719, 721, 723, 725, 727, 729, 731, 733, 735] (by decide +kernel) (by decide +kernel)
/-! AlgebraHouse$Book -/
def RX1 : String := "AlgebraHouse$Book"
def TX1 : u_T := fun k => match k with
  | 0 => ("AlgebraHouse$Book", "told", "[LAlgebraHouse$Text;", true)
  | 1 => ("AlgebraHouse$Book", "tolds", "I", false)
  | 2 => ("AlgebraHouse$Book", "variables", "I", false)
  | 3 => ("AlgebraHouse$Book", "results", "I", false)
  | 4 => ("AlgebraHouse$Book", "variable", "[J", true)
  | 5 => ("AlgebraHouse$Book", "variableRing", "[I", true)
  | 6 => ("AlgebraHouse$Book", "resultRing", "[I", true)
  | _ => ("AlgebraHouse$Book", "with", "I", false)
def tyX1 : Nat → FieldType := fun k => match k with
  | 0 => .array (.object "AlgebraHouse$Text")
  | 1 => .int
  | 2 => .int
  | 3 => .int
  | 4 => .array .long
  | 5 => .array .int
  | 6 => .array .int
  | _ => .int
abbrev wsX10 : List Cond := u_ws RX1 TX1 8
theorem nmX1 : ∀ a, a < 8 → ∀ b, b < 8 → a ≠ b → (TX1 a).2.1 ≠ (TX1 b).2.1 := by decide +kernel
theorem tyX1_ok : ∀ k, k < 8 → parseFieldDescriptor (TX1 k).2.2.1 = some (tyX1 k) := by decide +kernel
abbrev cX1_init : ByteArray := prog_2_method_1_code
def yX1_init : MethodName := ⟨RX1, "<init>", "()V"⟩
abbrev cX1_ring : ByteArray := prog_2_method_3_code
def yX1_ring : MethodName := ⟨RX1, "ring", "(LAlgebraHouse$Text;II)I"⟩
abbrev cX1_variable : ByteArray := prog_2_method_2_code
def yX1_variable : MethodName := ⟨RX1, "variable", "(J)I"⟩
abbrev cX1_isCalled : ByteArray := prog_2_method_8_code
def yX1_isCalled : MethodName := ⟨RX1, "isCalled", "(JI)Z"⟩
abbrev cX1_meant : ByteArray := prog_2_method_6_code
def yX1_meant : MethodName := ⟨RX1, "meant", "(J[III)I"⟩
abbrev cX1_found : ByteArray := prog_2_method_5_code
def yX1_found : MethodName := ⟨RX1, "found", "(LAlgebraHouse$Text;[I)I"⟩
abbrev cX1_can : ByteArray := prog_2_method_4_code
def yX1_can : MethodName := ⟨RX1, "can", "(LAlgebraHouse$Text;I)Z"⟩
abbrev cX1_price : ByteArray := prog_2_method_7_code
def yX1_price : MethodName := ⟨RX1, "price", "(LAlgebraHouse$Text;[II)I"⟩
theorem q219 : (Jvm.Cond.initialized "AlgebraHouse$Book") ∈ lw_all := lw_g (lw_at lw_m1 2 rfl) rfl
theorem q247 : (Jvm.Cond.instantiable "AlgebraHouse$Book" (8 : Nat)) ∈ lw_all := lw_g (lw_at lw_m1 30 rfl) rfl
theorem q249 : (Jvm.Cond.instanceMethod ({ cls := "AlgebraHouse$Book", name := "<init>", desc := "()V" } : Jvm.MethodName)) ∈ lw_all := lw_g (lw_at lw_m1 32 rfl) rfl
theorem q250 : (Jvm.Cond.code ({ cls := "AlgebraHouse$Book", name := "<init>", desc := "()V" } : Jvm.MethodName) prog_2_method_1_code (2 : Nat) (Option.none : Option Jvm.ClassFile.FieldType)) ∈ lw_all := lw_g (lw_at lw_m1 33 rfl) rfl
theorem q251 : (Jvm.Cond.methodLink "AlgebraHouse$Book" (3 : Nat) ({ cls := "java/lang/Object", name := "<init>", desc := "()V" } : Jvm.MethodName)) ∈ lw_all := lw_g (lw_at lw_m1 34 rfl) rfl
theorem q252 : (Jvm.Cond.classLink "AlgebraHouse$Book" (9 : Nat) "AlgebraHouse$Text") ∈ lw_all := lw_g (lw_at lw_m1 35 rfl) rfl
theorem q255 : (Jvm.Cond.methodLinkNest "AlgebraHouse$Book" (28 : Nat) ({ cls := "AlgebraHouse$Text", name := "<init>", desc := "()V" } : Jvm.MethodName) "AlgebraHouse") ∈ lw_tbl := lw_at lw_m1 38 rfl
theorem q274 : (Jvm.Cond.fieldLinkNest "AlgebraHouse$Book" (68 : Nat) "AlgebraHouse$Text" "params" "I" "AlgebraHouse") ∈ lw_tbl := lw_at lw_m1 57 rfl
theorem q315 : (Jvm.Cond.fieldLinkNest "AlgebraHouse$Book" (88 : Nat) "AlgebraHouse$Text" "called" "J" "AlgebraHouse") ∈ lw_tbl := lw_at lw_m1 98 rfl
theorem q332 : (Jvm.Cond.fieldLinkNest "AlgebraHouse$Book" (61 : Nat) "AlgebraHouse$Text" "rule" "I" "AlgebraHouse") ∈ lw_tbl := lw_at lw_m1 115 rfl
theorem q338 : (Jvm.Cond.fieldLinkNest "AlgebraHouse$Book" (33 : Nat) "AlgebraHouse$Text" "hasR" "[Z" "AlgebraHouse") ∈ lw_tbl := lw_at lw_m1 121 rfl
theorem q342 : (Jvm.Cond.fieldLinkNest "AlgebraHouse$Book" (37 : Nat) "AlgebraHouse$Text" "told" "[I" "AlgebraHouse") ∈ lw_tbl := lw_at lw_m1 125 rfl
theorem q346 : (Jvm.Cond.fieldLinkNest "AlgebraHouse$Book" (39 : Nat) "AlgebraHouse$Text" "over" "[I" "AlgebraHouse") ∈ lw_tbl := lw_at lw_m1 129 rfl
theorem q350 : (Jvm.Cond.fieldLinkNest "AlgebraHouse$Book" (42 : Nat) "AlgebraHouse$Text" "around" "[I" "AlgebraHouse") ∈ lw_tbl := lw_at lw_m1 133 rfl
theorem q412 : (Jvm.Cond.fieldLink "AlgebraHouse$Book" (11 : Nat) "AlgebraHouse$Book" "told" "[LAlgebraHouse$Text;") ∈ lw_all := lw_g (lw_at lw_m1 195 rfl) rfl
theorem q419 : (Jvm.Cond.fieldLink "AlgebraHouse$Book" (29 : Nat) "AlgebraHouse$Book" "variables" "I") ∈ lw_all := lw_g (lw_at lw_m1 202 rfl) rfl
theorem q424 : (Jvm.Cond.fieldLink "AlgebraHouse$Book" (17 : Nat) "AlgebraHouse$Book" "variable" "[J") ∈ lw_all := lw_g (lw_at lw_m1 207 rfl) rfl
theorem q426 : (Jvm.Cond.fieldLink "AlgebraHouse$Book" (21 : Nat) "AlgebraHouse$Book" "variableRing" "[I") ∈ lw_all := lw_g (lw_at lw_m1 209 rfl) rfl
theorem q429 : (Jvm.Cond.fieldLink "AlgebraHouse$Book" (25 : Nat) "AlgebraHouse$Book" "resultRing" "[I") ∈ lw_all := lw_g (lw_at lw_m1 212 rfl) rfl
theorem q432 : (Jvm.Cond.fieldLink "AlgebraHouse$Book" (100 : Nat) "AlgebraHouse$Book" "with" "I") ∈ lw_all := lw_g (lw_at lw_m1 215 rfl) rfl
theorem q435 : (Jvm.Cond.laysFinal "AlgebraHouse$Book" "AlgebraHouse$Book" "told" "[LAlgebraHouse$Text;") ∈ lw_all := lw_g (lw_at lw_m1 218 rfl) rfl
theorem q436 : (Jvm.Cond.soleField "AlgebraHouse$Book" "told") ∈ lw_all := lw_g (lw_at lw_m1 219 rfl) rfl
theorem q437 : (Jvm.Cond.lays "AlgebraHouse$Book" "AlgebraHouse$Book" "tolds" "I") ∈ lw_all := lw_g (lw_at lw_m1 220 rfl) rfl
theorem q438 : (Jvm.Cond.soleField "AlgebraHouse$Book" "tolds") ∈ lw_all := lw_g (lw_at lw_m1 221 rfl) rfl
theorem q439 : (Jvm.Cond.lays "AlgebraHouse$Book" "AlgebraHouse$Book" "variables" "I") ∈ lw_all := lw_g (lw_at lw_m1 222 rfl) rfl
theorem q440 : (Jvm.Cond.soleField "AlgebraHouse$Book" "variables") ∈ lw_all := lw_g (lw_at lw_m1 223 rfl) rfl
theorem q441 : (Jvm.Cond.lays "AlgebraHouse$Book" "AlgebraHouse$Book" "results" "I") ∈ lw_all := lw_g (lw_at lw_m1 224 rfl) rfl
theorem q442 : (Jvm.Cond.soleField "AlgebraHouse$Book" "results") ∈ lw_all := lw_g (lw_at lw_m1 225 rfl) rfl
theorem q443 : (Jvm.Cond.laysFinal "AlgebraHouse$Book" "AlgebraHouse$Book" "variable" "[J") ∈ lw_all := lw_g (lw_at lw_m1 226 rfl) rfl
theorem q444 : (Jvm.Cond.soleField "AlgebraHouse$Book" "variable") ∈ lw_all := lw_g (lw_at lw_m1 227 rfl) rfl
theorem q445 : (Jvm.Cond.laysFinal "AlgebraHouse$Book" "AlgebraHouse$Book" "variableRing" "[I") ∈ lw_all := lw_g (lw_at lw_m1 228 rfl) rfl
theorem q446 : (Jvm.Cond.soleField "AlgebraHouse$Book" "variableRing") ∈ lw_all := lw_g (lw_at lw_m1 229 rfl) rfl
theorem q447 : (Jvm.Cond.laysFinal "AlgebraHouse$Book" "AlgebraHouse$Book" "resultRing" "[I") ∈ lw_all := lw_g (lw_at lw_m1 230 rfl) rfl
theorem q448 : (Jvm.Cond.soleField "AlgebraHouse$Book" "resultRing") ∈ lw_all := lw_g (lw_at lw_m1 231 rfl) rfl
theorem q449 : (Jvm.Cond.lays "AlgebraHouse$Book" "AlgebraHouse$Book" "with" "I") ∈ lw_all := lw_g (lw_at lw_m1 232 rfl) rfl
theorem q450 : (Jvm.Cond.soleField "AlgebraHouse$Book" "with") ∈ lw_all := lw_g (lw_at lw_m1 233 rfl) rfl
theorem q451 : (Jvm.Cond.superclass "AlgebraHouse$Book" "java/lang/Object") ∈ lw_all := lw_g (lw_at lw_m1 234 rfl) rfl
theorem q1098 : (Jvm.Cond.static ({ cls := "AlgebraHouse$Book", name := "ring", desc := "(LAlgebraHouse$Text;II)I" } : Jvm.MethodName)) ∈ lw_all := lw_g (lw_at lw_m4 161 rfl) rfl
theorem q1099 : (Jvm.Cond.code ({ cls := "AlgebraHouse$Book", name := "ring", desc := "(LAlgebraHouse$Text;II)I" } : Jvm.MethodName) prog_2_method_3_code (4 : Nat) (Option.some Jvm.ClassFile.FieldType.int)) ∈ lw_all := lw_g (lw_at lw_m4 162 rfl) rfl
theorem q1100 : (Jvm.Cond.methodLink "AlgebraHouse$Book" (45 : Nat) ({ cls := "AlgebraHouse$Rings", name := "size", desc := "(I)I" } : Jvm.MethodName)) ∈ lw_all := lw_g (lw_at lw_m4 163 rfl) rfl
theorem q1101 : (Jvm.Cond.methodLink "AlgebraHouse$Book" (51 : Nat) ({ cls := "AlgebraHouse$Rings", name := "depth", desc := "(I)I" } : Jvm.MethodName)) ∈ lw_all := lw_g (lw_at lw_m4 164 rfl) rfl
theorem q1102 : (Jvm.Cond.methodLink "AlgebraHouse$Book" (54 : Nat) ({ cls := "AlgebraHouse$Rings", name := "base", desc := "(I)I" } : Jvm.MethodName)) ∈ lw_all := lw_g (lw_at lw_m4 165 rfl) rfl
theorem q1105 : (Jvm.Cond.methodLink "AlgebraHouse$Book" (57 : Nat) ({ cls := "AlgebraHouse$Rings", name := "of", desc := "(III)I" } : Jvm.MethodName)) ∈ lw_all := lw_g (lw_at lw_m4 168 rfl) rfl
theorem q1111 : (Jvm.Cond.instanceMethod ({ cls := "AlgebraHouse$Book", name := "variable", desc := "(J)I" } : Jvm.MethodName)) ∈ lw_all := lw_g (lw_at lw_m4 174 rfl) rfl
theorem q1112 : (Jvm.Cond.selects "AlgebraHouse$Book" ({ cls := "AlgebraHouse$Book", name := "variable", desc := "(J)I" } : Jvm.MethodName) ({ cls := "AlgebraHouse$Book", name := "variable", desc := "(J)I" } : Jvm.MethodName)) ∈ lw_all := lw_g (lw_at lw_m4 175 rfl) rfl
theorem q1113 : (Jvm.Cond.code ({ cls := "AlgebraHouse$Book", name := "variable", desc := "(J)I" } : Jvm.MethodName) prog_2_method_2_code (4 : Nat) (Option.some Jvm.ClassFile.FieldType.int)) ∈ lw_all := lw_g (lw_at lw_m4 176 rfl) rfl
theorem q1119 : (Jvm.Cond.instanceMethod ({ cls := "AlgebraHouse$Book", name := "isCalled", desc := "(JI)Z" } : Jvm.MethodName)) ∈ lw_all := lw_g (lw_at lw_m4 182 rfl) rfl
theorem q1120 : (Jvm.Cond.selects "AlgebraHouse$Book" ({ cls := "AlgebraHouse$Book", name := "isCalled", desc := "(JI)Z" } : Jvm.MethodName) ({ cls := "AlgebraHouse$Book", name := "isCalled", desc := "(JI)Z" } : Jvm.MethodName)) ∈ lw_all := lw_g (lw_at lw_m4 183 rfl) rfl
theorem q1121 : (Jvm.Cond.code ({ cls := "AlgebraHouse$Book", name := "isCalled", desc := "(JI)Z" } : Jvm.MethodName) prog_2_method_8_code (5 : Nat) (Option.some Jvm.ClassFile.FieldType.boolean)) ∈ lw_all := lw_g (lw_at lw_m4 184 rfl) rfl
theorem q1131 : (Jvm.Cond.instanceMethod ({ cls := "AlgebraHouse$Book", name := "meant", desc := "(J[III)I" } : Jvm.MethodName)) ∈ lw_all := lw_g (lw_at lw_m4 194 rfl) rfl
theorem q1132 : (Jvm.Cond.selects "AlgebraHouse$Book" ({ cls := "AlgebraHouse$Book", name := "meant", desc := "(J[III)I" } : Jvm.MethodName) ({ cls := "AlgebraHouse$Book", name := "meant", desc := "(J[III)I" } : Jvm.MethodName)) ∈ lw_all := lw_g (lw_at lw_m4 195 rfl) rfl
theorem q1133 : (Jvm.Cond.code ({ cls := "AlgebraHouse$Book", name := "meant", desc := "(J[III)I" } : Jvm.MethodName) prog_2_method_6_code (12 : Nat) (Option.some Jvm.ClassFile.FieldType.int)) ∈ lw_all := lw_g (lw_at lw_m4 196 rfl) rfl
theorem q1134 : (Jvm.Cond.methodLink "AlgebraHouse$Book" (92 : Nat) ({ cls := "AlgebraHouse$Book", name := "found", desc := "(LAlgebraHouse$Text;[I)I" } : Jvm.MethodName)) ∈ lw_all := lw_g (lw_at lw_m4 197 rfl) rfl
theorem q1135 : (Jvm.Cond.static ({ cls := "AlgebraHouse$Book", name := "found", desc := "(LAlgebraHouse$Text;[I)I" } : Jvm.MethodName)) ∈ lw_all := lw_g (lw_at lw_m4 198 rfl) rfl
theorem q1136 : (Jvm.Cond.code ({ cls := "AlgebraHouse$Book", name := "found", desc := "(LAlgebraHouse$Text;[I)I" } : Jvm.MethodName) prog_2_method_5_code (7 : Nat) (Option.some Jvm.ClassFile.FieldType.int)) ∈ lw_all := lw_g (lw_at lw_m4 199 rfl) rfl
theorem q1137 : (Jvm.Cond.methodLink "AlgebraHouse$Book" (75 : Nat) ({ cls := "java/lang/Math", name := "max", desc := "(II)I" } : Jvm.MethodName)) ∈ lw_all := lw_g (lw_at lw_m4 200 rfl) rfl
theorem q1138 : (Jvm.Cond.methodLink "AlgebraHouse$Book" (81 : Nat) ({ cls := "AlgebraHouse$Rings", name := "join", desc := "(II)I" } : Jvm.MethodName)) ∈ lw_all := lw_g (lw_at lw_m4 201 rfl) rfl
theorem q1146 : (Jvm.Cond.methodLink "AlgebraHouse$Book" (84 : Nat) ({ cls := "AlgebraHouse$Book", name := "can", desc := "(LAlgebraHouse$Text;I)Z" } : Jvm.MethodName)) ∈ lw_all := lw_g (lw_at lw_m4 209 rfl) rfl
theorem q1147 : (Jvm.Cond.static ({ cls := "AlgebraHouse$Book", name := "can", desc := "(LAlgebraHouse$Text;I)Z" } : Jvm.MethodName)) ∈ lw_all := lw_g (lw_at lw_m4 210 rfl) rfl
theorem q1148 : (Jvm.Cond.code ({ cls := "AlgebraHouse$Book", name := "can", desc := "(LAlgebraHouse$Text;I)Z" } : Jvm.MethodName) prog_2_method_4_code (3 : Nat) (Option.some Jvm.ClassFile.FieldType.boolean)) ∈ lw_all := lw_g (lw_at lw_m4 211 rfl) rfl
theorem q1149 : (Jvm.Cond.methodLink "AlgebraHouse$Book" (64 : Nat) ({ cls := "AlgebraHouse$Rings", name := "isField", desc := "(I)Z" } : Jvm.MethodName)) ∈ lw_all := lw_g (lw_at lw_m4 212 rfl) rfl
theorem q1155 : (Jvm.Cond.methodLink "AlgebraHouse$Book" (71 : Nat) ({ cls := "AlgebraHouse$Book", name := "ring", desc := "(LAlgebraHouse$Text;II)I" } : Jvm.MethodName)) ∈ lw_all := lw_g (lw_at lw_m4 218 rfl) rfl
theorem q1156 : (Jvm.Cond.methodLink "AlgebraHouse$Book" (96 : Nat) ({ cls := "AlgebraHouse$Book", name := "price", desc := "(LAlgebraHouse$Text;[II)I" } : Jvm.MethodName)) ∈ lw_all := lw_g (lw_at lw_m4 219 rfl) rfl
theorem q1157 : (Jvm.Cond.static ({ cls := "AlgebraHouse$Book", name := "price", desc := "(LAlgebraHouse$Text;[II)I" } : Jvm.MethodName)) ∈ lw_all := lw_g (lw_at lw_m4 220 rfl) rfl
theorem q1158 : (Jvm.Cond.code ({ cls := "AlgebraHouse$Book", name := "price", desc := "(LAlgebraHouse$Text;[II)I" } : Jvm.MethodName) prog_2_method_7_code (6 : Nat) (Option.some Jvm.ClassFile.FieldType.int)) ∈ lw_all := lw_g (lw_at lw_m4 221 rfl) rfl
theorem q1159 : (Jvm.Cond.methodLink "AlgebraHouse$Book" (103 : Nat) ({ cls := "AlgebraHouse$Rings", name := "goes", desc := "(II)Z" } : Jvm.MethodName)) ∈ lw_all := lw_g (lw_at lw_m4 222 rfl) rfl
theorem q1163 : (Jvm.Cond.methodLink "AlgebraHouse$Book" (107 : Nat) ({ cls := "AlgebraHouse$Rings", name := "price", desc := "(II)I" } : Jvm.MethodName)) ∈ lw_all := lw_g (lw_at lw_m4 226 rfl) rfl
theorem in_X1 : ∀ w ∈ wsX10, w ∈ lw_all := lw_in wsX10 [435, 437, 439, 441, 443, 445, 447, 449] (by decide +kernel) (by decide +kernel)
/-! AlgebraHouse$Text -/
def RX2 : String := "AlgebraHouse$Text"
def TX2 : u_T := fun k => match k with
  | 0 => ("AlgebraHouse$Text", "nodes", "I", false)
  | 1 => ("AlgebraHouse$Text", "sort", "I", false)
  | 2 => ("AlgebraHouse$Text", "root", "I", false)
  | 3 => ("AlgebraHouse$Text", "first", "I", false)
  | 4 => ("AlgebraHouse$Text", "head", "I", false)
  | 5 => ("AlgebraHouse$Text", "params", "I", false)
  | 6 => ("AlgebraHouse$Text", "result", "I", false)
  | 7 => ("AlgebraHouse$Text", "kind", "[I", true)
  | 8 => ("AlgebraHouse$Text", "part", "[I", true)
  | 9 => ("AlgebraHouse$Text", "next", "[I", true)
  | 10 => ("AlgebraHouse$Text", "number", "[I", true)
  | 11 => ("AlgebraHouse$Text", "place", "[I", true)
  | 12 => ("AlgebraHouse$Text", "ring", "[I", true)
  | 13 => ("AlgebraHouse$Text", "means", "[I", true)
  | 14 => ("AlgebraHouse$Text", "with", "[I", true)
  | 15 => ("AlgebraHouse$Text", "name", "[J", true)
  | 16 => ("AlgebraHouse$Text", "called", "J", false)
  | 17 => ("AlgebraHouse$Text", "paramName", "[J", true)
  | 18 => ("AlgebraHouse$Text", "paramType", "[I", true)
  | 19 => ("AlgebraHouse$Text", "paramPlace", "[I", true)
  | 20 => ("AlgebraHouse$Text", "calledPlace", "I", false)
  | 21 => ("AlgebraHouse$Text", "forPlace", "I", false)
  | 22 => ("AlgebraHouse$Text", "rule", "I", false)
  | 23 => ("AlgebraHouse$Text", "hasR", "[Z", true)
  | 24 => ("AlgebraHouse$Text", "told", "[I", true)
  | 25 => ("AlgebraHouse$Text", "over", "[I", true)
  | _ => ("AlgebraHouse$Text", "around", "[I", true)
def tyX2 : Nat → FieldType := fun k => match k with
  | 0 => .int
  | 1 => .int
  | 2 => .int
  | 3 => .int
  | 4 => .int
  | 5 => .int
  | 6 => .int
  | 7 => .array .int
  | 8 => .array .int
  | 9 => .array .int
  | 10 => .array .int
  | 11 => .array .int
  | 12 => .array .int
  | 13 => .array .int
  | 14 => .array .int
  | 15 => .array .long
  | 16 => .long
  | 17 => .array .long
  | 18 => .array .int
  | 19 => .array .int
  | 20 => .int
  | 21 => .int
  | 22 => .int
  | 23 => .array .boolean
  | 24 => .array .int
  | 25 => .array .int
  | _ => .array .int
abbrev wsX20 : List Cond := u_ws RX2 TX2 27
set_option maxRecDepth 100000 in
theorem nmX2 : ∀ a, a < 27 → ∀ b, b < 27 → a ≠ b → (TX2 a).2.1 ≠ (TX2 b).2.1 := by decide +kernel
set_option maxRecDepth 100000 in
theorem tyX2_ok : ∀ k, k < 27 → parseFieldDescriptor (TX2 k).2.2.1 = some (tyX2 k) := by decide +kernel
abbrev cX2_init : ByteArray := prog_11_method_1_code
def yX2_init : MethodName := ⟨RX2, "<init>", "()V"⟩
abbrev cX2_clear : ByteArray := prog_11_method_2_code
def yX2_clear : MethodName := ⟨RX2, "clear", "()V"⟩
abbrev cX2_add : ByteArray := prog_11_method_3_code
def yX2_add : MethodName := ⟨RX2, "add", "(II)I"⟩
abbrev cX2_add_2 : ByteArray := prog_11_method_4_code
def yX2_add_2 : MethodName := ⟨RX2, "add", "(IIII)I"⟩
abbrev cX2_many : ByteArray := prog_11_method_7_code
def yX2_many : MethodName := ⟨RX2, "many", "(I)I"⟩
abbrev cX2_second : ByteArray := prog_11_method_5_code
def yX2_second : MethodName := ⟨RX2, "second", "(I)I"⟩
abbrev cX2_third : ByteArray := prog_11_method_6_code
def yX2_third : MethodName := ⟨RX2, "third", "(I)I"⟩
theorem q220 : (Jvm.Cond.initialized "AlgebraHouse$Text") ∈ lw_all := lw_g (lw_at lw_m1 3 rfl) rfl
theorem q254 : (Jvm.Cond.instantiable "AlgebraHouse$Text" (27 : Nat)) ∈ lw_all := lw_g (lw_at lw_m1 37 rfl) rfl
theorem q256 : (Jvm.Cond.instanceMethod ({ cls := "AlgebraHouse$Text", name := "<init>", desc := "()V" } : Jvm.MethodName)) ∈ lw_all := lw_g (lw_at lw_m1 39 rfl) rfl
theorem q257 : (Jvm.Cond.code ({ cls := "AlgebraHouse$Text", name := "<init>", desc := "()V" } : Jvm.MethodName) prog_11_method_1_code (1 : Nat) (Option.none : Option Jvm.ClassFile.FieldType)) ∈ lw_all := lw_g (lw_at lw_m1 40 rfl) rfl
theorem q258 : (Jvm.Cond.methodLink "AlgebraHouse$Text" (3 : Nat) ({ cls := "java/lang/Object", name := "<init>", desc := "()V" } : Jvm.MethodName)) ∈ lw_all := lw_g (lw_at lw_m1 41 rfl) rfl
theorem q259 : (Jvm.Cond.fieldLink "AlgebraHouse$Text" (62 : Nat) "AlgebraHouse$Text" "nodes" "I") ∈ lw_all := lw_g (lw_at lw_m1 42 rfl) rfl
theorem q260 : (Jvm.Cond.fieldLink "AlgebraHouse$Text" (75 : Nat) "AlgebraHouse$Text" "sort" "I") ∈ lw_all := lw_g (lw_at lw_m1 43 rfl) rfl
theorem q270 : (Jvm.Cond.fieldLink "AlgebraHouse$Text" (78 : Nat) "AlgebraHouse$Text" "first" "I") ∈ lw_all := lw_g (lw_at lw_m1 53 rfl) rfl
theorem q273 : (Jvm.Cond.fieldLink "AlgebraHouse$Text" (66 : Nat) "AlgebraHouse$Text" "params" "I") ∈ lw_all := lw_g (lw_at lw_m1 56 rfl) rfl
theorem q281 : (Jvm.Cond.fieldLink "AlgebraHouse$Text" (11 : Nat) "AlgebraHouse$Text" "kind" "[I") ∈ lw_all := lw_g (lw_at lw_m1 64 rfl) rfl
theorem q285 : (Jvm.Cond.fieldLink "AlgebraHouse$Text" (15 : Nat) "AlgebraHouse$Text" "part" "[I") ∈ lw_all := lw_g (lw_at lw_m1 68 rfl) rfl
theorem q289 : (Jvm.Cond.fieldLink "AlgebraHouse$Text" (18 : Nat) "AlgebraHouse$Text" "next" "[I") ∈ lw_all := lw_g (lw_at lw_m1 72 rfl) rfl
theorem q293 : (Jvm.Cond.fieldLink "AlgebraHouse$Text" (21 : Nat) "AlgebraHouse$Text" "number" "[I") ∈ lw_all := lw_g (lw_at lw_m1 76 rfl) rfl
theorem q297 : (Jvm.Cond.fieldLink "AlgebraHouse$Text" (24 : Nat) "AlgebraHouse$Text" "place" "[I") ∈ lw_all := lw_g (lw_at lw_m1 80 rfl) rfl
theorem q299 : (Jvm.Cond.fieldLink "AlgebraHouse$Text" (27 : Nat) "AlgebraHouse$Text" "ring" "[I") ∈ lw_all := lw_g (lw_at lw_m1 82 rfl) rfl
theorem q304 : (Jvm.Cond.fieldLink "AlgebraHouse$Text" (30 : Nat) "AlgebraHouse$Text" "means" "[I") ∈ lw_all := lw_g (lw_at lw_m1 87 rfl) rfl
theorem q307 : (Jvm.Cond.fieldLink "AlgebraHouse$Text" (33 : Nat) "AlgebraHouse$Text" "with" "[I") ∈ lw_all := lw_g (lw_at lw_m1 90 rfl) rfl
theorem q310 : (Jvm.Cond.fieldLink "AlgebraHouse$Text" (36 : Nat) "AlgebraHouse$Text" "name" "[J") ∈ lw_all := lw_g (lw_at lw_m1 93 rfl) rfl
theorem q317 : (Jvm.Cond.fieldLink "AlgebraHouse$Text" (40 : Nat) "AlgebraHouse$Text" "paramName" "[J") ∈ lw_all := lw_g (lw_at lw_m1 100 rfl) rfl
theorem q320 : (Jvm.Cond.fieldLink "AlgebraHouse$Text" (43 : Nat) "AlgebraHouse$Text" "paramType" "[I") ∈ lw_all := lw_g (lw_at lw_m1 103 rfl) rfl
theorem q323 : (Jvm.Cond.fieldLink "AlgebraHouse$Text" (46 : Nat) "AlgebraHouse$Text" "paramPlace" "[I") ∈ lw_all := lw_g (lw_at lw_m1 106 rfl) rfl
theorem q328 : (Jvm.Cond.fieldLink "AlgebraHouse$Text" (69 : Nat) "AlgebraHouse$Text" "forPlace" "I") ∈ lw_all := lw_g (lw_at lw_m1 111 rfl) rfl
theorem q331 : (Jvm.Cond.fieldLink "AlgebraHouse$Text" (72 : Nat) "AlgebraHouse$Text" "rule" "I") ∈ lw_all := lw_g (lw_at lw_m1 114 rfl) rfl
theorem q337 : (Jvm.Cond.fieldLink "AlgebraHouse$Text" (49 : Nat) "AlgebraHouse$Text" "hasR" "[Z") ∈ lw_all := lw_g (lw_at lw_m1 120 rfl) rfl
theorem q341 : (Jvm.Cond.fieldLink "AlgebraHouse$Text" (53 : Nat) "AlgebraHouse$Text" "told" "[I") ∈ lw_all := lw_g (lw_at lw_m1 124 rfl) rfl
theorem q345 : (Jvm.Cond.fieldLink "AlgebraHouse$Text" (56 : Nat) "AlgebraHouse$Text" "over" "[I") ∈ lw_all := lw_g (lw_at lw_m1 128 rfl) rfl
theorem q349 : (Jvm.Cond.fieldLink "AlgebraHouse$Text" (59 : Nat) "AlgebraHouse$Text" "around" "[I") ∈ lw_all := lw_g (lw_at lw_m1 132 rfl) rfl
theorem q353 : (Jvm.Cond.lays "AlgebraHouse$Text" "AlgebraHouse$Text" "nodes" "I") ∈ lw_all := lw_g (lw_at lw_m1 136 rfl) rfl
theorem q354 : (Jvm.Cond.soleField "AlgebraHouse$Text" "nodes") ∈ lw_all := lw_g (lw_at lw_m1 137 rfl) rfl
theorem q355 : (Jvm.Cond.lays "AlgebraHouse$Text" "AlgebraHouse$Text" "sort" "I") ∈ lw_all := lw_g (lw_at lw_m1 138 rfl) rfl
theorem q356 : (Jvm.Cond.soleField "AlgebraHouse$Text" "sort") ∈ lw_all := lw_g (lw_at lw_m1 139 rfl) rfl
theorem q357 : (Jvm.Cond.lays "AlgebraHouse$Text" "AlgebraHouse$Text" "root" "I") ∈ lw_all := lw_g (lw_at lw_m1 140 rfl) rfl
theorem q358 : (Jvm.Cond.soleField "AlgebraHouse$Text" "root") ∈ lw_all := lw_g (lw_at lw_m1 141 rfl) rfl
theorem q359 : (Jvm.Cond.lays "AlgebraHouse$Text" "AlgebraHouse$Text" "first" "I") ∈ lw_all := lw_g (lw_at lw_m1 142 rfl) rfl
theorem q360 : (Jvm.Cond.soleField "AlgebraHouse$Text" "first") ∈ lw_all := lw_g (lw_at lw_m1 143 rfl) rfl
theorem q361 : (Jvm.Cond.lays "AlgebraHouse$Text" "AlgebraHouse$Text" "head" "I") ∈ lw_all := lw_g (lw_at lw_m1 144 rfl) rfl
theorem q362 : (Jvm.Cond.soleField "AlgebraHouse$Text" "head") ∈ lw_all := lw_g (lw_at lw_m1 145 rfl) rfl
theorem q363 : (Jvm.Cond.lays "AlgebraHouse$Text" "AlgebraHouse$Text" "params" "I") ∈ lw_all := lw_g (lw_at lw_m1 146 rfl) rfl
theorem q364 : (Jvm.Cond.soleField "AlgebraHouse$Text" "params") ∈ lw_all := lw_g (lw_at lw_m1 147 rfl) rfl
theorem q365 : (Jvm.Cond.lays "AlgebraHouse$Text" "AlgebraHouse$Text" "result" "I") ∈ lw_all := lw_g (lw_at lw_m1 148 rfl) rfl
theorem q366 : (Jvm.Cond.soleField "AlgebraHouse$Text" "result") ∈ lw_all := lw_g (lw_at lw_m1 149 rfl) rfl
theorem q367 : (Jvm.Cond.laysFinal "AlgebraHouse$Text" "AlgebraHouse$Text" "kind" "[I") ∈ lw_all := lw_g (lw_at lw_m1 150 rfl) rfl
theorem q368 : (Jvm.Cond.soleField "AlgebraHouse$Text" "kind") ∈ lw_all := lw_g (lw_at lw_m1 151 rfl) rfl
theorem q369 : (Jvm.Cond.laysFinal "AlgebraHouse$Text" "AlgebraHouse$Text" "part" "[I") ∈ lw_all := lw_g (lw_at lw_m1 152 rfl) rfl
theorem q370 : (Jvm.Cond.soleField "AlgebraHouse$Text" "part") ∈ lw_all := lw_g (lw_at lw_m1 153 rfl) rfl
theorem q371 : (Jvm.Cond.laysFinal "AlgebraHouse$Text" "AlgebraHouse$Text" "next" "[I") ∈ lw_all := lw_g (lw_at lw_m1 154 rfl) rfl
theorem q372 : (Jvm.Cond.soleField "AlgebraHouse$Text" "next") ∈ lw_all := lw_g (lw_at lw_m1 155 rfl) rfl
theorem q373 : (Jvm.Cond.laysFinal "AlgebraHouse$Text" "AlgebraHouse$Text" "number" "[I") ∈ lw_all := lw_g (lw_at lw_m1 156 rfl) rfl
theorem q374 : (Jvm.Cond.soleField "AlgebraHouse$Text" "number") ∈ lw_all := lw_g (lw_at lw_m1 157 rfl) rfl
theorem q375 : (Jvm.Cond.laysFinal "AlgebraHouse$Text" "AlgebraHouse$Text" "place" "[I") ∈ lw_all := lw_g (lw_at lw_m1 158 rfl) rfl
theorem q376 : (Jvm.Cond.soleField "AlgebraHouse$Text" "place") ∈ lw_all := lw_g (lw_at lw_m1 159 rfl) rfl
theorem q377 : (Jvm.Cond.laysFinal "AlgebraHouse$Text" "AlgebraHouse$Text" "ring" "[I") ∈ lw_all := lw_g (lw_at lw_m1 160 rfl) rfl
theorem q378 : (Jvm.Cond.soleField "AlgebraHouse$Text" "ring") ∈ lw_all := lw_g (lw_at lw_m1 161 rfl) rfl
theorem q379 : (Jvm.Cond.laysFinal "AlgebraHouse$Text" "AlgebraHouse$Text" "means" "[I") ∈ lw_all := lw_g (lw_at lw_m1 162 rfl) rfl
theorem q380 : (Jvm.Cond.soleField "AlgebraHouse$Text" "means") ∈ lw_all := lw_g (lw_at lw_m1 163 rfl) rfl
theorem q381 : (Jvm.Cond.laysFinal "AlgebraHouse$Text" "AlgebraHouse$Text" "with" "[I") ∈ lw_all := lw_g (lw_at lw_m1 164 rfl) rfl
theorem q382 : (Jvm.Cond.soleField "AlgebraHouse$Text" "with") ∈ lw_all := lw_g (lw_at lw_m1 165 rfl) rfl
theorem q383 : (Jvm.Cond.laysFinal "AlgebraHouse$Text" "AlgebraHouse$Text" "name" "[J") ∈ lw_all := lw_g (lw_at lw_m1 166 rfl) rfl
theorem q384 : (Jvm.Cond.soleField "AlgebraHouse$Text" "name") ∈ lw_all := lw_g (lw_at lw_m1 167 rfl) rfl
theorem q385 : (Jvm.Cond.lays "AlgebraHouse$Text" "AlgebraHouse$Text" "called" "J") ∈ lw_all := lw_g (lw_at lw_m1 168 rfl) rfl
theorem q386 : (Jvm.Cond.soleField "AlgebraHouse$Text" "called") ∈ lw_all := lw_g (lw_at lw_m1 169 rfl) rfl
theorem q387 : (Jvm.Cond.laysFinal "AlgebraHouse$Text" "AlgebraHouse$Text" "paramName" "[J") ∈ lw_all := lw_g (lw_at lw_m1 170 rfl) rfl
theorem q388 : (Jvm.Cond.soleField "AlgebraHouse$Text" "paramName") ∈ lw_all := lw_g (lw_at lw_m1 171 rfl) rfl
theorem q389 : (Jvm.Cond.laysFinal "AlgebraHouse$Text" "AlgebraHouse$Text" "paramType" "[I") ∈ lw_all := lw_g (lw_at lw_m1 172 rfl) rfl
theorem q390 : (Jvm.Cond.soleField "AlgebraHouse$Text" "paramType") ∈ lw_all := lw_g (lw_at lw_m1 173 rfl) rfl
theorem q391 : (Jvm.Cond.laysFinal "AlgebraHouse$Text" "AlgebraHouse$Text" "paramPlace" "[I") ∈ lw_all := lw_g (lw_at lw_m1 174 rfl) rfl
theorem q392 : (Jvm.Cond.soleField "AlgebraHouse$Text" "paramPlace") ∈ lw_all := lw_g (lw_at lw_m1 175 rfl) rfl
theorem q393 : (Jvm.Cond.lays "AlgebraHouse$Text" "AlgebraHouse$Text" "calledPlace" "I") ∈ lw_all := lw_g (lw_at lw_m1 176 rfl) rfl
theorem q394 : (Jvm.Cond.soleField "AlgebraHouse$Text" "calledPlace") ∈ lw_all := lw_g (lw_at lw_m1 177 rfl) rfl
theorem q395 : (Jvm.Cond.lays "AlgebraHouse$Text" "AlgebraHouse$Text" "forPlace" "I") ∈ lw_all := lw_g (lw_at lw_m1 178 rfl) rfl
theorem q396 : (Jvm.Cond.soleField "AlgebraHouse$Text" "forPlace") ∈ lw_all := lw_g (lw_at lw_m1 179 rfl) rfl
theorem q397 : (Jvm.Cond.lays "AlgebraHouse$Text" "AlgebraHouse$Text" "rule" "I") ∈ lw_all := lw_g (lw_at lw_m1 180 rfl) rfl
theorem q398 : (Jvm.Cond.soleField "AlgebraHouse$Text" "rule") ∈ lw_all := lw_g (lw_at lw_m1 181 rfl) rfl
theorem q399 : (Jvm.Cond.laysFinal "AlgebraHouse$Text" "AlgebraHouse$Text" "hasR" "[Z") ∈ lw_all := lw_g (lw_at lw_m1 182 rfl) rfl
theorem q400 : (Jvm.Cond.soleField "AlgebraHouse$Text" "hasR") ∈ lw_all := lw_g (lw_at lw_m1 183 rfl) rfl
theorem q401 : (Jvm.Cond.laysFinal "AlgebraHouse$Text" "AlgebraHouse$Text" "told" "[I") ∈ lw_all := lw_g (lw_at lw_m1 184 rfl) rfl
theorem q402 : (Jvm.Cond.soleField "AlgebraHouse$Text" "told") ∈ lw_all := lw_g (lw_at lw_m1 185 rfl) rfl
theorem q403 : (Jvm.Cond.laysFinal "AlgebraHouse$Text" "AlgebraHouse$Text" "over" "[I") ∈ lw_all := lw_g (lw_at lw_m1 186 rfl) rfl
theorem q404 : (Jvm.Cond.soleField "AlgebraHouse$Text" "over") ∈ lw_all := lw_g (lw_at lw_m1 187 rfl) rfl
theorem q405 : (Jvm.Cond.laysFinal "AlgebraHouse$Text" "AlgebraHouse$Text" "around" "[I") ∈ lw_all := lw_g (lw_at lw_m1 188 rfl) rfl
theorem q406 : (Jvm.Cond.soleField "AlgebraHouse$Text" "around") ∈ lw_all := lw_g (lw_at lw_m1 189 rfl) rfl
theorem q407 : (Jvm.Cond.superclass "AlgebraHouse$Text" "java/lang/Object") ∈ lw_all := lw_g (lw_at lw_m1 190 rfl) rfl
theorem q752 : (Jvm.Cond.instanceMethod ({ cls := "AlgebraHouse$Text", name := "clear", desc := "()V" } : Jvm.MethodName)) ∈ lw_all := lw_g (lw_at lw_m3 55 rfl) rfl
theorem q753 : (Jvm.Cond.selects "AlgebraHouse$Text" ({ cls := "AlgebraHouse$Text", name := "clear", desc := "()V" } : Jvm.MethodName) ({ cls := "AlgebraHouse$Text", name := "clear", desc := "()V" } : Jvm.MethodName)) ∈ lw_all := lw_g (lw_at lw_m3 56 rfl) rfl
theorem q754 : (Jvm.Cond.code ({ cls := "AlgebraHouse$Text", name := "clear", desc := "()V" } : Jvm.MethodName) prog_11_method_2_code (1 : Nat) (Option.none : Option Jvm.ClassFile.FieldType)) ∈ lw_all := lw_g (lw_at lw_m3 57 rfl) rfl
theorem q950 : (Jvm.Cond.instanceMethod ({ cls := "AlgebraHouse$Text", name := "add", desc := "(II)I" } : Jvm.MethodName)) ∈ lw_all := lw_g (lw_at lw_m4 13 rfl) rfl
theorem q951 : (Jvm.Cond.selects "AlgebraHouse$Text" ({ cls := "AlgebraHouse$Text", name := "add", desc := "(II)I" } : Jvm.MethodName) ({ cls := "AlgebraHouse$Text", name := "add", desc := "(II)I" } : Jvm.MethodName)) ∈ lw_all := lw_g (lw_at lw_m4 14 rfl) rfl
theorem q952 : (Jvm.Cond.code ({ cls := "AlgebraHouse$Text", name := "add", desc := "(II)I" } : Jvm.MethodName) prog_11_method_3_code (3 : Nat) (Option.some Jvm.ClassFile.FieldType.int)) ∈ lw_all := lw_g (lw_at lw_m4 15 rfl) rfl
theorem q1020 : (Jvm.Cond.instanceMethod ({ cls := "AlgebraHouse$Text", name := "add", desc := "(IIII)I" } : Jvm.MethodName)) ∈ lw_all := lw_g (lw_at lw_m4 83 rfl) rfl
theorem q1021 : (Jvm.Cond.selects "AlgebraHouse$Text" ({ cls := "AlgebraHouse$Text", name := "add", desc := "(IIII)I" } : Jvm.MethodName) ({ cls := "AlgebraHouse$Text", name := "add", desc := "(IIII)I" } : Jvm.MethodName)) ∈ lw_all := lw_g (lw_at lw_m4 84 rfl) rfl
theorem q1022 : (Jvm.Cond.code ({ cls := "AlgebraHouse$Text", name := "add", desc := "(IIII)I" } : Jvm.MethodName) prog_11_method_4_code (6 : Nat) (Option.some Jvm.ClassFile.FieldType.int)) ∈ lw_all := lw_g (lw_at lw_m4 85 rfl) rfl
theorem q1023 : (Jvm.Cond.methodLink "AlgebraHouse$Text" (81 : Nat) ({ cls := "AlgebraHouse$Text", name := "add", desc := "(II)I" } : Jvm.MethodName)) ∈ lw_all := lw_g (lw_at lw_m4 86 rfl) rfl
theorem q1127 : (Jvm.Cond.instanceMethod ({ cls := "AlgebraHouse$Text", name := "many", desc := "(I)I" } : Jvm.MethodName)) ∈ lw_all := lw_g (lw_at lw_m4 190 rfl) rfl
theorem q1128 : (Jvm.Cond.selects "AlgebraHouse$Text" ({ cls := "AlgebraHouse$Text", name := "many", desc := "(I)I" } : Jvm.MethodName) ({ cls := "AlgebraHouse$Text", name := "many", desc := "(I)I" } : Jvm.MethodName)) ∈ lw_all := lw_g (lw_at lw_m4 191 rfl) rfl
theorem q1129 : (Jvm.Cond.code ({ cls := "AlgebraHouse$Text", name := "many", desc := "(I)I" } : Jvm.MethodName) prog_11_method_7_code (4 : Nat) (Option.some Jvm.ClassFile.FieldType.int)) ∈ lw_all := lw_g (lw_at lw_m4 192 rfl) rfl
theorem q1171 : (Jvm.Cond.instanceMethod ({ cls := "AlgebraHouse$Text", name := "second", desc := "(I)I" } : Jvm.MethodName)) ∈ lw_all := lw_g (lw_at lw_m4 234 rfl) rfl
theorem q1172 : (Jvm.Cond.selects "AlgebraHouse$Text" ({ cls := "AlgebraHouse$Text", name := "second", desc := "(I)I" } : Jvm.MethodName) ({ cls := "AlgebraHouse$Text", name := "second", desc := "(I)I" } : Jvm.MethodName)) ∈ lw_all := lw_g (lw_at lw_m4 235 rfl) rfl
theorem q1173 : (Jvm.Cond.code ({ cls := "AlgebraHouse$Text", name := "second", desc := "(I)I" } : Jvm.MethodName) prog_11_method_5_code (2 : Nat) (Option.some Jvm.ClassFile.FieldType.int)) ∈ lw_all := lw_g (lw_at lw_m4 236 rfl) rfl
theorem q1206 : (Jvm.Cond.instanceMethod ({ cls := "AlgebraHouse$Text", name := "third", desc := "(I)I" } : Jvm.MethodName)) ∈ lw_all := lw_g (lw_at lw_m5 29 rfl) rfl
theorem q1207 : (Jvm.Cond.selects "AlgebraHouse$Text" ({ cls := "AlgebraHouse$Text", name := "third", desc := "(I)I" } : Jvm.MethodName) ({ cls := "AlgebraHouse$Text", name := "third", desc := "(I)I" } : Jvm.MethodName)) ∈ lw_all := lw_g (lw_at lw_m5 30 rfl) rfl
theorem q1208 : (Jvm.Cond.code ({ cls := "AlgebraHouse$Text", name := "third", desc := "(I)I" } : Jvm.MethodName) prog_11_method_6_code (2 : Nat) (Option.some Jvm.ClassFile.FieldType.int)) ∈ lw_all := lw_g (lw_at lw_m5 31 rfl) rfl
theorem in_X2 : ∀ w ∈ wsX20, w ∈ lw_all := lw_in wsX20 [353, 355, 357, 359, 361, 363, 365, 367, 369, 371, 373, 375, 377, 379, 381, 383, 385, 387, 389, 391, 393, 395, 397, 399, 401, 403, 405] (by decide +kernel) (by decide +kernel)
/-! AlgebraHouse$Parser -/
def RX3 : String := "AlgebraHouse$Parser"
def TX3 : u_T := fun k => match k with
  | 0 => ("AlgebraHouse$Parser", "t", "LAlgebraHouse$Tokens;", true)
  | 1 => ("AlgebraHouse$Parser", "x", "LAlgebraHouse$Text;", false)
  | 2 => ("AlgebraHouse$Parser", "at", "I", false)
  | 3 => ("AlgebraHouse$Parser", "open", "I", false)
  | 4 => ("AlgebraHouse$Parser", "fault", "I", false)
  | _ => ("AlgebraHouse$Parser", "place", "I", false)
def tyX3 : Nat → FieldType := fun k => match k with
  | 0 => .object "AlgebraHouse$Tokens"
  | 1 => .object "AlgebraHouse$Text"
  | 2 => .int
  | 3 => .int
  | 4 => .int
  | _ => .int
abbrev wsX30 : List Cond := u_ws RX3 TX3 6
theorem nmX3 : ∀ a, a < 6 → ∀ b, b < 6 → a ≠ b → (TX3 a).2.1 ≠ (TX3 b).2.1 := by decide +kernel
theorem tyX3_ok : ∀ k, k < 6 → parseFieldDescriptor (TX3 k).2.2.1 = some (tyX3 k) := by decide +kernel
abbrev cX3_init : ByteArray := prog_9_method_1_code
def yX3_init : MethodName := ⟨RX3, "<init>", "()V"⟩
abbrev cX3_reads : ByteArray := prog_9_method_15_code
def yX3_reads : MethodName := ⟨RX3, "reads", "(LAlgebraHouse$Text;[BI)Z"⟩
abbrev cX3_line : ByteArray := prog_9_method_16_code
def yX3_line : MethodName := ⟨RX3, "line", "()V"⟩
abbrev cX3_is : ByteArray := prog_9_method_14_code
def yX3_is : MethodName := ⟨RX3, "is", "(III)Z"⟩
abbrev cX3_told : ByteArray := prog_9_method_17_code
def yX3_told : MethodName := ⟨RX3, "told", "()V"⟩
abbrev cX3_here : ByteArray := prog_9_method_5_code
def yX3_here : MethodName := ⟨RX3, "here", "()I"⟩
abbrev cX3_go : ByteArray := prog_9_method_6_code
def yX3_go : MethodName := ⟨RX3, "go", "()V"⟩
abbrev cX3_fail : ByteArray := prog_9_method_2_code
def yX3_fail : MethodName := ⟨RX3, "fail", "(II)V"⟩
abbrev cX3_opens : ByteArray := prog_9_method_11_code
def yX3_opens : MethodName := ⟨RX3, "opens", "()V"⟩
abbrev cX3_need : ByteArray := prog_9_method_8_code
def yX3_need : MethodName := ⟨RX3, "need", "(I)V"⟩
abbrev cX3_takes : ByteArray := prog_9_method_7_code
def yX3_takes : MethodName := ⟨RX3, "takes", "(I)Z"⟩
abbrev cX3_isSign : ByteArray := prog_9_method_3_code
def yX3_isSign : MethodName := ⟨RX3, "isSign", "(I)Z"⟩
abbrev cX3_type : ByteArray := prog_9_method_18_code
def yX3_type : MethodName := ⟨RX3, "type", "()I"⟩
abbrev cX3_needOpen : ByteArray := prog_9_method_12_code
def yX3_needOpen : MethodName := ⟨RX3, "needOpen", "(I)V"⟩
abbrev cX3_closes : ByteArray := prog_9_method_13_code
def yX3_closes : MethodName := ⟨RX3, "closes", "(I)V"⟩
abbrev cX3_isKey : ByteArray := prog_9_method_4_code
def yX3_isKey : MethodName := ⟨RX3, "isKey", "(I)Z"⟩
abbrev cX3_expression : ByteArray := prog_9_method_19_code
def yX3_expression : MethodName := ⟨RX3, "expression", "()I"⟩
abbrev cX3_either : ByteArray := prog_9_method_20_code
def yX3_either : MethodName := ⟨RX3, "either", "()I"⟩
abbrev cX3_both : ByteArray := prog_9_method_21_code
def yX3_both : MethodName := ⟨RX3, "both", "()I"⟩
abbrev cX3_negated : ByteArray := prog_9_method_22_code
def yX3_negated : MethodName := ⟨RX3, "negated", "()I"⟩
abbrev cX3_relation : ByteArray := prog_9_method_23_code
def yX3_relation : MethodName := ⟨RX3, "relation", "()I"⟩
abbrev cX3_sum : ByteArray := prog_9_method_24_code
def yX3_sum : MethodName := ⟨RX3, "sum", "()I"⟩
abbrev cX3_product : ByteArray := prog_9_method_25_code
def yX3_product : MethodName := ⟨RX3, "product", "()I"⟩
abbrev cX3_minus : ByteArray := prog_9_method_26_code
def yX3_minus : MethodName := ⟨RX3, "minus", "()I"⟩
abbrev cX3_behind : ByteArray := prog_9_method_27_code
def yX3_behind : MethodName := ⟨RX3, "behind", "()I"⟩
abbrev cX3_atom : ByteArray := prog_9_method_28_code
def yX3_atom : MethodName := ⟨RX3, "atom", "()I"⟩
abbrev cX3_arguments : ByteArray := prog_9_method_29_code
def yX3_arguments : MethodName := ⟨RX3, "arguments", "(II)V"⟩
abbrev cX3_signed : ByteArray := prog_9_method_30_code
def yX3_signed : MethodName := ⟨RX3, "signed", "(I)I"⟩
abbrev cX3_matrix : ByteArray := prog_9_method_31_code
def yX3_matrix : MethodName := ⟨RX3, "matrix", "(I)I"⟩
abbrev cX3_needKey : ByteArray := prog_9_method_10_code
def yX3_needKey : MethodName := ⟨RX3, "needKey", "(I)V"⟩
abbrev cX3_takesKey : ByteArray := prog_9_method_9_code
def yX3_takesKey : MethodName := ⟨RX3, "takesKey", "(I)Z"⟩
theorem q221 : (Jvm.Cond.initialized "AlgebraHouse$Parser") ∈ lw_all := lw_g (lw_at lw_m1 4 rfl) rfl
theorem q264 : (Jvm.Cond.fieldLinkNest "AlgebraHouse$Parser" (103 : Nat) "AlgebraHouse$Text" "sort" "I" "AlgebraHouse") ∈ lw_tbl := lw_at lw_m1 47 rfl
theorem q269 : (Jvm.Cond.fieldLinkNest "AlgebraHouse$Parser" (117 : Nat) "AlgebraHouse$Text" "root" "I" "AlgebraHouse") ∈ lw_tbl := lw_at lw_m1 52 rfl
theorem q272 : (Jvm.Cond.fieldLinkNest "AlgebraHouse$Parser" (150 : Nat) "AlgebraHouse$Text" "first" "I" "AlgebraHouse") ∈ lw_tbl := lw_at lw_m1 55 rfl
theorem q278 : (Jvm.Cond.fieldLinkNest "AlgebraHouse$Parser" (123 : Nat) "AlgebraHouse$Text" "params" "I" "AlgebraHouse") ∈ lw_tbl := lw_at lw_m1 61 rfl
theorem q280 : (Jvm.Cond.fieldLinkNest "AlgebraHouse$Parser" (141 : Nat) "AlgebraHouse$Text" "result" "I" "AlgebraHouse") ∈ lw_tbl := lw_at lw_m1 63 rfl
theorem q284 : (Jvm.Cond.fieldLinkNest "AlgebraHouse$Parser" (212 : Nat) "AlgebraHouse$Text" "kind" "[I" "AlgebraHouse") ∈ lw_tbl := lw_at lw_m1 67 rfl
theorem q288 : (Jvm.Cond.fieldLinkNest "AlgebraHouse$Parser" (166 : Nat) "AlgebraHouse$Text" "part" "[I" "AlgebraHouse") ∈ lw_tbl := lw_at lw_m1 71 rfl
theorem q292 : (Jvm.Cond.fieldLinkNest "AlgebraHouse$Parser" (175 : Nat) "AlgebraHouse$Text" "next" "[I" "AlgebraHouse") ∈ lw_tbl := lw_at lw_m1 75 rfl
theorem q296 : (Jvm.Cond.fieldLinkNest "AlgebraHouse$Parser" (157 : Nat) "AlgebraHouse$Text" "number" "[I" "AlgebraHouse") ∈ lw_tbl := lw_at lw_m1 79 rfl
theorem q312 : (Jvm.Cond.fieldLinkNest "AlgebraHouse$Parser" (165 : Nat) "AlgebraHouse$Text" "name" "[J" "AlgebraHouse") ∈ lw_tbl := lw_at lw_m1 95 rfl
theorem q316 : (Jvm.Cond.fieldLinkNest "AlgebraHouse$Parser" (110 : Nat) "AlgebraHouse$Text" "called" "J" "AlgebraHouse") ∈ lw_tbl := lw_at lw_m1 99 rfl
theorem q319 : (Jvm.Cond.fieldLinkNest "AlgebraHouse$Parser" (126 : Nat) "AlgebraHouse$Text" "paramName" "[J" "AlgebraHouse") ∈ lw_tbl := lw_at lw_m1 102 rfl
theorem q322 : (Jvm.Cond.fieldLinkNest "AlgebraHouse$Parser" (132 : Nat) "AlgebraHouse$Text" "paramType" "[I" "AlgebraHouse") ∈ lw_tbl := lw_at lw_m1 105 rfl
theorem q325 : (Jvm.Cond.fieldLinkNest "AlgebraHouse$Parser" (129 : Nat) "AlgebraHouse$Text" "paramPlace" "[I" "AlgebraHouse") ∈ lw_tbl := lw_at lw_m1 108 rfl
theorem q327 : (Jvm.Cond.fieldLinkNest "AlgebraHouse$Parser" (120 : Nat) "AlgebraHouse$Text" "calledPlace" "I" "AlgebraHouse") ∈ lw_tbl := lw_at lw_m1 110 rfl
theorem q330 : (Jvm.Cond.fieldLinkNest "AlgebraHouse$Parser" (147 : Nat) "AlgebraHouse$Text" "forPlace" "I" "AlgebraHouse") ∈ lw_tbl := lw_at lw_m1 113 rfl
theorem q336 : (Jvm.Cond.fieldLinkNest "AlgebraHouse$Parser" (144 : Nat) "AlgebraHouse$Text" "rule" "I" "AlgebraHouse") ∈ lw_tbl := lw_at lw_m1 119 rfl
theorem q453 : (Jvm.Cond.instantiable "AlgebraHouse$Parser" (6 : Nat)) ∈ lw_all := lw_g (lw_at lw_m1 236 rfl) rfl
theorem q455 : (Jvm.Cond.instanceMethod ({ cls := "AlgebraHouse$Parser", name := "<init>", desc := "()V" } : Jvm.MethodName)) ∈ lw_all := lw_g (lw_at lw_m1 238 rfl) rfl
theorem q456 : (Jvm.Cond.code ({ cls := "AlgebraHouse$Parser", name := "<init>", desc := "()V" } : Jvm.MethodName) prog_9_method_1_code (1 : Nat) (Option.none : Option Jvm.ClassFile.FieldType)) ∈ lw_all := lw_g (lw_at lw_m1 239 rfl) rfl
theorem q457 : (Jvm.Cond.methodLink "AlgebraHouse$Parser" (3 : Nat) ({ cls := "java/lang/Object", name := "<init>", desc := "()V" } : Jvm.MethodName)) ∈ lw_all := lw_g (lw_at lw_m2 0 rfl) rfl
theorem q458 : (Jvm.Cond.classLink "AlgebraHouse$Parser" (9 : Nat) "AlgebraHouse$Tokens") ∈ lw_all := lw_g (lw_at lw_m2 1 rfl) rfl
theorem q460 : (Jvm.Cond.methodLinkNest "AlgebraHouse$Parser" (11 : Nat) ({ cls := "AlgebraHouse$Tokens", name := "<init>", desc := "()V" } : Jvm.MethodName) "AlgebraHouse") ∈ lw_tbl := lw_at lw_m2 3 rfl
theorem q467 : (Jvm.Cond.fieldLinkNest "AlgebraHouse$Parser" (75 : Nat) "AlgebraHouse$Tokens" "many" "I" "AlgebraHouse") ∈ lw_tbl := lw_at lw_m2 10 rfl
theorem q469 : (Jvm.Cond.fieldLinkNest "AlgebraHouse$Parser" (29 : Nat) "AlgebraHouse$Tokens" "kind" "[I" "AlgebraHouse") ∈ lw_tbl := lw_at lw_m2 12 rfl
theorem q471 : (Jvm.Cond.fieldLinkNest "AlgebraHouse$Parser" (36 : Nat) "AlgebraHouse$Tokens" "value" "[I" "AlgebraHouse") ∈ lw_tbl := lw_at lw_m2 14 rfl
theorem q473 : (Jvm.Cond.fieldLinkNest "AlgebraHouse$Parser" (39 : Nat) "AlgebraHouse$Tokens" "place" "[I" "AlgebraHouse") ∈ lw_tbl := lw_at lw_m2 16 rfl
theorem q475 : (Jvm.Cond.fieldLinkNest "AlgebraHouse$Parser" (106 : Nat) "AlgebraHouse$Tokens" "name" "[J" "AlgebraHouse") ∈ lw_tbl := lw_at lw_m2 18 rfl
theorem q491 : (Jvm.Cond.fieldLink "AlgebraHouse$Parser" (12 : Nat) "AlgebraHouse$Parser" "t" "LAlgebraHouse$Tokens;") ∈ lw_all := lw_g (lw_at lw_m2 34 rfl) rfl
theorem q492 : (Jvm.Cond.fieldLink "AlgebraHouse$Parser" (78 : Nat) "AlgebraHouse$Parser" "x" "LAlgebraHouse$Text;") ∈ lw_all := lw_g (lw_at lw_m2 35 rfl) rfl
theorem q493 : (Jvm.Cond.fieldLink "AlgebraHouse$Parser" (33 : Nat) "AlgebraHouse$Parser" "at" "I") ∈ lw_all := lw_g (lw_at lw_m2 36 rfl) rfl
theorem q494 : (Jvm.Cond.fieldLink "AlgebraHouse$Parser" (65 : Nat) "AlgebraHouse$Parser" "open" "I") ∈ lw_all := lw_g (lw_at lw_m2 37 rfl) rfl
theorem q495 : (Jvm.Cond.fieldLink "AlgebraHouse$Parser" (18 : Nat) "AlgebraHouse$Parser" "fault" "I") ∈ lw_all := lw_g (lw_at lw_m2 38 rfl) rfl
theorem q497 : (Jvm.Cond.fieldLink "AlgebraHouse$Parser" (22 : Nat) "AlgebraHouse$Parser" "place" "I") ∈ lw_all := lw_g (lw_at lw_m2 40 rfl) rfl
theorem q499 : (Jvm.Cond.laysFinal "AlgebraHouse$Parser" "AlgebraHouse$Parser" "t" "LAlgebraHouse$Tokens;") ∈ lw_all := lw_g (lw_at lw_m2 42 rfl) rfl
theorem q500 : (Jvm.Cond.soleField "AlgebraHouse$Parser" "t") ∈ lw_all := lw_g (lw_at lw_m2 43 rfl) rfl
theorem q501 : (Jvm.Cond.lays "AlgebraHouse$Parser" "AlgebraHouse$Parser" "x" "LAlgebraHouse$Text;") ∈ lw_all := lw_g (lw_at lw_m2 44 rfl) rfl
theorem q502 : (Jvm.Cond.soleField "AlgebraHouse$Parser" "x") ∈ lw_all := lw_g (lw_at lw_m2 45 rfl) rfl
theorem q503 : (Jvm.Cond.lays "AlgebraHouse$Parser" "AlgebraHouse$Parser" "at" "I") ∈ lw_all := lw_g (lw_at lw_m2 46 rfl) rfl
theorem q504 : (Jvm.Cond.soleField "AlgebraHouse$Parser" "at") ∈ lw_all := lw_g (lw_at lw_m2 47 rfl) rfl
theorem q505 : (Jvm.Cond.lays "AlgebraHouse$Parser" "AlgebraHouse$Parser" "open" "I") ∈ lw_all := lw_g (lw_at lw_m2 48 rfl) rfl
theorem q506 : (Jvm.Cond.soleField "AlgebraHouse$Parser" "open") ∈ lw_all := lw_g (lw_at lw_m2 49 rfl) rfl
theorem q507 : (Jvm.Cond.lays "AlgebraHouse$Parser" "AlgebraHouse$Parser" "fault" "I") ∈ lw_all := lw_g (lw_at lw_m2 50 rfl) rfl
theorem q508 : (Jvm.Cond.soleField "AlgebraHouse$Parser" "fault") ∈ lw_all := lw_g (lw_at lw_m2 51 rfl) rfl
theorem q509 : (Jvm.Cond.lays "AlgebraHouse$Parser" "AlgebraHouse$Parser" "place" "I") ∈ lw_all := lw_g (lw_at lw_m2 52 rfl) rfl
theorem q510 : (Jvm.Cond.soleField "AlgebraHouse$Parser" "place") ∈ lw_all := lw_g (lw_at lw_m2 53 rfl) rfl
theorem q511 : (Jvm.Cond.superclass "AlgebraHouse$Parser" "java/lang/Object") ∈ lw_all := lw_g (lw_at lw_m2 54 rfl) rfl
theorem q747 : (Jvm.Cond.instanceMethod ({ cls := "AlgebraHouse$Parser", name := "reads", desc := "(LAlgebraHouse$Text;[BI)Z" } : Jvm.MethodName)) ∈ lw_all := lw_g (lw_at lw_m3 50 rfl) rfl
theorem q748 : (Jvm.Cond.selects "AlgebraHouse$Parser" ({ cls := "AlgebraHouse$Parser", name := "reads", desc := "(LAlgebraHouse$Text;[BI)Z" } : Jvm.MethodName) ({ cls := "AlgebraHouse$Parser", name := "reads", desc := "(LAlgebraHouse$Text;[BI)Z" } : Jvm.MethodName)) ∈ lw_all := lw_g (lw_at lw_m3 51 rfl) rfl
theorem q749 : (Jvm.Cond.codeWith ({ cls := "AlgebraHouse$Parser", name := "reads", desc := "(LAlgebraHouse$Text;[BI)Z" } : Jvm.MethodName) prog_9_method_15_code (5 : Nat) (Option.some Jvm.ClassFile.FieldType.boolean) [((41 : Nat), (45 : Nat), (48 : Nat), (94 : Nat))]) ∈ lw_all := lw_g (lw_at lw_m3 52 rfl) rfl
theorem q750 : (Jvm.Cond.classLink "AlgebraHouse$Parser" (94 : Nat) "AlgebraHouse$Fault") ∈ lw_all := lw_g (lw_at lw_m3 53 rfl) rfl
theorem q751 : (Jvm.Cond.methodLink "AlgebraHouse$Parser" (82 : Nat) ({ cls := "AlgebraHouse$Text", name := "clear", desc := "()V" } : Jvm.MethodName)) ∈ lw_all := lw_g (lw_at lw_m3 54 rfl) rfl
theorem q755 : (Jvm.Cond.methodLink "AlgebraHouse$Parser" (87 : Nat) ({ cls := "AlgebraHouse$Tokens", name := "read", desc := "([BI)V" } : Jvm.MethodName)) ∈ lw_all := lw_g (lw_at lw_m3 58 rfl) rfl
theorem q903 : (Jvm.Cond.methodLink "AlgebraHouse$Parser" (91 : Nat) ({ cls := "AlgebraHouse$Parser", name := "line", desc := "()V" } : Jvm.MethodName)) ∈ lw_all := lw_g (lw_at lw_m3 206 rfl) rfl
theorem q904 : (Jvm.Cond.privateMethod ({ cls := "AlgebraHouse$Parser", name := "line", desc := "()V" } : Jvm.MethodName)) ∈ lw_tbl := lw_at lw_m3 207 rfl
theorem q905 : (Jvm.Cond.instanceMethod ({ cls := "AlgebraHouse$Parser", name := "line", desc := "()V" } : Jvm.MethodName)) ∈ lw_all := lw_g (lw_at lw_m3 208 rfl) rfl
theorem q906 : (Jvm.Cond.code ({ cls := "AlgebraHouse$Parser", name := "line", desc := "()V" } : Jvm.MethodName) prog_9_method_16_code (2 : Nat) (Option.none : Option Jvm.ClassFile.FieldType)) ∈ lw_all := lw_g (lw_at lw_m3 209 rfl) rfl
theorem q907 : (Jvm.Cond.methodLink "AlgebraHouse$Parser" (96 : Nat) ({ cls := "AlgebraHouse$Parser", name := "is", desc := "(III)Z" } : Jvm.MethodName)) ∈ lw_all := lw_g (lw_at lw_m3 210 rfl) rfl
theorem q908 : (Jvm.Cond.privateMethod ({ cls := "AlgebraHouse$Parser", name := "is", desc := "(III)Z" } : Jvm.MethodName)) ∈ lw_tbl := lw_at lw_m3 211 rfl
theorem q909 : (Jvm.Cond.instanceMethod ({ cls := "AlgebraHouse$Parser", name := "is", desc := "(III)Z" } : Jvm.MethodName)) ∈ lw_all := lw_g (lw_at lw_m3 212 rfl) rfl
theorem q910 : (Jvm.Cond.code ({ cls := "AlgebraHouse$Parser", name := "is", desc := "(III)Z" } : Jvm.MethodName) prog_9_method_14_code (4 : Nat) (Option.some Jvm.ClassFile.FieldType.boolean)) ∈ lw_all := lw_g (lw_at lw_m3 213 rfl) rfl
theorem q911 : (Jvm.Cond.methodLink "AlgebraHouse$Parser" (100 : Nat) ({ cls := "AlgebraHouse$Parser", name := "told", desc := "()V" } : Jvm.MethodName)) ∈ lw_all := lw_g (lw_at lw_m3 214 rfl) rfl
theorem q912 : (Jvm.Cond.privateMethod ({ cls := "AlgebraHouse$Parser", name := "told", desc := "()V" } : Jvm.MethodName)) ∈ lw_tbl := lw_at lw_m3 215 rfl
theorem q913 : (Jvm.Cond.instanceMethod ({ cls := "AlgebraHouse$Parser", name := "told", desc := "()V" } : Jvm.MethodName)) ∈ lw_all := lw_g (lw_at lw_m3 216 rfl) rfl
theorem q914 : (Jvm.Cond.code ({ cls := "AlgebraHouse$Parser", name := "told", desc := "()V" } : Jvm.MethodName) prog_9_method_17_code (2 : Nat) (Option.none : Option Jvm.ClassFile.FieldType)) ∈ lw_all := lw_g (lw_at lw_m3 217 rfl) rfl
theorem q915 : (Jvm.Cond.methodLink "AlgebraHouse$Parser" (41 : Nat) ({ cls := "AlgebraHouse$Parser", name := "here", desc := "()I" } : Jvm.MethodName)) ∈ lw_all := lw_g (lw_at lw_m3 218 rfl) rfl
theorem q916 : (Jvm.Cond.privateMethod ({ cls := "AlgebraHouse$Parser", name := "here", desc := "()I" } : Jvm.MethodName)) ∈ lw_tbl := lw_at lw_m3 219 rfl
theorem q917 : (Jvm.Cond.instanceMethod ({ cls := "AlgebraHouse$Parser", name := "here", desc := "()I" } : Jvm.MethodName)) ∈ lw_all := lw_g (lw_at lw_m3 220 rfl) rfl
theorem q918 : (Jvm.Cond.code ({ cls := "AlgebraHouse$Parser", name := "here", desc := "()I" } : Jvm.MethodName) prog_9_method_5_code (1 : Nat) (Option.some Jvm.ClassFile.FieldType.int)) ∈ lw_all := lw_g (lw_at lw_m3 221 rfl) rfl
theorem q919 : (Jvm.Cond.methodLink "AlgebraHouse$Parser" (53 : Nat) ({ cls := "AlgebraHouse$Parser", name := "go", desc := "()V" } : Jvm.MethodName)) ∈ lw_all := lw_g (lw_at lw_m3 222 rfl) rfl
theorem q920 : (Jvm.Cond.privateMethod ({ cls := "AlgebraHouse$Parser", name := "go", desc := "()V" } : Jvm.MethodName)) ∈ lw_tbl := lw_at lw_m3 223 rfl
theorem q921 : (Jvm.Cond.instanceMethod ({ cls := "AlgebraHouse$Parser", name := "go", desc := "()V" } : Jvm.MethodName)) ∈ lw_all := lw_g (lw_at lw_m3 224 rfl) rfl
theorem q922 : (Jvm.Cond.code ({ cls := "AlgebraHouse$Parser", name := "go", desc := "()V" } : Jvm.MethodName) prog_9_method_6_code (1 : Nat) (Option.none : Option Jvm.ClassFile.FieldType)) ∈ lw_all := lw_g (lw_at lw_m3 225 rfl) rfl
theorem q923 : (Jvm.Cond.methodLink "AlgebraHouse$Parser" (45 : Nat) ({ cls := "AlgebraHouse$Parser", name := "fail", desc := "(II)V" } : Jvm.MethodName)) ∈ lw_all := lw_g (lw_at lw_m3 226 rfl) rfl
theorem q924 : (Jvm.Cond.privateMethod ({ cls := "AlgebraHouse$Parser", name := "fail", desc := "(II)V" } : Jvm.MethodName)) ∈ lw_tbl := lw_at lw_m3 227 rfl
theorem q925 : (Jvm.Cond.instanceMethod ({ cls := "AlgebraHouse$Parser", name := "fail", desc := "(II)V" } : Jvm.MethodName)) ∈ lw_all := lw_g (lw_at lw_m3 228 rfl) rfl
theorem q926 : (Jvm.Cond.code ({ cls := "AlgebraHouse$Parser", name := "fail", desc := "(II)V" } : Jvm.MethodName) prog_9_method_2_code (3 : Nat) (Option.none : Option Jvm.ClassFile.FieldType)) ∈ lw_all := lw_g (lw_at lw_m3 229 rfl) rfl
theorem q927 : (Jvm.Cond.fieldLink "AlgebraHouse$Parser" (25 : Nat) "AlgebraHouse$Parser" "WRONG" "LAlgebraHouse$Fault;") ∈ lw_all := lw_g (lw_at lw_m3 230 rfl) rfl
theorem q928 : (Jvm.Cond.laysStatic "AlgebraHouse$Parser" "WRONG" "LAlgebraHouse$Fault;") ∈ lw_tbl := lw_at lw_m3 231 rfl
theorem q929 : (Jvm.Cond.methodLink "AlgebraHouse$Parser" (68 : Nat) ({ cls := "AlgebraHouse$Parser", name := "opens", desc := "()V" } : Jvm.MethodName)) ∈ lw_all := lw_g (lw_at lw_m3 232 rfl) rfl
theorem q930 : (Jvm.Cond.privateMethod ({ cls := "AlgebraHouse$Parser", name := "opens", desc := "()V" } : Jvm.MethodName)) ∈ lw_tbl := lw_at lw_m3 233 rfl
theorem q931 : (Jvm.Cond.instanceMethod ({ cls := "AlgebraHouse$Parser", name := "opens", desc := "()V" } : Jvm.MethodName)) ∈ lw_all := lw_g (lw_at lw_m3 234 rfl) rfl
theorem q932 : (Jvm.Cond.code ({ cls := "AlgebraHouse$Parser", name := "opens", desc := "()V" } : Jvm.MethodName) prog_9_method_11_code (1 : Nat) (Option.none : Option Jvm.ClassFile.FieldType)) ∈ lw_all := lw_g (lw_at lw_m3 235 rfl) rfl
theorem q933 : (Jvm.Cond.methodLink "AlgebraHouse$Parser" (71 : Nat) ({ cls := "AlgebraHouse$Parser", name := "need", desc := "(I)V" } : Jvm.MethodName)) ∈ lw_all := lw_g (lw_at lw_m3 236 rfl) rfl
theorem q934 : (Jvm.Cond.privateMethod ({ cls := "AlgebraHouse$Parser", name := "need", desc := "(I)V" } : Jvm.MethodName)) ∈ lw_tbl := lw_at lw_m3 237 rfl
theorem q935 : (Jvm.Cond.instanceMethod ({ cls := "AlgebraHouse$Parser", name := "need", desc := "(I)V" } : Jvm.MethodName)) ∈ lw_all := lw_g (lw_at lw_m3 238 rfl) rfl
theorem q936 : (Jvm.Cond.code ({ cls := "AlgebraHouse$Parser", name := "need", desc := "(I)V" } : Jvm.MethodName) prog_9_method_8_code (2 : Nat) (Option.none : Option Jvm.ClassFile.FieldType)) ∈ lw_all := lw_g (lw_at lw_m3 239 rfl) rfl
theorem q937 : (Jvm.Cond.methodLink "AlgebraHouse$Parser" (56 : Nat) ({ cls := "AlgebraHouse$Parser", name := "takes", desc := "(I)Z" } : Jvm.MethodName)) ∈ lw_all := lw_g (lw_at lw_m4 0 rfl) rfl
theorem q938 : (Jvm.Cond.privateMethod ({ cls := "AlgebraHouse$Parser", name := "takes", desc := "(I)Z" } : Jvm.MethodName)) ∈ lw_tbl := lw_at lw_m4 1 rfl
theorem q939 : (Jvm.Cond.instanceMethod ({ cls := "AlgebraHouse$Parser", name := "takes", desc := "(I)Z" } : Jvm.MethodName)) ∈ lw_all := lw_g (lw_at lw_m4 2 rfl) rfl
theorem q940 : (Jvm.Cond.code ({ cls := "AlgebraHouse$Parser", name := "takes", desc := "(I)Z" } : Jvm.MethodName) prog_9_method_7_code (2 : Nat) (Option.some Jvm.ClassFile.FieldType.boolean)) ∈ lw_all := lw_g (lw_at lw_m4 3 rfl) rfl
theorem q941 : (Jvm.Cond.methodLink "AlgebraHouse$Parser" (49 : Nat) ({ cls := "AlgebraHouse$Parser", name := "isSign", desc := "(I)Z" } : Jvm.MethodName)) ∈ lw_all := lw_g (lw_at lw_m4 4 rfl) rfl
theorem q942 : (Jvm.Cond.privateMethod ({ cls := "AlgebraHouse$Parser", name := "isSign", desc := "(I)Z" } : Jvm.MethodName)) ∈ lw_tbl := lw_at lw_m4 5 rfl
theorem q943 : (Jvm.Cond.instanceMethod ({ cls := "AlgebraHouse$Parser", name := "isSign", desc := "(I)Z" } : Jvm.MethodName)) ∈ lw_all := lw_g (lw_at lw_m4 6 rfl) rfl
theorem q944 : (Jvm.Cond.code ({ cls := "AlgebraHouse$Parser", name := "isSign", desc := "(I)Z" } : Jvm.MethodName) prog_9_method_3_code (2 : Nat) (Option.some Jvm.ClassFile.FieldType.boolean)) ∈ lw_all := lw_g (lw_at lw_m4 7 rfl) rfl
theorem q945 : (Jvm.Cond.methodLink "AlgebraHouse$Parser" (135 : Nat) ({ cls := "AlgebraHouse$Parser", name := "type", desc := "()I" } : Jvm.MethodName)) ∈ lw_all := lw_g (lw_at lw_m4 8 rfl) rfl
theorem q946 : (Jvm.Cond.privateMethod ({ cls := "AlgebraHouse$Parser", name := "type", desc := "()I" } : Jvm.MethodName)) ∈ lw_tbl := lw_at lw_m4 9 rfl
theorem q947 : (Jvm.Cond.instanceMethod ({ cls := "AlgebraHouse$Parser", name := "type", desc := "()I" } : Jvm.MethodName)) ∈ lw_all := lw_g (lw_at lw_m4 10 rfl) rfl
theorem q948 : (Jvm.Cond.code ({ cls := "AlgebraHouse$Parser", name := "type", desc := "()I" } : Jvm.MethodName) prog_9_method_18_code (4 : Nat) (Option.some Jvm.ClassFile.FieldType.int)) ∈ lw_all := lw_g (lw_at lw_m4 11 rfl) rfl
theorem q949 : (Jvm.Cond.methodLink "AlgebraHouse$Parser" (153 : Nat) ({ cls := "AlgebraHouse$Text", name := "add", desc := "(II)I" } : Jvm.MethodName)) ∈ lw_all := lw_g (lw_at lw_m4 12 rfl) rfl
theorem q953 : (Jvm.Cond.methodLink "AlgebraHouse$Parser" (162 : Nat) ({ cls := "AlgebraHouse$Parser", name := "needOpen", desc := "(I)V" } : Jvm.MethodName)) ∈ lw_all := lw_g (lw_at lw_m4 16 rfl) rfl
theorem q954 : (Jvm.Cond.privateMethod ({ cls := "AlgebraHouse$Parser", name := "needOpen", desc := "(I)V" } : Jvm.MethodName)) ∈ lw_tbl := lw_at lw_m4 17 rfl
theorem q955 : (Jvm.Cond.instanceMethod ({ cls := "AlgebraHouse$Parser", name := "needOpen", desc := "(I)V" } : Jvm.MethodName)) ∈ lw_all := lw_g (lw_at lw_m4 18 rfl) rfl
theorem q956 : (Jvm.Cond.code ({ cls := "AlgebraHouse$Parser", name := "needOpen", desc := "(I)V" } : Jvm.MethodName) prog_9_method_12_code (2 : Nat) (Option.none : Option Jvm.ClassFile.FieldType)) ∈ lw_all := lw_g (lw_at lw_m4 19 rfl) rfl
theorem q957 : (Jvm.Cond.methodLink "AlgebraHouse$Parser" (138 : Nat) ({ cls := "AlgebraHouse$Parser", name := "closes", desc := "(I)V" } : Jvm.MethodName)) ∈ lw_all := lw_g (lw_at lw_m4 20 rfl) rfl
theorem q958 : (Jvm.Cond.privateMethod ({ cls := "AlgebraHouse$Parser", name := "closes", desc := "(I)V" } : Jvm.MethodName)) ∈ lw_tbl := lw_at lw_m4 21 rfl
theorem q959 : (Jvm.Cond.instanceMethod ({ cls := "AlgebraHouse$Parser", name := "closes", desc := "(I)V" } : Jvm.MethodName)) ∈ lw_all := lw_g (lw_at lw_m4 22 rfl) rfl
theorem q960 : (Jvm.Cond.code ({ cls := "AlgebraHouse$Parser", name := "closes", desc := "(I)V" } : Jvm.MethodName) prog_9_method_13_code (2 : Nat) (Option.none : Option Jvm.ClassFile.FieldType)) ∈ lw_all := lw_g (lw_at lw_m4 23 rfl) rfl
theorem q961 : (Jvm.Cond.methodLink "AlgebraHouse$Parser" (59 : Nat) ({ cls := "AlgebraHouse$Parser", name := "isKey", desc := "(I)Z" } : Jvm.MethodName)) ∈ lw_all := lw_g (lw_at lw_m4 24 rfl) rfl
theorem q962 : (Jvm.Cond.privateMethod ({ cls := "AlgebraHouse$Parser", name := "isKey", desc := "(I)Z" } : Jvm.MethodName)) ∈ lw_tbl := lw_at lw_m4 25 rfl
theorem q963 : (Jvm.Cond.instanceMethod ({ cls := "AlgebraHouse$Parser", name := "isKey", desc := "(I)Z" } : Jvm.MethodName)) ∈ lw_all := lw_g (lw_at lw_m4 26 rfl) rfl
theorem q964 : (Jvm.Cond.code ({ cls := "AlgebraHouse$Parser", name := "isKey", desc := "(I)Z" } : Jvm.MethodName) prog_9_method_4_code (2 : Nat) (Option.some Jvm.ClassFile.FieldType.boolean)) ∈ lw_all := lw_g (lw_at lw_m4 27 rfl) rfl
theorem q965 : (Jvm.Cond.methodLink "AlgebraHouse$Parser" (114 : Nat) ({ cls := "AlgebraHouse$Parser", name := "expression", desc := "()I" } : Jvm.MethodName)) ∈ lw_all := lw_g (lw_at lw_m4 28 rfl) rfl
theorem q966 : (Jvm.Cond.privateMethod ({ cls := "AlgebraHouse$Parser", name := "expression", desc := "()I" } : Jvm.MethodName)) ∈ lw_tbl := lw_at lw_m4 29 rfl
theorem q967 : (Jvm.Cond.instanceMethod ({ cls := "AlgebraHouse$Parser", name := "expression", desc := "()I" } : Jvm.MethodName)) ∈ lw_all := lw_g (lw_at lw_m4 30 rfl) rfl
theorem q968 : (Jvm.Cond.code ({ cls := "AlgebraHouse$Parser", name := "expression", desc := "()I" } : Jvm.MethodName) prog_9_method_19_code (5 : Nat) (Option.some Jvm.ClassFile.FieldType.int)) ∈ lw_all := lw_g (lw_at lw_m4 31 rfl) rfl
theorem q969 : (Jvm.Cond.methodLink "AlgebraHouse$Parser" (169 : Nat) ({ cls := "AlgebraHouse$Parser", name := "either", desc := "()I" } : Jvm.MethodName)) ∈ lw_all := lw_g (lw_at lw_m4 32 rfl) rfl
theorem q970 : (Jvm.Cond.privateMethod ({ cls := "AlgebraHouse$Parser", name := "either", desc := "()I" } : Jvm.MethodName)) ∈ lw_tbl := lw_at lw_m4 33 rfl
theorem q971 : (Jvm.Cond.instanceMethod ({ cls := "AlgebraHouse$Parser", name := "either", desc := "()I" } : Jvm.MethodName)) ∈ lw_all := lw_g (lw_at lw_m4 34 rfl) rfl
theorem q972 : (Jvm.Cond.code ({ cls := "AlgebraHouse$Parser", name := "either", desc := "()I" } : Jvm.MethodName) prog_9_method_20_code (3 : Nat) (Option.some Jvm.ClassFile.FieldType.int)) ∈ lw_all := lw_g (lw_at lw_m4 35 rfl) rfl
theorem q973 : (Jvm.Cond.methodLink "AlgebraHouse$Parser" (178 : Nat) ({ cls := "AlgebraHouse$Parser", name := "both", desc := "()I" } : Jvm.MethodName)) ∈ lw_all := lw_g (lw_at lw_m4 36 rfl) rfl
theorem q974 : (Jvm.Cond.privateMethod ({ cls := "AlgebraHouse$Parser", name := "both", desc := "()I" } : Jvm.MethodName)) ∈ lw_tbl := lw_at lw_m4 37 rfl
theorem q975 : (Jvm.Cond.instanceMethod ({ cls := "AlgebraHouse$Parser", name := "both", desc := "()I" } : Jvm.MethodName)) ∈ lw_all := lw_g (lw_at lw_m4 38 rfl) rfl
theorem q976 : (Jvm.Cond.code ({ cls := "AlgebraHouse$Parser", name := "both", desc := "()I" } : Jvm.MethodName) prog_9_method_21_code (3 : Nat) (Option.some Jvm.ClassFile.FieldType.int)) ∈ lw_all := lw_g (lw_at lw_m4 39 rfl) rfl
theorem q977 : (Jvm.Cond.methodLink "AlgebraHouse$Parser" (184 : Nat) ({ cls := "AlgebraHouse$Parser", name := "negated", desc := "()I" } : Jvm.MethodName)) ∈ lw_all := lw_g (lw_at lw_m4 40 rfl) rfl
theorem q978 : (Jvm.Cond.privateMethod ({ cls := "AlgebraHouse$Parser", name := "negated", desc := "()I" } : Jvm.MethodName)) ∈ lw_tbl := lw_at lw_m4 41 rfl
theorem q979 : (Jvm.Cond.instanceMethod ({ cls := "AlgebraHouse$Parser", name := "negated", desc := "()I" } : Jvm.MethodName)) ∈ lw_all := lw_g (lw_at lw_m4 42 rfl) rfl
theorem q980 : (Jvm.Cond.code ({ cls := "AlgebraHouse$Parser", name := "negated", desc := "()I" } : Jvm.MethodName) prog_9_method_22_code (2 : Nat) (Option.some Jvm.ClassFile.FieldType.int)) ∈ lw_all := lw_g (lw_at lw_m4 43 rfl) rfl
theorem q981 : (Jvm.Cond.methodLink "AlgebraHouse$Parser" (187 : Nat) ({ cls := "AlgebraHouse$Parser", name := "relation", desc := "()I" } : Jvm.MethodName)) ∈ lw_all := lw_g (lw_at lw_m4 44 rfl) rfl
theorem q982 : (Jvm.Cond.privateMethod ({ cls := "AlgebraHouse$Parser", name := "relation", desc := "()I" } : Jvm.MethodName)) ∈ lw_tbl := lw_at lw_m4 45 rfl
theorem q983 : (Jvm.Cond.instanceMethod ({ cls := "AlgebraHouse$Parser", name := "relation", desc := "()I" } : Jvm.MethodName)) ∈ lw_all := lw_g (lw_at lw_m4 46 rfl) rfl
theorem q984 : (Jvm.Cond.code ({ cls := "AlgebraHouse$Parser", name := "relation", desc := "()I" } : Jvm.MethodName) prog_9_method_23_code (4 : Nat) (Option.some Jvm.ClassFile.FieldType.int)) ∈ lw_all := lw_g (lw_at lw_m4 47 rfl) rfl
theorem q985 : (Jvm.Cond.methodLink "AlgebraHouse$Parser" (190 : Nat) ({ cls := "AlgebraHouse$Parser", name := "sum", desc := "()I" } : Jvm.MethodName)) ∈ lw_all := lw_g (lw_at lw_m4 48 rfl) rfl
theorem q986 : (Jvm.Cond.privateMethod ({ cls := "AlgebraHouse$Parser", name := "sum", desc := "()I" } : Jvm.MethodName)) ∈ lw_tbl := lw_at lw_m4 49 rfl
theorem q987 : (Jvm.Cond.instanceMethod ({ cls := "AlgebraHouse$Parser", name := "sum", desc := "()I" } : Jvm.MethodName)) ∈ lw_all := lw_g (lw_at lw_m4 50 rfl) rfl
theorem q988 : (Jvm.Cond.code ({ cls := "AlgebraHouse$Parser", name := "sum", desc := "()I" } : Jvm.MethodName) prog_9_method_24_code (4 : Nat) (Option.some Jvm.ClassFile.FieldType.int)) ∈ lw_all := lw_g (lw_at lw_m4 51 rfl) rfl
theorem q989 : (Jvm.Cond.methodLink "AlgebraHouse$Parser" (193 : Nat) ({ cls := "AlgebraHouse$Parser", name := "product", desc := "()I" } : Jvm.MethodName)) ∈ lw_all := lw_g (lw_at lw_m4 52 rfl) rfl
theorem q990 : (Jvm.Cond.privateMethod ({ cls := "AlgebraHouse$Parser", name := "product", desc := "()I" } : Jvm.MethodName)) ∈ lw_tbl := lw_at lw_m4 53 rfl
theorem q991 : (Jvm.Cond.instanceMethod ({ cls := "AlgebraHouse$Parser", name := "product", desc := "()I" } : Jvm.MethodName)) ∈ lw_all := lw_g (lw_at lw_m4 54 rfl) rfl
theorem q992 : (Jvm.Cond.code ({ cls := "AlgebraHouse$Parser", name := "product", desc := "()I" } : Jvm.MethodName) prog_9_method_25_code (4 : Nat) (Option.some Jvm.ClassFile.FieldType.int)) ∈ lw_all := lw_g (lw_at lw_m4 55 rfl) rfl
theorem q993 : (Jvm.Cond.methodLink "AlgebraHouse$Parser" (196 : Nat) ({ cls := "AlgebraHouse$Parser", name := "minus", desc := "()I" } : Jvm.MethodName)) ∈ lw_all := lw_g (lw_at lw_m4 56 rfl) rfl
theorem q994 : (Jvm.Cond.privateMethod ({ cls := "AlgebraHouse$Parser", name := "minus", desc := "()I" } : Jvm.MethodName)) ∈ lw_tbl := lw_at lw_m4 57 rfl
theorem q995 : (Jvm.Cond.instanceMethod ({ cls := "AlgebraHouse$Parser", name := "minus", desc := "()I" } : Jvm.MethodName)) ∈ lw_all := lw_g (lw_at lw_m4 58 rfl) rfl
theorem q996 : (Jvm.Cond.code ({ cls := "AlgebraHouse$Parser", name := "minus", desc := "()I" } : Jvm.MethodName) prog_9_method_26_code (2 : Nat) (Option.some Jvm.ClassFile.FieldType.int)) ∈ lw_all := lw_g (lw_at lw_m4 59 rfl) rfl
theorem q997 : (Jvm.Cond.methodLink "AlgebraHouse$Parser" (199 : Nat) ({ cls := "AlgebraHouse$Parser", name := "behind", desc := "()I" } : Jvm.MethodName)) ∈ lw_all := lw_g (lw_at lw_m4 60 rfl) rfl
theorem q998 : (Jvm.Cond.privateMethod ({ cls := "AlgebraHouse$Parser", name := "behind", desc := "()I" } : Jvm.MethodName)) ∈ lw_tbl := lw_at lw_m4 61 rfl
theorem q999 : (Jvm.Cond.instanceMethod ({ cls := "AlgebraHouse$Parser", name := "behind", desc := "()I" } : Jvm.MethodName)) ∈ lw_all := lw_g (lw_at lw_m4 62 rfl) rfl
theorem q1000 : (Jvm.Cond.code ({ cls := "AlgebraHouse$Parser", name := "behind", desc := "()I" } : Jvm.MethodName) prog_9_method_27_code (6 : Nat) (Option.some Jvm.ClassFile.FieldType.int)) ∈ lw_all := lw_g (lw_at lw_m4 63 rfl) rfl
theorem q1001 : (Jvm.Cond.methodLink "AlgebraHouse$Parser" (202 : Nat) ({ cls := "AlgebraHouse$Parser", name := "atom", desc := "()I" } : Jvm.MethodName)) ∈ lw_all := lw_g (lw_at lw_m4 64 rfl) rfl
theorem q1002 : (Jvm.Cond.privateMethod ({ cls := "AlgebraHouse$Parser", name := "atom", desc := "()I" } : Jvm.MethodName)) ∈ lw_tbl := lw_at lw_m4 65 rfl
theorem q1003 : (Jvm.Cond.instanceMethod ({ cls := "AlgebraHouse$Parser", name := "atom", desc := "()I" } : Jvm.MethodName)) ∈ lw_all := lw_g (lw_at lw_m4 66 rfl) rfl
theorem q1004 : (Jvm.Cond.code ({ cls := "AlgebraHouse$Parser", name := "atom", desc := "()I" } : Jvm.MethodName) prog_9_method_28_code (3 : Nat) (Option.some Jvm.ClassFile.FieldType.int)) ∈ lw_all := lw_g (lw_at lw_m4 67 rfl) rfl
theorem q1005 : (Jvm.Cond.methodLink "AlgebraHouse$Parser" (205 : Nat) ({ cls := "AlgebraHouse$Parser", name := "arguments", desc := "(II)V" } : Jvm.MethodName)) ∈ lw_all := lw_g (lw_at lw_m4 68 rfl) rfl
theorem q1006 : (Jvm.Cond.privateMethod ({ cls := "AlgebraHouse$Parser", name := "arguments", desc := "(II)V" } : Jvm.MethodName)) ∈ lw_tbl := lw_at lw_m4 69 rfl
theorem q1007 : (Jvm.Cond.instanceMethod ({ cls := "AlgebraHouse$Parser", name := "arguments", desc := "(II)V" } : Jvm.MethodName)) ∈ lw_all := lw_g (lw_at lw_m4 70 rfl) rfl
theorem q1008 : (Jvm.Cond.code ({ cls := "AlgebraHouse$Parser", name := "arguments", desc := "(II)V" } : Jvm.MethodName) prog_9_method_29_code (5 : Nat) (Option.none : Option Jvm.ClassFile.FieldType)) ∈ lw_all := lw_g (lw_at lw_m4 71 rfl) rfl
theorem q1009 : (Jvm.Cond.methodLink "AlgebraHouse$Parser" (208 : Nat) ({ cls := "AlgebraHouse$Parser", name := "signed", desc := "(I)I" } : Jvm.MethodName)) ∈ lw_all := lw_g (lw_at lw_m4 72 rfl) rfl
theorem q1010 : (Jvm.Cond.privateMethod ({ cls := "AlgebraHouse$Parser", name := "signed", desc := "(I)I" } : Jvm.MethodName)) ∈ lw_tbl := lw_at lw_m4 73 rfl
theorem q1011 : (Jvm.Cond.instanceMethod ({ cls := "AlgebraHouse$Parser", name := "signed", desc := "(I)I" } : Jvm.MethodName)) ∈ lw_all := lw_g (lw_at lw_m4 74 rfl) rfl
theorem q1012 : (Jvm.Cond.code ({ cls := "AlgebraHouse$Parser", name := "signed", desc := "(I)I" } : Jvm.MethodName) prog_9_method_30_code (3 : Nat) (Option.some Jvm.ClassFile.FieldType.int)) ∈ lw_all := lw_g (lw_at lw_m4 75 rfl) rfl
theorem q1013 : (Jvm.Cond.methodLink "AlgebraHouse$Parser" (213 : Nat) ({ cls := "AlgebraHouse$Parser", name := "matrix", desc := "(I)I" } : Jvm.MethodName)) ∈ lw_all := lw_g (lw_at lw_m4 76 rfl) rfl
theorem q1014 : (Jvm.Cond.privateMethod ({ cls := "AlgebraHouse$Parser", name := "matrix", desc := "(I)I" } : Jvm.MethodName)) ∈ lw_tbl := lw_at lw_m4 77 rfl
theorem q1015 : (Jvm.Cond.instanceMethod ({ cls := "AlgebraHouse$Parser", name := "matrix", desc := "(I)I" } : Jvm.MethodName)) ∈ lw_all := lw_g (lw_at lw_m4 78 rfl) rfl
theorem q1016 : (Jvm.Cond.code ({ cls := "AlgebraHouse$Parser", name := "matrix", desc := "(I)I" } : Jvm.MethodName) prog_9_method_31_code (9 : Nat) (Option.some Jvm.ClassFile.FieldType.int)) ∈ lw_all := lw_g (lw_at lw_m4 79 rfl) rfl
theorem q1017 : (Jvm.Cond.methodLink "AlgebraHouse$Parser" (216 : Nat) ({ cls := "java/lang/Math", name := "min", desc := "(II)I" } : Jvm.MethodName)) ∈ lw_all := lw_g (lw_at lw_m4 80 rfl) rfl
theorem q1018 : (Jvm.Cond.methodLink "AlgebraHouse$Parser" (221 : Nat) ({ cls := "java/lang/Math", name := "max", desc := "(II)I" } : Jvm.MethodName)) ∈ lw_all := lw_g (lw_at lw_m4 81 rfl) rfl
theorem q1019 : (Jvm.Cond.methodLink "AlgebraHouse$Parser" (181 : Nat) ({ cls := "AlgebraHouse$Text", name := "add", desc := "(IIII)I" } : Jvm.MethodName)) ∈ lw_all := lw_g (lw_at lw_m4 82 rfl) rfl
theorem q1024 : (Jvm.Cond.methodLink "AlgebraHouse$Parser" (172 : Nat) ({ cls := "AlgebraHouse$Parser", name := "needKey", desc := "(I)V" } : Jvm.MethodName)) ∈ lw_all := lw_g (lw_at lw_m4 87 rfl) rfl
theorem q1025 : (Jvm.Cond.privateMethod ({ cls := "AlgebraHouse$Parser", name := "needKey", desc := "(I)V" } : Jvm.MethodName)) ∈ lw_tbl := lw_at lw_m4 88 rfl
theorem q1026 : (Jvm.Cond.instanceMethod ({ cls := "AlgebraHouse$Parser", name := "needKey", desc := "(I)V" } : Jvm.MethodName)) ∈ lw_all := lw_g (lw_at lw_m4 89 rfl) rfl
theorem q1027 : (Jvm.Cond.code ({ cls := "AlgebraHouse$Parser", name := "needKey", desc := "(I)V" } : Jvm.MethodName) prog_9_method_10_code (2 : Nat) (Option.none : Option Jvm.ClassFile.FieldType)) ∈ lw_all := lw_g (lw_at lw_m4 90 rfl) rfl
theorem q1028 : (Jvm.Cond.methodLink "AlgebraHouse$Parser" (62 : Nat) ({ cls := "AlgebraHouse$Parser", name := "takesKey", desc := "(I)Z" } : Jvm.MethodName)) ∈ lw_all := lw_g (lw_at lw_m4 91 rfl) rfl
theorem q1029 : (Jvm.Cond.privateMethod ({ cls := "AlgebraHouse$Parser", name := "takesKey", desc := "(I)Z" } : Jvm.MethodName)) ∈ lw_tbl := lw_at lw_m4 92 rfl
theorem q1030 : (Jvm.Cond.instanceMethod ({ cls := "AlgebraHouse$Parser", name := "takesKey", desc := "(I)Z" } : Jvm.MethodName)) ∈ lw_all := lw_g (lw_at lw_m4 93 rfl) rfl
theorem q1031 : (Jvm.Cond.code ({ cls := "AlgebraHouse$Parser", name := "takesKey", desc := "(I)Z" } : Jvm.MethodName) prog_9_method_9_code (2 : Nat) (Option.some Jvm.ClassFile.FieldType.boolean)) ∈ lw_all := lw_g (lw_at lw_m4 94 rfl) rfl
theorem in_X3 : ∀ w ∈ wsX30, w ∈ lw_all := lw_in wsX30 [499, 501, 503, 505, 507, 509] (by decide +kernel) (by decide +kernel)
/-! AlgebraHouse$Tokens -/
def RX4 : String := "AlgebraHouse$Tokens"
def TX4 : u_T := fun k => match k with
  | 0 => ("AlgebraHouse$Tokens", "text", "[B", true)
  | 1 => ("AlgebraHouse$Tokens", "size", "I", false)
  | 2 => ("AlgebraHouse$Tokens", "many", "I", false)
  | 3 => ("AlgebraHouse$Tokens", "kind", "[I", true)
  | 4 => ("AlgebraHouse$Tokens", "value", "[I", true)
  | 5 => ("AlgebraHouse$Tokens", "place", "[I", true)
  | _ => ("AlgebraHouse$Tokens", "name", "[J", true)
def tyX4 : Nat → FieldType := fun k => match k with
  | 0 => .array .byte
  | 1 => .int
  | 2 => .int
  | 3 => .array .int
  | 4 => .array .int
  | 5 => .array .int
  | _ => .array .long
abbrev wsX40 : List Cond := u_ws RX4 TX4 7
theorem nmX4 : ∀ a, a < 7 → ∀ b, b < 7 → a ≠ b → (TX4 a).2.1 ≠ (TX4 b).2.1 := by decide +kernel
theorem tyX4_ok : ∀ k, k < 7 → parseFieldDescriptor (TX4 k).2.2.1 = some (tyX4 k) := by decide +kernel
abbrev cX4_init : ByteArray := prog_12_method_1_code
def yX4_init : MethodName := ⟨RX4, "<init>", "()V"⟩
abbrev cX4_read : ByteArray := prog_12_method_6_code
def yX4_read : MethodName := ⟨RX4, "read", "([BI)V"⟩
abbrev cX4_see : ByteArray := prog_12_method_2_code
def yX4_see : MethodName := ⟨RX4, "see", "(I)I"⟩
abbrev cX4_put : ByteArray := prog_12_method_5_code
def yX4_put : MethodName := ⟨RX4, "put", "(III)V"⟩
abbrev cX4_isLetter : ByteArray := prog_12_method_3_code
def yX4_isLetter : MethodName := ⟨RX4, "isLetter", "(I)Z"⟩
abbrev cX4_word : ByteArray := prog_12_method_7_code
def yX4_word : MethodName := ⟨RX4, "word", "(I)I"⟩
abbrev cX4_isDigit : ByteArray := prog_12_method_4_code
def yX4_isDigit : MethodName := ⟨RX4, "isDigit", "(I)Z"⟩
abbrev cX4_find : ByteArray := prog_12_method_8_code
def yX4_find : MethodName := ⟨RX4, "find", "(Ljava/lang/String;II)I"⟩
abbrev cX4_number : ByteArray := prog_12_method_9_code
def yX4_number : MethodName := ⟨RX4, "number", "(I)I"⟩
abbrev cX4_sign : ByteArray := prog_12_method_10_code
def yX4_sign : MethodName := ⟨RX4, "sign", "(II)I"⟩
theorem q222 : (Jvm.Cond.initialized "AlgebraHouse$Tokens") ∈ lw_all := lw_g (lw_at lw_m1 5 rfl) rfl
theorem q459 : (Jvm.Cond.instantiable "AlgebraHouse$Tokens" (7 : Nat)) ∈ lw_all := lw_g (lw_at lw_m2 2 rfl) rfl
theorem q461 : (Jvm.Cond.instanceMethod ({ cls := "AlgebraHouse$Tokens", name := "<init>", desc := "()V" } : Jvm.MethodName)) ∈ lw_all := lw_g (lw_at lw_m2 4 rfl) rfl
theorem q462 : (Jvm.Cond.code ({ cls := "AlgebraHouse$Tokens", name := "<init>", desc := "()V" } : Jvm.MethodName) prog_12_method_1_code (1 : Nat) (Option.none : Option Jvm.ClassFile.FieldType)) ∈ lw_all := lw_g (lw_at lw_m2 5 rfl) rfl
theorem q463 : (Jvm.Cond.methodLink "AlgebraHouse$Tokens" (3 : Nat) ({ cls := "java/lang/Object", name := "<init>", desc := "()V" } : Jvm.MethodName)) ∈ lw_all := lw_g (lw_at lw_m2 6 rfl) rfl
theorem q464 : (Jvm.Cond.fieldLink "AlgebraHouse$Tokens" (9 : Nat) "AlgebraHouse$Tokens" "text" "[B") ∈ lw_all := lw_g (lw_at lw_m2 7 rfl) rfl
theorem q465 : (Jvm.Cond.fieldLink "AlgebraHouse$Tokens" (29 : Nat) "AlgebraHouse$Tokens" "size" "I") ∈ lw_all := lw_g (lw_at lw_m2 8 rfl) rfl
theorem q466 : (Jvm.Cond.fieldLink "AlgebraHouse$Tokens" (33 : Nat) "AlgebraHouse$Tokens" "many" "I") ∈ lw_all := lw_g (lw_at lw_m2 9 rfl) rfl
theorem q468 : (Jvm.Cond.fieldLink "AlgebraHouse$Tokens" (15 : Nat) "AlgebraHouse$Tokens" "kind" "[I") ∈ lw_all := lw_g (lw_at lw_m2 11 rfl) rfl
theorem q470 : (Jvm.Cond.fieldLink "AlgebraHouse$Tokens" (19 : Nat) "AlgebraHouse$Tokens" "value" "[I") ∈ lw_all := lw_g (lw_at lw_m2 13 rfl) rfl
theorem q472 : (Jvm.Cond.fieldLink "AlgebraHouse$Tokens" (22 : Nat) "AlgebraHouse$Tokens" "place" "[I") ∈ lw_all := lw_g (lw_at lw_m2 15 rfl) rfl
theorem q474 : (Jvm.Cond.fieldLink "AlgebraHouse$Tokens" (25 : Nat) "AlgebraHouse$Tokens" "name" "[J") ∈ lw_all := lw_g (lw_at lw_m2 17 rfl) rfl
theorem q476 : (Jvm.Cond.laysFinal "AlgebraHouse$Tokens" "AlgebraHouse$Tokens" "text" "[B") ∈ lw_all := lw_g (lw_at lw_m2 19 rfl) rfl
theorem q477 : (Jvm.Cond.soleField "AlgebraHouse$Tokens" "text") ∈ lw_all := lw_g (lw_at lw_m2 20 rfl) rfl
theorem q478 : (Jvm.Cond.lays "AlgebraHouse$Tokens" "AlgebraHouse$Tokens" "size" "I") ∈ lw_all := lw_g (lw_at lw_m2 21 rfl) rfl
theorem q479 : (Jvm.Cond.soleField "AlgebraHouse$Tokens" "size") ∈ lw_all := lw_g (lw_at lw_m2 22 rfl) rfl
theorem q480 : (Jvm.Cond.lays "AlgebraHouse$Tokens" "AlgebraHouse$Tokens" "many" "I") ∈ lw_all := lw_g (lw_at lw_m2 23 rfl) rfl
theorem q481 : (Jvm.Cond.soleField "AlgebraHouse$Tokens" "many") ∈ lw_all := lw_g (lw_at lw_m2 24 rfl) rfl
theorem q482 : (Jvm.Cond.laysFinal "AlgebraHouse$Tokens" "AlgebraHouse$Tokens" "kind" "[I") ∈ lw_all := lw_g (lw_at lw_m2 25 rfl) rfl
theorem q483 : (Jvm.Cond.soleField "AlgebraHouse$Tokens" "kind") ∈ lw_all := lw_g (lw_at lw_m2 26 rfl) rfl
theorem q484 : (Jvm.Cond.laysFinal "AlgebraHouse$Tokens" "AlgebraHouse$Tokens" "value" "[I") ∈ lw_all := lw_g (lw_at lw_m2 27 rfl) rfl
theorem q485 : (Jvm.Cond.soleField "AlgebraHouse$Tokens" "value") ∈ lw_all := lw_g (lw_at lw_m2 28 rfl) rfl
theorem q486 : (Jvm.Cond.laysFinal "AlgebraHouse$Tokens" "AlgebraHouse$Tokens" "place" "[I") ∈ lw_all := lw_g (lw_at lw_m2 29 rfl) rfl
theorem q487 : (Jvm.Cond.soleField "AlgebraHouse$Tokens" "place") ∈ lw_all := lw_g (lw_at lw_m2 30 rfl) rfl
theorem q488 : (Jvm.Cond.laysFinal "AlgebraHouse$Tokens" "AlgebraHouse$Tokens" "name" "[J") ∈ lw_all := lw_g (lw_at lw_m2 31 rfl) rfl
theorem q489 : (Jvm.Cond.soleField "AlgebraHouse$Tokens" "name") ∈ lw_all := lw_g (lw_at lw_m2 32 rfl) rfl
theorem q490 : (Jvm.Cond.superclass "AlgebraHouse$Tokens" "java/lang/Object") ∈ lw_all := lw_g (lw_at lw_m2 33 rfl) rfl
theorem q756 : (Jvm.Cond.instanceMethod ({ cls := "AlgebraHouse$Tokens", name := "read", desc := "([BI)V" } : Jvm.MethodName)) ∈ lw_all := lw_g (lw_at lw_m3 59 rfl) rfl
theorem q757 : (Jvm.Cond.selects "AlgebraHouse$Tokens" ({ cls := "AlgebraHouse$Tokens", name := "read", desc := "([BI)V" } : Jvm.MethodName) ({ cls := "AlgebraHouse$Tokens", name := "read", desc := "([BI)V" } : Jvm.MethodName)) ∈ lw_all := lw_g (lw_at lw_m3 60 rfl) rfl
theorem q758 : (Jvm.Cond.code ({ cls := "AlgebraHouse$Tokens", name := "read", desc := "([BI)V" } : Jvm.MethodName) prog_12_method_6_code (5 : Nat) (Option.none : Option Jvm.ClassFile.FieldType)) ∈ lw_all := lw_g (lw_at lw_m3 61 rfl) rfl
theorem q759 : (Jvm.Cond.methodLink "AlgebraHouse$Tokens" (36 : Nat) ({ cls := "java/lang/System", name := "arraycopy", desc := "(Ljava/lang/Object;ILjava/lang/Object;II)V" } : Jvm.MethodName)) ∈ lw_all := lw_g (lw_at lw_m3 62 rfl) rfl
theorem q762 : (Jvm.Cond.methodLink "AlgebraHouse$Tokens" (42 : Nat) ({ cls := "AlgebraHouse$Tokens", name := "see", desc := "(I)I" } : Jvm.MethodName)) ∈ lw_all := lw_g (lw_at lw_m3 65 rfl) rfl
theorem q763 : (Jvm.Cond.privateMethod ({ cls := "AlgebraHouse$Tokens", name := "see", desc := "(I)I" } : Jvm.MethodName)) ∈ lw_tbl := lw_at lw_m3 66 rfl
theorem q764 : (Jvm.Cond.instanceMethod ({ cls := "AlgebraHouse$Tokens", name := "see", desc := "(I)I" } : Jvm.MethodName)) ∈ lw_all := lw_g (lw_at lw_m3 67 rfl) rfl
theorem q765 : (Jvm.Cond.code ({ cls := "AlgebraHouse$Tokens", name := "see", desc := "(I)I" } : Jvm.MethodName) prog_12_method_2_code (2 : Nat) (Option.some Jvm.ClassFile.FieldType.int)) ∈ lw_all := lw_g (lw_at lw_m3 68 rfl) rfl
theorem q766 : (Jvm.Cond.methodLink "AlgebraHouse$Tokens" (46 : Nat) ({ cls := "AlgebraHouse$Tokens", name := "put", desc := "(III)V" } : Jvm.MethodName)) ∈ lw_all := lw_g (lw_at lw_m3 69 rfl) rfl
theorem q767 : (Jvm.Cond.privateMethod ({ cls := "AlgebraHouse$Tokens", name := "put", desc := "(III)V" } : Jvm.MethodName)) ∈ lw_tbl := lw_at lw_m3 70 rfl
theorem q768 : (Jvm.Cond.instanceMethod ({ cls := "AlgebraHouse$Tokens", name := "put", desc := "(III)V" } : Jvm.MethodName)) ∈ lw_all := lw_g (lw_at lw_m3 71 rfl) rfl
theorem q769 : (Jvm.Cond.code ({ cls := "AlgebraHouse$Tokens", name := "put", desc := "(III)V" } : Jvm.MethodName) prog_12_method_5_code (4 : Nat) (Option.none : Option Jvm.ClassFile.FieldType)) ∈ lw_all := lw_g (lw_at lw_m3 72 rfl) rfl
theorem q770 : (Jvm.Cond.methodLink "AlgebraHouse$Tokens" (50 : Nat) ({ cls := "AlgebraHouse$Tokens", name := "isLetter", desc := "(I)Z" } : Jvm.MethodName)) ∈ lw_all := lw_g (lw_at lw_m3 73 rfl) rfl
theorem q771 : (Jvm.Cond.static ({ cls := "AlgebraHouse$Tokens", name := "isLetter", desc := "(I)Z" } : Jvm.MethodName)) ∈ lw_all := lw_g (lw_at lw_m3 74 rfl) rfl
theorem q772 : (Jvm.Cond.code ({ cls := "AlgebraHouse$Tokens", name := "isLetter", desc := "(I)Z" } : Jvm.MethodName) prog_12_method_3_code (1 : Nat) (Option.some Jvm.ClassFile.FieldType.boolean)) ∈ lw_all := lw_g (lw_at lw_m3 75 rfl) rfl
theorem q773 : (Jvm.Cond.methodLink "AlgebraHouse$Tokens" (54 : Nat) ({ cls := "AlgebraHouse$Tokens", name := "word", desc := "(I)I" } : Jvm.MethodName)) ∈ lw_all := lw_g (lw_at lw_m3 76 rfl) rfl
theorem q774 : (Jvm.Cond.privateMethod ({ cls := "AlgebraHouse$Tokens", name := "word", desc := "(I)I" } : Jvm.MethodName)) ∈ lw_tbl := lw_at lw_m3 77 rfl
theorem q775 : (Jvm.Cond.instanceMethod ({ cls := "AlgebraHouse$Tokens", name := "word", desc := "(I)I" } : Jvm.MethodName)) ∈ lw_all := lw_g (lw_at lw_m3 78 rfl) rfl
theorem q776 : (Jvm.Cond.code ({ cls := "AlgebraHouse$Tokens", name := "word", desc := "(I)I" } : Jvm.MethodName) prog_12_method_7_code (7 : Nat) (Option.some Jvm.ClassFile.FieldType.int)) ∈ lw_all := lw_g (lw_at lw_m3 79 rfl) rfl
theorem q777 : (Jvm.Cond.methodLink "AlgebraHouse$Tokens" (57 : Nat) ({ cls := "AlgebraHouse$Tokens", name := "isDigit", desc := "(I)Z" } : Jvm.MethodName)) ∈ lw_all := lw_g (lw_at lw_m3 80 rfl) rfl
theorem q778 : (Jvm.Cond.static ({ cls := "AlgebraHouse$Tokens", name := "isDigit", desc := "(I)Z" } : Jvm.MethodName)) ∈ lw_all := lw_g (lw_at lw_m3 81 rfl) rfl
theorem q779 : (Jvm.Cond.code ({ cls := "AlgebraHouse$Tokens", name := "isDigit", desc := "(I)Z" } : Jvm.MethodName) prog_12_method_4_code (1 : Nat) (Option.some Jvm.ClassFile.FieldType.boolean)) ∈ lw_all := lw_g (lw_at lw_m3 82 rfl) rfl
theorem q780 : (Jvm.Cond.stringRef "AlgebraHouse$Tokens" (67 : Nat) " if then else and or not quo rem for ring plain field X Y Z Q B F P M R ") ∈ lw_tbl := lw_at lw_m3 83 rfl
theorem q781 : (Jvm.Cond.methodLink "AlgebraHouse$Tokens" (69 : Nat) ({ cls := "AlgebraHouse$Tokens", name := "find", desc := "(Ljava/lang/String;II)I" } : Jvm.MethodName)) ∈ lw_all := lw_g (lw_at lw_m3 84 rfl) rfl
theorem q782 : (Jvm.Cond.privateMethod ({ cls := "AlgebraHouse$Tokens", name := "find", desc := "(Ljava/lang/String;II)I" } : Jvm.MethodName)) ∈ lw_tbl := lw_at lw_m3 85 rfl
theorem q783 : (Jvm.Cond.instanceMethod ({ cls := "AlgebraHouse$Tokens", name := "find", desc := "(Ljava/lang/String;II)I" } : Jvm.MethodName)) ∈ lw_all := lw_g (lw_at lw_m3 86 rfl) rfl
theorem q784 : (Jvm.Cond.code ({ cls := "AlgebraHouse$Tokens", name := "find", desc := "(Ljava/lang/String;II)I" } : Jvm.MethodName) prog_12_method_8_code (7 : Nat) (Option.some Jvm.ClassFile.FieldType.int)) ∈ lw_all := lw_g (lw_at lw_m3 87 rfl) rfl
theorem q785 : (Jvm.Cond.methodLink "AlgebraHouse$Tokens" (80 : Nat) ({ cls := "java/lang/String", name := "length", desc := "()I" } : Jvm.MethodName)) ∈ lw_all := lw_g (lw_at lw_m3 88 rfl) rfl
theorem q795 : (Jvm.Cond.methodLink "AlgebraHouse$Tokens" (86 : Nat) ({ cls := "java/lang/String", name := "charAt", desc := "(I)C" } : Jvm.MethodName)) ∈ lw_all := lw_g (lw_at lw_m3 98 rfl) rfl
theorem q833 : (Jvm.Cond.stringRef "AlgebraHouse$Tokens" (73 : Nat) " gcd deg coef at der det tr tp adj inv char roots num den ") ∈ lw_tbl := lw_at lw_m3 136 rfl
theorem q834 : (Jvm.Cond.methodLink "AlgebraHouse$Tokens" (75 : Nat) ({ cls := "java/lang/Math", name := "max", desc := "(II)I" } : Jvm.MethodName)) ∈ lw_all := lw_g (lw_at lw_m3 137 rfl) rfl
theorem q837 : (Jvm.Cond.methodLink "AlgebraHouse$Tokens" (60 : Nat) ({ cls := "AlgebraHouse$Tokens", name := "number", desc := "(I)I" } : Jvm.MethodName)) ∈ lw_all := lw_g (lw_at lw_m3 140 rfl) rfl
theorem q838 : (Jvm.Cond.privateMethod ({ cls := "AlgebraHouse$Tokens", name := "number", desc := "(I)I" } : Jvm.MethodName)) ∈ lw_tbl := lw_at lw_m3 141 rfl
theorem q839 : (Jvm.Cond.instanceMethod ({ cls := "AlgebraHouse$Tokens", name := "number", desc := "(I)I" } : Jvm.MethodName)) ∈ lw_all := lw_g (lw_at lw_m3 142 rfl) rfl
theorem q840 : (Jvm.Cond.code ({ cls := "AlgebraHouse$Tokens", name := "number", desc := "(I)I" } : Jvm.MethodName) prog_12_method_9_code (4 : Nat) (Option.some Jvm.ClassFile.FieldType.int)) ∈ lw_all := lw_g (lw_at lw_m3 143 rfl) rfl
theorem q841 : (Jvm.Cond.methodLink "AlgebraHouse$Tokens" (63 : Nat) ({ cls := "AlgebraHouse$Tokens", name := "sign", desc := "(II)I" } : Jvm.MethodName)) ∈ lw_all := lw_g (lw_at lw_m3 144 rfl) rfl
theorem q842 : (Jvm.Cond.privateMethod ({ cls := "AlgebraHouse$Tokens", name := "sign", desc := "(II)I" } : Jvm.MethodName)) ∈ lw_tbl := lw_at lw_m3 145 rfl
theorem q843 : (Jvm.Cond.instanceMethod ({ cls := "AlgebraHouse$Tokens", name := "sign", desc := "(II)I" } : Jvm.MethodName)) ∈ lw_all := lw_g (lw_at lw_m3 146 rfl) rfl
theorem q844 : (Jvm.Cond.code ({ cls := "AlgebraHouse$Tokens", name := "sign", desc := "(II)I" } : Jvm.MethodName) prog_12_method_10_code (5 : Nat) (Option.some Jvm.ClassFile.FieldType.int)) ∈ lw_all := lw_g (lw_at lw_m3 147 rfl) rfl
theorem q845 : (Jvm.Cond.stringRef "AlgebraHouse$Tokens" (90 : Nat) "()[],:=#<+-*/^!%") ∈ lw_tbl := lw_at lw_m3 148 rfl
theorem q846 : (Jvm.Cond.methodLink "AlgebraHouse$Tokens" (92 : Nat) ({ cls := "java/lang/String", name := "indexOf", desc := "(I)I" } : Jvm.MethodName)) ∈ lw_all := lw_g (lw_at lw_m3 149 rfl) rfl
theorem in_X4 : ∀ w ∈ wsX40, w ∈ lw_all := lw_in wsX40 [476, 478, 480, 482, 484, 486, 488] (by decide +kernel) (by decide +kernel)
/-! AlgebraHouse$Judge -/
def RX5 : String := "AlgebraHouse$Judge"
def TX5 : u_T := fun k => match k with
  | 0 => ("AlgebraHouse$Judge", "book", "LAlgebraHouse$Book;", true)
  | 1 => ("AlgebraHouse$Judge", "x", "LAlgebraHouse$Text;", false)
  | 2 => ("AlgebraHouse$Judge", "upTo", "I", false)
  | 3 => ("AlgebraHouse$Judge", "\x72", "I", false)
  | 4 => ("AlgebraHouse$Judge", "inTold", "Z", false)
  | 5 => ("AlgebraHouse$Judge", "fault", "I", false)
  | 6 => ("AlgebraHouse$Judge", "place", "I", false)
  | _ => ("AlgebraHouse$Judge", "row", "[I", true)
def tyX5 : Nat → FieldType := fun k => match k with
  | 0 => .object "AlgebraHouse$Book"
  | 1 => .object "AlgebraHouse$Text"
  | 2 => .int
  | 3 => .int
  | 4 => .boolean
  | 5 => .int
  | 6 => .int
  | _ => .array .int
abbrev wsX50 : List Cond := u_ws RX5 TX5 8
theorem nmX5 : ∀ a, a < 8 → ∀ b, b < 8 → a ≠ b → (TX5 a).2.1 ≠ (TX5 b).2.1 := by decide +kernel
theorem tyX5_ok : ∀ k, k < 8 → parseFieldDescriptor (TX5 k).2.2.1 = some (tyX5 k) := by decide +kernel
abbrev cX5_init : ByteArray := prog_6_method_1_code
def yX5_init : MethodName := ⟨RX5, "<init>", "(LAlgebraHouse$Book;)V"⟩
abbrev cX5_looks : ByteArray := prog_6_method_5_code
def yX5_looks : MethodName := ⟨RX5, "looks", "(LAlgebraHouse$Text;)Z"⟩
abbrev cX5_begin : ByteArray := prog_6_method_4_code
def yX5_begin : MethodName := ⟨RX5, "begin", "()V"⟩
abbrev cX5_head : ByteArray := prog_6_method_6_code
def yX5_head : MethodName := ⟨RX5, "head", "()V"⟩
abbrev cX5_shape : ByteArray := prog_6_method_7_code
def yX5_shape : MethodName := ⟨RX5, "shape", "(II)Z"⟩
abbrev cX5_type : ByteArray := prog_6_method_11_code
def yX5_type : MethodName := ⟨RX5, "type", "(I)I"⟩
abbrev cX5_fail : ByteArray := prog_6_method_2_code
def yX5_fail : MethodName := ⟨RX5, "fail", "(II)I"⟩
abbrev cX5_inner : ByteArray := prog_6_method_12_code
def yX5_inner : MethodName := ⟨RX5, "inner", "(I)I"⟩
abbrev cX5_isThere : ByteArray := prog_6_method_8_code
def yX5_isThere : MethodName := ⟨RX5, "isThere", "()Z"⟩
abbrev cX5_body : ByteArray := prog_6_method_9_code
def yX5_body : MethodName := ⟨RX5, "body", "()V"⟩
abbrev cX5_goal : ByteArray := prog_6_method_10_code
def yX5_goal : MethodName := ⟨RX5, "goal", "(I)V"⟩
abbrev cX5_judge : ByteArray := prog_6_method_3_code
def yX5_judge : MethodName := ⟨RX5, "judge", "(LAlgebraHouse$Text;II)I"⟩
abbrev cX5_part : ByteArray := prog_6_method_13_code
def yX5_part : MethodName := ⟨RX5, "part", "(I)I"⟩
abbrev cX5_ringOf : ByteArray := prog_6_method_14_code
def yX5_ringOf : MethodName := ⟨RX5, "ringOf", "(I)I"⟩
abbrev cX5_named : ByteArray := prog_6_method_15_code
def yX5_named : MethodName := ⟨RX5, "named", "(I)I"⟩
abbrev cX5_mean : ByteArray := prog_6_method_16_code
def yX5_mean : MethodName := ⟨RX5, "mean", "(III)I"⟩
abbrev cX5_call : ByteArray := prog_6_method_18_code
def yX5_call : MethodName := ⟨RX5, "call", "(I)I"⟩
abbrev cX5_parts : ByteArray := prog_6_method_17_code
def yX5_parts : MethodName := ⟨RX5, "parts", "(I)Z"⟩
abbrev cX5_function : ByteArray := prog_6_method_23_code
def yX5_function : MethodName := ⟨RX5, "function", "(I)I"⟩
abbrev cX5_ofTwo : ByteArray := prog_6_method_24_code
def yX5_ofTwo : MethodName := ⟨RX5, "ofTwo", "(III)I"⟩
abbrev cX5_ofOne : ByteArray := prog_6_method_25_code
def yX5_ofOne : MethodName := ⟨RX5, "ofOne", "(II)I"⟩
abbrev cX5_matrix : ByteArray := prog_6_method_22_code
def yX5_matrix : MethodName := ⟨RX5, "matrix", "(I)I"⟩
abbrev cX5_choice : ByteArray := prog_6_method_19_code
def yX5_choice : MethodName := ⟨RX5, "choice", "(I)I"⟩
abbrev cX5_turned : ByteArray := prog_6_method_20_code
def yX5_turned : MethodName := ⟨RX5, "turned", "(I)I"⟩
abbrev cX5_two : ByteArray := prog_6_method_21_code
def yX5_two : MethodName := ⟨RX5, "two", "(I)I"⟩
theorem q223 : (Jvm.Cond.initialized "AlgebraHouse$Judge") ∈ lw_all := lw_g (lw_at lw_m1 6 rfl) rfl
theorem q262 : (Jvm.Cond.fieldLinkNest "AlgebraHouse$Judge" (57 : Nat) "AlgebraHouse$Text" "sort" "I" "AlgebraHouse") ∈ lw_tbl := lw_at lw_m1 45 rfl
theorem q266 : (Jvm.Cond.fieldLinkNest "AlgebraHouse$Judge" (45 : Nat) "AlgebraHouse$Text" "root" "I" "AlgebraHouse") ∈ lw_tbl := lw_at lw_m1 49 rfl
theorem q271 : (Jvm.Cond.fieldLinkNest "AlgebraHouse$Judge" (171 : Nat) "AlgebraHouse$Text" "first" "I" "AlgebraHouse") ∈ lw_tbl := lw_at lw_m1 54 rfl
theorem q275 : (Jvm.Cond.fieldLinkNest "AlgebraHouse$Judge" (93 : Nat) "AlgebraHouse$Text" "params" "I" "AlgebraHouse") ∈ lw_tbl := lw_at lw_m1 58 rfl
theorem q279 : (Jvm.Cond.fieldLinkNest "AlgebraHouse$Judge" (118 : Nat) "AlgebraHouse$Text" "result" "I" "AlgebraHouse") ∈ lw_tbl := lw_at lw_m1 62 rfl
theorem q283 : (Jvm.Cond.fieldLinkNest "AlgebraHouse$Judge" (143 : Nat) "AlgebraHouse$Text" "kind" "[I" "AlgebraHouse") ∈ lw_tbl := lw_at lw_m1 66 rfl
theorem q287 : (Jvm.Cond.fieldLinkNest "AlgebraHouse$Judge" (149 : Nat) "AlgebraHouse$Text" "part" "[I" "AlgebraHouse") ∈ lw_tbl := lw_at lw_m1 70 rfl
theorem q291 : (Jvm.Cond.fieldLinkNest "AlgebraHouse$Judge" (226 : Nat) "AlgebraHouse$Text" "next" "[I" "AlgebraHouse") ∈ lw_tbl := lw_at lw_m1 74 rfl
theorem q295 : (Jvm.Cond.fieldLinkNest "AlgebraHouse$Judge" (146 : Nat) "AlgebraHouse$Text" "number" "[I" "AlgebraHouse") ∈ lw_tbl := lw_at lw_m1 78 rfl
theorem q298 : (Jvm.Cond.fieldLinkNest "AlgebraHouse$Judge" (174 : Nat) "AlgebraHouse$Text" "place" "[I" "AlgebraHouse") ∈ lw_tbl := lw_at lw_m1 81 rfl
theorem q303 : (Jvm.Cond.fieldLinkNest "AlgebraHouse$Judge" (191 : Nat) "AlgebraHouse$Text" "ring" "[I" "AlgebraHouse") ∈ lw_tbl := lw_at lw_m1 86 rfl
theorem q306 : (Jvm.Cond.fieldLinkNest "AlgebraHouse$Judge" (223 : Nat) "AlgebraHouse$Text" "means" "[I" "AlgebraHouse") ∈ lw_tbl := lw_at lw_m1 89 rfl
theorem q309 : (Jvm.Cond.fieldLinkNest "AlgebraHouse$Judge" (244 : Nat) "AlgebraHouse$Text" "with" "[I" "AlgebraHouse") ∈ lw_tbl := lw_at lw_m1 92 rfl
theorem q311 : (Jvm.Cond.fieldLinkNest "AlgebraHouse$Judge" (176 : Nat) "AlgebraHouse$Text" "name" "[J" "AlgebraHouse") ∈ lw_tbl := lw_at lw_m1 94 rfl
theorem q314 : (Jvm.Cond.fieldLinkNest "AlgebraHouse$Judge" (73 : Nat) "AlgebraHouse$Text" "called" "J" "AlgebraHouse") ∈ lw_tbl := lw_at lw_m1 97 rfl
theorem q318 : (Jvm.Cond.fieldLinkNest "AlgebraHouse$Judge" (107 : Nat) "AlgebraHouse$Text" "paramName" "[J" "AlgebraHouse") ∈ lw_tbl := lw_at lw_m1 101 rfl
theorem q321 : (Jvm.Cond.fieldLinkNest "AlgebraHouse$Judge" (96 : Nat) "AlgebraHouse$Text" "paramType" "[I" "AlgebraHouse") ∈ lw_tbl := lw_at lw_m1 104 rfl
theorem q324 : (Jvm.Cond.fieldLinkNest "AlgebraHouse$Judge" (111 : Nat) "AlgebraHouse$Text" "paramPlace" "[I" "AlgebraHouse") ∈ lw_tbl := lw_at lw_m1 107 rfl
theorem q326 : (Jvm.Cond.fieldLinkNest "AlgebraHouse$Judge" (128 : Nat) "AlgebraHouse$Text" "calledPlace" "I" "AlgebraHouse") ∈ lw_tbl := lw_at lw_m1 109 rfl
theorem q329 : (Jvm.Cond.fieldLinkNest "AlgebraHouse$Judge" (121 : Nat) "AlgebraHouse$Text" "forPlace" "I" "AlgebraHouse") ∈ lw_tbl := lw_at lw_m1 112 rfl
theorem q333 : (Jvm.Cond.fieldLinkNest "AlgebraHouse$Judge" (84 : Nat) "AlgebraHouse$Text" "rule" "I" "AlgebraHouse") ∈ lw_tbl := lw_at lw_m1 116 rfl
theorem q339 : (Jvm.Cond.fieldLinkNest "AlgebraHouse$Judge" (103 : Nat) "AlgebraHouse$Text" "hasR" "[Z" "AlgebraHouse") ∈ lw_tbl := lw_at lw_m1 122 rfl
theorem q343 : (Jvm.Cond.fieldLinkNest "AlgebraHouse$Judge" (131 : Nat) "AlgebraHouse$Text" "told" "[I" "AlgebraHouse") ∈ lw_tbl := lw_at lw_m1 126 rfl
theorem q347 : (Jvm.Cond.fieldLinkNest "AlgebraHouse$Judge" (137 : Nat) "AlgebraHouse$Text" "over" "[I" "AlgebraHouse") ∈ lw_tbl := lw_at lw_m1 130 rfl
theorem q351 : (Jvm.Cond.fieldLinkNest "AlgebraHouse$Judge" (140 : Nat) "AlgebraHouse$Text" "around" "[I" "AlgebraHouse") ∈ lw_tbl := lw_at lw_m1 134 rfl
theorem q414 : (Jvm.Cond.fieldLinkNest "AlgebraHouse$Judge" (151 : Nat) "AlgebraHouse$Book" "told" "[LAlgebraHouse$Text;" "AlgebraHouse") ∈ lw_tbl := lw_at lw_m1 197 rfl
theorem q417 : (Jvm.Cond.fieldLinkNest "AlgebraHouse$Judge" (37 : Nat) "AlgebraHouse$Book" "tolds" "I" "AlgebraHouse") ∈ lw_tbl := lw_at lw_m1 200 rfl
theorem q421 : (Jvm.Cond.fieldLinkNest "AlgebraHouse$Judge" (81 : Nat) "AlgebraHouse$Book" "variables" "I" "AlgebraHouse") ∈ lw_tbl := lw_at lw_m1 204 rfl
theorem q423 : (Jvm.Cond.fieldLinkNest "AlgebraHouse$Judge" (70 : Nat) "AlgebraHouse$Book" "results" "I" "AlgebraHouse") ∈ lw_tbl := lw_at lw_m1 206 rfl
theorem q428 : (Jvm.Cond.fieldLinkNest "AlgebraHouse$Judge" (220 : Nat) "AlgebraHouse$Book" "variableRing" "[I" "AlgebraHouse") ∈ lw_tbl := lw_at lw_m1 211 rfl
theorem q431 : (Jvm.Cond.fieldLinkNest "AlgebraHouse$Judge" (193 : Nat) "AlgebraHouse$Book" "resultRing" "[I" "AlgebraHouse") ∈ lw_tbl := lw_at lw_m1 214 rfl
theorem q434 : (Jvm.Cond.fieldLinkNest "AlgebraHouse$Judge" (247 : Nat) "AlgebraHouse$Book" "with" "I" "AlgebraHouse") ∈ lw_tbl := lw_at lw_m1 217 rfl
theorem q513 : (Jvm.Cond.instantiable "AlgebraHouse$Judge" (8 : Nat)) ∈ lw_all := lw_g (lw_at lw_m2 56 rfl) rfl
theorem q515 : (Jvm.Cond.instanceMethod ({ cls := "AlgebraHouse$Judge", name := "<init>", desc := "(LAlgebraHouse$Book;)V" } : Jvm.MethodName)) ∈ lw_all := lw_g (lw_at lw_m2 58 rfl) rfl
theorem q516 : (Jvm.Cond.code ({ cls := "AlgebraHouse$Judge", name := "<init>", desc := "(LAlgebraHouse$Book;)V" } : Jvm.MethodName) prog_6_method_1_code (2 : Nat) (Option.none : Option Jvm.ClassFile.FieldType)) ∈ lw_all := lw_g (lw_at lw_m2 59 rfl) rfl
theorem q517 : (Jvm.Cond.methodLink "AlgebraHouse$Judge" (3 : Nat) ({ cls := "java/lang/Object", name := "<init>", desc := "()V" } : Jvm.MethodName)) ∈ lw_all := lw_g (lw_at lw_m2 60 rfl) rfl
theorem q518 : (Jvm.Cond.fieldLink "AlgebraHouse$Judge" (15 : Nat) "AlgebraHouse$Judge" "book" "LAlgebraHouse$Book;") ∈ lw_all := lw_g (lw_at lw_m2 61 rfl) rfl
theorem q519 : (Jvm.Cond.fieldLink "AlgebraHouse$Judge" (26 : Nat) "AlgebraHouse$Judge" "x" "LAlgebraHouse$Text;") ∈ lw_all := lw_g (lw_at lw_m2 62 rfl) rfl
theorem q520 : (Jvm.Cond.fieldLink "AlgebraHouse$Judge" (42 : Nat) "AlgebraHouse$Judge" "upTo" "I") ∈ lw_all := lw_g (lw_at lw_m2 63 rfl) rfl
theorem q521 : (Jvm.Cond.fieldLink "AlgebraHouse$Judge" (30 : Nat) "AlgebraHouse$Judge" "\x72" "I") ∈ lw_all := lw_g (lw_at lw_m2 64 rfl) rfl
theorem q522 : (Jvm.Cond.fieldLink "AlgebraHouse$Judge" (33 : Nat) "AlgebraHouse$Judge" "inTold" "Z") ∈ lw_all := lw_g (lw_at lw_m2 65 rfl) rfl
theorem q523 : (Jvm.Cond.fieldLink "AlgebraHouse$Judge" (19 : Nat) "AlgebraHouse$Judge" "fault" "I") ∈ lw_all := lw_g (lw_at lw_m2 66 rfl) rfl
theorem q525 : (Jvm.Cond.fieldLink "AlgebraHouse$Judge" (23 : Nat) "AlgebraHouse$Judge" "place" "I") ∈ lw_all := lw_g (lw_at lw_m2 68 rfl) rfl
theorem q527 : (Jvm.Cond.fieldLink "AlgebraHouse$Judge" (9 : Nat) "AlgebraHouse$Judge" "row" "[I") ∈ lw_all := lw_g (lw_at lw_m2 70 rfl) rfl
theorem q528 : (Jvm.Cond.laysFinal "AlgebraHouse$Judge" "AlgebraHouse$Judge" "book" "LAlgebraHouse$Book;") ∈ lw_all := lw_g (lw_at lw_m2 71 rfl) rfl
theorem q529 : (Jvm.Cond.soleField "AlgebraHouse$Judge" "book") ∈ lw_all := lw_g (lw_at lw_m2 72 rfl) rfl
theorem q530 : (Jvm.Cond.lays "AlgebraHouse$Judge" "AlgebraHouse$Judge" "x" "LAlgebraHouse$Text;") ∈ lw_all := lw_g (lw_at lw_m2 73 rfl) rfl
theorem q531 : (Jvm.Cond.soleField "AlgebraHouse$Judge" "x") ∈ lw_all := lw_g (lw_at lw_m2 74 rfl) rfl
theorem q532 : (Jvm.Cond.lays "AlgebraHouse$Judge" "AlgebraHouse$Judge" "upTo" "I") ∈ lw_all := lw_g (lw_at lw_m2 75 rfl) rfl
theorem q533 : (Jvm.Cond.soleField "AlgebraHouse$Judge" "upTo") ∈ lw_all := lw_g (lw_at lw_m2 76 rfl) rfl
theorem q534 : (Jvm.Cond.lays "AlgebraHouse$Judge" "AlgebraHouse$Judge" "\x72" "I") ∈ lw_all := lw_g (lw_at lw_m2 77 rfl) rfl
theorem q535 : (Jvm.Cond.soleField "AlgebraHouse$Judge" "\x72") ∈ lw_all := lw_g (lw_at lw_m2 78 rfl) rfl
theorem q536 : (Jvm.Cond.lays "AlgebraHouse$Judge" "AlgebraHouse$Judge" "inTold" "Z") ∈ lw_all := lw_g (lw_at lw_m2 79 rfl) rfl
theorem q537 : (Jvm.Cond.soleField "AlgebraHouse$Judge" "inTold") ∈ lw_all := lw_g (lw_at lw_m2 80 rfl) rfl
theorem q538 : (Jvm.Cond.lays "AlgebraHouse$Judge" "AlgebraHouse$Judge" "fault" "I") ∈ lw_all := lw_g (lw_at lw_m2 81 rfl) rfl
theorem q539 : (Jvm.Cond.soleField "AlgebraHouse$Judge" "fault") ∈ lw_all := lw_g (lw_at lw_m2 82 rfl) rfl
theorem q540 : (Jvm.Cond.lays "AlgebraHouse$Judge" "AlgebraHouse$Judge" "place" "I") ∈ lw_all := lw_g (lw_at lw_m2 83 rfl) rfl
theorem q541 : (Jvm.Cond.soleField "AlgebraHouse$Judge" "place") ∈ lw_all := lw_g (lw_at lw_m2 84 rfl) rfl
theorem q542 : (Jvm.Cond.laysFinal "AlgebraHouse$Judge" "AlgebraHouse$Judge" "row" "[I") ∈ lw_all := lw_g (lw_at lw_m2 85 rfl) rfl
theorem q543 : (Jvm.Cond.soleField "AlgebraHouse$Judge" "row") ∈ lw_all := lw_g (lw_at lw_m2 86 rfl) rfl
theorem q544 : (Jvm.Cond.superclass "AlgebraHouse$Judge" "java/lang/Object") ∈ lw_all := lw_g (lw_at lw_m2 87 rfl) rfl
theorem q1033 : (Jvm.Cond.instanceMethod ({ cls := "AlgebraHouse$Judge", name := "looks", desc := "(LAlgebraHouse$Text;)Z" } : Jvm.MethodName)) ∈ lw_all := lw_g (lw_at lw_m4 96 rfl) rfl
theorem q1034 : (Jvm.Cond.selects "AlgebraHouse$Judge" ({ cls := "AlgebraHouse$Judge", name := "looks", desc := "(LAlgebraHouse$Text;)Z" } : Jvm.MethodName) ({ cls := "AlgebraHouse$Judge", name := "looks", desc := "(LAlgebraHouse$Text;)Z" } : Jvm.MethodName)) ∈ lw_all := lw_g (lw_at lw_m4 97 rfl) rfl
theorem q1035 : (Jvm.Cond.code ({ cls := "AlgebraHouse$Judge", name := "looks", desc := "(LAlgebraHouse$Text;)Z" } : Jvm.MethodName) prog_6_method_5_code (3 : Nat) (Option.some Jvm.ClassFile.FieldType.boolean)) ∈ lw_all := lw_g (lw_at lw_m4 98 rfl) rfl
theorem q1036 : (Jvm.Cond.methodLink "AlgebraHouse$Judge" (54 : Nat) ({ cls := "AlgebraHouse$Judge", name := "begin", desc := "()V" } : Jvm.MethodName)) ∈ lw_all := lw_g (lw_at lw_m4 99 rfl) rfl
theorem q1037 : (Jvm.Cond.instanceMethod ({ cls := "AlgebraHouse$Judge", name := "begin", desc := "()V" } : Jvm.MethodName)) ∈ lw_all := lw_g (lw_at lw_m4 100 rfl) rfl
theorem q1038 : (Jvm.Cond.selects "AlgebraHouse$Judge" ({ cls := "AlgebraHouse$Judge", name := "begin", desc := "()V" } : Jvm.MethodName) ({ cls := "AlgebraHouse$Judge", name := "begin", desc := "()V" } : Jvm.MethodName)) ∈ lw_all := lw_g (lw_at lw_m4 101 rfl) rfl
theorem q1039 : (Jvm.Cond.code ({ cls := "AlgebraHouse$Judge", name := "begin", desc := "()V" } : Jvm.MethodName) prog_6_method_4_code (1 : Nat) (Option.none : Option Jvm.ClassFile.FieldType)) ∈ lw_all := lw_g (lw_at lw_m4 102 rfl) rfl
theorem q1040 : (Jvm.Cond.methodLink "AlgebraHouse$Judge" (60 : Nat) ({ cls := "AlgebraHouse$Judge", name := "head", desc := "()V" } : Jvm.MethodName)) ∈ lw_all := lw_g (lw_at lw_m4 103 rfl) rfl
theorem q1041 : (Jvm.Cond.privateMethod ({ cls := "AlgebraHouse$Judge", name := "head", desc := "()V" } : Jvm.MethodName)) ∈ lw_tbl := lw_at lw_m4 104 rfl
theorem q1042 : (Jvm.Cond.instanceMethod ({ cls := "AlgebraHouse$Judge", name := "head", desc := "()V" } : Jvm.MethodName)) ∈ lw_all := lw_g (lw_at lw_m4 105 rfl) rfl
theorem q1043 : (Jvm.Cond.code ({ cls := "AlgebraHouse$Judge", name := "head", desc := "()V" } : Jvm.MethodName) prog_6_method_6_code (6 : Nat) (Option.none : Option Jvm.ClassFile.FieldType)) ∈ lw_all := lw_g (lw_at lw_m4 106 rfl) rfl
theorem q1044 : (Jvm.Cond.methodLink "AlgebraHouse$Judge" (89 : Nat) ({ cls := "AlgebraHouse$Rings", name := "of", desc := "(III)I" } : Jvm.MethodName)) ∈ lw_all := lw_g (lw_at lw_m4 107 rfl) rfl
theorem q1047 : (Jvm.Cond.methodLink "AlgebraHouse$Judge" (99 : Nat) ({ cls := "AlgebraHouse$Judge", name := "shape", desc := "(II)Z" } : Jvm.MethodName)) ∈ lw_all := lw_g (lw_at lw_m4 110 rfl) rfl
theorem q1048 : (Jvm.Cond.privateMethod ({ cls := "AlgebraHouse$Judge", name := "shape", desc := "(II)Z" } : Jvm.MethodName)) ∈ lw_tbl := lw_at lw_m4 111 rfl
theorem q1049 : (Jvm.Cond.instanceMethod ({ cls := "AlgebraHouse$Judge", name := "shape", desc := "(II)Z" } : Jvm.MethodName)) ∈ lw_all := lw_g (lw_at lw_m4 112 rfl) rfl
theorem q1050 : (Jvm.Cond.code ({ cls := "AlgebraHouse$Judge", name := "shape", desc := "(II)Z" } : Jvm.MethodName) prog_6_method_7_code (4 : Nat) (Option.some Jvm.ClassFile.FieldType.boolean)) ∈ lw_all := lw_g (lw_at lw_m4 113 rfl) rfl
theorem q1051 : (Jvm.Cond.methodLink "AlgebraHouse$Judge" (134 : Nat) ({ cls := "AlgebraHouse$Judge", name := "type", desc := "(I)I" } : Jvm.MethodName)) ∈ lw_all := lw_g (lw_at lw_m4 114 rfl) rfl
theorem q1052 : (Jvm.Cond.instanceMethod ({ cls := "AlgebraHouse$Judge", name := "type", desc := "(I)I" } : Jvm.MethodName)) ∈ lw_all := lw_g (lw_at lw_m4 115 rfl) rfl
theorem q1053 : (Jvm.Cond.selects "AlgebraHouse$Judge" ({ cls := "AlgebraHouse$Judge", name := "type", desc := "(I)I" } : Jvm.MethodName) ({ cls := "AlgebraHouse$Judge", name := "type", desc := "(I)I" } : Jvm.MethodName)) ∈ lw_all := lw_g (lw_at lw_m4 116 rfl) rfl
theorem q1054 : (Jvm.Cond.code ({ cls := "AlgebraHouse$Judge", name := "type", desc := "(I)I" } : Jvm.MethodName) prog_6_method_11_code (5 : Nat) (Option.some Jvm.ClassFile.FieldType.int)) ∈ lw_all := lw_g (lw_at lw_m4 117 rfl) rfl
theorem q1055 : (Jvm.Cond.methodLink "AlgebraHouse$Judge" (114 : Nat) ({ cls := "AlgebraHouse$Judge", name := "fail", desc := "(II)I" } : Jvm.MethodName)) ∈ lw_all := lw_g (lw_at lw_m4 118 rfl) rfl
theorem q1056 : (Jvm.Cond.privateMethod ({ cls := "AlgebraHouse$Judge", name := "fail", desc := "(II)I" } : Jvm.MethodName)) ∈ lw_tbl := lw_at lw_m4 119 rfl
theorem q1057 : (Jvm.Cond.instanceMethod ({ cls := "AlgebraHouse$Judge", name := "fail", desc := "(II)I" } : Jvm.MethodName)) ∈ lw_all := lw_g (lw_at lw_m4 120 rfl) rfl
theorem q1058 : (Jvm.Cond.code ({ cls := "AlgebraHouse$Judge", name := "fail", desc := "(II)I" } : Jvm.MethodName) prog_6_method_2_code (3 : Nat) (Option.some Jvm.ClassFile.FieldType.int)) ∈ lw_all := lw_g (lw_at lw_m4 121 rfl) rfl
theorem q1059 : (Jvm.Cond.methodLink "AlgebraHouse$Judge" (179 : Nat) ({ cls := "AlgebraHouse$Judge", name := "inner", desc := "(I)I" } : Jvm.MethodName)) ∈ lw_all := lw_g (lw_at lw_m4 122 rfl) rfl
theorem q1060 : (Jvm.Cond.privateMethod ({ cls := "AlgebraHouse$Judge", name := "inner", desc := "(I)I" } : Jvm.MethodName)) ∈ lw_tbl := lw_at lw_m4 123 rfl
theorem q1061 : (Jvm.Cond.instanceMethod ({ cls := "AlgebraHouse$Judge", name := "inner", desc := "(I)I" } : Jvm.MethodName)) ∈ lw_all := lw_g (lw_at lw_m4 124 rfl) rfl
theorem q1062 : (Jvm.Cond.code ({ cls := "AlgebraHouse$Judge", name := "inner", desc := "(I)I" } : Jvm.MethodName) prog_6_method_12_code (4 : Nat) (Option.some Jvm.ClassFile.FieldType.int)) ∈ lw_all := lw_g (lw_at lw_m4 125 rfl) rfl
theorem q1063 : (Jvm.Cond.methodLink "AlgebraHouse$Judge" (185 : Nat) ({ cls := "AlgebraHouse$Rings", name := "size", desc := "(I)I" } : Jvm.MethodName)) ∈ lw_all := lw_g (lw_at lw_m4 126 rfl) rfl
theorem q1066 : (Jvm.Cond.methodLink "AlgebraHouse$Judge" (182 : Nat) ({ cls := "AlgebraHouse$Rings", name := "depth", desc := "(I)I" } : Jvm.MethodName)) ∈ lw_all := lw_g (lw_at lw_m4 129 rfl) rfl
theorem q1069 : (Jvm.Cond.methodLink "AlgebraHouse$Judge" (124 : Nat) ({ cls := "AlgebraHouse$Judge", name := "isThere", desc := "()Z" } : Jvm.MethodName)) ∈ lw_all := lw_g (lw_at lw_m4 132 rfl) rfl
theorem q1070 : (Jvm.Cond.privateMethod ({ cls := "AlgebraHouse$Judge", name := "isThere", desc := "()Z" } : Jvm.MethodName)) ∈ lw_tbl := lw_at lw_m4 133 rfl
theorem q1071 : (Jvm.Cond.instanceMethod ({ cls := "AlgebraHouse$Judge", name := "isThere", desc := "()Z" } : Jvm.MethodName)) ∈ lw_all := lw_g (lw_at lw_m4 134 rfl) rfl
theorem q1072 : (Jvm.Cond.code ({ cls := "AlgebraHouse$Judge", name := "isThere", desc := "()Z" } : Jvm.MethodName) prog_6_method_8_code (5 : Nat) (Option.some Jvm.ClassFile.FieldType.boolean)) ∈ lw_all := lw_g (lw_at lw_m4 135 rfl) rfl
theorem q1073 : (Jvm.Cond.methodLink "AlgebraHouse$Judge" (63 : Nat) ({ cls := "AlgebraHouse$Judge", name := "body", desc := "()V" } : Jvm.MethodName)) ∈ lw_all := lw_g (lw_at lw_m4 136 rfl) rfl
theorem q1074 : (Jvm.Cond.privateMethod ({ cls := "AlgebraHouse$Judge", name := "body", desc := "()V" } : Jvm.MethodName)) ∈ lw_tbl := lw_at lw_m4 137 rfl
theorem q1075 : (Jvm.Cond.instanceMethod ({ cls := "AlgebraHouse$Judge", name := "body", desc := "()V" } : Jvm.MethodName)) ∈ lw_all := lw_g (lw_at lw_m4 138 rfl) rfl
theorem q1076 : (Jvm.Cond.code ({ cls := "AlgebraHouse$Judge", name := "body", desc := "()V" } : Jvm.MethodName) prog_6_method_9_code (3 : Nat) (Option.none : Option Jvm.ClassFile.FieldType)) ∈ lw_all := lw_g (lw_at lw_m4 139 rfl) rfl
theorem q1077 : (Jvm.Cond.methodLink "AlgebraHouse$Judge" (154 : Nat) ({ cls := "AlgebraHouse$Judge", name := "goal", desc := "(I)V" } : Jvm.MethodName)) ∈ lw_all := lw_g (lw_at lw_m4 140 rfl) rfl
theorem q1078 : (Jvm.Cond.privateMethod ({ cls := "AlgebraHouse$Judge", name := "goal", desc := "(I)V" } : Jvm.MethodName)) ∈ lw_tbl := lw_at lw_m4 141 rfl
theorem q1079 : (Jvm.Cond.instanceMethod ({ cls := "AlgebraHouse$Judge", name := "goal", desc := "(I)V" } : Jvm.MethodName)) ∈ lw_all := lw_g (lw_at lw_m4 142 rfl) rfl
theorem q1080 : (Jvm.Cond.code ({ cls := "AlgebraHouse$Judge", name := "goal", desc := "(I)V" } : Jvm.MethodName) prog_6_method_10_code (3 : Nat) (Option.none : Option Jvm.ClassFile.FieldType)) ∈ lw_all := lw_g (lw_at lw_m4 143 rfl) rfl
theorem q1081 : (Jvm.Cond.methodLink "AlgebraHouse$Judge" (66 : Nat) ({ cls := "AlgebraHouse$Judge", name := "judge", desc := "(LAlgebraHouse$Text;II)I" } : Jvm.MethodName)) ∈ lw_all := lw_g (lw_at lw_m4 144 rfl) rfl
theorem q1082 : (Jvm.Cond.instanceMethod ({ cls := "AlgebraHouse$Judge", name := "judge", desc := "(LAlgebraHouse$Text;II)I" } : Jvm.MethodName)) ∈ lw_all := lw_g (lw_at lw_m4 145 rfl) rfl
theorem q1083 : (Jvm.Cond.selects "AlgebraHouse$Judge" ({ cls := "AlgebraHouse$Judge", name := "judge", desc := "(LAlgebraHouse$Text;II)I" } : Jvm.MethodName) ({ cls := "AlgebraHouse$Judge", name := "judge", desc := "(LAlgebraHouse$Text;II)I" } : Jvm.MethodName)) ∈ lw_all := lw_g (lw_at lw_m4 146 rfl) rfl
theorem q1084 : (Jvm.Cond.code ({ cls := "AlgebraHouse$Judge", name := "judge", desc := "(LAlgebraHouse$Text;II)I" } : Jvm.MethodName) prog_6_method_3_code (4 : Nat) (Option.some Jvm.ClassFile.FieldType.int)) ∈ lw_all := lw_g (lw_at lw_m4 147 rfl) rfl
theorem q1085 : (Jvm.Cond.methodLink "AlgebraHouse$Judge" (50 : Nat) ({ cls := "AlgebraHouse$Judge", name := "part", desc := "(I)I" } : Jvm.MethodName)) ∈ lw_all := lw_g (lw_at lw_m4 148 rfl) rfl
theorem q1086 : (Jvm.Cond.privateMethod ({ cls := "AlgebraHouse$Judge", name := "part", desc := "(I)I" } : Jvm.MethodName)) ∈ lw_tbl := lw_at lw_m4 149 rfl
theorem q1087 : (Jvm.Cond.instanceMethod ({ cls := "AlgebraHouse$Judge", name := "part", desc := "(I)I" } : Jvm.MethodName)) ∈ lw_all := lw_g (lw_at lw_m4 150 rfl) rfl
theorem q1088 : (Jvm.Cond.code ({ cls := "AlgebraHouse$Judge", name := "part", desc := "(I)I" } : Jvm.MethodName) prog_6_method_13_code (3 : Nat) (Option.some Jvm.ClassFile.FieldType.int)) ∈ lw_all := lw_g (lw_at lw_m4 151 rfl) rfl
theorem q1089 : (Jvm.Cond.methodLink "AlgebraHouse$Judge" (188 : Nat) ({ cls := "AlgebraHouse$Judge", name := "ringOf", desc := "(I)I" } : Jvm.MethodName)) ∈ lw_all := lw_g (lw_at lw_m4 152 rfl) rfl
theorem q1090 : (Jvm.Cond.privateMethod ({ cls := "AlgebraHouse$Judge", name := "ringOf", desc := "(I)I" } : Jvm.MethodName)) ∈ lw_tbl := lw_at lw_m4 153 rfl
theorem q1091 : (Jvm.Cond.instanceMethod ({ cls := "AlgebraHouse$Judge", name := "ringOf", desc := "(I)I" } : Jvm.MethodName)) ∈ lw_all := lw_g (lw_at lw_m4 154 rfl) rfl
theorem q1092 : (Jvm.Cond.code ({ cls := "AlgebraHouse$Judge", name := "ringOf", desc := "(I)I" } : Jvm.MethodName) prog_6_method_14_code (3 : Nat) (Option.some Jvm.ClassFile.FieldType.int)) ∈ lw_all := lw_g (lw_at lw_m4 155 rfl) rfl
theorem q1093 : (Jvm.Cond.methodLink "AlgebraHouse$Judge" (196 : Nat) ({ cls := "AlgebraHouse$Judge", name := "named", desc := "(I)I" } : Jvm.MethodName)) ∈ lw_all := lw_g (lw_at lw_m4 156 rfl) rfl
theorem q1094 : (Jvm.Cond.privateMethod ({ cls := "AlgebraHouse$Judge", name := "named", desc := "(I)I" } : Jvm.MethodName)) ∈ lw_tbl := lw_at lw_m4 157 rfl
theorem q1095 : (Jvm.Cond.instanceMethod ({ cls := "AlgebraHouse$Judge", name := "named", desc := "(I)I" } : Jvm.MethodName)) ∈ lw_all := lw_g (lw_at lw_m4 158 rfl) rfl
theorem q1096 : (Jvm.Cond.code ({ cls := "AlgebraHouse$Judge", name := "named", desc := "(I)I" } : Jvm.MethodName) prog_6_method_15_code (3 : Nat) (Option.some Jvm.ClassFile.FieldType.int)) ∈ lw_all := lw_g (lw_at lw_m4 159 rfl) rfl
theorem q1097 : (Jvm.Cond.methodLink "AlgebraHouse$Judge" (165 : Nat) ({ cls := "AlgebraHouse$Book", name := "ring", desc := "(LAlgebraHouse$Text;II)I" } : Jvm.MethodName)) ∈ lw_all := lw_g (lw_at lw_m4 160 rfl) rfl
theorem q1106 : (Jvm.Cond.methodLink "AlgebraHouse$Judge" (217 : Nat) ({ cls := "AlgebraHouse$Judge", name := "mean", desc := "(III)I" } : Jvm.MethodName)) ∈ lw_all := lw_g (lw_at lw_m4 169 rfl) rfl
theorem q1107 : (Jvm.Cond.privateMethod ({ cls := "AlgebraHouse$Judge", name := "mean", desc := "(III)I" } : Jvm.MethodName)) ∈ lw_tbl := lw_at lw_m4 170 rfl
theorem q1108 : (Jvm.Cond.instanceMethod ({ cls := "AlgebraHouse$Judge", name := "mean", desc := "(III)I" } : Jvm.MethodName)) ∈ lw_all := lw_g (lw_at lw_m4 171 rfl) rfl
theorem q1109 : (Jvm.Cond.code ({ cls := "AlgebraHouse$Judge", name := "mean", desc := "(III)I" } : Jvm.MethodName) prog_6_method_16_code (4 : Nat) (Option.some Jvm.ClassFile.FieldType.int)) ∈ lw_all := lw_g (lw_at lw_m4 172 rfl) rfl
theorem q1110 : (Jvm.Cond.methodLink "AlgebraHouse$Judge" (77 : Nat) ({ cls := "AlgebraHouse$Book", name := "variable", desc := "(J)I" } : Jvm.MethodName)) ∈ lw_all := lw_g (lw_at lw_m4 173 rfl) rfl
theorem q1114 : (Jvm.Cond.methodLink "AlgebraHouse$Judge" (199 : Nat) ({ cls := "AlgebraHouse$Judge", name := "call", desc := "(I)I" } : Jvm.MethodName)) ∈ lw_all := lw_g (lw_at lw_m4 177 rfl) rfl
theorem q1115 : (Jvm.Cond.privateMethod ({ cls := "AlgebraHouse$Judge", name := "call", desc := "(I)I" } : Jvm.MethodName)) ∈ lw_tbl := lw_at lw_m4 178 rfl
theorem q1116 : (Jvm.Cond.instanceMethod ({ cls := "AlgebraHouse$Judge", name := "call", desc := "(I)I" } : Jvm.MethodName)) ∈ lw_all := lw_g (lw_at lw_m4 179 rfl) rfl
theorem q1117 : (Jvm.Cond.code ({ cls := "AlgebraHouse$Judge", name := "call", desc := "(I)I" } : Jvm.MethodName) prog_6_method_18_code (6 : Nat) (Option.some Jvm.ClassFile.FieldType.int)) ∈ lw_all := lw_g (lw_at lw_m4 180 rfl) rfl
theorem q1118 : (Jvm.Cond.methodLink "AlgebraHouse$Judge" (229 : Nat) ({ cls := "AlgebraHouse$Book", name := "isCalled", desc := "(JI)Z" } : Jvm.MethodName)) ∈ lw_all := lw_g (lw_at lw_m4 181 rfl) rfl
theorem q1122 : (Jvm.Cond.methodLink "AlgebraHouse$Judge" (233 : Nat) ({ cls := "AlgebraHouse$Judge", name := "parts", desc := "(I)Z" } : Jvm.MethodName)) ∈ lw_all := lw_g (lw_at lw_m4 185 rfl) rfl
theorem q1123 : (Jvm.Cond.privateMethod ({ cls := "AlgebraHouse$Judge", name := "parts", desc := "(I)Z" } : Jvm.MethodName)) ∈ lw_tbl := lw_at lw_m4 186 rfl
theorem q1124 : (Jvm.Cond.instanceMethod ({ cls := "AlgebraHouse$Judge", name := "parts", desc := "(I)Z" } : Jvm.MethodName)) ∈ lw_all := lw_g (lw_at lw_m4 187 rfl) rfl
theorem q1125 : (Jvm.Cond.code ({ cls := "AlgebraHouse$Judge", name := "parts", desc := "(I)Z" } : Jvm.MethodName) prog_6_method_17_code (4 : Nat) (Option.some Jvm.ClassFile.FieldType.boolean)) ∈ lw_all := lw_g (lw_at lw_m4 188 rfl) rfl
theorem q1126 : (Jvm.Cond.methodLink "AlgebraHouse$Judge" (237 : Nat) ({ cls := "AlgebraHouse$Text", name := "many", desc := "(I)I" } : Jvm.MethodName)) ∈ lw_all := lw_g (lw_at lw_m4 189 rfl) rfl
theorem q1130 : (Jvm.Cond.methodLink "AlgebraHouse$Judge" (240 : Nat) ({ cls := "AlgebraHouse$Book", name := "meant", desc := "(J[III)I" } : Jvm.MethodName)) ∈ lw_all := lw_g (lw_at lw_m4 193 rfl) rfl
theorem q1166 : (Jvm.Cond.methodLink "AlgebraHouse$Judge" (202 : Nat) ({ cls := "AlgebraHouse$Judge", name := "function", desc := "(I)I" } : Jvm.MethodName)) ∈ lw_all := lw_g (lw_at lw_m4 229 rfl) rfl
theorem q1167 : (Jvm.Cond.privateMethod ({ cls := "AlgebraHouse$Judge", name := "function", desc := "(I)I" } : Jvm.MethodName)) ∈ lw_tbl := lw_at lw_m4 230 rfl
theorem q1168 : (Jvm.Cond.instanceMethod ({ cls := "AlgebraHouse$Judge", name := "function", desc := "(I)I" } : Jvm.MethodName)) ∈ lw_all := lw_g (lw_at lw_m4 231 rfl) rfl
theorem q1169 : (Jvm.Cond.code ({ cls := "AlgebraHouse$Judge", name := "function", desc := "(I)I" } : Jvm.MethodName) prog_6_method_23_code (7 : Nat) (Option.some Jvm.ClassFile.FieldType.int)) ∈ lw_all := lw_g (lw_at lw_m4 232 rfl) rfl
theorem q1170 : (Jvm.Cond.methodLink "AlgebraHouse$Judge" (249 : Nat) ({ cls := "AlgebraHouse$Text", name := "second", desc := "(I)I" } : Jvm.MethodName)) ∈ lw_all := lw_g (lw_at lw_m4 233 rfl) rfl
theorem q1174 : (Jvm.Cond.methodLink "AlgebraHouse$Judge" (270 : Nat) ({ cls := "AlgebraHouse$Judge", name := "ofTwo", desc := "(III)I" } : Jvm.MethodName)) ∈ lw_all := lw_g (lw_at lw_m4 237 rfl) rfl
theorem q1175 : (Jvm.Cond.static ({ cls := "AlgebraHouse$Judge", name := "ofTwo", desc := "(III)I" } : Jvm.MethodName)) ∈ lw_all := lw_g (lw_at lw_m4 238 rfl) rfl
theorem q1176 : (Jvm.Cond.code ({ cls := "AlgebraHouse$Judge", name := "ofTwo", desc := "(III)I" } : Jvm.MethodName) prog_6_method_24_code (4 : Nat) (Option.some Jvm.ClassFile.FieldType.int)) ∈ lw_all := lw_g (lw_at lw_m4 239 rfl) rfl
theorem q1177 : (Jvm.Cond.methodLink "AlgebraHouse$Judge" (255 : Nat) ({ cls := "AlgebraHouse$Rings", name := "join", desc := "(II)I" } : Jvm.MethodName)) ∈ lw_all := lw_g (lw_at lw_m5 0 rfl) rfl
theorem q1178 : (Jvm.Cond.methodLink "AlgebraHouse$Judge" (267 : Nat) ({ cls := "AlgebraHouse$Rings", name := "divides", desc := "(I)Z" } : Jvm.MethodName)) ∈ lw_all := lw_g (lw_at lw_m5 1 rfl) rfl
theorem q1182 : (Jvm.Cond.methodLink "AlgebraHouse$Judge" (273 : Nat) ({ cls := "AlgebraHouse$Judge", name := "ofOne", desc := "(II)I" } : Jvm.MethodName)) ∈ lw_all := lw_g (lw_at lw_m5 5 rfl) rfl
theorem q1183 : (Jvm.Cond.static ({ cls := "AlgebraHouse$Judge", name := "ofOne", desc := "(II)I" } : Jvm.MethodName)) ∈ lw_all := lw_g (lw_at lw_m5 6 rfl) rfl
theorem q1184 : (Jvm.Cond.code ({ cls := "AlgebraHouse$Judge", name := "ofOne", desc := "(II)I" } : Jvm.MethodName) prog_6_method_25_code (5 : Nat) (Option.some Jvm.ClassFile.FieldType.int)) ∈ lw_all := lw_g (lw_at lw_m5 7 rfl) rfl
theorem q1185 : (Jvm.Cond.methodLink "AlgebraHouse$Judge" (258 : Nat) ({ cls := "AlgebraHouse$Rings", name := "base", desc := "(I)I" } : Jvm.MethodName)) ∈ lw_all := lw_g (lw_at lw_m5 8 rfl) rfl
theorem q1186 : (Jvm.Cond.methodLink "AlgebraHouse$Judge" (276 : Nat) ({ cls := "AlgebraHouse$Rings", name := "plain", desc := "(I)I" } : Jvm.MethodName)) ∈ lw_all := lw_g (lw_at lw_m5 9 rfl) rfl
theorem q1189 : (Jvm.Cond.methodLink "AlgebraHouse$Judge" (261 : Nat) ({ cls := "AlgebraHouse$Rings", name := "isField", desc := "(I)Z" } : Jvm.MethodName)) ∈ lw_all := lw_g (lw_at lw_m5 12 rfl) rfl
theorem q1190 : (Jvm.Cond.methodLink "AlgebraHouse$Judge" (264 : Nat) ({ cls := "AlgebraHouse$Rings", name := "fraction", desc := "(I)I" } : Jvm.MethodName)) ∈ lw_all := lw_g (lw_at lw_m5 13 rfl) rfl
theorem q1196 : (Jvm.Cond.methodLink "AlgebraHouse$Judge" (279 : Nat) ({ cls := "AlgebraHouse$Rings", name := "isPrime", desc := "(I)Z" } : Jvm.MethodName)) ∈ lw_all := lw_g (lw_at lw_m5 19 rfl) rfl
theorem q1197 : (Jvm.Cond.methodLink "AlgebraHouse$Judge" (205 : Nat) ({ cls := "AlgebraHouse$Judge", name := "matrix", desc := "(I)I" } : Jvm.MethodName)) ∈ lw_all := lw_g (lw_at lw_m5 20 rfl) rfl
theorem q1198 : (Jvm.Cond.privateMethod ({ cls := "AlgebraHouse$Judge", name := "matrix", desc := "(I)I" } : Jvm.MethodName)) ∈ lw_tbl := lw_at lw_m5 21 rfl
theorem q1199 : (Jvm.Cond.instanceMethod ({ cls := "AlgebraHouse$Judge", name := "matrix", desc := "(I)I" } : Jvm.MethodName)) ∈ lw_all := lw_g (lw_at lw_m5 22 rfl) rfl
theorem q1200 : (Jvm.Cond.code ({ cls := "AlgebraHouse$Judge", name := "matrix", desc := "(I)I" } : Jvm.MethodName) prog_6_method_22_code (4 : Nat) (Option.some Jvm.ClassFile.FieldType.int)) ∈ lw_all := lw_g (lw_at lw_m5 23 rfl) rfl
theorem q1201 : (Jvm.Cond.methodLink "AlgebraHouse$Judge" (208 : Nat) ({ cls := "AlgebraHouse$Judge", name := "choice", desc := "(I)I" } : Jvm.MethodName)) ∈ lw_all := lw_g (lw_at lw_m5 24 rfl) rfl
theorem q1202 : (Jvm.Cond.privateMethod ({ cls := "AlgebraHouse$Judge", name := "choice", desc := "(I)I" } : Jvm.MethodName)) ∈ lw_tbl := lw_at lw_m5 25 rfl
theorem q1203 : (Jvm.Cond.instanceMethod ({ cls := "AlgebraHouse$Judge", name := "choice", desc := "(I)I" } : Jvm.MethodName)) ∈ lw_all := lw_g (lw_at lw_m5 26 rfl) rfl
theorem q1204 : (Jvm.Cond.code ({ cls := "AlgebraHouse$Judge", name := "choice", desc := "(I)I" } : Jvm.MethodName) prog_6_method_19_code (3 : Nat) (Option.some Jvm.ClassFile.FieldType.int)) ∈ lw_all := lw_g (lw_at lw_m5 27 rfl) rfl
theorem q1205 : (Jvm.Cond.methodLink "AlgebraHouse$Judge" (252 : Nat) ({ cls := "AlgebraHouse$Text", name := "third", desc := "(I)I" } : Jvm.MethodName)) ∈ lw_all := lw_g (lw_at lw_m5 28 rfl) rfl
theorem q1209 : (Jvm.Cond.methodLink "AlgebraHouse$Judge" (211 : Nat) ({ cls := "AlgebraHouse$Judge", name := "turned", desc := "(I)I" } : Jvm.MethodName)) ∈ lw_all := lw_g (lw_at lw_m5 32 rfl) rfl
theorem q1210 : (Jvm.Cond.privateMethod ({ cls := "AlgebraHouse$Judge", name := "turned", desc := "(I)I" } : Jvm.MethodName)) ∈ lw_tbl := lw_at lw_m5 33 rfl
theorem q1211 : (Jvm.Cond.instanceMethod ({ cls := "AlgebraHouse$Judge", name := "turned", desc := "(I)I" } : Jvm.MethodName)) ∈ lw_all := lw_g (lw_at lw_m5 34 rfl) rfl
theorem q1212 : (Jvm.Cond.code ({ cls := "AlgebraHouse$Judge", name := "turned", desc := "(I)I" } : Jvm.MethodName) prog_6_method_20_code (5 : Nat) (Option.some Jvm.ClassFile.FieldType.int)) ∈ lw_all := lw_g (lw_at lw_m5 35 rfl) rfl
theorem q1213 : (Jvm.Cond.methodLink "AlgebraHouse$Judge" (168 : Nat) ({ cls := "AlgebraHouse$Rings", name := "goes", desc := "(II)Z" } : Jvm.MethodName)) ∈ lw_all := lw_g (lw_at lw_m5 36 rfl) rfl
theorem q1214 : (Jvm.Cond.methodLink "AlgebraHouse$Judge" (214 : Nat) ({ cls := "AlgebraHouse$Judge", name := "two", desc := "(I)I" } : Jvm.MethodName)) ∈ lw_all := lw_g (lw_at lw_m5 37 rfl) rfl
theorem q1215 : (Jvm.Cond.privateMethod ({ cls := "AlgebraHouse$Judge", name := "two", desc := "(I)I" } : Jvm.MethodName)) ∈ lw_tbl := lw_at lw_m5 38 rfl
theorem q1216 : (Jvm.Cond.instanceMethod ({ cls := "AlgebraHouse$Judge", name := "two", desc := "(I)I" } : Jvm.MethodName)) ∈ lw_all := lw_g (lw_at lw_m5 39 rfl) rfl
theorem q1217 : (Jvm.Cond.code ({ cls := "AlgebraHouse$Judge", name := "two", desc := "(I)I" } : Jvm.MethodName) prog_6_method_21_code (8 : Nat) (Option.some Jvm.ClassFile.FieldType.int)) ∈ lw_all := lw_g (lw_at lw_m5 40 rfl) rfl
theorem q1218 : (Jvm.Cond.fieldLink "AlgebraHouse$Judge" (158 : Nat) "AlgebraHouse$Judge" "BASES" "[I") ∈ lw_all := lw_g (lw_at lw_m5 41 rfl) rfl
theorem q1219 : (Jvm.Cond.laysStatic "AlgebraHouse$Judge" "BASES" "[I") ∈ lw_tbl := lw_at lw_m5 42 rfl
theorem q1220 : (Jvm.Cond.methodLink "AlgebraHouse$Judge" (161 : Nat) ({ cls := "AlgebraHouse$Book", name := "can", desc := "(LAlgebraHouse$Text;I)Z" } : Jvm.MethodName)) ∈ lw_all := lw_g (lw_at lw_m5 43 rfl) rfl
theorem in_X5 : ∀ w ∈ wsX50, w ∈ lw_all := lw_in wsX50 [528, 530, 532, 534, 536, 538, 540, 542] (by decide +kernel) (by decide +kernel)
/-! AlgebraHouse$Machine -/
def RX6 : String := "AlgebraHouse$Machine"
def TX6 : u_T := fun k => match k with
  | 0 => ("AlgebraHouse$Machine", "book", "LAlgebraHouse$Book;", true)
  | 1 => ("AlgebraHouse$Machine", "judge", "LAlgebraHouse$Judge;", true)
  | 2 => ("AlgebraHouse$Machine", "coder", "LAlgebraHouse$Coder;", true)
  | 3 => ("AlgebraHouse$Machine", "v", "LAlgebraHouse$Numbers;", true)
  | 4 => ("AlgebraHouse$Machine", "c", "[I", true)
  | 5 => ("AlgebraHouse$Machine", "codes", "[LAlgebraHouse$Code;", true)
  | 6 => ("AlgebraHouse$Machine", "fresh", "I", false)
  | 7 => ("AlgebraHouse$Machine", "at", "[I", true)
  | 8 => ("AlgebraHouse$Machine", "top", "I", false)
  | 9 => ("AlgebraHouse$Machine", "frameCode", "[I", true)
  | 10 => ("AlgebraHouse$Machine", "framePc", "[I", true)
  | 11 => ("AlgebraHouse$Machine", "frameBase", "[I", true)
  | 12 => ("AlgebraHouse$Machine", "frameOwn", "[I", true)
  | 13 => ("AlgebraHouse$Machine", "frames", "I", false)
  | 14 => ("AlgebraHouse$Machine", "pc", "I", false)
  | 15 => ("AlgebraHouse$Machine", "steps", "I", false)
  | 16 => ("AlgebraHouse$Machine", "most", "I", false)
  | 17 => ("AlgebraHouse$Machine", "kept", "[I", false)
  | 18 => ("AlgebraHouse$Machine", "keptVariables", "[I", false)
  | 19 => ("AlgebraHouse$Machine", "asked", "[I", false)
  | 20 => ("AlgebraHouse$Machine", "rest", "[I", false)
  | _ => ("AlgebraHouse$Machine", "product", "[I", true)
def tyX6 : Nat → FieldType := fun k => match k with
  | 0 => .object "AlgebraHouse$Book"
  | 1 => .object "AlgebraHouse$Judge"
  | 2 => .object "AlgebraHouse$Coder"
  | 3 => .object "AlgebraHouse$Numbers"
  | 4 => .array .int
  | 5 => .array (.object "AlgebraHouse$Code")
  | 6 => .int
  | 7 => .array .int
  | 8 => .int
  | 9 => .array .int
  | 10 => .array .int
  | 11 => .array .int
  | 12 => .array .int
  | 13 => .int
  | 14 => .int
  | 15 => .int
  | 16 => .int
  | 17 => .array .int
  | 18 => .array .int
  | 19 => .array .int
  | 20 => .array .int
  | _ => .array .int
abbrev wsX60 : List Cond := u_ws RX6 TX6 22
set_option maxRecDepth 100000 in
theorem nmX6 : ∀ a, a < 22 → ∀ b, b < 22 → a ≠ b → (TX6 a).2.1 ≠ (TX6 b).2.1 := by decide +kernel
set_option maxRecDepth 100000 in
theorem tyX6_ok : ∀ k, k < 22 → parseFieldDescriptor (TX6 k).2.2.1 = some (tyX6 k) := by decide +kernel
abbrev cX6_init : ByteArray := prog_7_method_1_code
def yX6_init : MethodName := ⟨RX6, "<init>", "(LAlgebraHouse$Book;LAlgebraHouse$Judge;[I[I)V"⟩
abbrev cX6_run : ByteArray := prog_7_method_4_code
def yX6_run : MethodName := ⟨RX6, "run", "(LAlgebraHouse$Text;)I"⟩
abbrev cX6_codeOf : ByteArray := prog_7_method_2_code
def yX6_codeOf : MethodName := ⟨RX6, "codeOf", "(IILAlgebraHouse$Text;I)I"⟩
abbrev cX6_enter : ByteArray := prog_7_method_3_code
def yX6_enter : MethodName := ⟨RX6, "enter", "(III)V"⟩
abbrev cX6_perform : ByteArray := prog_7_method_9_code
def yX6_perform : MethodName := ⟨RX6, "perform", "(III)V"⟩
abbrev cX6_push : ByteArray := prog_7_method_5_code
def yX6_push : MethodName := ⟨RX6, "push", "(I)I"⟩
abbrev cX6_call : ByteArray := prog_7_method_10_code
def yX6_call : MethodName := ⟨RX6, "call", "(II)V"⟩
abbrev cX6_ends : ByteArray := prog_7_method_11_code
def yX6_ends : MethodName := ⟨RX6, "ends", "(I)V"⟩
abbrev cX6_number : ByteArray := prog_7_method_6_code
def yX6_number : MethodName := ⟨RX6, "number", "(I)I"⟩
abbrev cX6_power : ByteArray := prog_7_method_12_code
def yX6_power : MethodName := ⟨RX6, "power", "(II)V"⟩
abbrev cX6_function : ByteArray := prog_7_method_15_code
def yX6_function : MethodName := ⟨RX6, "function", "(III)V"⟩
abbrev cX6_common : ByteArray := prog_7_method_17_code
def yX6_common : MethodName := ⟨RX6, "common", "(III)V"⟩
abbrev cX6_integer : ByteArray := prog_7_method_16_code
def yX6_integer : MethodName := ⟨RX6, "integer", "(I)V"⟩
abbrev cX6_atValue : ByteArray := prog_7_method_18_code
def yX6_atValue : MethodName := ⟨RX6, "atValue", "(IIII)V"⟩
abbrev cX6_derived : ByteArray := prog_7_method_19_code
def yX6_derived : MethodName := ⟨RX6, "derived", "(II)V"⟩
abbrev cX6_trace : ByteArray := prog_7_method_20_code
def yX6_trace : MethodName := ⟨RX6, "trace", "(II)V"⟩
abbrev cX6_turned : ByteArray := prog_7_method_21_code
def yX6_turned : MethodName := ⟨RX6, "turned", "(II)V"⟩
abbrev cX6_inverse : ByteArray := prog_7_method_22_code
def yX6_inverse : MethodName := ⟨RX6, "inverse", "(II)V"⟩
abbrev cX6_characteristic : ByteArray := prog_7_method_23_code
def yX6_characteristic : MethodName := ⟨RX6, "characteristic", "(II)V"⟩
abbrev cX6_roots : ByteArray := prog_7_method_24_code
def yX6_roots : MethodName := ⟨RX6, "roots", "(II)I"⟩
abbrev cX6_high : ByteArray := prog_7_method_25_code
def yX6_high : MethodName := ⟨RX6, "high", "([I)I"⟩
abbrev cX6_square : ByteArray := prog_7_method_27_code
def yX6_square : MethodName := ⟨RX6, "square", "(III)V"⟩
abbrev cX6_reduce : ByteArray := prog_7_method_26_code
def yX6_reduce : MethodName := ⟨RX6, "reduce", "([II[III)V"⟩
abbrev cX6_made : ByteArray := prog_7_method_7_code
def yX6_made : MethodName := ⟨RX6, "made", "(II)V"⟩
abbrev cX6_two : ByteArray := prog_7_method_13_code
def yX6_two : MethodName := ⟨RX6, "two", "(II)V"⟩
abbrev cX6_truth : ByteArray := prog_7_method_8_code
def yX6_truth : MethodName := ⟨RX6, "truth", "(ZI)V"⟩
abbrev cX6_rest : ByteArray := prog_7_method_14_code
def yX6_rest : MethodName := ⟨RX6, "rest", "(ZIII)V"⟩
theorem q224 : (Jvm.Cond.initialized "AlgebraHouse$Machine") ∈ lw_all := lw_g (lw_at lw_m1 7 rfl) rfl
theorem q268 : (Jvm.Cond.fieldLinkNest "AlgebraHouse$Machine" (125 : Nat) "AlgebraHouse$Text" "root" "I" "AlgebraHouse") ∈ lw_tbl := lw_at lw_m1 51 rfl
theorem q276 : (Jvm.Cond.fieldLinkNest "AlgebraHouse$Machine" (231 : Nat) "AlgebraHouse$Text" "params" "I" "AlgebraHouse") ∈ lw_tbl := lw_at lw_m1 59 rfl
theorem q302 : (Jvm.Cond.fieldLinkNest "AlgebraHouse$Machine" (121 : Nat) "AlgebraHouse$Text" "ring" "[I" "AlgebraHouse") ∈ lw_tbl := lw_at lw_m1 85 rfl
theorem q334 : (Jvm.Cond.fieldLinkNest "AlgebraHouse$Machine" (218 : Nat) "AlgebraHouse$Text" "rule" "I" "AlgebraHouse") ∈ lw_tbl := lw_at lw_m1 117 rfl
theorem q416 : (Jvm.Cond.fieldLinkNest "AlgebraHouse$Machine" (212 : Nat) "AlgebraHouse$Book" "told" "[LAlgebraHouse$Text;" "AlgebraHouse") ∈ lw_tbl := lw_at lw_m1 199 rfl
theorem q547 : (Jvm.Cond.instantiable "AlgebraHouse$Machine" (22 : Nat)) ∈ lw_all := lw_g (lw_at lw_m2 90 rfl) rfl
theorem q549 : (Jvm.Cond.instanceMethod ({ cls := "AlgebraHouse$Machine", name := "<init>", desc := "(LAlgebraHouse$Book;LAlgebraHouse$Judge;[I[I)V" } : Jvm.MethodName)) ∈ lw_all := lw_g (lw_at lw_m2 92 rfl) rfl
theorem q550 : (Jvm.Cond.code ({ cls := "AlgebraHouse$Machine", name := "<init>", desc := "(LAlgebraHouse$Book;LAlgebraHouse$Judge;[I[I)V" } : Jvm.MethodName) prog_7_method_1_code (6 : Nat) (Option.none : Option Jvm.ClassFile.FieldType)) ∈ lw_all := lw_g (lw_at lw_m2 93 rfl) rfl
theorem q551 : (Jvm.Cond.methodLink "AlgebraHouse$Machine" (3 : Nat) ({ cls := "java/lang/Object", name := "<init>", desc := "()V" } : Jvm.MethodName)) ∈ lw_all := lw_g (lw_at lw_m2 94 rfl) rfl
theorem q552 : (Jvm.Cond.classLink "AlgebraHouse$Machine" (9 : Nat) "AlgebraHouse$Coder") ∈ lw_all := lw_g (lw_at lw_m2 95 rfl) rfl
theorem q554 : (Jvm.Cond.methodLinkNest "AlgebraHouse$Machine" (11 : Nat) ({ cls := "AlgebraHouse$Coder", name := "<init>", desc := "()V" } : Jvm.MethodName) "AlgebraHouse") ∈ lw_tbl := lw_at lw_m2 97 rfl
theorem q568 : (Jvm.Cond.classLink "AlgebraHouse$Machine" (18 : Nat) "AlgebraHouse$Numbers") ∈ lw_all := lw_g (lw_at lw_m2 111 rfl) rfl
theorem q570 : (Jvm.Cond.methodLinkNest "AlgebraHouse$Machine" (20 : Nat) ({ cls := "AlgebraHouse$Numbers", name := "<init>", desc := "()V" } : Jvm.MethodName) "AlgebraHouse") ∈ lw_tbl := lw_at lw_m2 113 rfl
theorem q576 : (Jvm.Cond.fieldLinkNest "AlgebraHouse$Machine" (70 : Nat) "AlgebraHouse$Numbers" "c" "[I" "AlgebraHouse") ∈ lw_tbl := lw_at lw_m2 119 rfl
theorem q578 : (Jvm.Cond.fieldLinkNest "AlgebraHouse$Machine" (106 : Nat) "AlgebraHouse$Numbers" "own" "I" "AlgebraHouse") ∈ lw_tbl := lw_at lw_m2 121 rfl
theorem q580 : (Jvm.Cond.fieldLinkNest "AlgebraHouse$Machine" (109 : Nat) "AlgebraHouse$Numbers" "error" "I" "AlgebraHouse") ∈ lw_tbl := lw_at lw_m2 123 rfl
theorem q588 : (Jvm.Cond.classLink "AlgebraHouse$Machine" (25 : Nat) "AlgebraHouse$Code") ∈ lw_all := lw_g (lw_at lw_m2 131 rfl) rfl
theorem q591 : (Jvm.Cond.methodLinkNest "AlgebraHouse$Machine" (74 : Nat) ({ cls := "AlgebraHouse$Code", name := "<init>", desc := "()V" } : Jvm.MethodName) "AlgebraHouse") ∈ lw_tbl := lw_at lw_m2 134 rfl
theorem q596 : (Jvm.Cond.fieldLinkNest "AlgebraHouse$Machine" (136 : Nat) "AlgebraHouse$Code" "op" "[I" "AlgebraHouse") ∈ lw_tbl := lw_at lw_m2 139 rfl
theorem q598 : (Jvm.Cond.fieldLinkNest "AlgebraHouse$Machine" (139 : Nat) "AlgebraHouse$Code" "a" "[I" "AlgebraHouse") ∈ lw_tbl := lw_at lw_m2 141 rfl
theorem q601 : (Jvm.Cond.fieldLinkNest "AlgebraHouse$Machine" (142 : Nat) "AlgebraHouse$Code" "b" "[I" "AlgebraHouse") ∈ lw_tbl := lw_at lw_m2 144 rfl
theorem q604 : (Jvm.Cond.fieldLinkNest "AlgebraHouse$Machine" (75 : Nat) "AlgebraHouse$Code" "text" "I" "AlgebraHouse") ∈ lw_tbl := lw_at lw_m2 147 rfl
theorem q605 : (Jvm.Cond.fieldLinkNest "AlgebraHouse$Machine" (79 : Nat) "AlgebraHouse$Code" "ring" "I" "AlgebraHouse") ∈ lw_tbl := lw_at lw_m2 148 rfl
theorem q606 : (Jvm.Cond.fieldLinkNest "AlgebraHouse$Machine" (85 : Nat) "AlgebraHouse$Code" "active" "I" "AlgebraHouse") ∈ lw_tbl := lw_at lw_m2 149 rfl
theorem q622 : (Jvm.Cond.fieldLink "AlgebraHouse$Machine" (56 : Nat) "AlgebraHouse$Machine" "book" "LAlgebraHouse$Book;") ∈ lw_all := lw_g (lw_at lw_m2 165 rfl) rfl
theorem q623 : (Jvm.Cond.fieldLink "AlgebraHouse$Machine" (60 : Nat) "AlgebraHouse$Machine" "judge" "LAlgebraHouse$Judge;") ∈ lw_all := lw_g (lw_at lw_m2 166 rfl) rfl
theorem q624 : (Jvm.Cond.fieldLink "AlgebraHouse$Machine" (12 : Nat) "AlgebraHouse$Machine" "coder" "LAlgebraHouse$Coder;") ∈ lw_all := lw_g (lw_at lw_m2 167 rfl) rfl
theorem q625 : (Jvm.Cond.fieldLink "AlgebraHouse$Machine" (21 : Nat) "AlgebraHouse$Machine" "v" "LAlgebraHouse$Numbers;") ∈ lw_all := lw_g (lw_at lw_m2 168 rfl) rfl
theorem q626 : (Jvm.Cond.fieldLink "AlgebraHouse$Machine" (73 : Nat) "AlgebraHouse$Machine" "c" "[I") ∈ lw_all := lw_g (lw_at lw_m2 169 rfl) rfl
theorem q628 : (Jvm.Cond.fieldLink "AlgebraHouse$Machine" (27 : Nat) "AlgebraHouse$Machine" "codes" "[LAlgebraHouse$Code;") ∈ lw_all := lw_g (lw_at lw_m2 171 rfl) rfl
theorem q629 : (Jvm.Cond.fieldLink "AlgebraHouse$Machine" (82 : Nat) "AlgebraHouse$Machine" "fresh" "I") ∈ lw_all := lw_g (lw_at lw_m2 172 rfl) rfl
theorem q630 : (Jvm.Cond.fieldLink "AlgebraHouse$Machine" (31 : Nat) "AlgebraHouse$Machine" "at" "[I") ∈ lw_all := lw_g (lw_at lw_m2 173 rfl) rfl
theorem q631 : (Jvm.Cond.fieldLink "AlgebraHouse$Machine" (112 : Nat) "AlgebraHouse$Machine" "top" "I") ∈ lw_all := lw_g (lw_at lw_m2 174 rfl) rfl
theorem q632 : (Jvm.Cond.fieldLink "AlgebraHouse$Machine" (35 : Nat) "AlgebraHouse$Machine" "frameCode" "[I") ∈ lw_all := lw_g (lw_at lw_m2 175 rfl) rfl
theorem q633 : (Jvm.Cond.fieldLink "AlgebraHouse$Machine" (38 : Nat) "AlgebraHouse$Machine" "framePc" "[I") ∈ lw_all := lw_g (lw_at lw_m2 176 rfl) rfl
theorem q634 : (Jvm.Cond.fieldLink "AlgebraHouse$Machine" (41 : Nat) "AlgebraHouse$Machine" "frameBase" "[I") ∈ lw_all := lw_g (lw_at lw_m2 177 rfl) rfl
theorem q635 : (Jvm.Cond.fieldLink "AlgebraHouse$Machine" (44 : Nat) "AlgebraHouse$Machine" "frameOwn" "[I") ∈ lw_all := lw_g (lw_at lw_m2 178 rfl) rfl
theorem q636 : (Jvm.Cond.fieldLink "AlgebraHouse$Machine" (100 : Nat) "AlgebraHouse$Machine" "frames" "I") ∈ lw_all := lw_g (lw_at lw_m2 179 rfl) rfl
theorem q637 : (Jvm.Cond.fieldLink "AlgebraHouse$Machine" (103 : Nat) "AlgebraHouse$Machine" "pc" "I") ∈ lw_all := lw_g (lw_at lw_m2 180 rfl) rfl
theorem q639 : (Jvm.Cond.fieldLink "AlgebraHouse$Machine" (115 : Nat) "AlgebraHouse$Machine" "steps" "I") ∈ lw_all := lw_g (lw_at lw_m2 182 rfl) rfl
theorem q641 : (Jvm.Cond.fieldLink "AlgebraHouse$Machine" (118 : Nat) "AlgebraHouse$Machine" "most" "I") ∈ lw_all := lw_g (lw_at lw_m2 184 rfl) rfl
theorem q642 : (Jvm.Cond.fieldLink "AlgebraHouse$Machine" (64 : Nat) "AlgebraHouse$Machine" "kept" "[I") ∈ lw_all := lw_g (lw_at lw_m2 185 rfl) rfl
theorem q643 : (Jvm.Cond.fieldLink "AlgebraHouse$Machine" (67 : Nat) "AlgebraHouse$Machine" "keptVariables" "[I") ∈ lw_all := lw_g (lw_at lw_m2 186 rfl) rfl
theorem q644 : (Jvm.Cond.fieldLink "AlgebraHouse$Machine" (47 : Nat) "AlgebraHouse$Machine" "asked" "[I") ∈ lw_all := lw_g (lw_at lw_m2 187 rfl) rfl
theorem q645 : (Jvm.Cond.fieldLink "AlgebraHouse$Machine" (50 : Nat) "AlgebraHouse$Machine" "rest" "[I") ∈ lw_all := lw_g (lw_at lw_m2 188 rfl) rfl
theorem q646 : (Jvm.Cond.fieldLink "AlgebraHouse$Machine" (53 : Nat) "AlgebraHouse$Machine" "product" "[I") ∈ lw_all := lw_g (lw_at lw_m2 189 rfl) rfl
theorem q647 : (Jvm.Cond.laysFinal "AlgebraHouse$Machine" "AlgebraHouse$Machine" "book" "LAlgebraHouse$Book;") ∈ lw_all := lw_g (lw_at lw_m2 190 rfl) rfl
theorem q648 : (Jvm.Cond.soleField "AlgebraHouse$Machine" "book") ∈ lw_all := lw_g (lw_at lw_m2 191 rfl) rfl
theorem q649 : (Jvm.Cond.laysFinal "AlgebraHouse$Machine" "AlgebraHouse$Machine" "judge" "LAlgebraHouse$Judge;") ∈ lw_all := lw_g (lw_at lw_m2 192 rfl) rfl
theorem q650 : (Jvm.Cond.soleField "AlgebraHouse$Machine" "judge") ∈ lw_all := lw_g (lw_at lw_m2 193 rfl) rfl
theorem q651 : (Jvm.Cond.laysFinal "AlgebraHouse$Machine" "AlgebraHouse$Machine" "coder" "LAlgebraHouse$Coder;") ∈ lw_all := lw_g (lw_at lw_m2 194 rfl) rfl
theorem q652 : (Jvm.Cond.soleField "AlgebraHouse$Machine" "coder") ∈ lw_all := lw_g (lw_at lw_m2 195 rfl) rfl
theorem q653 : (Jvm.Cond.laysFinal "AlgebraHouse$Machine" "AlgebraHouse$Machine" "v" "LAlgebraHouse$Numbers;") ∈ lw_all := lw_g (lw_at lw_m2 196 rfl) rfl
theorem q654 : (Jvm.Cond.soleField "AlgebraHouse$Machine" "v") ∈ lw_all := lw_g (lw_at lw_m2 197 rfl) rfl
theorem q655 : (Jvm.Cond.laysFinal "AlgebraHouse$Machine" "AlgebraHouse$Machine" "c" "[I") ∈ lw_all := lw_g (lw_at lw_m2 198 rfl) rfl
theorem q656 : (Jvm.Cond.soleField "AlgebraHouse$Machine" "c") ∈ lw_all := lw_g (lw_at lw_m2 199 rfl) rfl
theorem q657 : (Jvm.Cond.laysFinal "AlgebraHouse$Machine" "AlgebraHouse$Machine" "codes" "[LAlgebraHouse$Code;") ∈ lw_all := lw_g (lw_at lw_m2 200 rfl) rfl
theorem q658 : (Jvm.Cond.soleField "AlgebraHouse$Machine" "codes") ∈ lw_all := lw_g (lw_at lw_m2 201 rfl) rfl
theorem q659 : (Jvm.Cond.lays "AlgebraHouse$Machine" "AlgebraHouse$Machine" "fresh" "I") ∈ lw_all := lw_g (lw_at lw_m2 202 rfl) rfl
theorem q660 : (Jvm.Cond.soleField "AlgebraHouse$Machine" "fresh") ∈ lw_all := lw_g (lw_at lw_m2 203 rfl) rfl
theorem q661 : (Jvm.Cond.laysFinal "AlgebraHouse$Machine" "AlgebraHouse$Machine" "at" "[I") ∈ lw_all := lw_g (lw_at lw_m2 204 rfl) rfl
theorem q662 : (Jvm.Cond.soleField "AlgebraHouse$Machine" "at") ∈ lw_all := lw_g (lw_at lw_m2 205 rfl) rfl
theorem q663 : (Jvm.Cond.lays "AlgebraHouse$Machine" "AlgebraHouse$Machine" "top" "I") ∈ lw_all := lw_g (lw_at lw_m2 206 rfl) rfl
theorem q664 : (Jvm.Cond.soleField "AlgebraHouse$Machine" "top") ∈ lw_all := lw_g (lw_at lw_m2 207 rfl) rfl
theorem q665 : (Jvm.Cond.laysFinal "AlgebraHouse$Machine" "AlgebraHouse$Machine" "frameCode" "[I") ∈ lw_all := lw_g (lw_at lw_m2 208 rfl) rfl
theorem q666 : (Jvm.Cond.soleField "AlgebraHouse$Machine" "frameCode") ∈ lw_all := lw_g (lw_at lw_m2 209 rfl) rfl
theorem q667 : (Jvm.Cond.laysFinal "AlgebraHouse$Machine" "AlgebraHouse$Machine" "framePc" "[I") ∈ lw_all := lw_g (lw_at lw_m2 210 rfl) rfl
theorem q668 : (Jvm.Cond.soleField "AlgebraHouse$Machine" "framePc") ∈ lw_all := lw_g (lw_at lw_m2 211 rfl) rfl
theorem q669 : (Jvm.Cond.laysFinal "AlgebraHouse$Machine" "AlgebraHouse$Machine" "frameBase" "[I") ∈ lw_all := lw_g (lw_at lw_m2 212 rfl) rfl
theorem q670 : (Jvm.Cond.soleField "AlgebraHouse$Machine" "frameBase") ∈ lw_all := lw_g (lw_at lw_m2 213 rfl) rfl
theorem q671 : (Jvm.Cond.laysFinal "AlgebraHouse$Machine" "AlgebraHouse$Machine" "frameOwn" "[I") ∈ lw_all := lw_g (lw_at lw_m2 214 rfl) rfl
theorem q672 : (Jvm.Cond.soleField "AlgebraHouse$Machine" "frameOwn") ∈ lw_all := lw_g (lw_at lw_m2 215 rfl) rfl
theorem q673 : (Jvm.Cond.lays "AlgebraHouse$Machine" "AlgebraHouse$Machine" "frames" "I") ∈ lw_all := lw_g (lw_at lw_m2 216 rfl) rfl
theorem q674 : (Jvm.Cond.soleField "AlgebraHouse$Machine" "frames") ∈ lw_all := lw_g (lw_at lw_m2 217 rfl) rfl
theorem q675 : (Jvm.Cond.lays "AlgebraHouse$Machine" "AlgebraHouse$Machine" "pc" "I") ∈ lw_all := lw_g (lw_at lw_m2 218 rfl) rfl
theorem q676 : (Jvm.Cond.soleField "AlgebraHouse$Machine" "pc") ∈ lw_all := lw_g (lw_at lw_m2 219 rfl) rfl
theorem q677 : (Jvm.Cond.lays "AlgebraHouse$Machine" "AlgebraHouse$Machine" "steps" "I") ∈ lw_all := lw_g (lw_at lw_m2 220 rfl) rfl
theorem q678 : (Jvm.Cond.soleField "AlgebraHouse$Machine" "steps") ∈ lw_all := lw_g (lw_at lw_m2 221 rfl) rfl
theorem q679 : (Jvm.Cond.lays "AlgebraHouse$Machine" "AlgebraHouse$Machine" "most" "I") ∈ lw_all := lw_g (lw_at lw_m2 222 rfl) rfl
theorem q680 : (Jvm.Cond.soleField "AlgebraHouse$Machine" "most") ∈ lw_all := lw_g (lw_at lw_m2 223 rfl) rfl
theorem q681 : (Jvm.Cond.lays "AlgebraHouse$Machine" "AlgebraHouse$Machine" "kept" "[I") ∈ lw_all := lw_g (lw_at lw_m2 224 rfl) rfl
theorem q682 : (Jvm.Cond.soleField "AlgebraHouse$Machine" "kept") ∈ lw_all := lw_g (lw_at lw_m2 225 rfl) rfl
theorem q683 : (Jvm.Cond.lays "AlgebraHouse$Machine" "AlgebraHouse$Machine" "keptVariables" "[I") ∈ lw_all := lw_g (lw_at lw_m2 226 rfl) rfl
theorem q684 : (Jvm.Cond.soleField "AlgebraHouse$Machine" "keptVariables") ∈ lw_all := lw_g (lw_at lw_m2 227 rfl) rfl
theorem q685 : (Jvm.Cond.lays "AlgebraHouse$Machine" "AlgebraHouse$Machine" "asked" "[I") ∈ lw_all := lw_g (lw_at lw_m2 228 rfl) rfl
theorem q686 : (Jvm.Cond.soleField "AlgebraHouse$Machine" "asked") ∈ lw_all := lw_g (lw_at lw_m2 229 rfl) rfl
theorem q687 : (Jvm.Cond.lays "AlgebraHouse$Machine" "AlgebraHouse$Machine" "rest" "[I") ∈ lw_all := lw_g (lw_at lw_m2 230 rfl) rfl
theorem q688 : (Jvm.Cond.soleField "AlgebraHouse$Machine" "rest") ∈ lw_all := lw_g (lw_at lw_m2 231 rfl) rfl
theorem q689 : (Jvm.Cond.laysFinal "AlgebraHouse$Machine" "AlgebraHouse$Machine" "product" "[I") ∈ lw_all := lw_g (lw_at lw_m2 232 rfl) rfl
theorem q690 : (Jvm.Cond.soleField "AlgebraHouse$Machine" "product") ∈ lw_all := lw_g (lw_at lw_m2 233 rfl) rfl
theorem q691 : (Jvm.Cond.superclass "AlgebraHouse$Machine" "java/lang/Object") ∈ lw_all := lw_g (lw_at lw_m2 234 rfl) rfl
theorem q1222 : (Jvm.Cond.instanceMethod ({ cls := "AlgebraHouse$Machine", name := "run", desc := "(LAlgebraHouse$Text;)I" } : Jvm.MethodName)) ∈ lw_all := lw_g (lw_at lw_m5 45 rfl) rfl
theorem q1223 : (Jvm.Cond.selects "AlgebraHouse$Machine" ({ cls := "AlgebraHouse$Machine", name := "run", desc := "(LAlgebraHouse$Text;)I" } : Jvm.MethodName) ({ cls := "AlgebraHouse$Machine", name := "run", desc := "(LAlgebraHouse$Text;)I" } : Jvm.MethodName)) ∈ lw_all := lw_g (lw_at lw_m5 46 rfl) rfl
theorem q1224 : (Jvm.Cond.code ({ cls := "AlgebraHouse$Machine", name := "run", desc := "(LAlgebraHouse$Text;)I" } : Jvm.MethodName) prog_7_method_4_code (5 : Nat) (Option.some Jvm.ClassFile.FieldType.int)) ∈ lw_all := lw_g (lw_at lw_m5 47 rfl) rfl
theorem q1225 : (Jvm.Cond.methodLink "AlgebraHouse$Machine" (128 : Nat) ({ cls := "AlgebraHouse$Machine", name := "codeOf", desc := "(IILAlgebraHouse$Text;I)I" } : Jvm.MethodName)) ∈ lw_all := lw_g (lw_at lw_m5 48 rfl) rfl
theorem q1226 : (Jvm.Cond.privateMethod ({ cls := "AlgebraHouse$Machine", name := "codeOf", desc := "(IILAlgebraHouse$Text;I)I" } : Jvm.MethodName)) ∈ lw_tbl := lw_at lw_m5 49 rfl
theorem q1227 : (Jvm.Cond.instanceMethod ({ cls := "AlgebraHouse$Machine", name := "codeOf", desc := "(IILAlgebraHouse$Text;I)I" } : Jvm.MethodName)) ∈ lw_all := lw_g (lw_at lw_m5 50 rfl) rfl
theorem q1228 : (Jvm.Cond.code ({ cls := "AlgebraHouse$Machine", name := "codeOf", desc := "(IILAlgebraHouse$Text;I)I" } : Jvm.MethodName) prog_7_method_2_code (7 : Nat) (Option.some Jvm.ClassFile.FieldType.int)) ∈ lw_all := lw_g (lw_at lw_m5 51 rfl) rfl
theorem q1229 : (Jvm.Cond.methodLink "AlgebraHouse$Machine" (88 : Nat) ({ cls := "AlgebraHouse$Judge", name := "begin", desc := "()V" } : Jvm.MethodName)) ∈ lw_all := lw_g (lw_at lw_m5 52 rfl) rfl
theorem q1230 : (Jvm.Cond.methodLink "AlgebraHouse$Machine" (93 : Nat) ({ cls := "AlgebraHouse$Judge", name := "judge", desc := "(LAlgebraHouse$Text;II)I" } : Jvm.MethodName)) ∈ lw_all := lw_g (lw_at lw_m5 53 rfl) rfl
theorem q1231 : (Jvm.Cond.methodLink "AlgebraHouse$Machine" (96 : Nat) ({ cls := "AlgebraHouse$Coder", name := "write", desc := "(LAlgebraHouse$Book;LAlgebraHouse$Text;LAlgebraHouse$Code;I)V" } : Jvm.MethodName)) ∈ lw_all := lw_g (lw_at lw_m5 54 rfl) rfl
theorem q1291 : (Jvm.Cond.methodLink "AlgebraHouse$Machine" (132 : Nat) ({ cls := "AlgebraHouse$Machine", name := "enter", desc := "(III)V" } : Jvm.MethodName)) ∈ lw_all := lw_g (lw_at lw_m5 114 rfl) rfl
theorem q1292 : (Jvm.Cond.privateMethod ({ cls := "AlgebraHouse$Machine", name := "enter", desc := "(III)V" } : Jvm.MethodName)) ∈ lw_tbl := lw_at lw_m5 115 rfl
theorem q1293 : (Jvm.Cond.instanceMethod ({ cls := "AlgebraHouse$Machine", name := "enter", desc := "(III)V" } : Jvm.MethodName)) ∈ lw_all := lw_g (lw_at lw_m5 116 rfl) rfl
theorem q1294 : (Jvm.Cond.code ({ cls := "AlgebraHouse$Machine", name := "enter", desc := "(III)V" } : Jvm.MethodName) prog_7_method_3_code (4 : Nat) (Option.none : Option Jvm.ClassFile.FieldType)) ∈ lw_all := lw_g (lw_at lw_m5 117 rfl) rfl
theorem q1295 : (Jvm.Cond.methodLink "AlgebraHouse$Machine" (145 : Nat) ({ cls := "AlgebraHouse$Machine", name := "perform", desc := "(III)V" } : Jvm.MethodName)) ∈ lw_all := lw_g (lw_at lw_m5 118 rfl) rfl
theorem q1296 : (Jvm.Cond.privateMethod ({ cls := "AlgebraHouse$Machine", name := "perform", desc := "(III)V" } : Jvm.MethodName)) ∈ lw_tbl := lw_at lw_m5 119 rfl
theorem q1297 : (Jvm.Cond.instanceMethod ({ cls := "AlgebraHouse$Machine", name := "perform", desc := "(III)V" } : Jvm.MethodName)) ∈ lw_all := lw_g (lw_at lw_m5 120 rfl) rfl
theorem q1298 : (Jvm.Cond.code ({ cls := "AlgebraHouse$Machine", name := "perform", desc := "(III)V" } : Jvm.MethodName) prog_7_method_9_code (7 : Nat) (Option.none : Option Jvm.ClassFile.FieldType)) ∈ lw_all := lw_g (lw_at lw_m5 121 rfl) rfl
theorem q1299 : (Jvm.Cond.methodLink "AlgebraHouse$Machine" (172 : Nat) ({ cls := "AlgebraHouse$Machine", name := "push", desc := "(I)I" } : Jvm.MethodName)) ∈ lw_all := lw_g (lw_at lw_m5 122 rfl) rfl
theorem q1300 : (Jvm.Cond.privateMethod ({ cls := "AlgebraHouse$Machine", name := "push", desc := "(I)I" } : Jvm.MethodName)) ∈ lw_tbl := lw_at lw_m5 123 rfl
theorem q1301 : (Jvm.Cond.instanceMethod ({ cls := "AlgebraHouse$Machine", name := "push", desc := "(I)I" } : Jvm.MethodName)) ∈ lw_all := lw_g (lw_at lw_m5 124 rfl) rfl
theorem q1302 : (Jvm.Cond.code ({ cls := "AlgebraHouse$Machine", name := "push", desc := "(I)I" } : Jvm.MethodName) prog_7_method_5_code (3 : Nat) (Option.some Jvm.ClassFile.FieldType.int)) ∈ lw_all := lw_g (lw_at lw_m5 125 rfl) rfl
theorem q1303 : (Jvm.Cond.methodLink "AlgebraHouse$Machine" (175 : Nat) ({ cls := "AlgebraHouse$Numbers", name := "clear", desc := "(II)V" } : Jvm.MethodName)) ∈ lw_all := lw_g (lw_at lw_m5 126 rfl) rfl
theorem q1307 : (Jvm.Cond.methodLink "AlgebraHouse$Machine" (164 : Nat) ({ cls := "AlgebraHouse$Rings", name := "cells", desc := "(I)I" } : Jvm.MethodName)) ∈ lw_all := lw_g (lw_at lw_m5 130 rfl) rfl
theorem q1310 : (Jvm.Cond.methodLink "AlgebraHouse$Machine" (178 : Nat) ({ cls := "java/lang/System", name := "arraycopy", desc := "(Ljava/lang/Object;ILjava/lang/Object;II)V" } : Jvm.MethodName)) ∈ lw_all := lw_g (lw_at lw_m5 133 rfl) rfl
theorem q1311 : (Jvm.Cond.methodLink "AlgebraHouse$Machine" (184 : Nat) ({ cls := "AlgebraHouse$Numbers", name := "turn", desc := "(III)V" } : Jvm.MethodName)) ∈ lw_all := lw_g (lw_at lw_m5 134 rfl) rfl
theorem q1333 : (Jvm.Cond.methodLink "AlgebraHouse$Machine" (187 : Nat) ({ cls := "AlgebraHouse$Numbers", name := "back", desc := "(III)V" } : Jvm.MethodName)) ∈ lw_all := lw_g (lw_at lw_m5 156 rfl) rfl
theorem q1341 : (Jvm.Cond.methodLink "AlgebraHouse$Machine" (190 : Nat) ({ cls := "AlgebraHouse$Machine", name := "call", desc := "(II)V" } : Jvm.MethodName)) ∈ lw_all := lw_g (lw_at lw_m5 164 rfl) rfl
theorem q1342 : (Jvm.Cond.privateMethod ({ cls := "AlgebraHouse$Machine", name := "call", desc := "(II)V" } : Jvm.MethodName)) ∈ lw_tbl := lw_at lw_m5 165 rfl
theorem q1343 : (Jvm.Cond.instanceMethod ({ cls := "AlgebraHouse$Machine", name := "call", desc := "(II)V" } : Jvm.MethodName)) ∈ lw_all := lw_g (lw_at lw_m5 166 rfl) rfl
theorem q1344 : (Jvm.Cond.code ({ cls := "AlgebraHouse$Machine", name := "call", desc := "(II)V" } : Jvm.MethodName) prog_7_method_10_code (8 : Nat) (Option.none : Option Jvm.ClassFile.FieldType)) ∈ lw_all := lw_g (lw_at lw_m5 167 rfl) rfl
theorem q1345 : (Jvm.Cond.methodLink "AlgebraHouse$Machine" (197 : Nat) ({ cls := "AlgebraHouse$Rings", name := "base", desc := "(I)I" } : Jvm.MethodName)) ∈ lw_all := lw_g (lw_at lw_m5 168 rfl) rfl
theorem q1346 : (Jvm.Cond.methodLink "AlgebraHouse$Machine" (221 : Nat) ({ cls := "AlgebraHouse$Rings", name := "isPrime", desc := "(I)Z" } : Jvm.MethodName)) ∈ lw_all := lw_g (lw_at lw_m5 169 rfl) rfl
theorem q1347 : (Jvm.Cond.methodLink "AlgebraHouse$Machine" (225 : Nat) ({ cls := "AlgebraHouse$Rings", name := "withBase", desc := "(II)I" } : Jvm.MethodName)) ∈ lw_all := lw_g (lw_at lw_m5 170 rfl) rfl
theorem q1348 : (Jvm.Cond.methodLink "AlgebraHouse$Machine" (229 : Nat) ({ cls := "AlgebraHouse$Book", name := "ring", desc := "(LAlgebraHouse$Text;II)I" } : Jvm.MethodName)) ∈ lw_all := lw_g (lw_at lw_m5 171 rfl) rfl
theorem q1349 : (Jvm.Cond.methodLink "AlgebraHouse$Machine" (234 : Nat) ({ cls := "java/lang/Math", name := "max", desc := "(II)I" } : Jvm.MethodName)) ∈ lw_all := lw_g (lw_at lw_m5 172 rfl) rfl
theorem q1350 : (Jvm.Cond.methodLink "AlgebraHouse$Machine" (193 : Nat) ({ cls := "AlgebraHouse$Machine", name := "ends", desc := "(I)V" } : Jvm.MethodName)) ∈ lw_all := lw_g (lw_at lw_m5 173 rfl) rfl
theorem q1351 : (Jvm.Cond.privateMethod ({ cls := "AlgebraHouse$Machine", name := "ends", desc := "(I)V" } : Jvm.MethodName)) ∈ lw_tbl := lw_at lw_m5 174 rfl
theorem q1352 : (Jvm.Cond.instanceMethod ({ cls := "AlgebraHouse$Machine", name := "ends", desc := "(I)V" } : Jvm.MethodName)) ∈ lw_all := lw_g (lw_at lw_m5 175 rfl) rfl
theorem q1353 : (Jvm.Cond.code ({ cls := "AlgebraHouse$Machine", name := "ends", desc := "(I)V" } : Jvm.MethodName) prog_7_method_11_code (4 : Nat) (Option.none : Option Jvm.ClassFile.FieldType)) ∈ lw_all := lw_g (lw_at lw_m5 176 rfl) rfl
theorem q1354 : (Jvm.Cond.methodLink "AlgebraHouse$Machine" (158 : Nat) ({ cls := "AlgebraHouse$Machine", name := "number", desc := "(I)I" } : Jvm.MethodName)) ∈ lw_all := lw_g (lw_at lw_m5 177 rfl) rfl
theorem q1355 : (Jvm.Cond.privateMethod ({ cls := "AlgebraHouse$Machine", name := "number", desc := "(I)I" } : Jvm.MethodName)) ∈ lw_tbl := lw_at lw_m5 178 rfl
theorem q1356 : (Jvm.Cond.instanceMethod ({ cls := "AlgebraHouse$Machine", name := "number", desc := "(I)I" } : Jvm.MethodName)) ∈ lw_all := lw_g (lw_at lw_m5 179 rfl) rfl
theorem q1357 : (Jvm.Cond.code ({ cls := "AlgebraHouse$Machine", name := "number", desc := "(I)I" } : Jvm.MethodName) prog_7_method_6_code (2 : Nat) (Option.some Jvm.ClassFile.FieldType.int)) ∈ lw_all := lw_g (lw_at lw_m5 180 rfl) rfl
theorem q1358 : (Jvm.Cond.methodLink "AlgebraHouse$Machine" (148 : Nat) ({ cls := "AlgebraHouse$Rings", name := "entries", desc := "(I)I" } : Jvm.MethodName)) ∈ lw_all := lw_g (lw_at lw_m5 181 rfl) rfl
theorem q1359 : (Jvm.Cond.methodLink "AlgebraHouse$Machine" (154 : Nat) ({ cls := "AlgebraHouse$Rings", name := "coefficients", desc := "(I)I" } : Jvm.MethodName)) ∈ lw_all := lw_g (lw_at lw_m5 182 rfl) rfl
theorem q1360 : (Jvm.Cond.methodLink "AlgebraHouse$Machine" (200 : Nat) ({ cls := "AlgebraHouse$Numbers", name := "less", desc := "(III)V" } : Jvm.MethodName)) ∈ lw_all := lw_g (lw_at lw_m5 183 rfl) rfl
theorem q1364 : (Jvm.Cond.methodLink "AlgebraHouse$Machine" (203 : Nat) ({ cls := "AlgebraHouse$Machine", name := "power", desc := "(II)V" } : Jvm.MethodName)) ∈ lw_all := lw_g (lw_at lw_m5 187 rfl) rfl
theorem q1365 : (Jvm.Cond.privateMethod ({ cls := "AlgebraHouse$Machine", name := "power", desc := "(II)V" } : Jvm.MethodName)) ∈ lw_tbl := lw_at lw_m5 188 rfl
theorem q1366 : (Jvm.Cond.instanceMethod ({ cls := "AlgebraHouse$Machine", name := "power", desc := "(II)V" } : Jvm.MethodName)) ∈ lw_all := lw_g (lw_at lw_m5 189 rfl) rfl
theorem q1367 : (Jvm.Cond.code ({ cls := "AlgebraHouse$Machine", name := "power", desc := "(II)V" } : Jvm.MethodName) prog_7_method_12_code (5 : Nat) (Option.none : Option Jvm.ClassFile.FieldType)) ∈ lw_all := lw_g (lw_at lw_m5 190 rfl) rfl
theorem q1368 : (Jvm.Cond.constant "AlgebraHouse$Machine" (239 : Nat) (1156302 : Int32)) ∈ lw_all := lw_g (lw_at lw_m5 191 rfl) rfl
theorem q1369 : (Jvm.Cond.methodLink "AlgebraHouse$Machine" (240 : Nat) ({ cls := "AlgebraHouse$Numbers", name := "unit", desc := "(II)V" } : Jvm.MethodName)) ∈ lw_all := lw_g (lw_at lw_m5 192 rfl) rfl
theorem q1374 : (Jvm.Cond.constant "AlgebraHouse$Machine" (157 : Nat) (1155420 : Int32)) ∈ lw_all := lw_g (lw_at lw_m5 197 rfl) rfl
theorem q1375 : (Jvm.Cond.methodLink "AlgebraHouse$Machine" (243 : Nat) ({ cls := "AlgebraHouse$Numbers", name := "multiply", desc := "(IIII)V" } : Jvm.MethodName)) ∈ lw_all := lw_g (lw_at lw_m5 198 rfl) rfl
theorem q1429 : (Jvm.Cond.methodLink "AlgebraHouse$Machine" (161 : Nat) ({ cls := "AlgebraHouse$Numbers", name := "copy", desc := "(III)V" } : Jvm.MethodName)) ∈ lw_all := lw_g (lw_at lw_m6 12 rfl) rfl
theorem q1430 : (Jvm.Cond.methodLink "AlgebraHouse$Machine" (206 : Nat) ({ cls := "AlgebraHouse$Machine", name := "function", desc := "(III)V" } : Jvm.MethodName)) ∈ lw_all := lw_g (lw_at lw_m6 13 rfl) rfl
theorem q1431 : (Jvm.Cond.privateMethod ({ cls := "AlgebraHouse$Machine", name := "function", desc := "(III)V" } : Jvm.MethodName)) ∈ lw_tbl := lw_at lw_m6 14 rfl
theorem q1432 : (Jvm.Cond.instanceMethod ({ cls := "AlgebraHouse$Machine", name := "function", desc := "(III)V" } : Jvm.MethodName)) ∈ lw_all := lw_g (lw_at lw_m6 15 rfl) rfl
theorem q1433 : (Jvm.Cond.code ({ cls := "AlgebraHouse$Machine", name := "function", desc := "(III)V" } : Jvm.MethodName) prog_7_method_15_code (9 : Nat) (Option.none : Option Jvm.ClassFile.FieldType)) ∈ lw_all := lw_g (lw_at lw_m6 16 rfl) rfl
theorem q1434 : (Jvm.Cond.methodLink "AlgebraHouse$Machine" (285 : Nat) ({ cls := "AlgebraHouse$Machine", name := "common", desc := "(III)V" } : Jvm.MethodName)) ∈ lw_all := lw_g (lw_at lw_m6 17 rfl) rfl
theorem q1435 : (Jvm.Cond.privateMethod ({ cls := "AlgebraHouse$Machine", name := "common", desc := "(III)V" } : Jvm.MethodName)) ∈ lw_tbl := lw_at lw_m6 18 rfl
theorem q1436 : (Jvm.Cond.instanceMethod ({ cls := "AlgebraHouse$Machine", name := "common", desc := "(III)V" } : Jvm.MethodName)) ∈ lw_all := lw_g (lw_at lw_m6 19 rfl) rfl
theorem q1437 : (Jvm.Cond.code ({ cls := "AlgebraHouse$Machine", name := "common", desc := "(III)V" } : Jvm.MethodName) prog_7_method_17_code (7 : Nat) (Option.none : Option Jvm.ClassFile.FieldType)) ∈ lw_all := lw_g (lw_at lw_m6 20 rfl) rfl
theorem q1438 : (Jvm.Cond.methodLink "AlgebraHouse$Machine" (268 : Nat) ({ cls := "AlgebraHouse$Rings", name := "depth", desc := "(I)I" } : Jvm.MethodName)) ∈ lw_all := lw_g (lw_at lw_m6 21 rfl) rfl
theorem q1439 : (Jvm.Cond.methodLinkNest "AlgebraHouse$Machine" (325 : Nat) ({ cls := "AlgebraHouse$Numbers", name := "common", desc := "(JJ)J" } : Jvm.MethodName) "AlgebraHouse") ∈ lw_tbl := lw_at lw_m6 22 rfl
theorem q1440 : (Jvm.Cond.methodLink "AlgebraHouse$Machine" (292 : Nat) ({ cls := "AlgebraHouse$Machine", name := "integer", desc := "(I)V" } : Jvm.MethodName)) ∈ lw_all := lw_g (lw_at lw_m6 23 rfl) rfl
theorem q1441 : (Jvm.Cond.privateMethod ({ cls := "AlgebraHouse$Machine", name := "integer", desc := "(I)V" } : Jvm.MethodName)) ∈ lw_tbl := lw_at lw_m6 24 rfl
theorem q1442 : (Jvm.Cond.instanceMethod ({ cls := "AlgebraHouse$Machine", name := "integer", desc := "(I)V" } : Jvm.MethodName)) ∈ lw_all := lw_g (lw_at lw_m6 25 rfl) rfl
theorem q1443 : (Jvm.Cond.code ({ cls := "AlgebraHouse$Machine", name := "integer", desc := "(I)V" } : Jvm.MethodName) prog_7_method_16_code (2 : Nat) (Option.none : Option Jvm.ClassFile.FieldType)) ∈ lw_all := lw_g (lw_at lw_m6 26 rfl) rfl
theorem q1444 : (Jvm.Cond.constant "AlgebraHouse$Machine" (167 : Nat) (1155421 : Int32)) ∈ lw_all := lw_g (lw_at lw_m6 27 rfl) rfl
theorem q1445 : (Jvm.Cond.methodLink "AlgebraHouse$Machine" (328 : Nat) ({ cls := "AlgebraHouse$Numbers", name := "degree", desc := "(I)I" } : Jvm.MethodName)) ∈ lw_all := lw_g (lw_at lw_m6 28 rfl) rfl
theorem q1449 : (Jvm.Cond.methodLink "AlgebraHouse$Machine" (271 : Nat) ({ cls := "AlgebraHouse$Numbers", name := "divide", desc := "(III)V" } : Jvm.MethodName)) ∈ lw_all := lw_g (lw_at lw_m6 32 rfl) rfl
theorem q1463 : (Jvm.Cond.constant "AlgebraHouse$Machine" (275 : Nat) (1157776 : Int32)) ∈ lw_all := lw_g (lw_at lw_m6 46 rfl) rfl
theorem q1464 : (Jvm.Cond.methodLink "AlgebraHouse$Machine" (262 : Nat) ({ cls := "AlgebraHouse$Numbers", name := "by", desc := "(IIII)V" } : Jvm.MethodName)) ∈ lw_all := lw_g (lw_at lw_m6 47 rfl) rfl
theorem q1465 : (Jvm.Cond.methodLink "AlgebraHouse$Machine" (288 : Nat) ({ cls := "AlgebraHouse$Numbers", name := "isClear", desc := "(II)Z" } : Jvm.MethodName)) ∈ lw_all := lw_g (lw_at lw_m6 48 rfl) rfl
theorem q1466 : (Jvm.Cond.methodLink "AlgebraHouse$Machine" (295 : Nat) ({ cls := "AlgebraHouse$Machine", name := "atValue", desc := "(IIII)V" } : Jvm.MethodName)) ∈ lw_all := lw_g (lw_at lw_m6 49 rfl) rfl
theorem q1467 : (Jvm.Cond.privateMethod ({ cls := "AlgebraHouse$Machine", name := "atValue", desc := "(IIII)V" } : Jvm.MethodName)) ∈ lw_tbl := lw_at lw_m6 50 rfl
theorem q1468 : (Jvm.Cond.instanceMethod ({ cls := "AlgebraHouse$Machine", name := "atValue", desc := "(IIII)V" } : Jvm.MethodName)) ∈ lw_all := lw_g (lw_at lw_m6 51 rfl) rfl
theorem q1469 : (Jvm.Cond.code ({ cls := "AlgebraHouse$Machine", name := "atValue", desc := "(IIII)V" } : Jvm.MethodName) prog_7_method_18_code (10 : Nat) (Option.none : Option Jvm.ClassFile.FieldType)) ∈ lw_all := lw_g (lw_at lw_m6 52 rfl) rfl
theorem q1470 : (Jvm.Cond.methodLink "AlgebraHouse$Machine" (255 : Nat) ({ cls := "AlgebraHouse$Numbers", name := "addAll", desc := "(IIIIIZ)V" } : Jvm.MethodName)) ∈ lw_all := lw_g (lw_at lw_m6 53 rfl) rfl
theorem q1471 : (Jvm.Cond.methodLink "AlgebraHouse$Machine" (298 : Nat) ({ cls := "AlgebraHouse$Machine", name := "derived", desc := "(II)V" } : Jvm.MethodName)) ∈ lw_all := lw_g (lw_at lw_m6 54 rfl) rfl
theorem q1472 : (Jvm.Cond.privateMethod ({ cls := "AlgebraHouse$Machine", name := "derived", desc := "(II)V" } : Jvm.MethodName)) ∈ lw_tbl := lw_at lw_m6 55 rfl
theorem q1473 : (Jvm.Cond.instanceMethod ({ cls := "AlgebraHouse$Machine", name := "derived", desc := "(II)V" } : Jvm.MethodName)) ∈ lw_all := lw_g (lw_at lw_m6 56 rfl) rfl
theorem q1474 : (Jvm.Cond.code ({ cls := "AlgebraHouse$Machine", name := "derived", desc := "(II)V" } : Jvm.MethodName) prog_7_method_19_code (7 : Nat) (Option.none : Option Jvm.ClassFile.FieldType)) ∈ lw_all := lw_g (lw_at lw_m6 57 rfl) rfl
theorem q1475 : (Jvm.Cond.methodLinkNest "AlgebraHouse$Machine" (319 : Nat) ({ cls := "AlgebraHouse$Numbers", name := "modulus", desc := "(I)I" } : Jvm.MethodName) "AlgebraHouse") ∈ lw_tbl := lw_at lw_m6 58 rfl
theorem q1476 : (Jvm.Cond.constant "AlgebraHouse$Machine" (331 : Nat) (1157576 : Int32)) ∈ lw_all := lw_g (lw_at lw_m6 59 rfl) rfl
theorem q1477 : (Jvm.Cond.constant "AlgebraHouse$Machine" (332 : Nat) (1157577 : Int32)) ∈ lw_all := lw_g (lw_at lw_m6 60 rfl) rfl
theorem q1478 : (Jvm.Cond.methodLink "AlgebraHouse$Machine" (333 : Nat) ({ cls := "AlgebraHouse$Numbers", name := "times", desc := "(IIII)V" } : Jvm.MethodName)) ∈ lw_all := lw_g (lw_at lw_m6 61 rfl) rfl
theorem q1479 : (Jvm.Cond.methodLink "AlgebraHouse$Machine" (301 : Nat) ({ cls := "AlgebraHouse$Numbers", name := "determinant", desc := "(III)V" } : Jvm.MethodName)) ∈ lw_all := lw_g (lw_at lw_m6 62 rfl) rfl
theorem q1494 : (Jvm.Cond.methodLink "AlgebraHouse$Machine" (304 : Nat) ({ cls := "AlgebraHouse$Machine", name := "trace", desc := "(II)V" } : Jvm.MethodName)) ∈ lw_all := lw_g (lw_at lw_m6 77 rfl) rfl
theorem q1495 : (Jvm.Cond.privateMethod ({ cls := "AlgebraHouse$Machine", name := "trace", desc := "(II)V" } : Jvm.MethodName)) ∈ lw_tbl := lw_at lw_m6 78 rfl
theorem q1496 : (Jvm.Cond.instanceMethod ({ cls := "AlgebraHouse$Machine", name := "trace", desc := "(II)V" } : Jvm.MethodName)) ∈ lw_all := lw_g (lw_at lw_m6 79 rfl) rfl
theorem q1497 : (Jvm.Cond.code ({ cls := "AlgebraHouse$Machine", name := "trace", desc := "(II)V" } : Jvm.MethodName) prog_7_method_20_code (5 : Nat) (Option.none : Option Jvm.ClassFile.FieldType)) ∈ lw_all := lw_g (lw_at lw_m6 80 rfl) rfl
theorem q1498 : (Jvm.Cond.methodLink "AlgebraHouse$Machine" (336 : Nat) ({ cls := "AlgebraHouse$Rings", name := "size", desc := "(I)I" } : Jvm.MethodName)) ∈ lw_all := lw_g (lw_at lw_m6 81 rfl) rfl
theorem q1499 : (Jvm.Cond.methodLink "AlgebraHouse$Machine" (307 : Nat) ({ cls := "AlgebraHouse$Machine", name := "turned", desc := "(II)V" } : Jvm.MethodName)) ∈ lw_all := lw_g (lw_at lw_m6 82 rfl) rfl
theorem q1500 : (Jvm.Cond.privateMethod ({ cls := "AlgebraHouse$Machine", name := "turned", desc := "(II)V" } : Jvm.MethodName)) ∈ lw_tbl := lw_at lw_m6 83 rfl
theorem q1501 : (Jvm.Cond.instanceMethod ({ cls := "AlgebraHouse$Machine", name := "turned", desc := "(II)V" } : Jvm.MethodName)) ∈ lw_all := lw_g (lw_at lw_m6 84 rfl) rfl
theorem q1502 : (Jvm.Cond.code ({ cls := "AlgebraHouse$Machine", name := "turned", desc := "(II)V" } : Jvm.MethodName) prog_7_method_21_code (6 : Nat) (Option.none : Option Jvm.ClassFile.FieldType)) ∈ lw_all := lw_g (lw_at lw_m6 85 rfl) rfl
theorem q1503 : (Jvm.Cond.methodLink "AlgebraHouse$Machine" (310 : Nat) ({ cls := "AlgebraHouse$Numbers", name := "adjugate", desc := "(III)V" } : Jvm.MethodName)) ∈ lw_all := lw_g (lw_at lw_m6 86 rfl) rfl
theorem q1510 : (Jvm.Cond.methodLink "AlgebraHouse$Machine" (313 : Nat) ({ cls := "AlgebraHouse$Machine", name := "inverse", desc := "(II)V" } : Jvm.MethodName)) ∈ lw_all := lw_g (lw_at lw_m6 93 rfl) rfl
theorem q1511 : (Jvm.Cond.privateMethod ({ cls := "AlgebraHouse$Machine", name := "inverse", desc := "(II)V" } : Jvm.MethodName)) ∈ lw_tbl := lw_at lw_m6 94 rfl
theorem q1512 : (Jvm.Cond.instanceMethod ({ cls := "AlgebraHouse$Machine", name := "inverse", desc := "(II)V" } : Jvm.MethodName)) ∈ lw_all := lw_g (lw_at lw_m6 95 rfl) rfl
theorem q1513 : (Jvm.Cond.code ({ cls := "AlgebraHouse$Machine", name := "inverse", desc := "(II)V" } : Jvm.MethodName) prog_7_method_22_code (6 : Nat) (Option.none : Option Jvm.ClassFile.FieldType)) ∈ lw_all := lw_g (lw_at lw_m6 96 rfl) rfl
theorem q1514 : (Jvm.Cond.methodLink "AlgebraHouse$Machine" (259 : Nat) ({ cls := "AlgebraHouse$Numbers", name := "isZero", desc := "(I)Z" } : Jvm.MethodName)) ∈ lw_all := lw_g (lw_at lw_m6 97 rfl) rfl
theorem q1515 : (Jvm.Cond.methodLink "AlgebraHouse$Machine" (316 : Nat) ({ cls := "AlgebraHouse$Machine", name := "characteristic", desc := "(II)V" } : Jvm.MethodName)) ∈ lw_all := lw_g (lw_at lw_m6 98 rfl) rfl
theorem q1516 : (Jvm.Cond.privateMethod ({ cls := "AlgebraHouse$Machine", name := "characteristic", desc := "(II)V" } : Jvm.MethodName)) ∈ lw_tbl := lw_at lw_m6 99 rfl
theorem q1517 : (Jvm.Cond.instanceMethod ({ cls := "AlgebraHouse$Machine", name := "characteristic", desc := "(II)V" } : Jvm.MethodName)) ∈ lw_all := lw_g (lw_at lw_m6 100 rfl) rfl
theorem q1518 : (Jvm.Cond.code ({ cls := "AlgebraHouse$Machine", name := "characteristic", desc := "(II)V" } : Jvm.MethodName) prog_7_method_23_code (7 : Nat) (Option.none : Option Jvm.ClassFile.FieldType)) ∈ lw_all := lw_g (lw_at lw_m6 101 rfl) rfl
theorem q1519 : (Jvm.Cond.methodLink "AlgebraHouse$Machine" (322 : Nat) ({ cls := "AlgebraHouse$Machine", name := "roots", desc := "(II)I" } : Jvm.MethodName)) ∈ lw_all := lw_g (lw_at lw_m6 102 rfl) rfl
theorem q1520 : (Jvm.Cond.privateMethod ({ cls := "AlgebraHouse$Machine", name := "roots", desc := "(II)I" } : Jvm.MethodName)) ∈ lw_tbl := lw_at lw_m6 103 rfl
theorem q1521 : (Jvm.Cond.instanceMethod ({ cls := "AlgebraHouse$Machine", name := "roots", desc := "(II)I" } : Jvm.MethodName)) ∈ lw_all := lw_g (lw_at lw_m6 104 rfl) rfl
theorem q1522 : (Jvm.Cond.code ({ cls := "AlgebraHouse$Machine", name := "roots", desc := "(II)I" } : Jvm.MethodName) prog_7_method_24_code (6 : Nat) (Option.some Jvm.ClassFile.FieldType.int)) ∈ lw_all := lw_g (lw_at lw_m6 105 rfl) rfl
theorem q1523 : (Jvm.Cond.methodLink "AlgebraHouse$Machine" (339 : Nat) ({ cls := "AlgebraHouse$Machine", name := "high", desc := "([I)I" } : Jvm.MethodName)) ∈ lw_all := lw_g (lw_at lw_m6 106 rfl) rfl
theorem q1524 : (Jvm.Cond.static ({ cls := "AlgebraHouse$Machine", name := "high", desc := "([I)I" } : Jvm.MethodName)) ∈ lw_all := lw_g (lw_at lw_m6 107 rfl) rfl
theorem q1525 : (Jvm.Cond.code ({ cls := "AlgebraHouse$Machine", name := "high", desc := "([I)I" } : Jvm.MethodName) prog_7_method_25_code (2 : Nat) (Option.some Jvm.ClassFile.FieldType.int)) ∈ lw_all := lw_g (lw_at lw_m6 108 rfl) rfl
theorem q1526 : (Jvm.Cond.methodLink "AlgebraHouse$Machine" (343 : Nat) ({ cls := "AlgebraHouse$Machine", name := "square", desc := "(III)V" } : Jvm.MethodName)) ∈ lw_all := lw_g (lw_at lw_m6 109 rfl) rfl
theorem q1527 : (Jvm.Cond.privateMethod ({ cls := "AlgebraHouse$Machine", name := "square", desc := "(III)V" } : Jvm.MethodName)) ∈ lw_tbl := lw_at lw_m6 110 rfl
theorem q1528 : (Jvm.Cond.instanceMethod ({ cls := "AlgebraHouse$Machine", name := "square", desc := "(III)V" } : Jvm.MethodName)) ∈ lw_all := lw_g (lw_at lw_m6 111 rfl) rfl
theorem q1529 : (Jvm.Cond.code ({ cls := "AlgebraHouse$Machine", name := "square", desc := "(III)V" } : Jvm.MethodName) prog_7_method_27_code (6 : Nat) (Option.none : Option Jvm.ClassFile.FieldType)) ∈ lw_all := lw_g (lw_at lw_m6 112 rfl) rfl
theorem q1530 : (Jvm.Cond.methodLink "AlgebraHouse$Machine" (346 : Nat) ({ cls := "AlgebraHouse$Machine", name := "reduce", desc := "([II[III)V" } : Jvm.MethodName)) ∈ lw_all := lw_g (lw_at lw_m6 113 rfl) rfl
theorem q1531 : (Jvm.Cond.static ({ cls := "AlgebraHouse$Machine", name := "reduce", desc := "([II[III)V" } : Jvm.MethodName)) ∈ lw_all := lw_g (lw_at lw_m6 114 rfl) rfl
theorem q1532 : (Jvm.Cond.code ({ cls := "AlgebraHouse$Machine", name := "reduce", desc := "([II[III)V" } : Jvm.MethodName) prog_7_method_26_code (9 : Nat) (Option.none : Option Jvm.ClassFile.FieldType)) ∈ lw_all := lw_g (lw_at lw_m6 115 rfl) rfl
theorem q1533 : (Jvm.Cond.methodLinkNest "AlgebraHouse$Machine" (350 : Nat) ({ cls := "AlgebraHouse$Numbers", name := "inverse", desc := "(II)I" } : Jvm.MethodName) "AlgebraHouse") ∈ lw_tbl := lw_at lw_m6 116 rfl
theorem q1534 : (Jvm.Cond.methodLink "AlgebraHouse$Machine" (168 : Nat) ({ cls := "AlgebraHouse$Machine", name := "made", desc := "(II)V" } : Jvm.MethodName)) ∈ lw_all := lw_g (lw_at lw_m6 117 rfl) rfl
theorem q1535 : (Jvm.Cond.privateMethod ({ cls := "AlgebraHouse$Machine", name := "made", desc := "(II)V" } : Jvm.MethodName)) ∈ lw_tbl := lw_at lw_m6 118 rfl
theorem q1536 : (Jvm.Cond.instanceMethod ({ cls := "AlgebraHouse$Machine", name := "made", desc := "(II)V" } : Jvm.MethodName)) ∈ lw_all := lw_g (lw_at lw_m6 119 rfl) rfl
theorem q1537 : (Jvm.Cond.code ({ cls := "AlgebraHouse$Machine", name := "made", desc := "(II)V" } : Jvm.MethodName) prog_7_method_7_code (4 : Nat) (Option.none : Option Jvm.ClassFile.FieldType)) ∈ lw_all := lw_g (lw_at lw_m6 120 rfl) rfl
theorem q1538 : (Jvm.Cond.methodLink "AlgebraHouse$Machine" (209 : Nat) ({ cls := "AlgebraHouse$Machine", name := "two", desc := "(II)V" } : Jvm.MethodName)) ∈ lw_all := lw_g (lw_at lw_m6 121 rfl) rfl
theorem q1539 : (Jvm.Cond.privateMethod ({ cls := "AlgebraHouse$Machine", name := "two", desc := "(II)V" } : Jvm.MethodName)) ∈ lw_tbl := lw_at lw_m6 122 rfl
theorem q1540 : (Jvm.Cond.instanceMethod ({ cls := "AlgebraHouse$Machine", name := "two", desc := "(II)V" } : Jvm.MethodName)) ∈ lw_all := lw_g (lw_at lw_m6 123 rfl) rfl
theorem q1541 : (Jvm.Cond.code ({ cls := "AlgebraHouse$Machine", name := "two", desc := "(II)V" } : Jvm.MethodName) prog_7_method_13_code (8 : Nat) (Option.none : Option Jvm.ClassFile.FieldType)) ∈ lw_all := lw_g (lw_at lw_m6 124 rfl) rfl
theorem q1542 : (Jvm.Cond.methodLink "AlgebraHouse$Machine" (247 : Nat) ({ cls := "AlgebraHouse$Machine", name := "truth", desc := "(ZI)V" } : Jvm.MethodName)) ∈ lw_all := lw_g (lw_at lw_m6 125 rfl) rfl
theorem q1543 : (Jvm.Cond.privateMethod ({ cls := "AlgebraHouse$Machine", name := "truth", desc := "(ZI)V" } : Jvm.MethodName)) ∈ lw_tbl := lw_at lw_m6 126 rfl
theorem q1544 : (Jvm.Cond.instanceMethod ({ cls := "AlgebraHouse$Machine", name := "truth", desc := "(ZI)V" } : Jvm.MethodName)) ∈ lw_all := lw_g (lw_at lw_m6 127 rfl) rfl
theorem q1545 : (Jvm.Cond.code ({ cls := "AlgebraHouse$Machine", name := "truth", desc := "(ZI)V" } : Jvm.MethodName) prog_7_method_8_code (3 : Nat) (Option.none : Option Jvm.ClassFile.FieldType)) ∈ lw_all := lw_g (lw_at lw_m6 128 rfl) rfl
theorem q1546 : (Jvm.Cond.methodLink "AlgebraHouse$Machine" (251 : Nat) ({ cls := "AlgebraHouse$Numbers", name := "isLess", desc := "(IIZ)Z" } : Jvm.MethodName)) ∈ lw_all := lw_g (lw_at lw_m6 129 rfl) rfl
theorem q1550 : (Jvm.Cond.methodLink "AlgebraHouse$Machine" (265 : Nat) ({ cls := "AlgebraHouse$Machine", name := "rest", desc := "(ZIII)V" } : Jvm.MethodName)) ∈ lw_all := lw_g (lw_at lw_m6 133 rfl) rfl
theorem q1551 : (Jvm.Cond.privateMethod ({ cls := "AlgebraHouse$Machine", name := "rest", desc := "(ZIII)V" } : Jvm.MethodName)) ∈ lw_tbl := lw_at lw_m6 134 rfl
theorem q1552 : (Jvm.Cond.instanceMethod ({ cls := "AlgebraHouse$Machine", name := "rest", desc := "(ZIII)V" } : Jvm.MethodName)) ∈ lw_all := lw_g (lw_at lw_m6 135 rfl) rfl
theorem q1553 : (Jvm.Cond.code ({ cls := "AlgebraHouse$Machine", name := "rest", desc := "(ZIII)V" } : Jvm.MethodName) prog_7_method_14_code (8 : Nat) (Option.none : Option Jvm.ClassFile.FieldType)) ∈ lw_all := lw_g (lw_at lw_m6 136 rfl) rfl
theorem q1554 : (Jvm.Cond.constant "AlgebraHouse$Machine" (274 : Nat) (1158658 : Int32)) ∈ lw_all := lw_g (lw_at lw_m6 137 rfl) rfl
theorem q1555 : (Jvm.Cond.methodLink "AlgebraHouse$Machine" (276 : Nat) ({ cls := "java/lang/Math", name := "floorDiv", desc := "(II)I" } : Jvm.MethodName)) ∈ lw_all := lw_g (lw_at lw_m6 138 rfl) rfl
theorem q1558 : (Jvm.Cond.methodLink "AlgebraHouse$Machine" (279 : Nat) ({ cls := "java/lang/Math", name := "abs", desc := "(I)I" } : Jvm.MethodName)) ∈ lw_all := lw_g (lw_at lw_m6 141 rfl) rfl
theorem q1561 : (Jvm.Cond.methodLink "AlgebraHouse$Machine" (282 : Nat) ({ cls := "java/lang/Math", name := "floorMod", desc := "(II)I" } : Jvm.MethodName)) ∈ lw_all := lw_g (lw_at lw_m6 144 rfl) rfl
theorem in_X6 : ∀ w ∈ wsX60, w ∈ lw_all := lw_in wsX60 [647, 649, 651, 653, 655, 657, 659, 661, 663, 665, 667, 669, 671, 673, 675, 677, 679, 681, 683, 685, 687, 689] (by decide +kernel) (by decide +kernel)
/-! AlgebraHouse$Coder -/
def RX7 : String := "AlgebraHouse$Coder"
def TX7 : u_T := fun k => match k with
  | 0 => ("AlgebraHouse$Coder", "x", "LAlgebraHouse$Text;", false)
  | 1 => ("AlgebraHouse$Coder", "c", "LAlgebraHouse$Code;", false)
  | _ => ("AlgebraHouse$Coder", "book", "LAlgebraHouse$Book;", false)
def tyX7 : Nat → FieldType := fun k => match k with
  | 0 => .object "AlgebraHouse$Text"
  | 1 => .object "AlgebraHouse$Code"
  | _ => .object "AlgebraHouse$Book"
abbrev wsX70 : List Cond := u_ws RX7 TX7 3
theorem nmX7 : ∀ a, a < 3 → ∀ b, b < 3 → a ≠ b → (TX7 a).2.1 ≠ (TX7 b).2.1 := by decide +kernel
theorem tyX7_ok : ∀ k, k < 3 → parseFieldDescriptor (TX7 k).2.2.1 = some (tyX7 k) := by decide +kernel
abbrev cX7_init : ByteArray := prog_4_method_1_code
def yX7_init : MethodName := ⟨RX7, "<init>", "()V"⟩
abbrev cX7_write : ByteArray := prog_4_method_2_code
def yX7_write : MethodName := ⟨RX7, "write", "(LAlgebraHouse$Book;LAlgebraHouse$Text;LAlgebraHouse$Code;I)V"⟩
abbrev cX7_part : ByteArray := prog_4_method_6_code
def yX7_part : MethodName := ⟨RX7, "part", "(I)V"⟩
abbrev cX7_heavy : ByteArray := prog_4_method_7_code
def yX7_heavy : MethodName := ⟨RX7, "heavy", "(I)I"⟩
abbrev cX7_add : ByteArray := prog_4_method_4_code
def yX7_add : MethodName := ⟨RX7, "add", "(III)V"⟩
abbrev cX7_call : ByteArray := prog_4_method_10_code
def yX7_call : MethodName := ⟨RX7, "call", "(I)V"⟩
abbrev cX7_part_2 : ByteArray := prog_4_method_5_code
def yX7_part_2 : MethodName := ⟨RX7, "part", "(II)V"⟩
abbrev cX7_turn : ByteArray := prog_4_method_3_code
def yX7_turn : MethodName := ⟨RX7, "turn", "(II)V"⟩
abbrev cX7_function : ByteArray := prog_4_method_11_code
def yX7_function : MethodName := ⟨RX7, "function", "(I)V"⟩
abbrev cX7_choice : ByteArray := prog_4_method_9_code
def yX7_choice : MethodName := ⟨RX7, "choice", "(I)V"⟩
abbrev cX7_two : ByteArray := prog_4_method_8_code
def yX7_two : MethodName := ⟨RX7, "two", "(II)V"⟩
theorem q225 : (Jvm.Cond.initialized "AlgebraHouse$Coder") ∈ lw_all := lw_g (lw_at lw_m1 8 rfl) rfl
theorem q263 : (Jvm.Cond.fieldLinkNest "AlgebraHouse$Coder" (74 : Nat) "AlgebraHouse$Text" "sort" "I" "AlgebraHouse") ∈ lw_tbl := lw_at lw_m1 46 rfl
theorem q265 : (Jvm.Cond.fieldLinkNest "AlgebraHouse$Coder" (29 : Nat) "AlgebraHouse$Text" "root" "I" "AlgebraHouse") ∈ lw_tbl := lw_at lw_m1 48 rfl
theorem q282 : (Jvm.Cond.fieldLinkNest "AlgebraHouse$Coder" (53 : Nat) "AlgebraHouse$Text" "kind" "[I" "AlgebraHouse") ∈ lw_tbl := lw_at lw_m1 65 rfl
theorem q286 : (Jvm.Cond.fieldLinkNest "AlgebraHouse$Coder" (86 : Nat) "AlgebraHouse$Text" "part" "[I" "AlgebraHouse") ∈ lw_tbl := lw_at lw_m1 69 rfl
theorem q290 : (Jvm.Cond.fieldLinkNest "AlgebraHouse$Coder" (93 : Nat) "AlgebraHouse$Text" "next" "[I" "AlgebraHouse") ∈ lw_tbl := lw_at lw_m1 73 rfl
theorem q294 : (Jvm.Cond.fieldLinkNest "AlgebraHouse$Coder" (62 : Nat) "AlgebraHouse$Text" "number" "[I" "AlgebraHouse") ∈ lw_tbl := lw_at lw_m1 77 rfl
theorem q300 : (Jvm.Cond.fieldLinkNest "AlgebraHouse$Coder" (38 : Nat) "AlgebraHouse$Text" "ring" "[I" "AlgebraHouse") ∈ lw_tbl := lw_at lw_m1 83 rfl
theorem q305 : (Jvm.Cond.fieldLinkNest "AlgebraHouse$Coder" (77 : Nat) "AlgebraHouse$Text" "means" "[I" "AlgebraHouse") ∈ lw_tbl := lw_at lw_m1 88 rfl
theorem q308 : (Jvm.Cond.fieldLinkNest "AlgebraHouse$Coder" (120 : Nat) "AlgebraHouse$Text" "with" "[I" "AlgebraHouse") ∈ lw_tbl := lw_at lw_m1 91 rfl
theorem q415 : (Jvm.Cond.fieldLinkNest "AlgebraHouse$Coder" (114 : Nat) "AlgebraHouse$Book" "told" "[LAlgebraHouse$Text;" "AlgebraHouse") ∈ lw_tbl := lw_at lw_m1 198 rfl
theorem q553 : (Jvm.Cond.instantiable "AlgebraHouse$Coder" (3 : Nat)) ∈ lw_all := lw_g (lw_at lw_m2 96 rfl) rfl
theorem q555 : (Jvm.Cond.instanceMethod ({ cls := "AlgebraHouse$Coder", name := "<init>", desc := "()V" } : Jvm.MethodName)) ∈ lw_all := lw_g (lw_at lw_m2 98 rfl) rfl
theorem q556 : (Jvm.Cond.code ({ cls := "AlgebraHouse$Coder", name := "<init>", desc := "()V" } : Jvm.MethodName) prog_4_method_1_code (1 : Nat) (Option.none : Option Jvm.ClassFile.FieldType)) ∈ lw_all := lw_g (lw_at lw_m2 99 rfl) rfl
theorem q557 : (Jvm.Cond.methodLink "AlgebraHouse$Coder" (3 : Nat) ({ cls := "java/lang/Object", name := "<init>", desc := "()V" } : Jvm.MethodName)) ∈ lw_all := lw_g (lw_at lw_m2 100 rfl) rfl
theorem q558 : (Jvm.Cond.fieldLink "AlgebraHouse$Coder" (15 : Nat) "AlgebraHouse$Coder" "x" "LAlgebraHouse$Text;") ∈ lw_all := lw_g (lw_at lw_m2 101 rfl) rfl
theorem q559 : (Jvm.Cond.fieldLink "AlgebraHouse$Coder" (19 : Nat) "AlgebraHouse$Coder" "c" "LAlgebraHouse$Code;") ∈ lw_all := lw_g (lw_at lw_m2 102 rfl) rfl
theorem q560 : (Jvm.Cond.fieldLink "AlgebraHouse$Coder" (9 : Nat) "AlgebraHouse$Coder" "book" "LAlgebraHouse$Book;") ∈ lw_all := lw_g (lw_at lw_m2 103 rfl) rfl
theorem q561 : (Jvm.Cond.lays "AlgebraHouse$Coder" "AlgebraHouse$Coder" "x" "LAlgebraHouse$Text;") ∈ lw_all := lw_g (lw_at lw_m2 104 rfl) rfl
theorem q562 : (Jvm.Cond.soleField "AlgebraHouse$Coder" "x") ∈ lw_all := lw_g (lw_at lw_m2 105 rfl) rfl
theorem q563 : (Jvm.Cond.lays "AlgebraHouse$Coder" "AlgebraHouse$Coder" "c" "LAlgebraHouse$Code;") ∈ lw_all := lw_g (lw_at lw_m2 106 rfl) rfl
theorem q564 : (Jvm.Cond.soleField "AlgebraHouse$Coder" "c") ∈ lw_all := lw_g (lw_at lw_m2 107 rfl) rfl
theorem q565 : (Jvm.Cond.lays "AlgebraHouse$Coder" "AlgebraHouse$Coder" "book" "LAlgebraHouse$Book;") ∈ lw_all := lw_g (lw_at lw_m2 108 rfl) rfl
theorem q566 : (Jvm.Cond.soleField "AlgebraHouse$Coder" "book") ∈ lw_all := lw_g (lw_at lw_m2 109 rfl) rfl
theorem q567 : (Jvm.Cond.superclass "AlgebraHouse$Coder" "java/lang/Object") ∈ lw_all := lw_g (lw_at lw_m2 110 rfl) rfl
theorem q599 : (Jvm.Cond.fieldLinkNest "AlgebraHouse$Coder" (102 : Nat) "AlgebraHouse$Code" "a" "[I" "AlgebraHouse") ∈ lw_tbl := lw_at lw_m2 142 rfl
theorem q603 : (Jvm.Cond.fieldLinkNest "AlgebraHouse$Coder" (23 : Nat) "AlgebraHouse$Code" "size" "I" "AlgebraHouse") ∈ lw_tbl := lw_at lw_m2 146 rfl
theorem q1232 : (Jvm.Cond.instanceMethod ({ cls := "AlgebraHouse$Coder", name := "write", desc := "(LAlgebraHouse$Book;LAlgebraHouse$Text;LAlgebraHouse$Code;I)V" } : Jvm.MethodName)) ∈ lw_all := lw_g (lw_at lw_m5 55 rfl) rfl
theorem q1233 : (Jvm.Cond.selects "AlgebraHouse$Coder" ({ cls := "AlgebraHouse$Coder", name := "write", desc := "(LAlgebraHouse$Book;LAlgebraHouse$Text;LAlgebraHouse$Code;I)V" } : Jvm.MethodName) ({ cls := "AlgebraHouse$Coder", name := "write", desc := "(LAlgebraHouse$Book;LAlgebraHouse$Text;LAlgebraHouse$Code;I)V" } : Jvm.MethodName)) ∈ lw_all := lw_g (lw_at lw_m5 56 rfl) rfl
theorem q1234 : (Jvm.Cond.code ({ cls := "AlgebraHouse$Coder", name := "write", desc := "(LAlgebraHouse$Book;LAlgebraHouse$Text;LAlgebraHouse$Code;I)V" } : Jvm.MethodName) prog_4_method_2_code (6 : Nat) (Option.none : Option Jvm.ClassFile.FieldType)) ∈ lw_all := lw_g (lw_at lw_m5 57 rfl) rfl
theorem q1235 : (Jvm.Cond.methodLink "AlgebraHouse$Coder" (34 : Nat) ({ cls := "AlgebraHouse$Coder", name := "part", desc := "(I)V" } : Jvm.MethodName)) ∈ lw_all := lw_g (lw_at lw_m5 58 rfl) rfl
theorem q1236 : (Jvm.Cond.privateMethod ({ cls := "AlgebraHouse$Coder", name := "part", desc := "(I)V" } : Jvm.MethodName)) ∈ lw_tbl := lw_at lw_m5 59 rfl
theorem q1237 : (Jvm.Cond.instanceMethod ({ cls := "AlgebraHouse$Coder", name := "part", desc := "(I)V" } : Jvm.MethodName)) ∈ lw_all := lw_g (lw_at lw_m5 60 rfl) rfl
theorem q1238 : (Jvm.Cond.code ({ cls := "AlgebraHouse$Coder", name := "part", desc := "(I)V" } : Jvm.MethodName) prog_4_method_6_code (6 : Nat) (Option.none : Option Jvm.ClassFile.FieldType)) ∈ lw_all := lw_g (lw_at lw_m5 61 rfl) rfl
theorem q1239 : (Jvm.Cond.methodLink "AlgebraHouse$Coder" (56 : Nat) ({ cls := "AlgebraHouse$Rings", name := "weight", desc := "(I)I" } : Jvm.MethodName)) ∈ lw_all := lw_g (lw_at lw_m5 62 rfl) rfl
theorem q1248 : (Jvm.Cond.methodLink "AlgebraHouse$Coder" (65 : Nat) ({ cls := "java/lang/Math", name := "max", desc := "(II)I" } : Jvm.MethodName)) ∈ lw_all := lw_g (lw_at lw_m5 71 rfl) rfl
theorem q1249 : (Jvm.Cond.methodLink "AlgebraHouse$Coder" (71 : Nat) ({ cls := "AlgebraHouse$Coder", name := "heavy", desc := "(I)I" } : Jvm.MethodName)) ∈ lw_all := lw_g (lw_at lw_m5 72 rfl) rfl
theorem q1250 : (Jvm.Cond.privateMethod ({ cls := "AlgebraHouse$Coder", name := "heavy", desc := "(I)I" } : Jvm.MethodName)) ∈ lw_tbl := lw_at lw_m5 73 rfl
theorem q1251 : (Jvm.Cond.instanceMethod ({ cls := "AlgebraHouse$Coder", name := "heavy", desc := "(I)I" } : Jvm.MethodName)) ∈ lw_all := lw_g (lw_at lw_m5 74 rfl) rfl
theorem q1252 : (Jvm.Cond.code ({ cls := "AlgebraHouse$Coder", name := "heavy", desc := "(I)I" } : Jvm.MethodName) prog_4_method_7_code (4 : Nat) (Option.some Jvm.ClassFile.FieldType.int)) ∈ lw_all := lw_g (lw_at lw_m5 75 rfl) rfl
theorem q1253 : (Jvm.Cond.methodLink "AlgebraHouse$Coder" (50 : Nat) ({ cls := "AlgebraHouse$Coder", name := "add", desc := "(III)V" } : Jvm.MethodName)) ∈ lw_all := lw_g (lw_at lw_m5 76 rfl) rfl
theorem q1254 : (Jvm.Cond.privateMethod ({ cls := "AlgebraHouse$Coder", name := "add", desc := "(III)V" } : Jvm.MethodName)) ∈ lw_tbl := lw_at lw_m5 77 rfl
theorem q1255 : (Jvm.Cond.instanceMethod ({ cls := "AlgebraHouse$Coder", name := "add", desc := "(III)V" } : Jvm.MethodName)) ∈ lw_all := lw_g (lw_at lw_m5 78 rfl) rfl
theorem q1256 : (Jvm.Cond.code ({ cls := "AlgebraHouse$Coder", name := "add", desc := "(III)V" } : Jvm.MethodName) prog_4_method_4_code (5 : Nat) (Option.none : Option Jvm.ClassFile.FieldType)) ∈ lw_all := lw_g (lw_at lw_m5 79 rfl) rfl
theorem q1257 : (Jvm.Cond.methodLink "AlgebraHouse$Coder" (46 : Nat) ({ cls := "AlgebraHouse$Code", name := "add", desc := "(III)I" } : Jvm.MethodName)) ∈ lw_all := lw_g (lw_at lw_m5 80 rfl) rfl
theorem q1261 : (Jvm.Cond.methodLink "AlgebraHouse$Coder" (80 : Nat) ({ cls := "AlgebraHouse$Coder", name := "call", desc := "(I)V" } : Jvm.MethodName)) ∈ lw_all := lw_g (lw_at lw_m5 84 rfl) rfl
theorem q1262 : (Jvm.Cond.privateMethod ({ cls := "AlgebraHouse$Coder", name := "call", desc := "(I)V" } : Jvm.MethodName)) ∈ lw_tbl := lw_at lw_m5 85 rfl
theorem q1263 : (Jvm.Cond.instanceMethod ({ cls := "AlgebraHouse$Coder", name := "call", desc := "(I)V" } : Jvm.MethodName)) ∈ lw_all := lw_g (lw_at lw_m5 86 rfl) rfl
theorem q1264 : (Jvm.Cond.code ({ cls := "AlgebraHouse$Coder", name := "call", desc := "(I)V" } : Jvm.MethodName) prog_4_method_10_code (6 : Nat) (Option.none : Option Jvm.ClassFile.FieldType)) ∈ lw_all := lw_g (lw_at lw_m5 87 rfl) rfl
theorem q1265 : (Jvm.Cond.methodLink "AlgebraHouse$Coder" (123 : Nat) ({ cls := "AlgebraHouse$Book", name := "ring", desc := "(LAlgebraHouse$Text;II)I" } : Jvm.MethodName)) ∈ lw_all := lw_g (lw_at lw_m5 88 rfl) rfl
theorem q1266 : (Jvm.Cond.methodLink "AlgebraHouse$Coder" (91 : Nat) ({ cls := "AlgebraHouse$Coder", name := "part", desc := "(II)V" } : Jvm.MethodName)) ∈ lw_all := lw_g (lw_at lw_m5 89 rfl) rfl
theorem q1267 : (Jvm.Cond.privateMethod ({ cls := "AlgebraHouse$Coder", name := "part", desc := "(II)V" } : Jvm.MethodName)) ∈ lw_tbl := lw_at lw_m5 90 rfl
theorem q1268 : (Jvm.Cond.instanceMethod ({ cls := "AlgebraHouse$Coder", name := "part", desc := "(II)V" } : Jvm.MethodName)) ∈ lw_all := lw_g (lw_at lw_m5 91 rfl) rfl
theorem q1269 : (Jvm.Cond.code ({ cls := "AlgebraHouse$Coder", name := "part", desc := "(II)V" } : Jvm.MethodName) prog_4_method_5_code (3 : Nat) (Option.none : Option Jvm.ClassFile.FieldType)) ∈ lw_all := lw_g (lw_at lw_m5 92 rfl) rfl
theorem q1270 : (Jvm.Cond.methodLink "AlgebraHouse$Coder" (42 : Nat) ({ cls := "AlgebraHouse$Coder", name := "turn", desc := "(II)V" } : Jvm.MethodName)) ∈ lw_all := lw_g (lw_at lw_m5 93 rfl) rfl
theorem q1271 : (Jvm.Cond.privateMethod ({ cls := "AlgebraHouse$Coder", name := "turn", desc := "(II)V" } : Jvm.MethodName)) ∈ lw_tbl := lw_at lw_m5 94 rfl
theorem q1272 : (Jvm.Cond.instanceMethod ({ cls := "AlgebraHouse$Coder", name := "turn", desc := "(II)V" } : Jvm.MethodName)) ∈ lw_all := lw_g (lw_at lw_m5 95 rfl) rfl
theorem q1273 : (Jvm.Cond.code ({ cls := "AlgebraHouse$Coder", name := "turn", desc := "(II)V" } : Jvm.MethodName) prog_4_method_3_code (3 : Nat) (Option.none : Option Jvm.ClassFile.FieldType)) ∈ lw_all := lw_g (lw_at lw_m5 96 rfl) rfl
theorem q1274 : (Jvm.Cond.methodLink "AlgebraHouse$Coder" (83 : Nat) ({ cls := "AlgebraHouse$Coder", name := "function", desc := "(I)V" } : Jvm.MethodName)) ∈ lw_all := lw_g (lw_at lw_m5 97 rfl) rfl
theorem q1275 : (Jvm.Cond.privateMethod ({ cls := "AlgebraHouse$Coder", name := "function", desc := "(I)V" } : Jvm.MethodName)) ∈ lw_tbl := lw_at lw_m5 98 rfl
theorem q1276 : (Jvm.Cond.instanceMethod ({ cls := "AlgebraHouse$Coder", name := "function", desc := "(I)V" } : Jvm.MethodName)) ∈ lw_all := lw_g (lw_at lw_m5 99 rfl) rfl
theorem q1277 : (Jvm.Cond.code ({ cls := "AlgebraHouse$Coder", name := "function", desc := "(I)V" } : Jvm.MethodName) prog_4_method_11_code (6 : Nat) (Option.none : Option Jvm.ClassFile.FieldType)) ∈ lw_all := lw_g (lw_at lw_m5 100 rfl) rfl
theorem q1278 : (Jvm.Cond.methodLink "AlgebraHouse$Coder" (126 : Nat) ({ cls := "AlgebraHouse$Rings", name := "fraction", desc := "(I)I" } : Jvm.MethodName)) ∈ lw_all := lw_g (lw_at lw_m5 101 rfl) rfl
theorem q1279 : (Jvm.Cond.methodLink "AlgebraHouse$Coder" (88 : Nat) ({ cls := "AlgebraHouse$Rings", name := "plain", desc := "(I)I" } : Jvm.MethodName)) ∈ lw_all := lw_g (lw_at lw_m5 102 rfl) rfl
theorem q1280 : (Jvm.Cond.methodLink "AlgebraHouse$Coder" (96 : Nat) ({ cls := "AlgebraHouse$Coder", name := "choice", desc := "(I)V" } : Jvm.MethodName)) ∈ lw_all := lw_g (lw_at lw_m5 103 rfl) rfl
theorem q1281 : (Jvm.Cond.privateMethod ({ cls := "AlgebraHouse$Coder", name := "choice", desc := "(I)V" } : Jvm.MethodName)) ∈ lw_tbl := lw_at lw_m5 104 rfl
theorem q1282 : (Jvm.Cond.instanceMethod ({ cls := "AlgebraHouse$Coder", name := "choice", desc := "(I)V" } : Jvm.MethodName)) ∈ lw_all := lw_g (lw_at lw_m5 105 rfl) rfl
theorem q1283 : (Jvm.Cond.code ({ cls := "AlgebraHouse$Coder", name := "choice", desc := "(I)V" } : Jvm.MethodName) prog_4_method_9_code (4 : Nat) (Option.none : Option Jvm.ClassFile.FieldType)) ∈ lw_all := lw_g (lw_at lw_m5 106 rfl) rfl
theorem q1284 : (Jvm.Cond.methodLink "AlgebraHouse$Coder" (99 : Nat) ({ cls := "AlgebraHouse$Text", name := "second", desc := "(I)I" } : Jvm.MethodName)) ∈ lw_all := lw_g (lw_at lw_m5 107 rfl) rfl
theorem q1285 : (Jvm.Cond.methodLink "AlgebraHouse$Coder" (111 : Nat) ({ cls := "AlgebraHouse$Text", name := "third", desc := "(I)I" } : Jvm.MethodName)) ∈ lw_all := lw_g (lw_at lw_m5 108 rfl) rfl
theorem q1286 : (Jvm.Cond.methodLink "AlgebraHouse$Coder" (105 : Nat) ({ cls := "AlgebraHouse$Coder", name := "two", desc := "(II)V" } : Jvm.MethodName)) ∈ lw_all := lw_g (lw_at lw_m5 109 rfl) rfl
theorem q1287 : (Jvm.Cond.privateMethod ({ cls := "AlgebraHouse$Coder", name := "two", desc := "(II)V" } : Jvm.MethodName)) ∈ lw_tbl := lw_at lw_m5 110 rfl
theorem q1288 : (Jvm.Cond.instanceMethod ({ cls := "AlgebraHouse$Coder", name := "two", desc := "(II)V" } : Jvm.MethodName)) ∈ lw_all := lw_g (lw_at lw_m5 111 rfl) rfl
theorem q1289 : (Jvm.Cond.code ({ cls := "AlgebraHouse$Coder", name := "two", desc := "(II)V" } : Jvm.MethodName) prog_4_method_8_code (6 : Nat) (Option.none : Option Jvm.ClassFile.FieldType)) ∈ lw_all := lw_g (lw_at lw_m5 112 rfl) rfl
theorem q1290 : (Jvm.Cond.methodLink "AlgebraHouse$Coder" (108 : Nat) ({ cls := "AlgebraHouse$Rings", name := "join", desc := "(II)I" } : Jvm.MethodName)) ∈ lw_all := lw_g (lw_at lw_m5 113 rfl) rfl
theorem in_X7 : ∀ w ∈ wsX70, w ∈ lw_all := lw_in wsX70 [561, 563, 565] (by decide +kernel) (by decide +kernel)
/-! AlgebraHouse$Numbers -/
def RX8 : String := "AlgebraHouse$Numbers"
def TX8 : u_T := fun k => match k with
  | 0 => ("AlgebraHouse$Numbers", "c", "[I", true)
  | 1 => ("AlgebraHouse$Numbers", "own", "I", false)
  | _ => ("AlgebraHouse$Numbers", "error", "I", false)
def tyX8 : Nat → FieldType := fun k => match k with
  | 0 => .array .int
  | 1 => .int
  | _ => .int
abbrev wsX80 : List Cond := u_ws RX8 TX8 3
theorem nmX8 : ∀ a, a < 3 → ∀ b, b < 3 → a ≠ b → (TX8 a).2.1 ≠ (TX8 b).2.1 := by decide +kernel
theorem tyX8_ok : ∀ k, k < 3 → parseFieldDescriptor (TX8 k).2.2.1 = some (tyX8 k) := by decide +kernel
abbrev cX8_init : ByteArray := prog_8_method_1_code
def yX8_init : MethodName := ⟨RX8, "<init>", "()V"⟩
abbrev cX8_clear : ByteArray := prog_8_method_7_code
def yX8_clear : MethodName := ⟨RX8, "clear", "(II)V"⟩
abbrev cX8_turn : ByteArray := prog_8_method_26_code
def yX8_turn : MethodName := ⟨RX8, "turn", "(III)V"⟩
abbrev cX8_copy : ByteArray := prog_8_method_9_code
def yX8_copy : MethodName := ⟨RX8, "copy", "(III)V"⟩
abbrev cX8_modulus : ByteArray := prog_8_method_2_code
def yX8_modulus : MethodName := ⟨RX8, "modulus", "(I)I"⟩
abbrev cX8_back : ByteArray := prog_8_method_27_code
def yX8_back : MethodName := ⟨RX8, "back", "(III)V"⟩
abbrev cX8_isClear : ByteArray := prog_8_method_8_code
def yX8_isClear : MethodName := ⟨RX8, "isClear", "(II)Z"⟩
abbrev cX8_less : ByteArray := prog_8_method_23_code
def yX8_less : MethodName := ⟨RX8, "less", "(III)V"⟩
abbrev cX8_unit : ByteArray := prog_8_method_19_code
def yX8_unit : MethodName := ⟨RX8, "unit", "(II)V"⟩
abbrev cX8_multiply : ByteArray := prog_8_method_18_code
def yX8_multiply : MethodName := ⟨RX8, "multiply", "(IIII)V"⟩
abbrev cX8_product : ByteArray := prog_8_method_17_code
def yX8_product : MethodName := ⟨RX8, "product", "(IIIII)V"⟩
abbrev cX8_times : ByteArray := prog_8_method_11_code
def yX8_times : MethodName := ⟨RX8, "times", "(IIII)V"⟩
abbrev cX8_put : ByteArray := prog_8_method_3_code
def yX8_put : MethodName := ⟨RX8, "put", "(IJJ)V"⟩
abbrev cX8_least : ByteArray := prog_8_method_5_code
def yX8_least : MethodName := ⟨RX8, "least", "(IJJ)V"⟩
abbrev cX8_common : ByteArray := prog_8_method_4_code
def yX8_common : MethodName := ⟨RX8, "common", "(JJ)J"⟩
abbrev cX8_poly : ByteArray := prog_8_method_16_code
def yX8_poly : MethodName := ⟨RX8, "poly", "(IIII)V"⟩
abbrev cX8_add : ByteArray := prog_8_method_10_code
def yX8_add : MethodName := ⟨RX8, "add", "(IIIIZ)V"⟩
abbrev cX8_isZero : ByteArray := prog_8_method_6_code
def yX8_isZero : MethodName := ⟨RX8, "isZero", "(I)Z"⟩
abbrev cX8_addAll : ByteArray := prog_8_method_15_code
def yX8_addAll : MethodName := ⟨RX8, "addAll", "(IIIIIZ)V"⟩
abbrev cX8_degree : ByteArray := prog_8_method_24_code
def yX8_degree : MethodName := ⟨RX8, "degree", "(I)I"⟩
abbrev cX8_divide : ByteArray := prog_8_method_25_code
def yX8_divide : MethodName := ⟨RX8, "divide", "(III)V"⟩
abbrev cX8_by : ByteArray := prog_8_method_12_code
def yX8_by : MethodName := ⟨RX8, "by", "(IIII)V"⟩
abbrev cX8_inverse : ByteArray := prog_8_method_13_code
def yX8_inverse : MethodName := ⟨RX8, "inverse", "(II)I"⟩
abbrev cX8_determinant : ByteArray := prog_8_method_21_code
def yX8_determinant : MethodName := ⟨RX8, "determinant", "(III)V"⟩
abbrev cX8_minor : ByteArray := prog_8_method_20_code
def yX8_minor : MethodName := ⟨RX8, "minor", "(IIIII)V"⟩
abbrev cX8_adjugate : ByteArray := prog_8_method_22_code
def yX8_adjugate : MethodName := ⟨RX8, "adjugate", "(III)V"⟩
abbrev cX8_isLess : ByteArray := prog_8_method_14_code
def yX8_isLess : MethodName := ⟨RX8, "isLess", "(IIZ)Z"⟩
theorem q226 : (Jvm.Cond.initialized "AlgebraHouse$Numbers") ∈ lw_all := lw_g (lw_at lw_m1 9 rfl) rfl
theorem q569 : (Jvm.Cond.instantiable "AlgebraHouse$Numbers" (3 : Nat)) ∈ lw_all := lw_g (lw_at lw_m2 112 rfl) rfl
theorem q571 : (Jvm.Cond.instanceMethod ({ cls := "AlgebraHouse$Numbers", name := "<init>", desc := "()V" } : Jvm.MethodName)) ∈ lw_all := lw_g (lw_at lw_m2 114 rfl) rfl
theorem q572 : (Jvm.Cond.code ({ cls := "AlgebraHouse$Numbers", name := "<init>", desc := "()V" } : Jvm.MethodName) prog_8_method_1_code (1 : Nat) (Option.none : Option Jvm.ClassFile.FieldType)) ∈ lw_all := lw_g (lw_at lw_m2 115 rfl) rfl
theorem q573 : (Jvm.Cond.methodLink "AlgebraHouse$Numbers" (5 : Nat) ({ cls := "java/lang/Object", name := "<init>", desc := "()V" } : Jvm.MethodName)) ∈ lw_all := lw_g (lw_at lw_m2 116 rfl) rfl
theorem q574 : (Jvm.Cond.constant "AlgebraHouse$Numbers" (11 : Nat) (1159540 : Int32)) ∈ lw_all := lw_g (lw_at lw_m2 117 rfl) rfl
theorem q575 : (Jvm.Cond.fieldLink "AlgebraHouse$Numbers" (12 : Nat) "AlgebraHouse$Numbers" "c" "[I") ∈ lw_all := lw_g (lw_at lw_m2 118 rfl) rfl
theorem q577 : (Jvm.Cond.fieldLink "AlgebraHouse$Numbers" (18 : Nat) "AlgebraHouse$Numbers" "own" "I") ∈ lw_all := lw_g (lw_at lw_m2 120 rfl) rfl
theorem q579 : (Jvm.Cond.fieldLink "AlgebraHouse$Numbers" (26 : Nat) "AlgebraHouse$Numbers" "error" "I") ∈ lw_all := lw_g (lw_at lw_m2 122 rfl) rfl
theorem q581 : (Jvm.Cond.laysFinal "AlgebraHouse$Numbers" "AlgebraHouse$Numbers" "c" "[I") ∈ lw_all := lw_g (lw_at lw_m2 124 rfl) rfl
theorem q582 : (Jvm.Cond.soleField "AlgebraHouse$Numbers" "c") ∈ lw_all := lw_g (lw_at lw_m2 125 rfl) rfl
theorem q583 : (Jvm.Cond.lays "AlgebraHouse$Numbers" "AlgebraHouse$Numbers" "own" "I") ∈ lw_all := lw_g (lw_at lw_m2 126 rfl) rfl
theorem q584 : (Jvm.Cond.soleField "AlgebraHouse$Numbers" "own") ∈ lw_all := lw_g (lw_at lw_m2 127 rfl) rfl
theorem q585 : (Jvm.Cond.lays "AlgebraHouse$Numbers" "AlgebraHouse$Numbers" "error" "I") ∈ lw_all := lw_g (lw_at lw_m2 128 rfl) rfl
theorem q586 : (Jvm.Cond.soleField "AlgebraHouse$Numbers" "error") ∈ lw_all := lw_g (lw_at lw_m2 129 rfl) rfl
theorem q587 : (Jvm.Cond.superclass "AlgebraHouse$Numbers" "java/lang/Object") ∈ lw_all := lw_g (lw_at lw_m2 130 rfl) rfl
theorem q1304 : (Jvm.Cond.instanceMethod ({ cls := "AlgebraHouse$Numbers", name := "clear", desc := "(II)V" } : Jvm.MethodName)) ∈ lw_all := lw_g (lw_at lw_m5 127 rfl) rfl
theorem q1305 : (Jvm.Cond.selects "AlgebraHouse$Numbers" ({ cls := "AlgebraHouse$Numbers", name := "clear", desc := "(II)V" } : Jvm.MethodName) ({ cls := "AlgebraHouse$Numbers", name := "clear", desc := "(II)V" } : Jvm.MethodName)) ∈ lw_all := lw_g (lw_at lw_m5 128 rfl) rfl
theorem q1306 : (Jvm.Cond.code ({ cls := "AlgebraHouse$Numbers", name := "clear", desc := "(II)V" } : Jvm.MethodName) prog_8_method_7_code (4 : Nat) (Option.none : Option Jvm.ClassFile.FieldType)) ∈ lw_all := lw_g (lw_at lw_m5 129 rfl) rfl
theorem q1312 : (Jvm.Cond.instanceMethod ({ cls := "AlgebraHouse$Numbers", name := "turn", desc := "(III)V" } : Jvm.MethodName)) ∈ lw_all := lw_g (lw_at lw_m5 135 rfl) rfl
theorem q1313 : (Jvm.Cond.selects "AlgebraHouse$Numbers" ({ cls := "AlgebraHouse$Numbers", name := "turn", desc := "(III)V" } : Jvm.MethodName) ({ cls := "AlgebraHouse$Numbers", name := "turn", desc := "(III)V" } : Jvm.MethodName)) ∈ lw_all := lw_g (lw_at lw_m5 136 rfl) rfl
theorem q1314 : (Jvm.Cond.code ({ cls := "AlgebraHouse$Numbers", name := "turn", desc := "(III)V" } : Jvm.MethodName) prog_8_method_26_code (11 : Nat) (Option.none : Option Jvm.ClassFile.FieldType)) ∈ lw_all := lw_g (lw_at lw_m5 137 rfl) rfl
theorem q1315 : (Jvm.Cond.methodLink "AlgebraHouse$Numbers" (111 : Nat) ({ cls := "AlgebraHouse$Rings", name := "coefficients", desc := "(I)I" } : Jvm.MethodName)) ∈ lw_all := lw_g (lw_at lw_m5 138 rfl) rfl
theorem q1316 : (Jvm.Cond.methodLink "AlgebraHouse$Numbers" (119 : Nat) ({ cls := "AlgebraHouse$Rings", name := "entries", desc := "(I)I" } : Jvm.MethodName)) ∈ lw_all := lw_g (lw_at lw_m5 139 rfl) rfl
theorem q1317 : (Jvm.Cond.constant "AlgebraHouse$Numbers" (154 : Nat) (1155420 : Int32)) ∈ lw_all := lw_g (lw_at lw_m5 140 rfl) rfl
theorem q1318 : (Jvm.Cond.methodLink "AlgebraHouse$Numbers" (81 : Nat) ({ cls := "AlgebraHouse$Numbers", name := "copy", desc := "(III)V" } : Jvm.MethodName)) ∈ lw_all := lw_g (lw_at lw_m5 141 rfl) rfl
theorem q1319 : (Jvm.Cond.instanceMethod ({ cls := "AlgebraHouse$Numbers", name := "copy", desc := "(III)V" } : Jvm.MethodName)) ∈ lw_all := lw_g (lw_at lw_m5 142 rfl) rfl
theorem q1320 : (Jvm.Cond.selects "AlgebraHouse$Numbers" ({ cls := "AlgebraHouse$Numbers", name := "copy", desc := "(III)V" } : Jvm.MethodName) ({ cls := "AlgebraHouse$Numbers", name := "copy", desc := "(III)V" } : Jvm.MethodName)) ∈ lw_all := lw_g (lw_at lw_m5 143 rfl) rfl
theorem q1321 : (Jvm.Cond.code ({ cls := "AlgebraHouse$Numbers", name := "copy", desc := "(III)V" } : Jvm.MethodName) prog_8_method_9_code (4 : Nat) (Option.none : Option Jvm.ClassFile.FieldType)) ∈ lw_all := lw_g (lw_at lw_m5 144 rfl) rfl
theorem q1322 : (Jvm.Cond.methodLink "AlgebraHouse$Numbers" (43 : Nat) ({ cls := "java/lang/System", name := "arraycopy", desc := "(Ljava/lang/Object;ILjava/lang/Object;II)V" } : Jvm.MethodName)) ∈ lw_all := lw_g (lw_at lw_m5 145 rfl) rfl
theorem q1323 : (Jvm.Cond.methodLink "AlgebraHouse$Numbers" (108 : Nat) ({ cls := "AlgebraHouse$Rings", name := "base", desc := "(I)I" } : Jvm.MethodName)) ∈ lw_all := lw_g (lw_at lw_m5 146 rfl) rfl
theorem q1324 : (Jvm.Cond.methodLink "AlgebraHouse$Numbers" (49 : Nat) ({ cls := "AlgebraHouse$Numbers", name := "modulus", desc := "(I)I" } : Jvm.MethodName)) ∈ lw_all := lw_g (lw_at lw_m5 147 rfl) rfl
theorem q1325 : (Jvm.Cond.privateMethod ({ cls := "AlgebraHouse$Numbers", name := "modulus", desc := "(I)I" } : Jvm.MethodName)) ∈ lw_tbl := lw_at lw_m5 148 rfl
theorem q1326 : (Jvm.Cond.instanceMethod ({ cls := "AlgebraHouse$Numbers", name := "modulus", desc := "(I)I" } : Jvm.MethodName)) ∈ lw_all := lw_g (lw_at lw_m5 149 rfl) rfl
theorem q1327 : (Jvm.Cond.code ({ cls := "AlgebraHouse$Numbers", name := "modulus", desc := "(I)I" } : Jvm.MethodName) prog_8_method_2_code (2 : Nat) (Option.some Jvm.ClassFile.FieldType.int)) ∈ lw_all := lw_g (lw_at lw_m5 150 rfl) rfl
theorem q1328 : (Jvm.Cond.methodLink "AlgebraHouse$Numbers" (63 : Nat) ({ cls := "java/lang/Math", name := "floorMod", desc := "(II)I" } : Jvm.MethodName)) ∈ lw_all := lw_g (lw_at lw_m5 151 rfl) rfl
theorem q1331 : (Jvm.Cond.methodLink "AlgebraHouse$Numbers" (102 : Nat) ({ cls := "AlgebraHouse$Rings", name := "size", desc := "(I)I" } : Jvm.MethodName)) ∈ lw_all := lw_g (lw_at lw_m5 154 rfl) rfl
theorem q1332 : (Jvm.Cond.methodLink "AlgebraHouse$Numbers" (122 : Nat) ({ cls := "AlgebraHouse$Numbers", name := "clear", desc := "(II)V" } : Jvm.MethodName)) ∈ lw_all := lw_g (lw_at lw_m5 155 rfl) rfl
theorem q1334 : (Jvm.Cond.instanceMethod ({ cls := "AlgebraHouse$Numbers", name := "back", desc := "(III)V" } : Jvm.MethodName)) ∈ lw_all := lw_g (lw_at lw_m5 157 rfl) rfl
theorem q1335 : (Jvm.Cond.selects "AlgebraHouse$Numbers" ({ cls := "AlgebraHouse$Numbers", name := "back", desc := "(III)V" } : Jvm.MethodName) ({ cls := "AlgebraHouse$Numbers", name := "back", desc := "(III)V" } : Jvm.MethodName)) ∈ lw_all := lw_g (lw_at lw_m5 158 rfl) rfl
theorem q1336 : (Jvm.Cond.code ({ cls := "AlgebraHouse$Numbers", name := "back", desc := "(III)V" } : Jvm.MethodName) prog_8_method_27_code (14 : Nat) (Option.none : Option Jvm.ClassFile.FieldType)) ∈ lw_all := lw_g (lw_at lw_m5 159 rfl) rfl
theorem q1337 : (Jvm.Cond.methodLink "AlgebraHouse$Numbers" (98 : Nat) ({ cls := "AlgebraHouse$Numbers", name := "isClear", desc := "(II)Z" } : Jvm.MethodName)) ∈ lw_all := lw_g (lw_at lw_m5 160 rfl) rfl
theorem q1338 : (Jvm.Cond.instanceMethod ({ cls := "AlgebraHouse$Numbers", name := "isClear", desc := "(II)Z" } : Jvm.MethodName)) ∈ lw_all := lw_g (lw_at lw_m5 161 rfl) rfl
theorem q1339 : (Jvm.Cond.selects "AlgebraHouse$Numbers" ({ cls := "AlgebraHouse$Numbers", name := "isClear", desc := "(II)Z" } : Jvm.MethodName) ({ cls := "AlgebraHouse$Numbers", name := "isClear", desc := "(II)Z" } : Jvm.MethodName)) ∈ lw_all := lw_g (lw_at lw_m5 162 rfl) rfl
theorem q1340 : (Jvm.Cond.code ({ cls := "AlgebraHouse$Numbers", name := "isClear", desc := "(II)Z" } : Jvm.MethodName) prog_8_method_8_code (4 : Nat) (Option.some Jvm.ClassFile.FieldType.boolean)) ∈ lw_all := lw_g (lw_at lw_m5 163 rfl) rfl
theorem q1361 : (Jvm.Cond.instanceMethod ({ cls := "AlgebraHouse$Numbers", name := "less", desc := "(III)V" } : Jvm.MethodName)) ∈ lw_all := lw_g (lw_at lw_m5 184 rfl) rfl
theorem q1362 : (Jvm.Cond.selects "AlgebraHouse$Numbers" ({ cls := "AlgebraHouse$Numbers", name := "less", desc := "(III)V" } : Jvm.MethodName) ({ cls := "AlgebraHouse$Numbers", name := "less", desc := "(III)V" } : Jvm.MethodName)) ∈ lw_all := lw_g (lw_at lw_m5 185 rfl) rfl
theorem q1363 : (Jvm.Cond.code ({ cls := "AlgebraHouse$Numbers", name := "less", desc := "(III)V" } : Jvm.MethodName) prog_8_method_23_code (6 : Nat) (Option.none : Option Jvm.ClassFile.FieldType)) ∈ lw_all := lw_g (lw_at lw_m5 186 rfl) rfl
theorem q1370 : (Jvm.Cond.instanceMethod ({ cls := "AlgebraHouse$Numbers", name := "unit", desc := "(II)V" } : Jvm.MethodName)) ∈ lw_all := lw_g (lw_at lw_m5 193 rfl) rfl
theorem q1371 : (Jvm.Cond.selects "AlgebraHouse$Numbers" ({ cls := "AlgebraHouse$Numbers", name := "unit", desc := "(II)V" } : Jvm.MethodName) ({ cls := "AlgebraHouse$Numbers", name := "unit", desc := "(II)V" } : Jvm.MethodName)) ∈ lw_all := lw_g (lw_at lw_m5 194 rfl) rfl
theorem q1372 : (Jvm.Cond.code ({ cls := "AlgebraHouse$Numbers", name := "unit", desc := "(II)V" } : Jvm.MethodName) prog_8_method_19_code (5 : Nat) (Option.none : Option Jvm.ClassFile.FieldType)) ∈ lw_all := lw_g (lw_at lw_m5 195 rfl) rfl
theorem q1373 : (Jvm.Cond.methodLink "AlgebraHouse$Numbers" (69 : Nat) ({ cls := "java/lang/Math", name := "max", desc := "(II)I" } : Jvm.MethodName)) ∈ lw_all := lw_g (lw_at lw_m5 196 rfl) rfl
theorem q1376 : (Jvm.Cond.instanceMethod ({ cls := "AlgebraHouse$Numbers", name := "multiply", desc := "(IIII)V" } : Jvm.MethodName)) ∈ lw_all := lw_g (lw_at lw_m5 199 rfl) rfl
theorem q1377 : (Jvm.Cond.selects "AlgebraHouse$Numbers" ({ cls := "AlgebraHouse$Numbers", name := "multiply", desc := "(IIII)V" } : Jvm.MethodName) ({ cls := "AlgebraHouse$Numbers", name := "multiply", desc := "(IIII)V" } : Jvm.MethodName)) ∈ lw_all := lw_g (lw_at lw_m5 200 rfl) rfl
theorem q1378 : (Jvm.Cond.code ({ cls := "AlgebraHouse$Numbers", name := "multiply", desc := "(IIII)V" } : Jvm.MethodName) prog_8_method_18_code (13 : Nat) (Option.none : Option Jvm.ClassFile.FieldType)) ∈ lw_all := lw_g (lw_at lw_m5 201 rfl) rfl
theorem q1379 : (Jvm.Cond.methodLink "AlgebraHouse$Numbers" (105 : Nat) ({ cls := "AlgebraHouse$Rings", name := "depth", desc := "(I)I" } : Jvm.MethodName)) ∈ lw_all := lw_g (lw_at lw_m5 202 rfl) rfl
theorem q1380 : (Jvm.Cond.methodLink "AlgebraHouse$Numbers" (114 : Nat) ({ cls := "AlgebraHouse$Numbers", name := "product", desc := "(IIIII)V" } : Jvm.MethodName)) ∈ lw_all := lw_g (lw_at lw_m5 203 rfl) rfl
theorem q1381 : (Jvm.Cond.instanceMethod ({ cls := "AlgebraHouse$Numbers", name := "product", desc := "(IIIII)V" } : Jvm.MethodName)) ∈ lw_all := lw_g (lw_at lw_m5 204 rfl) rfl
theorem q1382 : (Jvm.Cond.selects "AlgebraHouse$Numbers" ({ cls := "AlgebraHouse$Numbers", name := "product", desc := "(IIIII)V" } : Jvm.MethodName) ({ cls := "AlgebraHouse$Numbers", name := "product", desc := "(IIIII)V" } : Jvm.MethodName)) ∈ lw_all := lw_g (lw_at lw_m5 205 rfl) rfl
theorem q1383 : (Jvm.Cond.code ({ cls := "AlgebraHouse$Numbers", name := "product", desc := "(IIIII)V" } : Jvm.MethodName) prog_8_method_17_code (10 : Nat) (Option.none : Option Jvm.ClassFile.FieldType)) ∈ lw_all := lw_g (lw_at lw_m5 206 rfl) rfl
theorem q1384 : (Jvm.Cond.methodLink "AlgebraHouse$Numbers" (77 : Nat) ({ cls := "AlgebraHouse$Numbers", name := "times", desc := "(IIII)V" } : Jvm.MethodName)) ∈ lw_all := lw_g (lw_at lw_m5 207 rfl) rfl
theorem q1385 : (Jvm.Cond.instanceMethod ({ cls := "AlgebraHouse$Numbers", name := "times", desc := "(IIII)V" } : Jvm.MethodName)) ∈ lw_all := lw_g (lw_at lw_m5 208 rfl) rfl
theorem q1386 : (Jvm.Cond.selects "AlgebraHouse$Numbers" ({ cls := "AlgebraHouse$Numbers", name := "times", desc := "(IIII)V" } : Jvm.MethodName) ({ cls := "AlgebraHouse$Numbers", name := "times", desc := "(IIII)V" } : Jvm.MethodName)) ∈ lw_all := lw_g (lw_at lw_m5 209 rfl) rfl
theorem q1387 : (Jvm.Cond.code ({ cls := "AlgebraHouse$Numbers", name := "times", desc := "(IIII)V" } : Jvm.MethodName) prog_8_method_11_code (8 : Nat) (Option.none : Option Jvm.ClassFile.FieldType)) ∈ lw_all := lw_g (lw_at lw_m5 210 rfl) rfl
theorem q1388 : (Jvm.Cond.methodLink "AlgebraHouse$Numbers" (39 : Nat) ({ cls := "AlgebraHouse$Numbers", name := "put", desc := "(IJJ)V" } : Jvm.MethodName)) ∈ lw_all := lw_g (lw_at lw_m5 211 rfl) rfl
theorem q1389 : (Jvm.Cond.privateMethod ({ cls := "AlgebraHouse$Numbers", name := "put", desc := "(IJJ)V" } : Jvm.MethodName)) ∈ lw_tbl := lw_at lw_m5 212 rfl
theorem q1390 : (Jvm.Cond.instanceMethod ({ cls := "AlgebraHouse$Numbers", name := "put", desc := "(IJJ)V" } : Jvm.MethodName)) ∈ lw_all := lw_g (lw_at lw_m5 213 rfl) rfl
theorem q1391 : (Jvm.Cond.code ({ cls := "AlgebraHouse$Numbers", name := "put", desc := "(IJJ)V" } : Jvm.MethodName) prog_8_method_3_code (6 : Nat) (Option.none : Option Jvm.ClassFile.FieldType)) ∈ lw_all := lw_g (lw_at lw_m5 214 rfl) rfl
theorem q1392 : (Jvm.Cond.constantLong "AlgebraHouse$Numbers" (22 : Nat) (999999999 : Int64)) ∈ lw_all := lw_g (lw_at lw_m5 215 rfl) rfl
theorem q1393 : (Jvm.Cond.constantLong "AlgebraHouse$Numbers" (24 : Nat) (-999999999 : Int64)) ∈ lw_all := lw_g (lw_at lw_m5 216 rfl) rfl
theorem q1394 : (Jvm.Cond.methodLink "AlgebraHouse$Numbers" (53 : Nat) ({ cls := "AlgebraHouse$Numbers", name := "least", desc := "(IJJ)V" } : Jvm.MethodName)) ∈ lw_all := lw_g (lw_at lw_m5 217 rfl) rfl
theorem q1395 : (Jvm.Cond.privateMethod ({ cls := "AlgebraHouse$Numbers", name := "least", desc := "(IJJ)V" } : Jvm.MethodName)) ∈ lw_tbl := lw_at lw_m5 218 rfl
theorem q1396 : (Jvm.Cond.instanceMethod ({ cls := "AlgebraHouse$Numbers", name := "least", desc := "(IJJ)V" } : Jvm.MethodName)) ∈ lw_all := lw_g (lw_at lw_m5 219 rfl) rfl
theorem q1397 : (Jvm.Cond.code ({ cls := "AlgebraHouse$Numbers", name := "least", desc := "(IJJ)V" } : Jvm.MethodName) prog_8_method_5_code (8 : Nat) (Option.none : Option Jvm.ClassFile.FieldType)) ∈ lw_all := lw_g (lw_at lw_m5 220 rfl) rfl
theorem q1398 : (Jvm.Cond.methodLink "AlgebraHouse$Numbers" (35 : Nat) ({ cls := "AlgebraHouse$Numbers", name := "common", desc := "(JJ)J" } : Jvm.MethodName)) ∈ lw_all := lw_g (lw_at lw_m5 221 rfl) rfl
theorem q1399 : (Jvm.Cond.static ({ cls := "AlgebraHouse$Numbers", name := "common", desc := "(JJ)J" } : Jvm.MethodName)) ∈ lw_all := lw_g (lw_at lw_m5 222 rfl) rfl
theorem q1400 : (Jvm.Cond.code ({ cls := "AlgebraHouse$Numbers", name := "common", desc := "(JJ)J" } : Jvm.MethodName) prog_8_method_4_code (10 : Nat) (Option.some Jvm.ClassFile.FieldType.long)) ∈ lw_all := lw_g (lw_at lw_m5 223 rfl) rfl
theorem q1401 : (Jvm.Cond.methodLink "AlgebraHouse$Numbers" (29 : Nat) ({ cls := "java/lang/Math", name := "abs", desc := "(J)J" } : Jvm.MethodName)) ∈ lw_all := lw_g (lw_at lw_m5 224 rfl) rfl
theorem q1404 : (Jvm.Cond.methodLink "AlgebraHouse$Numbers" (89 : Nat) ({ cls := "AlgebraHouse$Numbers", name := "poly", desc := "(IIII)V" } : Jvm.MethodName)) ∈ lw_all := lw_g (lw_at lw_m5 227 rfl) rfl
theorem q1405 : (Jvm.Cond.privateMethod ({ cls := "AlgebraHouse$Numbers", name := "poly", desc := "(IIII)V" } : Jvm.MethodName)) ∈ lw_tbl := lw_at lw_m5 228 rfl
theorem q1406 : (Jvm.Cond.instanceMethod ({ cls := "AlgebraHouse$Numbers", name := "poly", desc := "(IIII)V" } : Jvm.MethodName)) ∈ lw_all := lw_g (lw_at lw_m5 229 rfl) rfl
theorem q1407 : (Jvm.Cond.code ({ cls := "AlgebraHouse$Numbers", name := "poly", desc := "(IIII)V" } : Jvm.MethodName) prog_8_method_16_code (8 : Nat) (Option.none : Option Jvm.ClassFile.FieldType)) ∈ lw_all := lw_g (lw_at lw_m5 230 rfl) rfl
theorem q1408 : (Jvm.Cond.methodLink "AlgebraHouse$Numbers" (72 : Nat) ({ cls := "java/lang/Math", name := "min", desc := "(II)I" } : Jvm.MethodName)) ∈ lw_all := lw_g (lw_at lw_m5 231 rfl) rfl
theorem q1409 : (Jvm.Cond.constant "AlgebraHouse$Numbers" (75 : Nat) (1157576 : Int32)) ∈ lw_all := lw_g (lw_at lw_m5 232 rfl) rfl
theorem q1410 : (Jvm.Cond.constant "AlgebraHouse$Numbers" (76 : Nat) (1157578 : Int32)) ∈ lw_all := lw_g (lw_at lw_m5 233 rfl) rfl
theorem q1411 : (Jvm.Cond.methodLink "AlgebraHouse$Numbers" (65 : Nat) ({ cls := "AlgebraHouse$Numbers", name := "add", desc := "(IIIIZ)V" } : Jvm.MethodName)) ∈ lw_all := lw_g (lw_at lw_m5 234 rfl) rfl
theorem q1412 : (Jvm.Cond.instanceMethod ({ cls := "AlgebraHouse$Numbers", name := "add", desc := "(IIIIZ)V" } : Jvm.MethodName)) ∈ lw_all := lw_g (lw_at lw_m5 235 rfl) rfl
theorem q1413 : (Jvm.Cond.selects "AlgebraHouse$Numbers" ({ cls := "AlgebraHouse$Numbers", name := "add", desc := "(IIIIZ)V" } : Jvm.MethodName) ({ cls := "AlgebraHouse$Numbers", name := "add", desc := "(IIIIZ)V" } : Jvm.MethodName)) ∈ lw_all := lw_g (lw_at lw_m5 236 rfl) rfl
theorem q1414 : (Jvm.Cond.code ({ cls := "AlgebraHouse$Numbers", name := "add", desc := "(IIIIZ)V" } : Jvm.MethodName) prog_8_method_10_code (11 : Nat) (Option.none : Option Jvm.ClassFile.FieldType)) ∈ lw_all := lw_g (lw_at lw_m5 237 rfl) rfl
theorem q1415 : (Jvm.Cond.methodLink "AlgebraHouse$Numbers" (56 : Nat) ({ cls := "java/lang/Math", name := "floorMod", desc := "(JJ)J" } : Jvm.MethodName)) ∈ lw_all := lw_g (lw_at lw_m5 238 rfl) rfl
theorem q1418 : (Jvm.Cond.methodLink "AlgebraHouse$Numbers" (85 : Nat) ({ cls := "AlgebraHouse$Numbers", name := "isZero", desc := "(I)Z" } : Jvm.MethodName)) ∈ lw_all := lw_g (lw_at lw_m6 1 rfl) rfl
theorem q1419 : (Jvm.Cond.instanceMethod ({ cls := "AlgebraHouse$Numbers", name := "isZero", desc := "(I)Z" } : Jvm.MethodName)) ∈ lw_all := lw_g (lw_at lw_m6 2 rfl) rfl
theorem q1420 : (Jvm.Cond.selects "AlgebraHouse$Numbers" ({ cls := "AlgebraHouse$Numbers", name := "isZero", desc := "(I)Z" } : Jvm.MethodName) ({ cls := "AlgebraHouse$Numbers", name := "isZero", desc := "(I)Z" } : Jvm.MethodName)) ∈ lw_all := lw_g (lw_at lw_m6 3 rfl) rfl
theorem q1421 : (Jvm.Cond.code ({ cls := "AlgebraHouse$Numbers", name := "isZero", desc := "(I)Z" } : Jvm.MethodName) prog_8_method_6_code (2 : Nat) (Option.some Jvm.ClassFile.FieldType.boolean)) ∈ lw_all := lw_g (lw_at lw_m6 4 rfl) rfl
theorem q1422 : (Jvm.Cond.constant "AlgebraHouse$Numbers" (92 : Nat) (1157478 : Int32)) ∈ lw_all := lw_g (lw_at lw_m6 5 rfl) rfl
theorem q1423 : (Jvm.Cond.constant "AlgebraHouse$Numbers" (93 : Nat) (1157380 : Int32)) ∈ lw_all := lw_g (lw_at lw_m6 6 rfl) rfl
theorem q1424 : (Jvm.Cond.methodLink "AlgebraHouse$Numbers" (94 : Nat) ({ cls := "AlgebraHouse$Numbers", name := "addAll", desc := "(IIIIIZ)V" } : Jvm.MethodName)) ∈ lw_all := lw_g (lw_at lw_m6 7 rfl) rfl
theorem q1425 : (Jvm.Cond.instanceMethod ({ cls := "AlgebraHouse$Numbers", name := "addAll", desc := "(IIIIIZ)V" } : Jvm.MethodName)) ∈ lw_all := lw_g (lw_at lw_m6 8 rfl) rfl
theorem q1426 : (Jvm.Cond.selects "AlgebraHouse$Numbers" ({ cls := "AlgebraHouse$Numbers", name := "addAll", desc := "(IIIIIZ)V" } : Jvm.MethodName) ({ cls := "AlgebraHouse$Numbers", name := "addAll", desc := "(IIIIIZ)V" } : Jvm.MethodName)) ∈ lw_all := lw_g (lw_at lw_m6 9 rfl) rfl
theorem q1427 : (Jvm.Cond.code ({ cls := "AlgebraHouse$Numbers", name := "addAll", desc := "(IIIIIZ)V" } : Jvm.MethodName) prog_8_method_15_code (8 : Nat) (Option.none : Option Jvm.ClassFile.FieldType)) ∈ lw_all := lw_g (lw_at lw_m6 10 rfl) rfl
theorem q1428 : (Jvm.Cond.constant "AlgebraHouse$Numbers" (118 : Nat) (1157184 : Int32)) ∈ lw_all := lw_g (lw_at lw_m6 11 rfl) rfl
theorem q1446 : (Jvm.Cond.instanceMethod ({ cls := "AlgebraHouse$Numbers", name := "degree", desc := "(I)I" } : Jvm.MethodName)) ∈ lw_all := lw_g (lw_at lw_m6 29 rfl) rfl
theorem q1447 : (Jvm.Cond.selects "AlgebraHouse$Numbers" ({ cls := "AlgebraHouse$Numbers", name := "degree", desc := "(I)I" } : Jvm.MethodName) ({ cls := "AlgebraHouse$Numbers", name := "degree", desc := "(I)I" } : Jvm.MethodName)) ∈ lw_all := lw_g (lw_at lw_m6 30 rfl) rfl
theorem q1448 : (Jvm.Cond.code ({ cls := "AlgebraHouse$Numbers", name := "degree", desc := "(I)I" } : Jvm.MethodName) prog_8_method_24_code (3 : Nat) (Option.some Jvm.ClassFile.FieldType.int)) ∈ lw_all := lw_g (lw_at lw_m6 31 rfl) rfl
theorem q1450 : (Jvm.Cond.instanceMethod ({ cls := "AlgebraHouse$Numbers", name := "divide", desc := "(III)V" } : Jvm.MethodName)) ∈ lw_all := lw_g (lw_at lw_m6 33 rfl) rfl
theorem q1451 : (Jvm.Cond.selects "AlgebraHouse$Numbers" ({ cls := "AlgebraHouse$Numbers", name := "divide", desc := "(III)V" } : Jvm.MethodName) ({ cls := "AlgebraHouse$Numbers", name := "divide", desc := "(III)V" } : Jvm.MethodName)) ∈ lw_all := lw_g (lw_at lw_m6 34 rfl) rfl
theorem q1452 : (Jvm.Cond.code ({ cls := "AlgebraHouse$Numbers", name := "divide", desc := "(III)V" } : Jvm.MethodName) prog_8_method_25_code (7 : Nat) (Option.none : Option Jvm.ClassFile.FieldType)) ∈ lw_all := lw_g (lw_at lw_m6 35 rfl) rfl
theorem q1453 : (Jvm.Cond.constant "AlgebraHouse$Numbers" (146 : Nat) (1157776 : Int32)) ∈ lw_all := lw_g (lw_at lw_m6 36 rfl) rfl
theorem q1454 : (Jvm.Cond.constant "AlgebraHouse$Numbers" (147 : Nat) (1158658 : Int32)) ∈ lw_all := lw_g (lw_at lw_m6 37 rfl) rfl
theorem q1455 : (Jvm.Cond.methodLink "AlgebraHouse$Numbers" (148 : Nat) ({ cls := "AlgebraHouse$Numbers", name := "degree", desc := "(I)I" } : Jvm.MethodName)) ∈ lw_all := lw_g (lw_at lw_m6 38 rfl) rfl
theorem q1456 : (Jvm.Cond.methodLink "AlgebraHouse$Numbers" (151 : Nat) ({ cls := "AlgebraHouse$Numbers", name := "by", desc := "(IIII)V" } : Jvm.MethodName)) ∈ lw_all := lw_g (lw_at lw_m6 39 rfl) rfl
theorem q1457 : (Jvm.Cond.instanceMethod ({ cls := "AlgebraHouse$Numbers", name := "by", desc := "(IIII)V" } : Jvm.MethodName)) ∈ lw_all := lw_g (lw_at lw_m6 40 rfl) rfl
theorem q1458 : (Jvm.Cond.selects "AlgebraHouse$Numbers" ({ cls := "AlgebraHouse$Numbers", name := "by", desc := "(IIII)V" } : Jvm.MethodName) ({ cls := "AlgebraHouse$Numbers", name := "by", desc := "(IIII)V" } : Jvm.MethodName)) ∈ lw_all := lw_g (lw_at lw_m6 41 rfl) rfl
theorem q1459 : (Jvm.Cond.code ({ cls := "AlgebraHouse$Numbers", name := "by", desc := "(IIII)V" } : Jvm.MethodName) prog_8_method_12_code (6 : Nat) (Option.none : Option Jvm.ClassFile.FieldType)) ∈ lw_all := lw_g (lw_at lw_m6 42 rfl) rfl
theorem q1460 : (Jvm.Cond.methodLink "AlgebraHouse$Numbers" (59 : Nat) ({ cls := "AlgebraHouse$Numbers", name := "inverse", desc := "(II)I" } : Jvm.MethodName)) ∈ lw_all := lw_g (lw_at lw_m6 43 rfl) rfl
theorem q1461 : (Jvm.Cond.static ({ cls := "AlgebraHouse$Numbers", name := "inverse", desc := "(II)I" } : Jvm.MethodName)) ∈ lw_all := lw_g (lw_at lw_m6 44 rfl) rfl
theorem q1462 : (Jvm.Cond.code ({ cls := "AlgebraHouse$Numbers", name := "inverse", desc := "(II)I" } : Jvm.MethodName) prog_8_method_13_code (9 : Nat) (Option.some Jvm.ClassFile.FieldType.int)) ∈ lw_all := lw_g (lw_at lw_m6 45 rfl) rfl
theorem q1480 : (Jvm.Cond.instanceMethod ({ cls := "AlgebraHouse$Numbers", name := "determinant", desc := "(III)V" } : Jvm.MethodName)) ∈ lw_all := lw_g (lw_at lw_m6 63 rfl) rfl
theorem q1481 : (Jvm.Cond.selects "AlgebraHouse$Numbers" ({ cls := "AlgebraHouse$Numbers", name := "determinant", desc := "(III)V" } : Jvm.MethodName) ({ cls := "AlgebraHouse$Numbers", name := "determinant", desc := "(III)V" } : Jvm.MethodName)) ∈ lw_all := lw_g (lw_at lw_m6 64 rfl) rfl
theorem q1482 : (Jvm.Cond.code ({ cls := "AlgebraHouse$Numbers", name := "determinant", desc := "(III)V" } : Jvm.MethodName) prog_8_method_21_code (4 : Nat) (Option.none : Option Jvm.ClassFile.FieldType)) ∈ lw_all := lw_g (lw_at lw_m6 65 rfl) rfl
theorem q1483 : (Jvm.Cond.methodLink "AlgebraHouse$Numbers" (133 : Nat) ({ cls := "AlgebraHouse$Numbers", name := "minor", desc := "(IIIII)V" } : Jvm.MethodName)) ∈ lw_all := lw_g (lw_at lw_m6 66 rfl) rfl
theorem q1484 : (Jvm.Cond.privateMethod ({ cls := "AlgebraHouse$Numbers", name := "minor", desc := "(IIIII)V" } : Jvm.MethodName)) ∈ lw_tbl := lw_at lw_m6 67 rfl
theorem q1485 : (Jvm.Cond.instanceMethod ({ cls := "AlgebraHouse$Numbers", name := "minor", desc := "(IIIII)V" } : Jvm.MethodName)) ∈ lw_all := lw_g (lw_at lw_m6 68 rfl) rfl
theorem q1486 : (Jvm.Cond.code ({ cls := "AlgebraHouse$Numbers", name := "minor", desc := "(IIIII)V" } : Jvm.MethodName) prog_8_method_20_code (15 : Nat) (Option.none : Option Jvm.ClassFile.FieldType)) ∈ lw_all := lw_g (lw_at lw_m6 69 rfl) rfl
theorem q1487 : (Jvm.Cond.methodLink "AlgebraHouse$Numbers" (126 : Nat) ({ cls := "java/lang/Integer", name := "numberOfTrailingZeros", desc := "(I)I" } : Jvm.MethodName)) ∈ lw_all := lw_g (lw_at lw_m6 70 rfl) rfl
theorem q1491 : (Jvm.Cond.constant "AlgebraHouse$Numbers" (131 : Nat) (1157580 : Int32)) ∈ lw_all := lw_g (lw_at lw_m6 74 rfl) rfl
theorem q1492 : (Jvm.Cond.constant "AlgebraHouse$Numbers" (132 : Nat) (1157282 : Int32)) ∈ lw_all := lw_g (lw_at lw_m6 75 rfl) rfl
theorem q1493 : (Jvm.Cond.constant "AlgebraHouse$Numbers" (136 : Nat) (1157678 : Int32)) ∈ lw_all := lw_g (lw_at lw_m6 76 rfl) rfl
theorem q1504 : (Jvm.Cond.instanceMethod ({ cls := "AlgebraHouse$Numbers", name := "adjugate", desc := "(III)V" } : Jvm.MethodName)) ∈ lw_all := lw_g (lw_at lw_m6 87 rfl) rfl
theorem q1505 : (Jvm.Cond.selects "AlgebraHouse$Numbers" ({ cls := "AlgebraHouse$Numbers", name := "adjugate", desc := "(III)V" } : Jvm.MethodName) ({ cls := "AlgebraHouse$Numbers", name := "adjugate", desc := "(III)V" } : Jvm.MethodName)) ∈ lw_all := lw_g (lw_at lw_m6 88 rfl) rfl
theorem q1506 : (Jvm.Cond.code ({ cls := "AlgebraHouse$Numbers", name := "adjugate", desc := "(III)V" } : Jvm.MethodName) prog_8_method_22_code (10 : Nat) (Option.none : Option Jvm.ClassFile.FieldType)) ∈ lw_all := lw_g (lw_at lw_m6 89 rfl) rfl
theorem q1507 : (Jvm.Cond.methodLink "AlgebraHouse$Numbers" (137 : Nat) ({ cls := "AlgebraHouse$Rings", name := "plain", desc := "(I)I" } : Jvm.MethodName)) ∈ lw_all := lw_g (lw_at lw_m6 90 rfl) rfl
theorem q1508 : (Jvm.Cond.methodLink "AlgebraHouse$Numbers" (140 : Nat) ({ cls := "AlgebraHouse$Numbers", name := "unit", desc := "(II)V" } : Jvm.MethodName)) ∈ lw_all := lw_g (lw_at lw_m6 91 rfl) rfl
theorem q1509 : (Jvm.Cond.methodLink "AlgebraHouse$Numbers" (143 : Nat) ({ cls := "AlgebraHouse$Numbers", name := "less", desc := "(III)V" } : Jvm.MethodName)) ∈ lw_all := lw_g (lw_at lw_m6 92 rfl) rfl
theorem q1547 : (Jvm.Cond.instanceMethod ({ cls := "AlgebraHouse$Numbers", name := "isLess", desc := "(IIZ)Z" } : Jvm.MethodName)) ∈ lw_all := lw_g (lw_at lw_m6 130 rfl) rfl
theorem q1548 : (Jvm.Cond.selects "AlgebraHouse$Numbers" ({ cls := "AlgebraHouse$Numbers", name := "isLess", desc := "(IIZ)Z" } : Jvm.MethodName) ({ cls := "AlgebraHouse$Numbers", name := "isLess", desc := "(IIZ)Z" } : Jvm.MethodName)) ∈ lw_all := lw_g (lw_at lw_m6 131 rfl) rfl
theorem q1549 : (Jvm.Cond.code ({ cls := "AlgebraHouse$Numbers", name := "isLess", desc := "(IIZ)Z" } : Jvm.MethodName) prog_8_method_14_code (6 : Nat) (Option.some Jvm.ClassFile.FieldType.boolean)) ∈ lw_all := lw_g (lw_at lw_m6 132 rfl) rfl
theorem in_X8 : ∀ w ∈ wsX80, w ∈ lw_all := lw_in wsX80 [581, 583, 585] (by decide +kernel) (by decide +kernel)
/-! AlgebraHouse$Code -/
def RX9 : String := "AlgebraHouse$Code"
def TX9 : u_T := fun k => match k with
  | 0 => ("AlgebraHouse$Code", "op", "[I", true)
  | 1 => ("AlgebraHouse$Code", "a", "[I", true)
  | 2 => ("AlgebraHouse$Code", "b", "[I", true)
  | 3 => ("AlgebraHouse$Code", "size", "I", false)
  | 4 => ("AlgebraHouse$Code", "text", "I", false)
  | 5 => ("AlgebraHouse$Code", "ring", "I", false)
  | _ => ("AlgebraHouse$Code", "active", "I", false)
def tyX9 : Nat → FieldType := fun k => match k with
  | 0 => .array .int
  | 1 => .array .int
  | 2 => .array .int
  | 3 => .int
  | 4 => .int
  | 5 => .int
  | _ => .int
abbrev wsX90 : List Cond := u_ws RX9 TX9 7
theorem nmX9 : ∀ a, a < 7 → ∀ b, b < 7 → a ≠ b → (TX9 a).2.1 ≠ (TX9 b).2.1 := by decide +kernel
theorem tyX9_ok : ∀ k, k < 7 → parseFieldDescriptor (TX9 k).2.2.1 = some (tyX9 k) := by decide +kernel
abbrev cX9_init : ByteArray := prog_3_method_1_code
def yX9_init : MethodName := ⟨RX9, "<init>", "()V"⟩
abbrev cX9_add : ByteArray := prog_3_method_2_code
def yX9_add : MethodName := ⟨RX9, "add", "(III)I"⟩
theorem q227 : (Jvm.Cond.initialized "AlgebraHouse$Code") ∈ lw_all := lw_g (lw_at lw_m1 10 rfl) rfl
theorem q590 : (Jvm.Cond.instantiable "AlgebraHouse$Code" (7 : Nat)) ∈ lw_all := lw_g (lw_at lw_m2 133 rfl) rfl
theorem q592 : (Jvm.Cond.instanceMethod ({ cls := "AlgebraHouse$Code", name := "<init>", desc := "()V" } : Jvm.MethodName)) ∈ lw_all := lw_g (lw_at lw_m2 135 rfl) rfl
theorem q593 : (Jvm.Cond.code ({ cls := "AlgebraHouse$Code", name := "<init>", desc := "()V" } : Jvm.MethodName) prog_3_method_1_code (1 : Nat) (Option.none : Option Jvm.ClassFile.FieldType)) ∈ lw_all := lw_g (lw_at lw_m2 136 rfl) rfl
theorem q594 : (Jvm.Cond.methodLink "AlgebraHouse$Code" (1 : Nat) ({ cls := "java/lang/Object", name := "<init>", desc := "()V" } : Jvm.MethodName)) ∈ lw_all := lw_g (lw_at lw_m2 137 rfl) rfl
theorem q595 : (Jvm.Cond.fieldLink "AlgebraHouse$Code" (9 : Nat) "AlgebraHouse$Code" "op" "[I") ∈ lw_all := lw_g (lw_at lw_m2 138 rfl) rfl
theorem q597 : (Jvm.Cond.fieldLink "AlgebraHouse$Code" (13 : Nat) "AlgebraHouse$Code" "a" "[I") ∈ lw_all := lw_g (lw_at lw_m2 140 rfl) rfl
theorem q600 : (Jvm.Cond.fieldLink "AlgebraHouse$Code" (16 : Nat) "AlgebraHouse$Code" "b" "[I") ∈ lw_all := lw_g (lw_at lw_m2 143 rfl) rfl
theorem q602 : (Jvm.Cond.fieldLink "AlgebraHouse$Code" (19 : Nat) "AlgebraHouse$Code" "size" "I") ∈ lw_all := lw_g (lw_at lw_m2 145 rfl) rfl
theorem q607 : (Jvm.Cond.laysFinal "AlgebraHouse$Code" "AlgebraHouse$Code" "op" "[I") ∈ lw_all := lw_g (lw_at lw_m2 150 rfl) rfl
theorem q608 : (Jvm.Cond.soleField "AlgebraHouse$Code" "op") ∈ lw_all := lw_g (lw_at lw_m2 151 rfl) rfl
theorem q609 : (Jvm.Cond.laysFinal "AlgebraHouse$Code" "AlgebraHouse$Code" "a" "[I") ∈ lw_all := lw_g (lw_at lw_m2 152 rfl) rfl
theorem q610 : (Jvm.Cond.soleField "AlgebraHouse$Code" "a") ∈ lw_all := lw_g (lw_at lw_m2 153 rfl) rfl
theorem q611 : (Jvm.Cond.laysFinal "AlgebraHouse$Code" "AlgebraHouse$Code" "b" "[I") ∈ lw_all := lw_g (lw_at lw_m2 154 rfl) rfl
theorem q612 : (Jvm.Cond.soleField "AlgebraHouse$Code" "b") ∈ lw_all := lw_g (lw_at lw_m2 155 rfl) rfl
theorem q613 : (Jvm.Cond.lays "AlgebraHouse$Code" "AlgebraHouse$Code" "size" "I") ∈ lw_all := lw_g (lw_at lw_m2 156 rfl) rfl
theorem q614 : (Jvm.Cond.soleField "AlgebraHouse$Code" "size") ∈ lw_all := lw_g (lw_at lw_m2 157 rfl) rfl
theorem q615 : (Jvm.Cond.lays "AlgebraHouse$Code" "AlgebraHouse$Code" "text" "I") ∈ lw_all := lw_g (lw_at lw_m2 158 rfl) rfl
theorem q616 : (Jvm.Cond.soleField "AlgebraHouse$Code" "text") ∈ lw_all := lw_g (lw_at lw_m2 159 rfl) rfl
theorem q617 : (Jvm.Cond.lays "AlgebraHouse$Code" "AlgebraHouse$Code" "ring" "I") ∈ lw_all := lw_g (lw_at lw_m2 160 rfl) rfl
theorem q618 : (Jvm.Cond.soleField "AlgebraHouse$Code" "ring") ∈ lw_all := lw_g (lw_at lw_m2 161 rfl) rfl
theorem q619 : (Jvm.Cond.lays "AlgebraHouse$Code" "AlgebraHouse$Code" "active" "I") ∈ lw_all := lw_g (lw_at lw_m2 162 rfl) rfl
theorem q620 : (Jvm.Cond.soleField "AlgebraHouse$Code" "active") ∈ lw_all := lw_g (lw_at lw_m2 163 rfl) rfl
theorem q621 : (Jvm.Cond.superclass "AlgebraHouse$Code" "java/lang/Object") ∈ lw_all := lw_g (lw_at lw_m2 164 rfl) rfl
theorem q1258 : (Jvm.Cond.instanceMethod ({ cls := "AlgebraHouse$Code", name := "add", desc := "(III)I" } : Jvm.MethodName)) ∈ lw_all := lw_g (lw_at lw_m5 81 rfl) rfl
theorem q1259 : (Jvm.Cond.selects "AlgebraHouse$Code" ({ cls := "AlgebraHouse$Code", name := "add", desc := "(III)I" } : Jvm.MethodName) ({ cls := "AlgebraHouse$Code", name := "add", desc := "(III)I" } : Jvm.MethodName)) ∈ lw_all := lw_g (lw_at lw_m5 82 rfl) rfl
theorem q1260 : (Jvm.Cond.code ({ cls := "AlgebraHouse$Code", name := "add", desc := "(III)I" } : Jvm.MethodName) prog_3_method_2_code (4 : Nat) (Option.some Jvm.ClassFile.FieldType.int)) ∈ lw_all := lw_g (lw_at lw_m5 83 rfl) rfl
theorem in_X9 : ∀ w ∈ wsX90, w ∈ lw_all := lw_in wsX90 [607, 609, 611, 613, 615, 617, 619] (by decide +kernel) (by decide +kernel)
/-! AlgebraHouseModel -/
def RX10 : String := "AlgebraHouseModel"
def TX10 : u_T := fun k => match k with
  | 0 => ("AlgebraHouseModel", "keys", "[J", true)
  | 1 => ("AlgebraHouseModel", "builtIn", "[J", true)
  | 2 => ("AlgebraHouseModel", "tape", "[I", true)
  | 3 => ("AlgebraHouseModel", "text", "[I", true)
  | 4 => ("AlgebraHouseModel", "taped", "I", false)
  | 5 => ("AlgebraHouseModel", "tKind", "[I", true)
  | 6 => ("AlgebraHouseModel", "tPlace", "[I", true)
  | 7 => ("AlgebraHouseModel", "tValue", "[J", true)
  | 8 => ("AlgebraHouseModel", "tokens", "I", false)
  | 9 => ("AlgebraHouseModel", "at", "I", false)
  | 10 => ("AlgebraHouseModel", "fault", "I", false)
  | 11 => ("AlgebraHouseModel", "place", "I", false)
  | 12 => ("AlgebraHouseModel", "open", "I", false)
  | 13 => ("AlgebraHouseModel", "noted", "I", false)
  | 14 => ("AlgebraHouseModel", "notedAt", "I", false)
  | 15 => ("AlgebraHouseModel", "nodes", "I", false)
  | 16 => ("AlgebraHouseModel", "nKind", "[I", true)
  | 17 => ("AlgebraHouseModel", "nA", "[I", true)
  | 18 => ("AlgebraHouseModel", "nB", "[I", true)
  | 19 => ("AlgebraHouseModel", "nC", "[I", true)
  | 20 => ("AlgebraHouseModel", "nNext", "[I", true)
  | 21 => ("AlgebraHouseModel", "nPlace", "[I", true)
  | 22 => ("AlgebraHouseModel", "nRole", "[I", true)
  | 23 => ("AlgebraHouseModel", "nWhich", "[I", true)
  | 24 => ("AlgebraHouseModel", "nBase", "[I", true)
  | 25 => ("AlgebraHouseModel", "nDepth", "[I", true)
  | 26 => ("AlgebraHouseModel", "nSize", "[I", true)
  | 27 => ("AlgebraHouseModel", "nRBase", "[I", true)
  | 28 => ("AlgebraHouseModel", "nRDepth", "[I", true)
  | 29 => ("AlgebraHouseModel", "nRSize", "[I", true)
  | 30 => ("AlgebraHouseModel", "nHasR", "[Z", true)
  | 31 => ("AlgebraHouseModel", "nValue", "[J", true)
  | 32 => ("AlgebraHouseModel", "functions", "I", false)
  | 33 => ("AlgebraHouseModel", "variables", "I", false)
  | 34 => ("AlgebraHouseModel", "results", "I", false)
  | 35 => ("AlgebraHouseModel", "fnName", "[J", true)
  | 36 => ("AlgebraHouseModel", "varName", "[J", true)
  | 37 => ("AlgebraHouseModel", "paramName", "[J", true)
  | 38 => ("AlgebraHouseModel", "fnParams", "[I", true)
  | 39 => ("AlgebraHouseModel", "fnBody", "[I", true)
  | 40 => ("AlgebraHouseModel", "fnSort", "[I", true)
  | 41 => ("AlgebraHouseModel", "fnBase", "[I", true)
  | 42 => ("AlgebraHouseModel", "fnDepth", "[I", true)
  | 43 => ("AlgebraHouseModel", "fnSize", "[I", true)
  | 44 => ("AlgebraHouseModel", "paramBase", "[I", true)
  | 45 => ("AlgebraHouseModel", "paramDepth", "[I", true)
  | 46 => ("AlgebraHouseModel", "paramSize", "[I", true)
  | 47 => ("AlgebraHouseModel", "fnRBase", "[I", true)
  | 48 => ("AlgebraHouseModel", "fnRDepth", "[I", true)
  | 49 => ("AlgebraHouseModel", "fnRSize", "[I", true)
  | 50 => ("AlgebraHouseModel", "fnHasR", "[Z", true)
  | 51 => ("AlgebraHouseModel", "paramHasR", "[Z", true)
  | 52 => ("AlgebraHouseModel", "varBase", "[I", true)
  | 53 => ("AlgebraHouseModel", "varDepth", "[I", true)
  | 54 => ("AlgebraHouseModel", "varSize", "[I", true)
  | 55 => ("AlgebraHouseModel", "resBase", "[I", true)
  | 56 => ("AlgebraHouseModel", "resDepth", "[I", true)
  | 57 => ("AlgebraHouseModel", "resSize", "[I", true)
  | 58 => ("AlgebraHouseModel", "resValue", "[J", true)
  | 59 => ("AlgebraHouseModel", "varValue", "[J", true)
  | 60 => ("AlgebraHouseModel", "isDefining", "Z", false)
  | 61 => ("AlgebraHouseModel", "here", "I", false)
  | 62 => ("AlgebraHouseModel", "rBase", "I", false)
  | 63 => ("AlgebraHouseModel", "rDepth", "I", false)
  | 64 => ("AlgebraHouseModel", "rSize", "I", false)
  | 65 => ("AlgebraHouseModel", "jBase", "I", false)
  | 66 => ("AlgebraHouseModel", "jDepth", "I", false)
  | 67 => ("AlgebraHouseModel", "jSize", "I", false)
  | 68 => ("AlgebraHouseModel", "spineTop", "I", false)
  | 69 => ("AlgebraHouseModel", "spine", "[I", true)
  | 70 => ("AlgebraHouseModel", "iBase", "I", false)
  | 71 => ("AlgebraHouseModel", "iDepth", "I", false)
  | 72 => ("AlgebraHouseModel", "iSize", "I", false)
  | 73 => ("AlgebraHouseModel", "asked", "I", false)
  | 74 => ("AlgebraHouseModel", "cost", "I", false)
  | 75 => ("AlgebraHouseModel", "cBase", "I", false)
  | 76 => ("AlgebraHouseModel", "cDepth", "I", false)
  | 77 => ("AlgebraHouseModel", "cSize", "I", false)
  | 78 => ("AlgebraHouseModel", "eBase", "[I", true)
  | 79 => ("AlgebraHouseModel", "eDepth", "[I", true)
  | 80 => ("AlgebraHouseModel", "eSize", "[I", true)
  | 81 => ("AlgebraHouseModel", "bestBase", "I", false)
  | 82 => ("AlgebraHouseModel", "bestDepth", "I", false)
  | 83 => ("AlgebraHouseModel", "bestSize", "I", false)
  | 84 => ("AlgebraHouseModel", "error", "I", false)
  | 85 => ("AlgebraHouseModel", "pile", "[J", true)
  | 86 => ("AlgebraHouseModel", "top", "I", false)
  | 87 => ("AlgebraHouseModel", "above", "J", false)
  | 88 => ("AlgebraHouseModel", "below", "J", false)
  | 89 => ("AlgebraHouseModel", "modulus", "I", false)
  | 90 => ("AlgebraHouseModel", "steps", "I", false)
  | 91 => ("AlgebraHouseModel", "calls", "I", false)
  | 92 => ("AlgebraHouseModel", "mostCalls", "I", false)
  | 93 => ("AlgebraHouseModel", "params", "I", false)
  | 94 => ("AlgebraHouseModel", "taskDo", "[I", true)
  | 95 => ("AlgebraHouseModel", "taskNode", "[I", true)
  | 96 => ("AlgebraHouseModel", "taskX", "[I", true)
  | 97 => ("AlgebraHouseModel", "taskY", "[I", true)
  | 98 => ("AlgebraHouseModel", "taskZ", "[I", true)
  | 99 => ("AlgebraHouseModel", "tasks", "I", false)
  | 100 => ("AlgebraHouseModel", "callFunction", "[I", true)
  | 101 => ("AlgebraHouseModel", "callParams", "[I", true)
  | 102 => ("AlgebraHouseModel", "callHere", "[I", true)
  | 103 => ("AlgebraHouseModel", "callBase", "[I", true)
  | 104 => ("AlgebraHouseModel", "callDepth", "[I", true)
  | 105 => ("AlgebraHouseModel", "callSize", "[I", true)
  | 106 => ("AlgebraHouseModel", "callModulus", "[I", true)
  | 107 => ("AlgebraHouseModel", "rootP", "[J", true)
  | 108 => ("AlgebraHouseModel", "rootX", "[J", true)
  | 109 => ("AlgebraHouseModel", "rootY", "[J", true)
  | 110 => ("AlgebraHouseModel", "becomes", "I", false)
  | 111 => ("AlgebraHouseModel", "result", "I", false)
  | 112 => ("AlgebraHouseModel", "headRing", "I", false)
  | 113 => ("AlgebraHouseModel", "forToken", "I", false)
  | 114 => ("AlgebraHouseModel", "paramToken", "[I", true)
  | _ => ("AlgebraHouseModel", "paramRing", "[I", true)
def tyX10 : Nat → FieldType := fun k => match k with
  | 0 => .array .long
  | 1 => .array .long
  | 2 => .array .int
  | 3 => .array .int
  | 4 => .int
  | 5 => .array .int
  | 6 => .array .int
  | 7 => .array .long
  | 8 => .int
  | 9 => .int
  | 10 => .int
  | 11 => .int
  | 12 => .int
  | 13 => .int
  | 14 => .int
  | 15 => .int
  | 16 => .array .int
  | 17 => .array .int
  | 18 => .array .int
  | 19 => .array .int
  | 20 => .array .int
  | 21 => .array .int
  | 22 => .array .int
  | 23 => .array .int
  | 24 => .array .int
  | 25 => .array .int
  | 26 => .array .int
  | 27 => .array .int
  | 28 => .array .int
  | 29 => .array .int
  | 30 => .array .boolean
  | 31 => .array .long
  | 32 => .int
  | 33 => .int
  | 34 => .int
  | 35 => .array .long
  | 36 => .array .long
  | 37 => .array .long
  | 38 => .array .int
  | 39 => .array .int
  | 40 => .array .int
  | 41 => .array .int
  | 42 => .array .int
  | 43 => .array .int
  | 44 => .array .int
  | 45 => .array .int
  | 46 => .array .int
  | 47 => .array .int
  | 48 => .array .int
  | 49 => .array .int
  | 50 => .array .boolean
  | 51 => .array .boolean
  | 52 => .array .int
  | 53 => .array .int
  | 54 => .array .int
  | 55 => .array .int
  | 56 => .array .int
  | 57 => .array .int
  | 58 => .array .long
  | 59 => .array .long
  | 60 => .boolean
  | 61 => .int
  | 62 => .int
  | 63 => .int
  | 64 => .int
  | 65 => .int
  | 66 => .int
  | 67 => .int
  | 68 => .int
  | 69 => .array .int
  | 70 => .int
  | 71 => .int
  | 72 => .int
  | 73 => .int
  | 74 => .int
  | 75 => .int
  | 76 => .int
  | 77 => .int
  | 78 => .array .int
  | 79 => .array .int
  | 80 => .array .int
  | 81 => .int
  | 82 => .int
  | 83 => .int
  | 84 => .int
  | 85 => .array .long
  | 86 => .int
  | 87 => .long
  | 88 => .long
  | 89 => .int
  | 90 => .int
  | 91 => .int
  | 92 => .int
  | 93 => .int
  | 94 => .array .int
  | 95 => .array .int
  | 96 => .array .int
  | 97 => .array .int
  | 98 => .array .int
  | 99 => .int
  | 100 => .array .int
  | 101 => .array .int
  | 102 => .array .int
  | 103 => .array .int
  | 104 => .array .int
  | 105 => .array .int
  | 106 => .array .int
  | 107 => .array .long
  | 108 => .array .long
  | 109 => .array .long
  | 110 => .int
  | 111 => .int
  | 112 => .int
  | 113 => .int
  | 114 => .array .int
  | _ => .array .int
abbrev wsX100 : List Cond := u_ws RX10 TX10 116
set_option maxRecDepth 100000 in
theorem nmX10 : ∀ a, a < 116 → ∀ b, b < 116 → a ≠ b → (TX10 a).2.1 ≠ (TX10 b).2.1 := by decide +kernel
set_option maxRecDepth 100000 in
theorem tyX10_ok : ∀ k, k < 116 → parseFieldDescriptor (TX10 k).2.2.1 = some (tyX10 k) := by decide +kernel
abbrev cX10_init : ByteArray := prog_14_method_2_code
def yX10_init : MethodName := ⟨RX10, "<init>", "()V"⟩
abbrev cX10_feed : ByteArray := prog_14_method_3_code
def yX10_feed : MethodName := ⟨RX10, "feed", "(IIIII)I"⟩
abbrev cX10_lay : ByteArray := prog_14_method_4_code
def yX10_lay : MethodName := ⟨RX10, "lay", "(I)V"⟩
abbrev cX10_line : ByteArray := prog_14_method_136_code
def yX10_line : MethodName := ⟨RX10, "line", "(I)I"⟩
abbrev cX10_scan : ByteArray := prog_14_method_7_code
def yX10_scan : MethodName := ⟨RX10, "scan", "(I)V"⟩
abbrev cX10_token : ByteArray := prog_14_method_8_code
def yX10_token : MethodName := ⟨RX10, "token", "(II)I"⟩
abbrev cX10_isLetter : ByteArray := prog_14_method_5_code
def yX10_isLetter : MethodName := ⟨RX10, "isLetter", "(I)Z"⟩
abbrev cX10_isDigit : ByteArray := prog_14_method_6_code
def yX10_isDigit : MethodName := ⟨RX10, "isDigit", "(I)Z"⟩
abbrev cX10_wordKind : ByteArray := prog_14_method_9_code
def yX10_wordKind : MethodName := ⟨RX10, "wordKind", "(J)I"⟩
abbrev cX10_builtInOf : ByteArray := prog_14_method_10_code
def yX10_builtInOf : MethodName := ⟨RX10, "builtInOf", "(J)I"⟩
abbrev cX10_readDefinition : ByteArray := prog_14_method_131_code
def yX10_readDefinition : MethodName := ⟨RX10, "readDefinition", "()I"⟩
abbrev cX10_need : ByteArray := prog_14_method_20_code
def yX10_need : MethodName := ⟨RX10, "need", "(I)I"⟩
abbrev cX10_accept : ByteArray := prog_14_method_15_code
def yX10_accept : MethodName := ⟨RX10, "accept", "()V"⟩
abbrev cX10_fail : ByteArray := prog_14_method_11_code
def yX10_fail : MethodName := ⟨RX10, "fail", "(I)V"⟩
abbrev cX10_openWith : ByteArray := prog_14_method_22_code
def yX10_openWith : MethodName := ⟨RX10, "openWith", "(I)V"⟩
abbrev cX10_sign : ByteArray := prog_14_method_18_code
def yX10_sign : MethodName := ⟨RX10, "sign", "(I)V"⟩
abbrev cX10_isSign : ByteArray := prog_14_method_13_code
def yX10_isSign : MethodName := ⟨RX10, "isSign", "(I)Z"⟩
abbrev cX10_opens : ByteArray := prog_14_method_21_code
def yX10_opens : MethodName := ⟨RX10, "opens", "(I)V"⟩
abbrev cX10_readRing : ByteArray := prog_14_method_26_code
def yX10_readRing : MethodName := ⟨RX10, "readRing", "()I"⟩
abbrev cX10_node : ByteArray := prog_14_method_24_code
def yX10_node : MethodName := ⟨RX10, "node", "(IIIII)I"⟩
abbrev cX10_isKey : ByteArray := prog_14_method_14_code
def yX10_isKey : MethodName := ⟨RX10, "isKey", "(J)Z"⟩
abbrev cX10_closeWith : ByteArray := prog_14_method_23_code
def yX10_closeWith : MethodName := ⟨RX10, "closeWith", "(I)V"⟩
abbrev cX10_takesSign : ByteArray := prog_14_method_16_code
def yX10_takesSign : MethodName := ⟨RX10, "takesSign", "(I)Z"⟩
abbrev cX10_takesKey : ByteArray := prog_14_method_17_code
def yX10_takesKey : MethodName := ⟨RX10, "takesKey", "(J)Z"⟩
abbrev cX10_key : ByteArray := prog_14_method_19_code
def yX10_key : MethodName := ⟨RX10, "key", "(J)V"⟩
abbrev cX10_readE : ByteArray := prog_14_method_27_code
def yX10_readE : MethodName := ⟨RX10, "readE", "()I"⟩
abbrev cX10_readOr : ByteArray := prog_14_method_28_code
def yX10_readOr : MethodName := ⟨RX10, "readOr", "()I"⟩
abbrev cX10_readAnd : ByteArray := prog_14_method_29_code
def yX10_readAnd : MethodName := ⟨RX10, "readAnd", "()I"⟩
abbrev cX10_readNot : ByteArray := prog_14_method_30_code
def yX10_readNot : MethodName := ⟨RX10, "readNot", "()I"⟩
abbrev cX10_readCompare : ByteArray := prog_14_method_31_code
def yX10_readCompare : MethodName := ⟨RX10, "readCompare", "()I"⟩
abbrev cX10_readSum : ByteArray := prog_14_method_32_code
def yX10_readSum : MethodName := ⟨RX10, "readSum", "()I"⟩
abbrev cX10_readProduct : ByteArray := prog_14_method_33_code
def yX10_readProduct : MethodName := ⟨RX10, "readProduct", "()I"⟩
abbrev cX10_readUnary : ByteArray := prog_14_method_34_code
def yX10_readUnary : MethodName := ⟨RX10, "readUnary", "()I"⟩
abbrev cX10_readBehind : ByteArray := prog_14_method_35_code
def yX10_readBehind : MethodName := ⟨RX10, "readBehind", "()I"⟩
abbrev cX10_readAtom : ByteArray := prog_14_method_36_code
def yX10_readAtom : MethodName := ⟨RX10, "readAtom", "()I"⟩
abbrev cX10_readItems : ByteArray := prog_14_method_37_code
def yX10_readItems : MethodName := ⟨RX10, "readItems", "(I)I"⟩
abbrev cX10_readLine : ByteArray := prog_14_method_137_code
def yX10_readLine : MethodName := ⟨RX10, "readLine", "(Z)I"⟩
abbrev cX10_judgeDefinition : ByteArray := prog_14_method_133_code
def yX10_judgeDefinition : MethodName := ⟨RX10, "judgeDefinition", "(I)V"⟩
abbrev cX10_judgeHead : ByteArray := prog_14_method_132_code
def yX10_judgeHead : MethodName := ⟨RX10, "judgeHead", "(I)V"⟩
abbrev cX10_judgeRing : ByteArray := prog_14_method_48_code
def yX10_judgeRing : MethodName := ⟨RX10, "judgeRing", "(I)V"⟩
abbrev cX10_setRing : ByteArray := prog_14_method_25_code
def yX10_setRing : MethodName := ⟨RX10, "setRing", "(IIII)V"⟩
abbrev cX10_note : ByteArray := prog_14_method_12_code
def yX10_note : MethodName := ⟨RX10, "note", "(II)V"⟩
abbrev cX10_judgeOver : ByteArray := prog_14_method_49_code
def yX10_judgeOver : MethodName := ⟨RX10, "judgeOver", "(II)V"⟩
abbrev cX10_hasR : ByteArray := prog_14_method_50_code
def yX10_hasR : MethodName := ⟨RX10, "hasR", "(I)Z"⟩
abbrev cX10_isTwin : ByteArray := prog_14_method_134_code
def yX10_isTwin : MethodName := ⟨RX10, "isTwin", "(II)Z"⟩
abbrev cX10_judgeBody : ByteArray := prog_14_method_135_code
def yX10_judgeBody : MethodName := ⟨RX10, "judgeBody", "(I)V"⟩
abbrev cX10_judge : ByteArray := prog_14_method_44_code
def yX10_judge : MethodName := ⟨RX10, "judge", "(I)V"⟩
abbrev cX10_isLeft : ByteArray := prog_14_method_43_code
def yX10_isLeft : MethodName := ⟨RX10, "isLeft", "(I)Z"⟩
abbrev cX10_judgePart : ByteArray := prog_14_method_51_code
def yX10_judgePart : MethodName := ⟨RX10, "judgePart", "(I)V"⟩
abbrev cX10_judgeName : ByteArray := prog_14_method_52_code
def yX10_judgeName : MethodName := ⟨RX10, "judgeName", "(I)V"⟩
abbrev cX10_instance : ByteArray := prog_14_method_54_code
def yX10_instance : MethodName := ⟨RX10, "instance", "(IIIII)Z"⟩
abbrev cX10_variableOf : ByteArray := prog_14_method_53_code
def yX10_variableOf : MethodName := ⟨RX10, "variableOf", "(J)I"⟩
abbrev cX10_judgeCall : ByteArray := prog_14_method_59_code
def yX10_judgeCall : MethodName := ⟨RX10, "judgeCall", "(I)V"⟩
abbrev cX10_meantOf : ByteArray := prog_14_method_58_code
def yX10_meantOf : MethodName := ⟨RX10, "meantOf", "(JI)I"⟩
abbrev cX10_isMeant : ByteArray := prog_14_method_56_code
def yX10_isMeant : MethodName := ⟨RX10, "isMeant", "(I)Z"⟩
abbrev cX10_findR : ByteArray := prog_14_method_57_code
def yX10_findR : MethodName := ⟨RX10, "findR", "(I)Z"⟩
abbrev cX10_joins : ByteArray := prog_14_method_38_code
def yX10_joins : MethodName := ⟨RX10, "joins", "(IIIIII)Z"⟩
abbrev cX10_canBe : ByteArray := prog_14_method_55_code
def yX10_canBe : MethodName := ⟨RX10, "canBe", "(IIII)Z"⟩
abbrev cX10_isField : ByteArray := prog_14_method_41_code
def yX10_isField : MethodName := ⟨RX10, "isField", "(I)Z"⟩
abbrev cX10_goes : ByteArray := prog_14_method_40_code
def yX10_goes : MethodName := ⟨RX10, "goes", "(IIIIII)Z"⟩
abbrev cX10_wrong : ByteArray := prog_14_method_45_code
def yX10_wrong : MethodName := ⟨RX10, "wrong", "(I)V"⟩
abbrev cX10_judgeBuilt : ByteArray := prog_14_method_61_code
def yX10_judgeBuilt : MethodName := ⟨RX10, "judgeBuilt", "(I)V"⟩
abbrev cX10_joinsParts : ByteArray := prog_14_method_39_code
def yX10_joinsParts : MethodName := ⟨RX10, "joinsParts", "(II)Z"⟩
abbrev cX10_isDivided : ByteArray := prog_14_method_47_code
def yX10_isDivided : MethodName := ⟨RX10, "isDivided", "()Z"⟩
abbrev cX10_isNumber : ByteArray := prog_14_method_42_code
def yX10_isNumber : MethodName := ⟨RX10, "isNumber", "(II)Z"⟩
abbrev cX10_judgeMatrix : ByteArray := prog_14_method_60_code
def yX10_judgeMatrix : MethodName := ⟨RX10, "judgeMatrix", "(I)V"⟩
abbrev cX10_judgeLeft : ByteArray := prog_14_method_46_code
def yX10_judgeLeft : MethodName := ⟨RX10, "judgeLeft", "(I)V"⟩
abbrev cX10_eval : ByteArray := prog_14_method_98_code
def yX10_eval : MethodName := ⟨RX10, "eval", "(I)V"⟩
abbrev cX10_later : ByteArray := prog_14_method_97_code
def yX10_later : MethodName := ⟨RX10, "later", "(I)V"⟩
abbrev cX10_later_2 : ByteArray := prog_14_method_96_code
def yX10_later_2 : MethodName := ⟨RX10, "later", "(IIIII)V"⟩
abbrev cX10_task : ByteArray := prog_14_method_99_code
def yX10_task : MethodName := ⟨RX10, "task", "(IIIII)V"⟩
abbrev cX10_valueAt : ByteArray := prog_14_method_94_code
def yX10_valueAt : MethodName := ⟨RX10, "valueAt", "(I)I"⟩
abbrev cX10_evalPart : ByteArray := prog_14_method_109_code
def yX10_evalPart : MethodName := ⟨RX10, "evalPart", "(I)V"⟩
abbrev cX10_stepsOf : ByteArray := prog_14_method_92_code
def yX10_stepsOf : MethodName := ⟨RX10, "stepsOf", "(I)J"⟩
abbrev cX10_weight : ByteArray := prog_14_method_91_code
def yX10_weight : MethodName := ⟨RX10, "weight", "(I)J"⟩
abbrev cX10_step : ByteArray := prog_14_method_90_code
def yX10_step : MethodName := ⟨RX10, "step", "(J)Z"⟩
abbrev cX10_newValue : ByteArray := prog_14_method_93_code
def yX10_newValue : MethodName := ⟨RX10, "newValue", "()I"⟩
abbrev cX10_clear : ByteArray := prog_14_method_73_code
def yX10_clear : MethodName := ⟨RX10, "clear", "(II)V"⟩
abbrev cX10_set : ByteArray := prog_14_method_71_code
def yX10_set : MethodName := ⟨RX10, "set", "(IJ)V"⟩
abbrev cX10_copy : ByteArray := prog_14_method_72_code
def yX10_copy : MethodName := ⟨RX10, "copy", "(III)V"⟩
abbrev cX10_arguments : ByteArray := prog_14_method_111_code
def yX10_arguments : MethodName := ⟨RX10, "arguments", "(III)V"⟩
abbrev cX10_makeReady : ByteArray := prog_14_method_113_code
def yX10_makeReady : MethodName := ⟨RX10, "makeReady", "()V"⟩
abbrev cX10_evalLeft : ByteArray := prog_14_method_100_code
def yX10_evalLeft : MethodName := ⟨RX10, "evalLeft", "(II)V"⟩
abbrev cX10_evalPower : ByteArray := prog_14_method_101_code
def yX10_evalPower : MethodName := ⟨RX10, "evalPower", "(II)V"⟩
abbrev cX10_setOne : ByteArray := prog_14_method_84_code
def yX10_setOne : MethodName := ⟨RX10, "setOne", "(II)V"⟩
abbrev cX10_rows : ByteArray := prog_14_method_81_code
def yX10_rows : MethodName := ⟨RX10, "rows", "(I)I"⟩
abbrev cX10_entryAt : ByteArray := prog_14_method_80_code
def yX10_entryAt : MethodName := ⟨RX10, "entryAt", "(III)I"⟩
abbrev cX10_multiplyValues : ByteArray := prog_14_method_83_code
def yX10_multiplyValues : MethodName := ⟨RX10, "multiplyValues", "(IIIIII)V"⟩
abbrev cX10_multiplyBlocks : ByteArray := prog_14_method_79_code
def yX10_multiplyBlocks : MethodName := ⟨RX10, "multiplyBlocks", "(IIIII)V"⟩
abbrev cX10_multiplyNumbers : ByteArray := prog_14_method_67_code
def yX10_multiplyNumbers : MethodName := ⟨RX10, "multiplyNumbers", "(III)V"⟩
abbrev cX10_number : ByteArray := prog_14_method_64_code
def yX10_number : MethodName := ⟨RX10, "number", "(IJJ)V"⟩
abbrev cX10_modulo : ByteArray := prog_14_method_62_code
def yX10_modulo : MethodName := ⟨RX10, "modulo", "(I)J"⟩
abbrev cX10_common : ByteArray := prog_14_method_63_code
def yX10_common : MethodName := ⟨RX10, "common", "(JJ)J"⟩
abbrev cX10_put : ByteArray := prog_14_method_70_code
def yX10_put : MethodName := ⟨RX10, "put", "(I)V"⟩
abbrev cX10_multiplyRows : ByteArray := prog_14_method_78_code
def yX10_multiplyRows : MethodName := ⟨RX10, "multiplyRows", "(IIII)V"⟩
abbrev cX10_addNumbers : ByteArray := prog_14_method_65_code
def yX10_addNumbers : MethodName := ⟨RX10, "addNumbers", "(III)V"⟩
abbrev cX10_addBlocks : ByteArray := prog_14_method_76_code
def yX10_addBlocks : MethodName := ⟨RX10, "addBlocks", "(IIIII)V"⟩
abbrev cX10_width : ByteArray := prog_14_method_75_code
def yX10_width : MethodName := ⟨RX10, "width", "(I)I"⟩
abbrev cX10_isZero : ByteArray := prog_14_method_74_code
def yX10_isZero : MethodName := ⟨RX10, "isZero", "(II)Z"⟩
abbrev cX10_goLatest : ByteArray := prog_14_method_95_code
def yX10_goLatest : MethodName := ⟨RX10, "goLatest", "(IIII)V"⟩
abbrev cX10_go : ByteArray := prog_14_method_85_code
def yX10_go : MethodName := ⟨RX10, "go", "(IIIIIII)V"⟩
abbrev cX10_goBack : ByteArray := prog_14_method_108_code
def yX10_goBack : MethodName := ⟨RX10, "goBack", "(IIIIIII)V"⟩
abbrev cX10_evalTwo : ByteArray := prog_14_method_102_code
def yX10_evalTwo : MethodName := ⟨RX10, "evalTwo", "(III)V"⟩
abbrev cX10_isAlike : ByteArray := prog_14_method_103_code
def yX10_isAlike : MethodName := ⟨RX10, "isAlike", "(II)Z"⟩
abbrev cX10_tell : ByteArray := prog_14_method_104_code
def yX10_tell : MethodName := ⟨RX10, "tell", "(IZ)V"⟩
abbrev cX10_addValues : ByteArray := prog_14_method_82_code
def yX10_addValues : MethodName := ⟨RX10, "addValues", "(IIIIIIZ)V"⟩
abbrev cX10_takeBlocks : ByteArray := prog_14_method_77_code
def yX10_takeBlocks : MethodName := ⟨RX10, "takeBlocks", "(IIIII)V"⟩
abbrev cX10_takeNumbers : ByteArray := prog_14_method_66_code
def yX10_takeNumbers : MethodName := ⟨RX10, "takeNumbers", "(III)V"⟩
abbrev cX10_divideBy : ByteArray := prog_14_method_105_code
def yX10_divideBy : MethodName := ⟨RX10, "divideBy", "(IIIII)V"⟩
abbrev cX10_divideNumbers : ByteArray := prog_14_method_69_code
def yX10_divideNumbers : MethodName := ⟨RX10, "divideNumbers", "(III)V"⟩
abbrev cX10_inverse : ByteArray := prog_14_method_68_code
def yX10_inverse : MethodName := ⟨RX10, "inverse", "(JJ)J"⟩
abbrev cX10_divide : ByteArray := prog_14_method_107_code
def yX10_divide : MethodName := ⟨RX10, "divide", "(IIII)V"⟩
abbrev cX10_degreeOf : ByteArray := prog_14_method_106_code
def yX10_degreeOf : MethodName := ⟨RX10, "degreeOf", "(I)I"⟩
abbrev cX10_evalEntry : ByteArray := prog_14_method_110_code
def yX10_evalEntry : MethodName := ⟨RX10, "evalEntry", "(IIII)V"⟩
abbrev cX10_leaveCall : ByteArray := prog_14_method_112_code
def yX10_leaveCall : MethodName := ⟨RX10, "leaveCall", "(I)V"⟩
abbrev cX10_evalFirst : ByteArray := prog_14_method_114_code
def yX10_evalFirst : MethodName := ⟨RX10, "evalFirst", "(I)V"⟩
abbrev cX10_built : ByteArray := prog_14_method_116_code
def yX10_built : MethodName := ⟨RX10, "built", "(IIIII)V"⟩
abbrev cX10_greatest : ByteArray := prog_14_method_119_code
def yX10_greatest : MethodName := ⟨RX10, "greatest", "(IIII)V"⟩
abbrev cX10_tellNumber : ByteArray := prog_14_method_117_code
def yX10_tellNumber : MethodName := ⟨RX10, "tellNumber", "(IJ)V"⟩
abbrev cX10_outerDegree : ByteArray := prog_14_method_118_code
def yX10_outerDegree : MethodName := ⟨RX10, "outerDegree", "(I)I"⟩
abbrev cX10_coefficient : ByteArray := prog_14_method_120_code
def yX10_coefficient : MethodName := ⟨RX10, "coefficient", "(IJI)V"⟩
abbrev cX10_evalAt : ByteArray := prog_14_method_121_code
def yX10_evalAt : MethodName := ⟨RX10, "evalAt", "(IIII)V"⟩
abbrev cX10_derive : ByteArray := prog_14_method_122_code
def yX10_derive : MethodName := ⟨RX10, "derive", "(III)V"⟩
abbrev cX10_det : ByteArray := prog_14_method_88_code
def yX10_det : MethodName := ⟨RX10, "det", "(IIIII)V"⟩
abbrev cX10_smallDet : ByteArray := prog_14_method_87_code
def yX10_smallDet : MethodName := ⟨RX10, "smallDet", "(IIIIIII)V"⟩
abbrev cX10_lessOrMore : ByteArray := prog_14_method_86_code
def yX10_lessOrMore : MethodName := ⟨RX10, "lessOrMore", "(IIIIZ)V"⟩
abbrev cX10_adjoin : ByteArray := prog_14_method_89_code
def yX10_adjoin : MethodName := ⟨RX10, "adjoin", "(IIIII)V"⟩
abbrev cX10_invert : ByteArray := prog_14_method_123_code
def yX10_invert : MethodName := ⟨RX10, "invert", "(III)V"⟩
abbrev cX10_characterize : ByteArray := prog_14_method_124_code
def yX10_characterize : MethodName := ⟨RX10, "characterize", "(III)V"⟩
abbrev cX10_rootsOf : ByteArray := prog_14_method_126_code
def yX10_rootsOf : MethodName := ⟨RX10, "rootsOf", "(IJ)I"⟩
abbrev cX10_rootInverse : ByteArray := prog_14_method_125_code
def yX10_rootInverse : MethodName := ⟨RX10, "rootInverse", "(JJ)J"⟩
abbrev cX10_rootOne : ByteArray := prog_14_method_127_code
def yX10_rootOne : MethodName := ⟨RX10, "rootOne", "()V"⟩
abbrev cX10_rootSquare : ByteArray := prog_14_method_129_code
def yX10_rootSquare : MethodName := ⟨RX10, "rootSquare", "(IJ)V"⟩
abbrev cX10_rootUp : ByteArray := prog_14_method_128_code
def yX10_rootUp : MethodName := ⟨RX10, "rootUp", "(IJ)V"⟩
abbrev cX10_rootCommon : ByteArray := prog_14_method_130_code
def yX10_rootCommon : MethodName := ⟨RX10, "rootCommon", "(IJ)I"⟩
abbrev cX10_evalSecond : ByteArray := prog_14_method_115_code
def yX10_evalSecond : MethodName := ⟨RX10, "evalSecond", "(I)V"⟩
abbrev cX10_keep : ByteArray := prog_14_method_138_code
def yX10_keep : MethodName := ⟨RX10, "keep", "(IZI)V"⟩
abbrev cX10_told : ByteArray := prog_14_method_139_code
def yX10_told : MethodName := ⟨RX10, "told", "(I)I"⟩
abbrev cX10_count : ByteArray := prog_14_method_140_code
def yX10_count : MethodName := ⟨RX10, "count", "(I)I"⟩
abbrev cX10_ring : ByteArray := prog_14_method_142_code
def yX10_ring : MethodName := ⟨RX10, "ring", "(II)I"⟩
abbrev cX10_isThere : ByteArray := prog_14_method_141_code
def yX10_isThere : MethodName := ⟨RX10, "isThere", "(I)Z"⟩
abbrev cX10_entry : ByteArray := prog_14_method_143_code
def yX10_entry : MethodName := ⟨RX10, "entry", "(IIIIII)I"⟩
abbrev cX10_function : ByteArray := prog_14_method_144_code
def yX10_function : MethodName := ⟨RX10, "function", "(II)I"⟩
abbrev cX10_meant : ByteArray := prog_14_method_145_code
def yX10_meant : MethodName := ⟨RX10, "meant", "(JIIII)I"⟩
theorem q228 : (Jvm.Cond.initialized "AlgebraHouseModel") ∈ lw_all := lw_g (lw_at lw_m1 11 rfl) rfl
theorem q1612 : (Jvm.Cond.instantiable "AlgebraHouseModel" (116 : Nat)) ∈ lw_all := lw_g (lw_at lw_m6 195 rfl) rfl
theorem q1614 : (Jvm.Cond.instanceMethod ({ cls := "AlgebraHouseModel", name := "<init>", desc := "()V" } : Jvm.MethodName)) ∈ lw_all := lw_g (lw_at lw_m6 197 rfl) rfl
theorem q1615 : (Jvm.Cond.code ({ cls := "AlgebraHouseModel", name := "<init>", desc := "()V" } : Jvm.MethodName) prog_14_method_2_code (1 : Nat) (Option.none : Option Jvm.ClassFile.FieldType)) ∈ lw_all := lw_g (lw_at lw_m6 198 rfl) rfl
theorem q1616 : (Jvm.Cond.methodLink "AlgebraHouseModel" (1 : Nat) ({ cls := "java/lang/Object", name := "<init>", desc := "()V" } : Jvm.MethodName)) ∈ lw_all := lw_g (lw_at lw_m6 199 rfl) rfl
theorem q1617 : (Jvm.Cond.constantLong "AlgebraHouseModel" (9 : Nat) (26982 : Int64)) ∈ lw_all := lw_g (lw_at lw_m6 200 rfl) rfl
theorem q1618 : (Jvm.Cond.constantLong "AlgebraHouseModel" (11 : Nat) (1952998766 : Int64)) ∈ lw_all := lw_g (lw_at lw_m6 201 rfl) rfl
theorem q1619 : (Jvm.Cond.constantLong "AlgebraHouseModel" (13 : Nat) (1701606245 : Int64)) ∈ lw_all := lw_g (lw_at lw_m6 202 rfl) rfl
theorem q1620 : (Jvm.Cond.constantLong "AlgebraHouseModel" (15 : Nat) (6385252 : Int64)) ∈ lw_all := lw_g (lw_at lw_m6 203 rfl) rfl
theorem q1621 : (Jvm.Cond.constantLong "AlgebraHouseModel" (17 : Nat) (28530 : Int64)) ∈ lw_all := lw_g (lw_at lw_m6 204 rfl) rfl
theorem q1622 : (Jvm.Cond.constantLong "AlgebraHouseModel" (19 : Nat) (7237492 : Int64)) ∈ lw_all := lw_g (lw_at lw_m6 205 rfl) rfl
theorem q1623 : (Jvm.Cond.constantLong "AlgebraHouseModel" (21 : Nat) (7435631 : Int64)) ∈ lw_all := lw_g (lw_at lw_m6 206 rfl) rfl
theorem q1624 : (Jvm.Cond.constantLong "AlgebraHouseModel" (23 : Nat) (7497069 : Int64)) ∈ lw_all := lw_g (lw_at lw_m6 207 rfl) rfl
theorem q1625 : (Jvm.Cond.constantLong "AlgebraHouseModel" (25 : Nat) (6713202 : Int64)) ∈ lw_all := lw_g (lw_at lw_m6 208 rfl) rfl
theorem q1626 : (Jvm.Cond.constantLong "AlgebraHouseModel" (27 : Nat) (1919512167 : Int64)) ∈ lw_all := lw_g (lw_at lw_m6 209 rfl) rfl
theorem q1627 : (Jvm.Cond.constantLong "AlgebraHouseModel" (29 : Nat) (482854660462 : Int64)) ∈ lw_all := lw_g (lw_at lw_m6 210 rfl) rfl
theorem q1628 : (Jvm.Cond.constantLong "AlgebraHouseModel" (31 : Nat) (439854918756 : Int64)) ∈ lw_all := lw_g (lw_at lw_m6 211 rfl) rfl
theorem q1629 : (Jvm.Cond.constantLong "AlgebraHouseModel" (33 : Nat) (88 : Int64)) ∈ lw_all := lw_g (lw_at lw_m6 212 rfl) rfl
theorem q1630 : (Jvm.Cond.constantLong "AlgebraHouseModel" (35 : Nat) (89 : Int64)) ∈ lw_all := lw_g (lw_at lw_m6 213 rfl) rfl
theorem q1631 : (Jvm.Cond.constantLong "AlgebraHouseModel" (37 : Nat) (90 : Int64)) ∈ lw_all := lw_g (lw_at lw_m6 214 rfl) rfl
theorem q1632 : (Jvm.Cond.constantLong "AlgebraHouseModel" (39 : Nat) (81 : Int64)) ∈ lw_all := lw_g (lw_at lw_m6 215 rfl) rfl
theorem q1633 : (Jvm.Cond.constantLong "AlgebraHouseModel" (41 : Nat) (66 : Int64)) ∈ lw_all := lw_g (lw_at lw_m6 216 rfl) rfl
theorem q1634 : (Jvm.Cond.constantLong "AlgebraHouseModel" (43 : Nat) (70 : Int64)) ∈ lw_all := lw_g (lw_at lw_m6 217 rfl) rfl
theorem q1635 : (Jvm.Cond.constantLong "AlgebraHouseModel" (45 : Nat) (80 : Int64)) ∈ lw_all := lw_g (lw_at lw_m6 218 rfl) rfl
theorem q1636 : (Jvm.Cond.constantLong "AlgebraHouseModel" (47 : Nat) (77 : Int64)) ∈ lw_all := lw_g (lw_at lw_m6 219 rfl) rfl
theorem q1637 : (Jvm.Cond.constantLong "AlgebraHouseModel" (49 : Nat) (82 : Int64)) ∈ lw_all := lw_g (lw_at lw_m6 220 rfl) rfl
theorem q1638 : (Jvm.Cond.constantLong "AlgebraHouseModel" (55 : Nat) (6775652 : Int64)) ∈ lw_all := lw_g (lw_at lw_m6 221 rfl) rfl
theorem q1639 : (Jvm.Cond.constantLong "AlgebraHouseModel" (57 : Nat) (6579559 : Int64)) ∈ lw_all := lw_g (lw_at lw_m6 222 rfl) rfl
theorem q1640 : (Jvm.Cond.constantLong "AlgebraHouseModel" (59 : Nat) (1668244838 : Int64)) ∈ lw_all := lw_g (lw_at lw_m6 223 rfl) rfl
theorem q1641 : (Jvm.Cond.constantLong "AlgebraHouseModel" (61 : Nat) (24948 : Int64)) ∈ lw_all := lw_g (lw_at lw_m6 224 rfl) rfl
theorem q1642 : (Jvm.Cond.constantLong "AlgebraHouseModel" (63 : Nat) (6579570 : Int64)) ∈ lw_all := lw_g (lw_at lw_m6 225 rfl) rfl
theorem q1643 : (Jvm.Cond.constantLong "AlgebraHouseModel" (65 : Nat) (6579572 : Int64)) ∈ lw_all := lw_g (lw_at lw_m6 226 rfl) rfl
theorem q1644 : (Jvm.Cond.constantLong "AlgebraHouseModel" (67 : Nat) (29810 : Int64)) ∈ lw_all := lw_g (lw_at lw_m6 227 rfl) rfl
theorem q1645 : (Jvm.Cond.constantLong "AlgebraHouseModel" (69 : Nat) (29808 : Int64)) ∈ lw_all := lw_g (lw_at lw_m6 228 rfl) rfl
theorem q1646 : (Jvm.Cond.constantLong "AlgebraHouseModel" (71 : Nat) (6382698 : Int64)) ∈ lw_all := lw_g (lw_at lw_m6 229 rfl) rfl
theorem q1647 : (Jvm.Cond.constantLong "AlgebraHouseModel" (73 : Nat) (6909558 : Int64)) ∈ lw_all := lw_g (lw_at lw_m6 230 rfl) rfl
theorem q1648 : (Jvm.Cond.constantLong "AlgebraHouseModel" (75 : Nat) (1667785074 : Int64)) ∈ lw_all := lw_g (lw_at lw_m6 231 rfl) rfl
theorem q1649 : (Jvm.Cond.constantLong "AlgebraHouseModel" (77 : Nat) (491495847027 : Int64)) ∈ lw_all := lw_g (lw_at lw_m6 232 rfl) rfl
theorem q1650 : (Jvm.Cond.constantLong "AlgebraHouseModel" (79 : Nat) (7239021 : Int64)) ∈ lw_all := lw_g (lw_at lw_m6 233 rfl) rfl
theorem q1651 : (Jvm.Cond.constantLong "AlgebraHouseModel" (81 : Nat) (6579566 : Int64)) ∈ lw_all := lw_g (lw_at lw_m6 234 rfl) rfl
theorem q1652 : (Jvm.Cond.constant "AlgebraHouseModel" (224 : Nat) (176400 : Int32)) ∈ lw_all := lw_g (lw_at lw_m6 235 rfl) rfl
theorem q1653 : (Jvm.Cond.constant "AlgebraHouseModel" (249 : Nat) (1600000 : Int32)) ∈ lw_all := lw_g (lw_at lw_m6 236 rfl) rfl
theorem q1654 : (Jvm.Cond.fieldLink "AlgebraHouseModel" (51 : Nat) "AlgebraHouseModel" "keys" "[J") ∈ lw_all := lw_g (lw_at lw_m6 237 rfl) rfl
theorem q1655 : (Jvm.Cond.fieldLink "AlgebraHouseModel" (83 : Nat) "AlgebraHouseModel" "builtIn" "[J") ∈ lw_all := lw_g (lw_at lw_m6 238 rfl) rfl
theorem q1656 : (Jvm.Cond.fieldLink "AlgebraHouseModel" (86 : Nat) "AlgebraHouseModel" "tape" "[I") ∈ lw_all := lw_g (lw_at lw_m6 239 rfl) rfl
theorem q1657 : (Jvm.Cond.fieldLink "AlgebraHouseModel" (90 : Nat) "AlgebraHouseModel" "text" "[I") ∈ lw_all := lw_g (lw_at lw_m7 0 rfl) rfl
theorem q1658 : (Jvm.Cond.fieldLink "AlgebraHouseModel" (310 : Nat) "AlgebraHouseModel" "taped" "I") ∈ lw_all := lw_g (lw_at lw_m7 1 rfl) rfl
theorem q1659 : (Jvm.Cond.fieldLink "AlgebraHouseModel" (93 : Nat) "AlgebraHouseModel" "tKind" "[I") ∈ lw_all := lw_g (lw_at lw_m7 2 rfl) rfl
theorem q1660 : (Jvm.Cond.fieldLink "AlgebraHouseModel" (96 : Nat) "AlgebraHouseModel" "tPlace" "[I") ∈ lw_all := lw_g (lw_at lw_m7 3 rfl) rfl
theorem q1661 : (Jvm.Cond.fieldLink "AlgebraHouseModel" (99 : Nat) "AlgebraHouseModel" "tValue" "[J") ∈ lw_all := lw_g (lw_at lw_m7 4 rfl) rfl
theorem q1662 : (Jvm.Cond.fieldLink "AlgebraHouseModel" (317 : Nat) "AlgebraHouseModel" "tokens" "I") ∈ lw_all := lw_g (lw_at lw_m7 5 rfl) rfl
theorem q1663 : (Jvm.Cond.fieldLink "AlgebraHouseModel" (324 : Nat) "AlgebraHouseModel" "at" "I") ∈ lw_all := lw_g (lw_at lw_m7 6 rfl) rfl
theorem q1664 : (Jvm.Cond.fieldLink "AlgebraHouseModel" (347 : Nat) "AlgebraHouseModel" "fault" "I") ∈ lw_all := lw_g (lw_at lw_m7 7 rfl) rfl
theorem q1665 : (Jvm.Cond.fieldLink "AlgebraHouseModel" (102 : Nat) "AlgebraHouseModel" "place" "I") ∈ lw_all := lw_g (lw_at lw_m7 8 rfl) rfl
theorem q1666 : (Jvm.Cond.fieldLink "AlgebraHouseModel" (369 : Nat) "AlgebraHouseModel" "open" "I") ∈ lw_all := lw_g (lw_at lw_m7 9 rfl) rfl
theorem q1667 : (Jvm.Cond.fieldLink "AlgebraHouseModel" (353 : Nat) "AlgebraHouseModel" "noted" "I") ∈ lw_all := lw_g (lw_at lw_m7 10 rfl) rfl
theorem q1668 : (Jvm.Cond.fieldLink "AlgebraHouseModel" (350 : Nat) "AlgebraHouseModel" "notedAt" "I") ∈ lw_all := lw_g (lw_at lw_m7 11 rfl) rfl
theorem q1669 : (Jvm.Cond.fieldLink "AlgebraHouseModel" (378 : Nat) "AlgebraHouseModel" "nodes" "I") ∈ lw_all := lw_g (lw_at lw_m7 12 rfl) rfl
theorem q1670 : (Jvm.Cond.fieldLink "AlgebraHouseModel" (106 : Nat) "AlgebraHouseModel" "nKind" "[I") ∈ lw_all := lw_g (lw_at lw_m7 13 rfl) rfl
theorem q1671 : (Jvm.Cond.fieldLink "AlgebraHouseModel" (109 : Nat) "AlgebraHouseModel" "nA" "[I") ∈ lw_all := lw_g (lw_at lw_m7 14 rfl) rfl
theorem q1672 : (Jvm.Cond.fieldLink "AlgebraHouseModel" (112 : Nat) "AlgebraHouseModel" "nB" "[I") ∈ lw_all := lw_g (lw_at lw_m7 15 rfl) rfl
theorem q1673 : (Jvm.Cond.fieldLink "AlgebraHouseModel" (115 : Nat) "AlgebraHouseModel" "nC" "[I") ∈ lw_all := lw_g (lw_at lw_m7 16 rfl) rfl
theorem q1674 : (Jvm.Cond.fieldLink "AlgebraHouseModel" (118 : Nat) "AlgebraHouseModel" "nNext" "[I") ∈ lw_all := lw_g (lw_at lw_m7 17 rfl) rfl
theorem q1675 : (Jvm.Cond.fieldLink "AlgebraHouseModel" (121 : Nat) "AlgebraHouseModel" "nPlace" "[I") ∈ lw_all := lw_g (lw_at lw_m7 18 rfl) rfl
theorem q1676 : (Jvm.Cond.fieldLink "AlgebraHouseModel" (124 : Nat) "AlgebraHouseModel" "nRole" "[I") ∈ lw_all := lw_g (lw_at lw_m7 19 rfl) rfl
theorem q1677 : (Jvm.Cond.fieldLink "AlgebraHouseModel" (127 : Nat) "AlgebraHouseModel" "nWhich" "[I") ∈ lw_all := lw_g (lw_at lw_m7 20 rfl) rfl
theorem q1678 : (Jvm.Cond.fieldLink "AlgebraHouseModel" (130 : Nat) "AlgebraHouseModel" "nBase" "[I") ∈ lw_all := lw_g (lw_at lw_m7 21 rfl) rfl
theorem q1679 : (Jvm.Cond.fieldLink "AlgebraHouseModel" (133 : Nat) "AlgebraHouseModel" "nDepth" "[I") ∈ lw_all := lw_g (lw_at lw_m7 22 rfl) rfl
theorem q1680 : (Jvm.Cond.fieldLink "AlgebraHouseModel" (136 : Nat) "AlgebraHouseModel" "nSize" "[I") ∈ lw_all := lw_g (lw_at lw_m7 23 rfl) rfl
theorem q1681 : (Jvm.Cond.fieldLink "AlgebraHouseModel" (139 : Nat) "AlgebraHouseModel" "nRBase" "[I") ∈ lw_all := lw_g (lw_at lw_m7 24 rfl) rfl
theorem q1682 : (Jvm.Cond.fieldLink "AlgebraHouseModel" (142 : Nat) "AlgebraHouseModel" "nRDepth" "[I") ∈ lw_all := lw_g (lw_at lw_m7 25 rfl) rfl
theorem q1683 : (Jvm.Cond.fieldLink "AlgebraHouseModel" (145 : Nat) "AlgebraHouseModel" "nRSize" "[I") ∈ lw_all := lw_g (lw_at lw_m7 26 rfl) rfl
theorem q1684 : (Jvm.Cond.fieldLink "AlgebraHouseModel" (148 : Nat) "AlgebraHouseModel" "nHasR" "[Z") ∈ lw_all := lw_g (lw_at lw_m7 27 rfl) rfl
theorem q1685 : (Jvm.Cond.fieldLink "AlgebraHouseModel" (152 : Nat) "AlgebraHouseModel" "nValue" "[J") ∈ lw_all := lw_g (lw_at lw_m7 28 rfl) rfl
theorem q1686 : (Jvm.Cond.fieldLink "AlgebraHouseModel" (591 : Nat) "AlgebraHouseModel" "functions" "I") ∈ lw_all := lw_g (lw_at lw_m7 29 rfl) rfl
theorem q1687 : (Jvm.Cond.fieldLink "AlgebraHouseModel" (554 : Nat) "AlgebraHouseModel" "variables" "I") ∈ lw_all := lw_g (lw_at lw_m7 30 rfl) rfl
theorem q1688 : (Jvm.Cond.fieldLink "AlgebraHouseModel" (523 : Nat) "AlgebraHouseModel" "results" "I") ∈ lw_all := lw_g (lw_at lw_m7 31 rfl) rfl
theorem q1689 : (Jvm.Cond.fieldLink "AlgebraHouseModel" (155 : Nat) "AlgebraHouseModel" "fnName" "[J") ∈ lw_all := lw_g (lw_at lw_m7 32 rfl) rfl
theorem q1690 : (Jvm.Cond.fieldLink "AlgebraHouseModel" (158 : Nat) "AlgebraHouseModel" "varName" "[J") ∈ lw_all := lw_g (lw_at lw_m7 33 rfl) rfl
theorem q1691 : (Jvm.Cond.fieldLink "AlgebraHouseModel" (161 : Nat) "AlgebraHouseModel" "paramName" "[J") ∈ lw_all := lw_g (lw_at lw_m7 34 rfl) rfl
theorem q1692 : (Jvm.Cond.fieldLink "AlgebraHouseModel" (164 : Nat) "AlgebraHouseModel" "fnParams" "[I") ∈ lw_all := lw_g (lw_at lw_m7 35 rfl) rfl
theorem q1693 : (Jvm.Cond.fieldLink "AlgebraHouseModel" (167 : Nat) "AlgebraHouseModel" "fnBody" "[I") ∈ lw_all := lw_g (lw_at lw_m7 36 rfl) rfl
theorem q1694 : (Jvm.Cond.fieldLink "AlgebraHouseModel" (170 : Nat) "AlgebraHouseModel" "fnSort" "[I") ∈ lw_all := lw_g (lw_at lw_m7 37 rfl) rfl
theorem q1695 : (Jvm.Cond.fieldLink "AlgebraHouseModel" (173 : Nat) "AlgebraHouseModel" "fnBase" "[I") ∈ lw_all := lw_g (lw_at lw_m7 38 rfl) rfl
theorem q1696 : (Jvm.Cond.fieldLink "AlgebraHouseModel" (176 : Nat) "AlgebraHouseModel" "fnDepth" "[I") ∈ lw_all := lw_g (lw_at lw_m7 39 rfl) rfl
theorem q1697 : (Jvm.Cond.fieldLink "AlgebraHouseModel" (179 : Nat) "AlgebraHouseModel" "fnSize" "[I") ∈ lw_all := lw_g (lw_at lw_m7 40 rfl) rfl
theorem q1698 : (Jvm.Cond.fieldLink "AlgebraHouseModel" (182 : Nat) "AlgebraHouseModel" "paramBase" "[I") ∈ lw_all := lw_g (lw_at lw_m7 41 rfl) rfl
theorem q1699 : (Jvm.Cond.fieldLink "AlgebraHouseModel" (185 : Nat) "AlgebraHouseModel" "paramDepth" "[I") ∈ lw_all := lw_g (lw_at lw_m7 42 rfl) rfl
theorem q1700 : (Jvm.Cond.fieldLink "AlgebraHouseModel" (188 : Nat) "AlgebraHouseModel" "paramSize" "[I") ∈ lw_all := lw_g (lw_at lw_m7 43 rfl) rfl
theorem q1701 : (Jvm.Cond.fieldLink "AlgebraHouseModel" (191 : Nat) "AlgebraHouseModel" "fnRBase" "[I") ∈ lw_all := lw_g (lw_at lw_m7 44 rfl) rfl
theorem q1702 : (Jvm.Cond.fieldLink "AlgebraHouseModel" (194 : Nat) "AlgebraHouseModel" "fnRDepth" "[I") ∈ lw_all := lw_g (lw_at lw_m7 45 rfl) rfl
theorem q1703 : (Jvm.Cond.fieldLink "AlgebraHouseModel" (197 : Nat) "AlgebraHouseModel" "fnRSize" "[I") ∈ lw_all := lw_g (lw_at lw_m7 46 rfl) rfl
theorem q1704 : (Jvm.Cond.fieldLink "AlgebraHouseModel" (200 : Nat) "AlgebraHouseModel" "fnHasR" "[Z") ∈ lw_all := lw_g (lw_at lw_m7 47 rfl) rfl
theorem q1705 : (Jvm.Cond.fieldLink "AlgebraHouseModel" (203 : Nat) "AlgebraHouseModel" "paramHasR" "[Z") ∈ lw_all := lw_g (lw_at lw_m7 48 rfl) rfl
theorem q1706 : (Jvm.Cond.fieldLink "AlgebraHouseModel" (206 : Nat) "AlgebraHouseModel" "varBase" "[I") ∈ lw_all := lw_g (lw_at lw_m7 49 rfl) rfl
theorem q1707 : (Jvm.Cond.fieldLink "AlgebraHouseModel" (209 : Nat) "AlgebraHouseModel" "varDepth" "[I") ∈ lw_all := lw_g (lw_at lw_m7 50 rfl) rfl
theorem q1708 : (Jvm.Cond.fieldLink "AlgebraHouseModel" (212 : Nat) "AlgebraHouseModel" "varSize" "[I") ∈ lw_all := lw_g (lw_at lw_m7 51 rfl) rfl
theorem q1709 : (Jvm.Cond.fieldLink "AlgebraHouseModel" (215 : Nat) "AlgebraHouseModel" "resBase" "[I") ∈ lw_all := lw_g (lw_at lw_m7 52 rfl) rfl
theorem q1710 : (Jvm.Cond.fieldLink "AlgebraHouseModel" (218 : Nat) "AlgebraHouseModel" "resDepth" "[I") ∈ lw_all := lw_g (lw_at lw_m7 53 rfl) rfl
theorem q1711 : (Jvm.Cond.fieldLink "AlgebraHouseModel" (221 : Nat) "AlgebraHouseModel" "resSize" "[I") ∈ lw_all := lw_g (lw_at lw_m7 54 rfl) rfl
theorem q1712 : (Jvm.Cond.fieldLink "AlgebraHouseModel" (225 : Nat) "AlgebraHouseModel" "resValue" "[J") ∈ lw_all := lw_g (lw_at lw_m7 55 rfl) rfl
theorem q1713 : (Jvm.Cond.fieldLink "AlgebraHouseModel" (228 : Nat) "AlgebraHouseModel" "varValue" "[J") ∈ lw_all := lw_g (lw_at lw_m7 56 rfl) rfl
theorem q1714 : (Jvm.Cond.fieldLink "AlgebraHouseModel" (903 : Nat) "AlgebraHouseModel" "isDefining" "Z") ∈ lw_all := lw_g (lw_at lw_m7 57 rfl) rfl
theorem q1715 : (Jvm.Cond.fieldLink "AlgebraHouseModel" (231 : Nat) "AlgebraHouseModel" "here" "I") ∈ lw_all := lw_g (lw_at lw_m7 58 rfl) rfl
theorem q1716 : (Jvm.Cond.fieldLink "AlgebraHouseModel" (234 : Nat) "AlgebraHouseModel" "rBase" "I") ∈ lw_all := lw_g (lw_at lw_m7 59 rfl) rfl
theorem q1717 : (Jvm.Cond.fieldLink "AlgebraHouseModel" (509 : Nat) "AlgebraHouseModel" "rDepth" "I") ∈ lw_all := lw_g (lw_at lw_m7 60 rfl) rfl
theorem q1718 : (Jvm.Cond.fieldLink "AlgebraHouseModel" (512 : Nat) "AlgebraHouseModel" "rSize" "I") ∈ lw_all := lw_g (lw_at lw_m7 61 rfl) rfl
theorem q1719 : (Jvm.Cond.fieldLink "AlgebraHouseModel" (442 : Nat) "AlgebraHouseModel" "jBase" "I") ∈ lw_all := lw_g (lw_at lw_m7 62 rfl) rfl
theorem q1720 : (Jvm.Cond.fieldLink "AlgebraHouseModel" (450 : Nat) "AlgebraHouseModel" "jDepth" "I") ∈ lw_all := lw_g (lw_at lw_m7 63 rfl) rfl
theorem q1721 : (Jvm.Cond.fieldLink "AlgebraHouseModel" (453 : Nat) "AlgebraHouseModel" "jSize" "I") ∈ lw_all := lw_g (lw_at lw_m7 64 rfl) rfl
theorem q1722 : (Jvm.Cond.fieldLink "AlgebraHouseModel" (460 : Nat) "AlgebraHouseModel" "spineTop" "I") ∈ lw_all := lw_g (lw_at lw_m7 65 rfl) rfl
theorem q1723 : (Jvm.Cond.fieldLink "AlgebraHouseModel" (237 : Nat) "AlgebraHouseModel" "spine" "[I") ∈ lw_all := lw_g (lw_at lw_m7 66 rfl) rfl
theorem q1724 : (Jvm.Cond.fieldLink "AlgebraHouseModel" (542 : Nat) "AlgebraHouseModel" "iBase" "I") ∈ lw_all := lw_g (lw_at lw_m7 67 rfl) rfl
theorem q1725 : (Jvm.Cond.fieldLink "AlgebraHouseModel" (545 : Nat) "AlgebraHouseModel" "iDepth" "I") ∈ lw_all := lw_g (lw_at lw_m7 68 rfl) rfl
theorem q1726 : (Jvm.Cond.fieldLink "AlgebraHouseModel" (548 : Nat) "AlgebraHouseModel" "iSize" "I") ∈ lw_all := lw_g (lw_at lw_m7 69 rfl) rfl
theorem q1727 : (Jvm.Cond.fieldLink "AlgebraHouseModel" (566 : Nat) "AlgebraHouseModel" "asked" "I") ∈ lw_all := lw_g (lw_at lw_m7 70 rfl) rfl
theorem q1728 : (Jvm.Cond.fieldLink "AlgebraHouseModel" (572 : Nat) "AlgebraHouseModel" "cost" "I") ∈ lw_all := lw_g (lw_at lw_m7 71 rfl) rfl
theorem q1729 : (Jvm.Cond.fieldLink "AlgebraHouseModel" (557 : Nat) "AlgebraHouseModel" "cBase" "I") ∈ lw_all := lw_g (lw_at lw_m7 72 rfl) rfl
theorem q1730 : (Jvm.Cond.fieldLink "AlgebraHouseModel" (560 : Nat) "AlgebraHouseModel" "cDepth" "I") ∈ lw_all := lw_g (lw_at lw_m7 73 rfl) rfl
theorem q1731 : (Jvm.Cond.fieldLink "AlgebraHouseModel" (563 : Nat) "AlgebraHouseModel" "cSize" "I") ∈ lw_all := lw_g (lw_at lw_m7 74 rfl) rfl
theorem q1732 : (Jvm.Cond.fieldLink "AlgebraHouseModel" (240 : Nat) "AlgebraHouseModel" "eBase" "[I") ∈ lw_all := lw_g (lw_at lw_m7 75 rfl) rfl
theorem q1733 : (Jvm.Cond.fieldLink "AlgebraHouseModel" (243 : Nat) "AlgebraHouseModel" "eDepth" "[I") ∈ lw_all := lw_g (lw_at lw_m7 76 rfl) rfl
theorem q1734 : (Jvm.Cond.fieldLink "AlgebraHouseModel" (246 : Nat) "AlgebraHouseModel" "eSize" "[I") ∈ lw_all := lw_g (lw_at lw_m7 77 rfl) rfl
theorem q1735 : (Jvm.Cond.fieldLink "AlgebraHouseModel" (582 : Nat) "AlgebraHouseModel" "bestBase" "I") ∈ lw_all := lw_g (lw_at lw_m7 78 rfl) rfl
theorem q1736 : (Jvm.Cond.fieldLink "AlgebraHouseModel" (585 : Nat) "AlgebraHouseModel" "bestDepth" "I") ∈ lw_all := lw_g (lw_at lw_m7 79 rfl) rfl
theorem q1737 : (Jvm.Cond.fieldLink "AlgebraHouseModel" (588 : Nat) "AlgebraHouseModel" "bestSize" "I") ∈ lw_all := lw_g (lw_at lw_m7 80 rfl) rfl
theorem q1738 : (Jvm.Cond.fieldLink "AlgebraHouseModel" (601 : Nat) "AlgebraHouseModel" "error" "I") ∈ lw_all := lw_g (lw_at lw_m7 81 rfl) rfl
theorem q1739 : (Jvm.Cond.fieldLink "AlgebraHouseModel" (250 : Nat) "AlgebraHouseModel" "pile" "[J") ∈ lw_all := lw_g (lw_at lw_m7 82 rfl) rfl
theorem q1740 : (Jvm.Cond.fieldLink "AlgebraHouseModel" (718 : Nat) "AlgebraHouseModel" "top" "I") ∈ lw_all := lw_g (lw_at lw_m7 83 rfl) rfl
theorem q1741 : (Jvm.Cond.fieldLink "AlgebraHouseModel" (604 : Nat) "AlgebraHouseModel" "above" "J") ∈ lw_all := lw_g (lw_at lw_m7 84 rfl) rfl
theorem q1742 : (Jvm.Cond.fieldLink "AlgebraHouseModel" (608 : Nat) "AlgebraHouseModel" "below" "J") ∈ lw_all := lw_g (lw_at lw_m7 85 rfl) rfl
theorem q1743 : (Jvm.Cond.fieldLink "AlgebraHouseModel" (253 : Nat) "AlgebraHouseModel" "modulus" "I") ∈ lw_all := lw_g (lw_at lw_m7 86 rfl) rfl
theorem q1744 : (Jvm.Cond.fieldLink "AlgebraHouseModel" (704 : Nat) "AlgebraHouseModel" "steps" "I") ∈ lw_all := lw_g (lw_at lw_m7 87 rfl) rfl
theorem q1745 : (Jvm.Cond.fieldLink "AlgebraHouseModel" (814 : Nat) "AlgebraHouseModel" "calls" "I") ∈ lw_all := lw_g (lw_at lw_m7 88 rfl) rfl
theorem q1746 : (Jvm.Cond.fieldLink "AlgebraHouseModel" (817 : Nat) "AlgebraHouseModel" "mostCalls" "I") ∈ lw_all := lw_g (lw_at lw_m7 89 rfl) rfl
theorem q1747 : (Jvm.Cond.fieldLink "AlgebraHouseModel" (811 : Nat) "AlgebraHouseModel" "params" "I") ∈ lw_all := lw_g (lw_at lw_m7 90 rfl) rfl
theorem q1748 : (Jvm.Cond.fieldLink "AlgebraHouseModel" (256 : Nat) "AlgebraHouseModel" "taskDo" "[I") ∈ lw_all := lw_g (lw_at lw_m7 91 rfl) rfl
theorem q1749 : (Jvm.Cond.fieldLink "AlgebraHouseModel" (259 : Nat) "AlgebraHouseModel" "taskNode" "[I") ∈ lw_all := lw_g (lw_at lw_m7 92 rfl) rfl
theorem q1750 : (Jvm.Cond.fieldLink "AlgebraHouseModel" (262 : Nat) "AlgebraHouseModel" "taskX" "[I") ∈ lw_all := lw_g (lw_at lw_m7 93 rfl) rfl
theorem q1751 : (Jvm.Cond.fieldLink "AlgebraHouseModel" (265 : Nat) "AlgebraHouseModel" "taskY" "[I") ∈ lw_all := lw_g (lw_at lw_m7 94 rfl) rfl
theorem q1752 : (Jvm.Cond.fieldLink "AlgebraHouseModel" (268 : Nat) "AlgebraHouseModel" "taskZ" "[I") ∈ lw_all := lw_g (lw_at lw_m7 95 rfl) rfl
theorem q1753 : (Jvm.Cond.fieldLink "AlgebraHouseModel" (727 : Nat) "AlgebraHouseModel" "tasks" "I") ∈ lw_all := lw_g (lw_at lw_m7 96 rfl) rfl
theorem q1754 : (Jvm.Cond.fieldLink "AlgebraHouseModel" (271 : Nat) "AlgebraHouseModel" "callFunction" "[I") ∈ lw_all := lw_g (lw_at lw_m7 97 rfl) rfl
theorem q1755 : (Jvm.Cond.fieldLink "AlgebraHouseModel" (274 : Nat) "AlgebraHouseModel" "callParams" "[I") ∈ lw_all := lw_g (lw_at lw_m7 98 rfl) rfl
theorem q1756 : (Jvm.Cond.fieldLink "AlgebraHouseModel" (277 : Nat) "AlgebraHouseModel" "callHere" "[I") ∈ lw_all := lw_g (lw_at lw_m7 99 rfl) rfl
theorem q1757 : (Jvm.Cond.fieldLink "AlgebraHouseModel" (280 : Nat) "AlgebraHouseModel" "callBase" "[I") ∈ lw_all := lw_g (lw_at lw_m7 100 rfl) rfl
theorem q1758 : (Jvm.Cond.fieldLink "AlgebraHouseModel" (283 : Nat) "AlgebraHouseModel" "callDepth" "[I") ∈ lw_all := lw_g (lw_at lw_m7 101 rfl) rfl
theorem q1759 : (Jvm.Cond.fieldLink "AlgebraHouseModel" (286 : Nat) "AlgebraHouseModel" "callSize" "[I") ∈ lw_all := lw_g (lw_at lw_m7 102 rfl) rfl
theorem q1760 : (Jvm.Cond.fieldLink "AlgebraHouseModel" (289 : Nat) "AlgebraHouseModel" "callModulus" "[I") ∈ lw_all := lw_g (lw_at lw_m7 103 rfl) rfl
theorem q1761 : (Jvm.Cond.fieldLink "AlgebraHouseModel" (292 : Nat) "AlgebraHouseModel" "rootP" "[J") ∈ lw_all := lw_g (lw_at lw_m7 104 rfl) rfl
theorem q1762 : (Jvm.Cond.fieldLink "AlgebraHouseModel" (295 : Nat) "AlgebraHouseModel" "rootX" "[J") ∈ lw_all := lw_g (lw_at lw_m7 105 rfl) rfl
theorem q1763 : (Jvm.Cond.fieldLink "AlgebraHouseModel" (298 : Nat) "AlgebraHouseModel" "rootY" "[J") ∈ lw_all := lw_g (lw_at lw_m7 106 rfl) rfl
theorem q1764 : (Jvm.Cond.fieldLink "AlgebraHouseModel" (884 : Nat) "AlgebraHouseModel" "becomes" "I") ∈ lw_all := lw_g (lw_at lw_m7 107 rfl) rfl
theorem q1765 : (Jvm.Cond.fieldLink "AlgebraHouseModel" (301 : Nat) "AlgebraHouseModel" "result" "I") ∈ lw_all := lw_g (lw_at lw_m7 108 rfl) rfl
theorem q1766 : (Jvm.Cond.fieldLink "AlgebraHouseModel" (881 : Nat) "AlgebraHouseModel" "headRing" "I") ∈ lw_all := lw_g (lw_at lw_m7 109 rfl) rfl
theorem q1767 : (Jvm.Cond.fieldLink "AlgebraHouseModel" (878 : Nat) "AlgebraHouseModel" "forToken" "I") ∈ lw_all := lw_g (lw_at lw_m7 110 rfl) rfl
theorem q1768 : (Jvm.Cond.fieldLink "AlgebraHouseModel" (304 : Nat) "AlgebraHouseModel" "paramToken" "[I") ∈ lw_all := lw_g (lw_at lw_m7 111 rfl) rfl
theorem q1769 : (Jvm.Cond.fieldLink "AlgebraHouseModel" (307 : Nat) "AlgebraHouseModel" "paramRing" "[I") ∈ lw_all := lw_g (lw_at lw_m7 112 rfl) rfl
theorem q1770 : (Jvm.Cond.laysFinal "AlgebraHouseModel" "AlgebraHouseModel" "keys" "[J") ∈ lw_all := lw_g (lw_at lw_m7 113 rfl) rfl
theorem q1771 : (Jvm.Cond.soleField "AlgebraHouseModel" "keys") ∈ lw_all := lw_g (lw_at lw_m7 114 rfl) rfl
theorem q1772 : (Jvm.Cond.laysFinal "AlgebraHouseModel" "AlgebraHouseModel" "builtIn" "[J") ∈ lw_all := lw_g (lw_at lw_m7 115 rfl) rfl
theorem q1773 : (Jvm.Cond.soleField "AlgebraHouseModel" "builtIn") ∈ lw_all := lw_g (lw_at lw_m7 116 rfl) rfl
theorem q1774 : (Jvm.Cond.laysFinal "AlgebraHouseModel" "AlgebraHouseModel" "tape" "[I") ∈ lw_all := lw_g (lw_at lw_m7 117 rfl) rfl
theorem q1775 : (Jvm.Cond.soleField "AlgebraHouseModel" "tape") ∈ lw_all := lw_g (lw_at lw_m7 118 rfl) rfl
theorem q1776 : (Jvm.Cond.laysFinal "AlgebraHouseModel" "AlgebraHouseModel" "text" "[I") ∈ lw_all := lw_g (lw_at lw_m7 119 rfl) rfl
theorem q1777 : (Jvm.Cond.soleField "AlgebraHouseModel" "text") ∈ lw_all := lw_g (lw_at lw_m7 120 rfl) rfl
theorem q1778 : (Jvm.Cond.lays "AlgebraHouseModel" "AlgebraHouseModel" "taped" "I") ∈ lw_all := lw_g (lw_at lw_m7 121 rfl) rfl
theorem q1779 : (Jvm.Cond.soleField "AlgebraHouseModel" "taped") ∈ lw_all := lw_g (lw_at lw_m7 122 rfl) rfl
theorem q1780 : (Jvm.Cond.laysFinal "AlgebraHouseModel" "AlgebraHouseModel" "tKind" "[I") ∈ lw_all := lw_g (lw_at lw_m7 123 rfl) rfl
theorem q1781 : (Jvm.Cond.soleField "AlgebraHouseModel" "tKind") ∈ lw_all := lw_g (lw_at lw_m7 124 rfl) rfl
theorem q1782 : (Jvm.Cond.laysFinal "AlgebraHouseModel" "AlgebraHouseModel" "tPlace" "[I") ∈ lw_all := lw_g (lw_at lw_m7 125 rfl) rfl
theorem q1783 : (Jvm.Cond.soleField "AlgebraHouseModel" "tPlace") ∈ lw_all := lw_g (lw_at lw_m7 126 rfl) rfl
theorem q1784 : (Jvm.Cond.laysFinal "AlgebraHouseModel" "AlgebraHouseModel" "tValue" "[J") ∈ lw_all := lw_g (lw_at lw_m7 127 rfl) rfl
theorem q1785 : (Jvm.Cond.soleField "AlgebraHouseModel" "tValue") ∈ lw_all := lw_g (lw_at lw_m7 128 rfl) rfl
theorem q1786 : (Jvm.Cond.lays "AlgebraHouseModel" "AlgebraHouseModel" "tokens" "I") ∈ lw_all := lw_g (lw_at lw_m7 129 rfl) rfl
theorem q1787 : (Jvm.Cond.soleField "AlgebraHouseModel" "tokens") ∈ lw_all := lw_g (lw_at lw_m7 130 rfl) rfl
theorem q1788 : (Jvm.Cond.lays "AlgebraHouseModel" "AlgebraHouseModel" "at" "I") ∈ lw_all := lw_g (lw_at lw_m7 131 rfl) rfl
theorem q1789 : (Jvm.Cond.soleField "AlgebraHouseModel" "at") ∈ lw_all := lw_g (lw_at lw_m7 132 rfl) rfl
theorem q1790 : (Jvm.Cond.lays "AlgebraHouseModel" "AlgebraHouseModel" "fault" "I") ∈ lw_all := lw_g (lw_at lw_m7 133 rfl) rfl
theorem q1791 : (Jvm.Cond.soleField "AlgebraHouseModel" "fault") ∈ lw_all := lw_g (lw_at lw_m7 134 rfl) rfl
theorem q1792 : (Jvm.Cond.lays "AlgebraHouseModel" "AlgebraHouseModel" "place" "I") ∈ lw_all := lw_g (lw_at lw_m7 135 rfl) rfl
theorem q1793 : (Jvm.Cond.soleField "AlgebraHouseModel" "place") ∈ lw_all := lw_g (lw_at lw_m7 136 rfl) rfl
theorem q1794 : (Jvm.Cond.lays "AlgebraHouseModel" "AlgebraHouseModel" "open" "I") ∈ lw_all := lw_g (lw_at lw_m7 137 rfl) rfl
theorem q1795 : (Jvm.Cond.soleField "AlgebraHouseModel" "open") ∈ lw_all := lw_g (lw_at lw_m7 138 rfl) rfl
theorem q1796 : (Jvm.Cond.lays "AlgebraHouseModel" "AlgebraHouseModel" "noted" "I") ∈ lw_all := lw_g (lw_at lw_m7 139 rfl) rfl
theorem q1797 : (Jvm.Cond.soleField "AlgebraHouseModel" "noted") ∈ lw_all := lw_g (lw_at lw_m7 140 rfl) rfl
theorem q1798 : (Jvm.Cond.lays "AlgebraHouseModel" "AlgebraHouseModel" "notedAt" "I") ∈ lw_all := lw_g (lw_at lw_m7 141 rfl) rfl
theorem q1799 : (Jvm.Cond.soleField "AlgebraHouseModel" "notedAt") ∈ lw_all := lw_g (lw_at lw_m7 142 rfl) rfl
theorem q1800 : (Jvm.Cond.lays "AlgebraHouseModel" "AlgebraHouseModel" "nodes" "I") ∈ lw_all := lw_g (lw_at lw_m7 143 rfl) rfl
theorem q1801 : (Jvm.Cond.soleField "AlgebraHouseModel" "nodes") ∈ lw_all := lw_g (lw_at lw_m7 144 rfl) rfl
theorem q1802 : (Jvm.Cond.laysFinal "AlgebraHouseModel" "AlgebraHouseModel" "nKind" "[I") ∈ lw_all := lw_g (lw_at lw_m7 145 rfl) rfl
theorem q1803 : (Jvm.Cond.soleField "AlgebraHouseModel" "nKind") ∈ lw_all := lw_g (lw_at lw_m7 146 rfl) rfl
theorem q1804 : (Jvm.Cond.laysFinal "AlgebraHouseModel" "AlgebraHouseModel" "nA" "[I") ∈ lw_all := lw_g (lw_at lw_m7 147 rfl) rfl
theorem q1805 : (Jvm.Cond.soleField "AlgebraHouseModel" "nA") ∈ lw_all := lw_g (lw_at lw_m7 148 rfl) rfl
theorem q1806 : (Jvm.Cond.laysFinal "AlgebraHouseModel" "AlgebraHouseModel" "nB" "[I") ∈ lw_all := lw_g (lw_at lw_m7 149 rfl) rfl
theorem q1807 : (Jvm.Cond.soleField "AlgebraHouseModel" "nB") ∈ lw_all := lw_g (lw_at lw_m7 150 rfl) rfl
theorem q1808 : (Jvm.Cond.laysFinal "AlgebraHouseModel" "AlgebraHouseModel" "nC" "[I") ∈ lw_all := lw_g (lw_at lw_m7 151 rfl) rfl
theorem q1809 : (Jvm.Cond.soleField "AlgebraHouseModel" "nC") ∈ lw_all := lw_g (lw_at lw_m7 152 rfl) rfl
theorem q1810 : (Jvm.Cond.laysFinal "AlgebraHouseModel" "AlgebraHouseModel" "nNext" "[I") ∈ lw_all := lw_g (lw_at lw_m7 153 rfl) rfl
theorem q1811 : (Jvm.Cond.soleField "AlgebraHouseModel" "nNext") ∈ lw_all := lw_g (lw_at lw_m7 154 rfl) rfl
theorem q1812 : (Jvm.Cond.laysFinal "AlgebraHouseModel" "AlgebraHouseModel" "nPlace" "[I") ∈ lw_all := lw_g (lw_at lw_m7 155 rfl) rfl
theorem q1813 : (Jvm.Cond.soleField "AlgebraHouseModel" "nPlace") ∈ lw_all := lw_g (lw_at lw_m7 156 rfl) rfl
theorem q1814 : (Jvm.Cond.laysFinal "AlgebraHouseModel" "AlgebraHouseModel" "nRole" "[I") ∈ lw_all := lw_g (lw_at lw_m7 157 rfl) rfl
theorem q1815 : (Jvm.Cond.soleField "AlgebraHouseModel" "nRole") ∈ lw_all := lw_g (lw_at lw_m7 158 rfl) rfl
theorem q1816 : (Jvm.Cond.laysFinal "AlgebraHouseModel" "AlgebraHouseModel" "nWhich" "[I") ∈ lw_all := lw_g (lw_at lw_m7 159 rfl) rfl
theorem q1817 : (Jvm.Cond.soleField "AlgebraHouseModel" "nWhich") ∈ lw_all := lw_g (lw_at lw_m7 160 rfl) rfl
theorem q1818 : (Jvm.Cond.laysFinal "AlgebraHouseModel" "AlgebraHouseModel" "nBase" "[I") ∈ lw_all := lw_g (lw_at lw_m7 161 rfl) rfl
theorem q1819 : (Jvm.Cond.soleField "AlgebraHouseModel" "nBase") ∈ lw_all := lw_g (lw_at lw_m7 162 rfl) rfl
theorem q1820 : (Jvm.Cond.laysFinal "AlgebraHouseModel" "AlgebraHouseModel" "nDepth" "[I") ∈ lw_all := lw_g (lw_at lw_m7 163 rfl) rfl
theorem q1821 : (Jvm.Cond.soleField "AlgebraHouseModel" "nDepth") ∈ lw_all := lw_g (lw_at lw_m7 164 rfl) rfl
theorem q1822 : (Jvm.Cond.laysFinal "AlgebraHouseModel" "AlgebraHouseModel" "nSize" "[I") ∈ lw_all := lw_g (lw_at lw_m7 165 rfl) rfl
theorem q1823 : (Jvm.Cond.soleField "AlgebraHouseModel" "nSize") ∈ lw_all := lw_g (lw_at lw_m7 166 rfl) rfl
theorem q1824 : (Jvm.Cond.laysFinal "AlgebraHouseModel" "AlgebraHouseModel" "nRBase" "[I") ∈ lw_all := lw_g (lw_at lw_m7 167 rfl) rfl
theorem q1825 : (Jvm.Cond.soleField "AlgebraHouseModel" "nRBase") ∈ lw_all := lw_g (lw_at lw_m7 168 rfl) rfl
theorem q1826 : (Jvm.Cond.laysFinal "AlgebraHouseModel" "AlgebraHouseModel" "nRDepth" "[I") ∈ lw_all := lw_g (lw_at lw_m7 169 rfl) rfl
theorem q1827 : (Jvm.Cond.soleField "AlgebraHouseModel" "nRDepth") ∈ lw_all := lw_g (lw_at lw_m7 170 rfl) rfl
theorem q1828 : (Jvm.Cond.laysFinal "AlgebraHouseModel" "AlgebraHouseModel" "nRSize" "[I") ∈ lw_all := lw_g (lw_at lw_m7 171 rfl) rfl
theorem q1829 : (Jvm.Cond.soleField "AlgebraHouseModel" "nRSize") ∈ lw_all := lw_g (lw_at lw_m7 172 rfl) rfl
theorem q1830 : (Jvm.Cond.laysFinal "AlgebraHouseModel" "AlgebraHouseModel" "nHasR" "[Z") ∈ lw_all := lw_g (lw_at lw_m7 173 rfl) rfl
theorem q1831 : (Jvm.Cond.soleField "AlgebraHouseModel" "nHasR") ∈ lw_all := lw_g (lw_at lw_m7 174 rfl) rfl
theorem q1832 : (Jvm.Cond.laysFinal "AlgebraHouseModel" "AlgebraHouseModel" "nValue" "[J") ∈ lw_all := lw_g (lw_at lw_m7 175 rfl) rfl
theorem q1833 : (Jvm.Cond.soleField "AlgebraHouseModel" "nValue") ∈ lw_all := lw_g (lw_at lw_m7 176 rfl) rfl
theorem q1834 : (Jvm.Cond.lays "AlgebraHouseModel" "AlgebraHouseModel" "functions" "I") ∈ lw_all := lw_g (lw_at lw_m7 177 rfl) rfl
theorem q1835 : (Jvm.Cond.soleField "AlgebraHouseModel" "functions") ∈ lw_all := lw_g (lw_at lw_m7 178 rfl) rfl
theorem q1836 : (Jvm.Cond.lays "AlgebraHouseModel" "AlgebraHouseModel" "variables" "I") ∈ lw_all := lw_g (lw_at lw_m7 179 rfl) rfl
theorem q1837 : (Jvm.Cond.soleField "AlgebraHouseModel" "variables") ∈ lw_all := lw_g (lw_at lw_m7 180 rfl) rfl
theorem q1838 : (Jvm.Cond.lays "AlgebraHouseModel" "AlgebraHouseModel" "results" "I") ∈ lw_all := lw_g (lw_at lw_m7 181 rfl) rfl
theorem q1839 : (Jvm.Cond.soleField "AlgebraHouseModel" "results") ∈ lw_all := lw_g (lw_at lw_m7 182 rfl) rfl
theorem q1840 : (Jvm.Cond.laysFinal "AlgebraHouseModel" "AlgebraHouseModel" "fnName" "[J") ∈ lw_all := lw_g (lw_at lw_m7 183 rfl) rfl
theorem q1841 : (Jvm.Cond.soleField "AlgebraHouseModel" "fnName") ∈ lw_all := lw_g (lw_at lw_m7 184 rfl) rfl
theorem q1842 : (Jvm.Cond.laysFinal "AlgebraHouseModel" "AlgebraHouseModel" "varName" "[J") ∈ lw_all := lw_g (lw_at lw_m7 185 rfl) rfl
theorem q1843 : (Jvm.Cond.soleField "AlgebraHouseModel" "varName") ∈ lw_all := lw_g (lw_at lw_m7 186 rfl) rfl
theorem q1844 : (Jvm.Cond.laysFinal "AlgebraHouseModel" "AlgebraHouseModel" "paramName" "[J") ∈ lw_all := lw_g (lw_at lw_m7 187 rfl) rfl
theorem q1845 : (Jvm.Cond.soleField "AlgebraHouseModel" "paramName") ∈ lw_all := lw_g (lw_at lw_m7 188 rfl) rfl
theorem q1846 : (Jvm.Cond.laysFinal "AlgebraHouseModel" "AlgebraHouseModel" "fnParams" "[I") ∈ lw_all := lw_g (lw_at lw_m7 189 rfl) rfl
theorem q1847 : (Jvm.Cond.soleField "AlgebraHouseModel" "fnParams") ∈ lw_all := lw_g (lw_at lw_m7 190 rfl) rfl
theorem q1848 : (Jvm.Cond.laysFinal "AlgebraHouseModel" "AlgebraHouseModel" "fnBody" "[I") ∈ lw_all := lw_g (lw_at lw_m7 191 rfl) rfl
theorem q1849 : (Jvm.Cond.soleField "AlgebraHouseModel" "fnBody") ∈ lw_all := lw_g (lw_at lw_m7 192 rfl) rfl
theorem q1850 : (Jvm.Cond.laysFinal "AlgebraHouseModel" "AlgebraHouseModel" "fnSort" "[I") ∈ lw_all := lw_g (lw_at lw_m7 193 rfl) rfl
theorem q1851 : (Jvm.Cond.soleField "AlgebraHouseModel" "fnSort") ∈ lw_all := lw_g (lw_at lw_m7 194 rfl) rfl
theorem q1852 : (Jvm.Cond.laysFinal "AlgebraHouseModel" "AlgebraHouseModel" "fnBase" "[I") ∈ lw_all := lw_g (lw_at lw_m7 195 rfl) rfl
theorem q1853 : (Jvm.Cond.soleField "AlgebraHouseModel" "fnBase") ∈ lw_all := lw_g (lw_at lw_m7 196 rfl) rfl
theorem q1854 : (Jvm.Cond.laysFinal "AlgebraHouseModel" "AlgebraHouseModel" "fnDepth" "[I") ∈ lw_all := lw_g (lw_at lw_m7 197 rfl) rfl
theorem q1855 : (Jvm.Cond.soleField "AlgebraHouseModel" "fnDepth") ∈ lw_all := lw_g (lw_at lw_m7 198 rfl) rfl
theorem q1856 : (Jvm.Cond.laysFinal "AlgebraHouseModel" "AlgebraHouseModel" "fnSize" "[I") ∈ lw_all := lw_g (lw_at lw_m7 199 rfl) rfl
theorem q1857 : (Jvm.Cond.soleField "AlgebraHouseModel" "fnSize") ∈ lw_all := lw_g (lw_at lw_m7 200 rfl) rfl
theorem q1858 : (Jvm.Cond.laysFinal "AlgebraHouseModel" "AlgebraHouseModel" "paramBase" "[I") ∈ lw_all := lw_g (lw_at lw_m7 201 rfl) rfl
theorem q1859 : (Jvm.Cond.soleField "AlgebraHouseModel" "paramBase") ∈ lw_all := lw_g (lw_at lw_m7 202 rfl) rfl
theorem q1860 : (Jvm.Cond.laysFinal "AlgebraHouseModel" "AlgebraHouseModel" "paramDepth" "[I") ∈ lw_all := lw_g (lw_at lw_m7 203 rfl) rfl
theorem q1861 : (Jvm.Cond.soleField "AlgebraHouseModel" "paramDepth") ∈ lw_all := lw_g (lw_at lw_m7 204 rfl) rfl
theorem q1862 : (Jvm.Cond.laysFinal "AlgebraHouseModel" "AlgebraHouseModel" "paramSize" "[I") ∈ lw_all := lw_g (lw_at lw_m7 205 rfl) rfl
theorem q1863 : (Jvm.Cond.soleField "AlgebraHouseModel" "paramSize") ∈ lw_all := lw_g (lw_at lw_m7 206 rfl) rfl
theorem q1864 : (Jvm.Cond.laysFinal "AlgebraHouseModel" "AlgebraHouseModel" "fnRBase" "[I") ∈ lw_all := lw_g (lw_at lw_m7 207 rfl) rfl
theorem q1865 : (Jvm.Cond.soleField "AlgebraHouseModel" "fnRBase") ∈ lw_all := lw_g (lw_at lw_m7 208 rfl) rfl
theorem q1866 : (Jvm.Cond.laysFinal "AlgebraHouseModel" "AlgebraHouseModel" "fnRDepth" "[I") ∈ lw_all := lw_g (lw_at lw_m7 209 rfl) rfl
theorem q1867 : (Jvm.Cond.soleField "AlgebraHouseModel" "fnRDepth") ∈ lw_all := lw_g (lw_at lw_m7 210 rfl) rfl
theorem q1868 : (Jvm.Cond.laysFinal "AlgebraHouseModel" "AlgebraHouseModel" "fnRSize" "[I") ∈ lw_all := lw_g (lw_at lw_m7 211 rfl) rfl
theorem q1869 : (Jvm.Cond.soleField "AlgebraHouseModel" "fnRSize") ∈ lw_all := lw_g (lw_at lw_m7 212 rfl) rfl
theorem q1870 : (Jvm.Cond.laysFinal "AlgebraHouseModel" "AlgebraHouseModel" "fnHasR" "[Z") ∈ lw_all := lw_g (lw_at lw_m7 213 rfl) rfl
theorem q1871 : (Jvm.Cond.soleField "AlgebraHouseModel" "fnHasR") ∈ lw_all := lw_g (lw_at lw_m7 214 rfl) rfl
theorem q1872 : (Jvm.Cond.laysFinal "AlgebraHouseModel" "AlgebraHouseModel" "paramHasR" "[Z") ∈ lw_all := lw_g (lw_at lw_m7 215 rfl) rfl
theorem q1873 : (Jvm.Cond.soleField "AlgebraHouseModel" "paramHasR") ∈ lw_all := lw_g (lw_at lw_m7 216 rfl) rfl
theorem q1874 : (Jvm.Cond.laysFinal "AlgebraHouseModel" "AlgebraHouseModel" "varBase" "[I") ∈ lw_all := lw_g (lw_at lw_m7 217 rfl) rfl
theorem q1875 : (Jvm.Cond.soleField "AlgebraHouseModel" "varBase") ∈ lw_all := lw_g (lw_at lw_m7 218 rfl) rfl
theorem q1876 : (Jvm.Cond.laysFinal "AlgebraHouseModel" "AlgebraHouseModel" "varDepth" "[I") ∈ lw_all := lw_g (lw_at lw_m7 219 rfl) rfl
theorem q1877 : (Jvm.Cond.soleField "AlgebraHouseModel" "varDepth") ∈ lw_all := lw_g (lw_at lw_m7 220 rfl) rfl
theorem q1878 : (Jvm.Cond.laysFinal "AlgebraHouseModel" "AlgebraHouseModel" "varSize" "[I") ∈ lw_all := lw_g (lw_at lw_m7 221 rfl) rfl
theorem q1879 : (Jvm.Cond.soleField "AlgebraHouseModel" "varSize") ∈ lw_all := lw_g (lw_at lw_m7 222 rfl) rfl
theorem q1880 : (Jvm.Cond.laysFinal "AlgebraHouseModel" "AlgebraHouseModel" "resBase" "[I") ∈ lw_all := lw_g (lw_at lw_m7 223 rfl) rfl
theorem q1881 : (Jvm.Cond.soleField "AlgebraHouseModel" "resBase") ∈ lw_all := lw_g (lw_at lw_m7 224 rfl) rfl
theorem q1882 : (Jvm.Cond.laysFinal "AlgebraHouseModel" "AlgebraHouseModel" "resDepth" "[I") ∈ lw_all := lw_g (lw_at lw_m7 225 rfl) rfl
theorem q1883 : (Jvm.Cond.soleField "AlgebraHouseModel" "resDepth") ∈ lw_all := lw_g (lw_at lw_m7 226 rfl) rfl
theorem q1884 : (Jvm.Cond.laysFinal "AlgebraHouseModel" "AlgebraHouseModel" "resSize" "[I") ∈ lw_all := lw_g (lw_at lw_m7 227 rfl) rfl
theorem q1885 : (Jvm.Cond.soleField "AlgebraHouseModel" "resSize") ∈ lw_all := lw_g (lw_at lw_m7 228 rfl) rfl
theorem q1886 : (Jvm.Cond.laysFinal "AlgebraHouseModel" "AlgebraHouseModel" "resValue" "[J") ∈ lw_all := lw_g (lw_at lw_m7 229 rfl) rfl
theorem q1887 : (Jvm.Cond.soleField "AlgebraHouseModel" "resValue") ∈ lw_all := lw_g (lw_at lw_m7 230 rfl) rfl
theorem q1888 : (Jvm.Cond.laysFinal "AlgebraHouseModel" "AlgebraHouseModel" "varValue" "[J") ∈ lw_all := lw_g (lw_at lw_m7 231 rfl) rfl
theorem q1889 : (Jvm.Cond.soleField "AlgebraHouseModel" "varValue") ∈ lw_all := lw_g (lw_at lw_m7 232 rfl) rfl
theorem q1890 : (Jvm.Cond.lays "AlgebraHouseModel" "AlgebraHouseModel" "isDefining" "Z") ∈ lw_all := lw_g (lw_at lw_m7 233 rfl) rfl
theorem q1891 : (Jvm.Cond.soleField "AlgebraHouseModel" "isDefining") ∈ lw_all := lw_g (lw_at lw_m7 234 rfl) rfl
theorem q1892 : (Jvm.Cond.lays "AlgebraHouseModel" "AlgebraHouseModel" "here" "I") ∈ lw_all := lw_g (lw_at lw_m7 235 rfl) rfl
theorem q1893 : (Jvm.Cond.soleField "AlgebraHouseModel" "here") ∈ lw_all := lw_g (lw_at lw_m7 236 rfl) rfl
theorem q1894 : (Jvm.Cond.lays "AlgebraHouseModel" "AlgebraHouseModel" "rBase" "I") ∈ lw_all := lw_g (lw_at lw_m7 237 rfl) rfl
theorem q1895 : (Jvm.Cond.soleField "AlgebraHouseModel" "rBase") ∈ lw_all := lw_g (lw_at lw_m7 238 rfl) rfl
theorem q1896 : (Jvm.Cond.lays "AlgebraHouseModel" "AlgebraHouseModel" "rDepth" "I") ∈ lw_all := lw_g (lw_at lw_m7 239 rfl) rfl
theorem q1897 : (Jvm.Cond.soleField "AlgebraHouseModel" "rDepth") ∈ lw_all := lw_g (lw_at lw_m8 0 rfl) rfl
theorem q1898 : (Jvm.Cond.lays "AlgebraHouseModel" "AlgebraHouseModel" "rSize" "I") ∈ lw_all := lw_g (lw_at lw_m8 1 rfl) rfl
theorem q1899 : (Jvm.Cond.soleField "AlgebraHouseModel" "rSize") ∈ lw_all := lw_g (lw_at lw_m8 2 rfl) rfl
theorem q1900 : (Jvm.Cond.lays "AlgebraHouseModel" "AlgebraHouseModel" "jBase" "I") ∈ lw_all := lw_g (lw_at lw_m8 3 rfl) rfl
theorem q1901 : (Jvm.Cond.soleField "AlgebraHouseModel" "jBase") ∈ lw_all := lw_g (lw_at lw_m8 4 rfl) rfl
theorem q1902 : (Jvm.Cond.lays "AlgebraHouseModel" "AlgebraHouseModel" "jDepth" "I") ∈ lw_all := lw_g (lw_at lw_m8 5 rfl) rfl
theorem q1903 : (Jvm.Cond.soleField "AlgebraHouseModel" "jDepth") ∈ lw_all := lw_g (lw_at lw_m8 6 rfl) rfl
theorem q1904 : (Jvm.Cond.lays "AlgebraHouseModel" "AlgebraHouseModel" "jSize" "I") ∈ lw_all := lw_g (lw_at lw_m8 7 rfl) rfl
theorem q1905 : (Jvm.Cond.soleField "AlgebraHouseModel" "jSize") ∈ lw_all := lw_g (lw_at lw_m8 8 rfl) rfl
theorem q1906 : (Jvm.Cond.lays "AlgebraHouseModel" "AlgebraHouseModel" "spineTop" "I") ∈ lw_all := lw_g (lw_at lw_m8 9 rfl) rfl
theorem q1907 : (Jvm.Cond.soleField "AlgebraHouseModel" "spineTop") ∈ lw_all := lw_g (lw_at lw_m8 10 rfl) rfl
theorem q1908 : (Jvm.Cond.laysFinal "AlgebraHouseModel" "AlgebraHouseModel" "spine" "[I") ∈ lw_all := lw_g (lw_at lw_m8 11 rfl) rfl
theorem q1909 : (Jvm.Cond.soleField "AlgebraHouseModel" "spine") ∈ lw_all := lw_g (lw_at lw_m8 12 rfl) rfl
theorem q1910 : (Jvm.Cond.lays "AlgebraHouseModel" "AlgebraHouseModel" "iBase" "I") ∈ lw_all := lw_g (lw_at lw_m8 13 rfl) rfl
theorem q1911 : (Jvm.Cond.soleField "AlgebraHouseModel" "iBase") ∈ lw_all := lw_g (lw_at lw_m8 14 rfl) rfl
theorem q1912 : (Jvm.Cond.lays "AlgebraHouseModel" "AlgebraHouseModel" "iDepth" "I") ∈ lw_all := lw_g (lw_at lw_m8 15 rfl) rfl
theorem q1913 : (Jvm.Cond.soleField "AlgebraHouseModel" "iDepth") ∈ lw_all := lw_g (lw_at lw_m8 16 rfl) rfl
theorem q1914 : (Jvm.Cond.lays "AlgebraHouseModel" "AlgebraHouseModel" "iSize" "I") ∈ lw_all := lw_g (lw_at lw_m8 17 rfl) rfl
theorem q1915 : (Jvm.Cond.soleField "AlgebraHouseModel" "iSize") ∈ lw_all := lw_g (lw_at lw_m8 18 rfl) rfl
theorem q1916 : (Jvm.Cond.lays "AlgebraHouseModel" "AlgebraHouseModel" "asked" "I") ∈ lw_all := lw_g (lw_at lw_m8 19 rfl) rfl
theorem q1917 : (Jvm.Cond.soleField "AlgebraHouseModel" "asked") ∈ lw_all := lw_g (lw_at lw_m8 20 rfl) rfl
theorem q1918 : (Jvm.Cond.lays "AlgebraHouseModel" "AlgebraHouseModel" "cost" "I") ∈ lw_all := lw_g (lw_at lw_m8 21 rfl) rfl
theorem q1919 : (Jvm.Cond.soleField "AlgebraHouseModel" "cost") ∈ lw_all := lw_g (lw_at lw_m8 22 rfl) rfl
theorem q1920 : (Jvm.Cond.lays "AlgebraHouseModel" "AlgebraHouseModel" "cBase" "I") ∈ lw_all := lw_g (lw_at lw_m8 23 rfl) rfl
theorem q1921 : (Jvm.Cond.soleField "AlgebraHouseModel" "cBase") ∈ lw_all := lw_g (lw_at lw_m8 24 rfl) rfl
theorem q1922 : (Jvm.Cond.lays "AlgebraHouseModel" "AlgebraHouseModel" "cDepth" "I") ∈ lw_all := lw_g (lw_at lw_m8 25 rfl) rfl
theorem q1923 : (Jvm.Cond.soleField "AlgebraHouseModel" "cDepth") ∈ lw_all := lw_g (lw_at lw_m8 26 rfl) rfl
theorem q1924 : (Jvm.Cond.lays "AlgebraHouseModel" "AlgebraHouseModel" "cSize" "I") ∈ lw_all := lw_g (lw_at lw_m8 27 rfl) rfl
theorem q1925 : (Jvm.Cond.soleField "AlgebraHouseModel" "cSize") ∈ lw_all := lw_g (lw_at lw_m8 28 rfl) rfl
theorem q1926 : (Jvm.Cond.laysFinal "AlgebraHouseModel" "AlgebraHouseModel" "eBase" "[I") ∈ lw_all := lw_g (lw_at lw_m8 29 rfl) rfl
theorem q1927 : (Jvm.Cond.soleField "AlgebraHouseModel" "eBase") ∈ lw_all := lw_g (lw_at lw_m8 30 rfl) rfl
theorem q1928 : (Jvm.Cond.laysFinal "AlgebraHouseModel" "AlgebraHouseModel" "eDepth" "[I") ∈ lw_all := lw_g (lw_at lw_m8 31 rfl) rfl
theorem q1929 : (Jvm.Cond.soleField "AlgebraHouseModel" "eDepth") ∈ lw_all := lw_g (lw_at lw_m8 32 rfl) rfl
theorem q1930 : (Jvm.Cond.laysFinal "AlgebraHouseModel" "AlgebraHouseModel" "eSize" "[I") ∈ lw_all := lw_g (lw_at lw_m8 33 rfl) rfl
theorem q1931 : (Jvm.Cond.soleField "AlgebraHouseModel" "eSize") ∈ lw_all := lw_g (lw_at lw_m8 34 rfl) rfl
theorem q1932 : (Jvm.Cond.lays "AlgebraHouseModel" "AlgebraHouseModel" "bestBase" "I") ∈ lw_all := lw_g (lw_at lw_m8 35 rfl) rfl
theorem q1933 : (Jvm.Cond.soleField "AlgebraHouseModel" "bestBase") ∈ lw_all := lw_g (lw_at lw_m8 36 rfl) rfl
theorem q1934 : (Jvm.Cond.lays "AlgebraHouseModel" "AlgebraHouseModel" "bestDepth" "I") ∈ lw_all := lw_g (lw_at lw_m8 37 rfl) rfl
theorem q1935 : (Jvm.Cond.soleField "AlgebraHouseModel" "bestDepth") ∈ lw_all := lw_g (lw_at lw_m8 38 rfl) rfl
theorem q1936 : (Jvm.Cond.lays "AlgebraHouseModel" "AlgebraHouseModel" "bestSize" "I") ∈ lw_all := lw_g (lw_at lw_m8 39 rfl) rfl
theorem q1937 : (Jvm.Cond.soleField "AlgebraHouseModel" "bestSize") ∈ lw_all := lw_g (lw_at lw_m8 40 rfl) rfl
theorem q1938 : (Jvm.Cond.lays "AlgebraHouseModel" "AlgebraHouseModel" "error" "I") ∈ lw_all := lw_g (lw_at lw_m8 41 rfl) rfl
theorem q1939 : (Jvm.Cond.soleField "AlgebraHouseModel" "error") ∈ lw_all := lw_g (lw_at lw_m8 42 rfl) rfl
theorem q1940 : (Jvm.Cond.laysFinal "AlgebraHouseModel" "AlgebraHouseModel" "pile" "[J") ∈ lw_all := lw_g (lw_at lw_m8 43 rfl) rfl
theorem q1941 : (Jvm.Cond.soleField "AlgebraHouseModel" "pile") ∈ lw_all := lw_g (lw_at lw_m8 44 rfl) rfl
theorem q1942 : (Jvm.Cond.lays "AlgebraHouseModel" "AlgebraHouseModel" "top" "I") ∈ lw_all := lw_g (lw_at lw_m8 45 rfl) rfl
theorem q1943 : (Jvm.Cond.soleField "AlgebraHouseModel" "top") ∈ lw_all := lw_g (lw_at lw_m8 46 rfl) rfl
theorem q1944 : (Jvm.Cond.lays "AlgebraHouseModel" "AlgebraHouseModel" "above" "J") ∈ lw_all := lw_g (lw_at lw_m8 47 rfl) rfl
theorem q1945 : (Jvm.Cond.soleField "AlgebraHouseModel" "above") ∈ lw_all := lw_g (lw_at lw_m8 48 rfl) rfl
theorem q1946 : (Jvm.Cond.lays "AlgebraHouseModel" "AlgebraHouseModel" "below" "J") ∈ lw_all := lw_g (lw_at lw_m8 49 rfl) rfl
theorem q1947 : (Jvm.Cond.soleField "AlgebraHouseModel" "below") ∈ lw_all := lw_g (lw_at lw_m8 50 rfl) rfl
theorem q1948 : (Jvm.Cond.lays "AlgebraHouseModel" "AlgebraHouseModel" "modulus" "I") ∈ lw_all := lw_g (lw_at lw_m8 51 rfl) rfl
theorem q1949 : (Jvm.Cond.soleField "AlgebraHouseModel" "modulus") ∈ lw_all := lw_g (lw_at lw_m8 52 rfl) rfl
theorem q1950 : (Jvm.Cond.lays "AlgebraHouseModel" "AlgebraHouseModel" "steps" "I") ∈ lw_all := lw_g (lw_at lw_m8 53 rfl) rfl
theorem q1951 : (Jvm.Cond.soleField "AlgebraHouseModel" "steps") ∈ lw_all := lw_g (lw_at lw_m8 54 rfl) rfl
theorem q1952 : (Jvm.Cond.lays "AlgebraHouseModel" "AlgebraHouseModel" "calls" "I") ∈ lw_all := lw_g (lw_at lw_m8 55 rfl) rfl
theorem q1953 : (Jvm.Cond.soleField "AlgebraHouseModel" "calls") ∈ lw_all := lw_g (lw_at lw_m8 56 rfl) rfl
theorem q1954 : (Jvm.Cond.lays "AlgebraHouseModel" "AlgebraHouseModel" "mostCalls" "I") ∈ lw_all := lw_g (lw_at lw_m8 57 rfl) rfl
theorem q1955 : (Jvm.Cond.soleField "AlgebraHouseModel" "mostCalls") ∈ lw_all := lw_g (lw_at lw_m8 58 rfl) rfl
theorem q1956 : (Jvm.Cond.lays "AlgebraHouseModel" "AlgebraHouseModel" "params" "I") ∈ lw_all := lw_g (lw_at lw_m8 59 rfl) rfl
theorem q1957 : (Jvm.Cond.soleField "AlgebraHouseModel" "params") ∈ lw_all := lw_g (lw_at lw_m8 60 rfl) rfl
theorem q1958 : (Jvm.Cond.laysFinal "AlgebraHouseModel" "AlgebraHouseModel" "taskDo" "[I") ∈ lw_all := lw_g (lw_at lw_m8 61 rfl) rfl
theorem q1959 : (Jvm.Cond.soleField "AlgebraHouseModel" "taskDo") ∈ lw_all := lw_g (lw_at lw_m8 62 rfl) rfl
theorem q1960 : (Jvm.Cond.laysFinal "AlgebraHouseModel" "AlgebraHouseModel" "taskNode" "[I") ∈ lw_all := lw_g (lw_at lw_m8 63 rfl) rfl
theorem q1961 : (Jvm.Cond.soleField "AlgebraHouseModel" "taskNode") ∈ lw_all := lw_g (lw_at lw_m8 64 rfl) rfl
theorem q1962 : (Jvm.Cond.laysFinal "AlgebraHouseModel" "AlgebraHouseModel" "taskX" "[I") ∈ lw_all := lw_g (lw_at lw_m8 65 rfl) rfl
theorem q1963 : (Jvm.Cond.soleField "AlgebraHouseModel" "taskX") ∈ lw_all := lw_g (lw_at lw_m8 66 rfl) rfl
theorem q1964 : (Jvm.Cond.laysFinal "AlgebraHouseModel" "AlgebraHouseModel" "taskY" "[I") ∈ lw_all := lw_g (lw_at lw_m8 67 rfl) rfl
theorem q1965 : (Jvm.Cond.soleField "AlgebraHouseModel" "taskY") ∈ lw_all := lw_g (lw_at lw_m8 68 rfl) rfl
theorem q1966 : (Jvm.Cond.laysFinal "AlgebraHouseModel" "AlgebraHouseModel" "taskZ" "[I") ∈ lw_all := lw_g (lw_at lw_m8 69 rfl) rfl
theorem q1967 : (Jvm.Cond.soleField "AlgebraHouseModel" "taskZ") ∈ lw_all := lw_g (lw_at lw_m8 70 rfl) rfl
theorem q1968 : (Jvm.Cond.lays "AlgebraHouseModel" "AlgebraHouseModel" "tasks" "I") ∈ lw_all := lw_g (lw_at lw_m8 71 rfl) rfl
theorem q1969 : (Jvm.Cond.soleField "AlgebraHouseModel" "tasks") ∈ lw_all := lw_g (lw_at lw_m8 72 rfl) rfl
theorem q1970 : (Jvm.Cond.laysFinal "AlgebraHouseModel" "AlgebraHouseModel" "callFunction" "[I") ∈ lw_all := lw_g (lw_at lw_m8 73 rfl) rfl
theorem q1971 : (Jvm.Cond.soleField "AlgebraHouseModel" "callFunction") ∈ lw_all := lw_g (lw_at lw_m8 74 rfl) rfl
theorem q1972 : (Jvm.Cond.laysFinal "AlgebraHouseModel" "AlgebraHouseModel" "callParams" "[I") ∈ lw_all := lw_g (lw_at lw_m8 75 rfl) rfl
theorem q1973 : (Jvm.Cond.soleField "AlgebraHouseModel" "callParams") ∈ lw_all := lw_g (lw_at lw_m8 76 rfl) rfl
theorem q1974 : (Jvm.Cond.laysFinal "AlgebraHouseModel" "AlgebraHouseModel" "callHere" "[I") ∈ lw_all := lw_g (lw_at lw_m8 77 rfl) rfl
theorem q1975 : (Jvm.Cond.soleField "AlgebraHouseModel" "callHere") ∈ lw_all := lw_g (lw_at lw_m8 78 rfl) rfl
theorem q1976 : (Jvm.Cond.laysFinal "AlgebraHouseModel" "AlgebraHouseModel" "callBase" "[I") ∈ lw_all := lw_g (lw_at lw_m8 79 rfl) rfl
theorem q1977 : (Jvm.Cond.soleField "AlgebraHouseModel" "callBase") ∈ lw_all := lw_g (lw_at lw_m8 80 rfl) rfl
theorem q1978 : (Jvm.Cond.laysFinal "AlgebraHouseModel" "AlgebraHouseModel" "callDepth" "[I") ∈ lw_all := lw_g (lw_at lw_m8 81 rfl) rfl
theorem q1979 : (Jvm.Cond.soleField "AlgebraHouseModel" "callDepth") ∈ lw_all := lw_g (lw_at lw_m8 82 rfl) rfl
theorem q1980 : (Jvm.Cond.laysFinal "AlgebraHouseModel" "AlgebraHouseModel" "callSize" "[I") ∈ lw_all := lw_g (lw_at lw_m8 83 rfl) rfl
theorem q1981 : (Jvm.Cond.soleField "AlgebraHouseModel" "callSize") ∈ lw_all := lw_g (lw_at lw_m8 84 rfl) rfl
theorem q1982 : (Jvm.Cond.laysFinal "AlgebraHouseModel" "AlgebraHouseModel" "callModulus" "[I") ∈ lw_all := lw_g (lw_at lw_m8 85 rfl) rfl
theorem q1983 : (Jvm.Cond.soleField "AlgebraHouseModel" "callModulus") ∈ lw_all := lw_g (lw_at lw_m8 86 rfl) rfl
theorem q1984 : (Jvm.Cond.laysFinal "AlgebraHouseModel" "AlgebraHouseModel" "rootP" "[J") ∈ lw_all := lw_g (lw_at lw_m8 87 rfl) rfl
theorem q1985 : (Jvm.Cond.soleField "AlgebraHouseModel" "rootP") ∈ lw_all := lw_g (lw_at lw_m8 88 rfl) rfl
theorem q1986 : (Jvm.Cond.laysFinal "AlgebraHouseModel" "AlgebraHouseModel" "rootX" "[J") ∈ lw_all := lw_g (lw_at lw_m8 89 rfl) rfl
theorem q1987 : (Jvm.Cond.soleField "AlgebraHouseModel" "rootX") ∈ lw_all := lw_g (lw_at lw_m8 90 rfl) rfl
theorem q1988 : (Jvm.Cond.laysFinal "AlgebraHouseModel" "AlgebraHouseModel" "rootY" "[J") ∈ lw_all := lw_g (lw_at lw_m8 91 rfl) rfl
theorem q1989 : (Jvm.Cond.soleField "AlgebraHouseModel" "rootY") ∈ lw_all := lw_g (lw_at lw_m8 92 rfl) rfl
theorem q1990 : (Jvm.Cond.lays "AlgebraHouseModel" "AlgebraHouseModel" "becomes" "I") ∈ lw_all := lw_g (lw_at lw_m8 93 rfl) rfl
theorem q1991 : (Jvm.Cond.soleField "AlgebraHouseModel" "becomes") ∈ lw_all := lw_g (lw_at lw_m8 94 rfl) rfl
theorem q1992 : (Jvm.Cond.lays "AlgebraHouseModel" "AlgebraHouseModel" "result" "I") ∈ lw_all := lw_g (lw_at lw_m8 95 rfl) rfl
theorem q1993 : (Jvm.Cond.soleField "AlgebraHouseModel" "result") ∈ lw_all := lw_g (lw_at lw_m8 96 rfl) rfl
theorem q1994 : (Jvm.Cond.lays "AlgebraHouseModel" "AlgebraHouseModel" "headRing" "I") ∈ lw_all := lw_g (lw_at lw_m8 97 rfl) rfl
theorem q1995 : (Jvm.Cond.soleField "AlgebraHouseModel" "headRing") ∈ lw_all := lw_g (lw_at lw_m8 98 rfl) rfl
theorem q1996 : (Jvm.Cond.lays "AlgebraHouseModel" "AlgebraHouseModel" "forToken" "I") ∈ lw_all := lw_g (lw_at lw_m8 99 rfl) rfl
theorem q1997 : (Jvm.Cond.soleField "AlgebraHouseModel" "forToken") ∈ lw_all := lw_g (lw_at lw_m8 100 rfl) rfl
theorem q1998 : (Jvm.Cond.laysFinal "AlgebraHouseModel" "AlgebraHouseModel" "paramToken" "[I") ∈ lw_all := lw_g (lw_at lw_m8 101 rfl) rfl
theorem q1999 : (Jvm.Cond.soleField "AlgebraHouseModel" "paramToken") ∈ lw_all := lw_g (lw_at lw_m8 102 rfl) rfl
theorem q2000 : (Jvm.Cond.laysFinal "AlgebraHouseModel" "AlgebraHouseModel" "paramRing" "[I") ∈ lw_all := lw_g (lw_at lw_m8 103 rfl) rfl
theorem q2001 : (Jvm.Cond.soleField "AlgebraHouseModel" "paramRing") ∈ lw_all := lw_g (lw_at lw_m8 104 rfl) rfl
theorem q2002 : (Jvm.Cond.superclass "AlgebraHouseModel" "java/lang/Object") ∈ lw_all := lw_g (lw_at lw_m8 105 rfl) rfl
theorem q2004 : (Jvm.Cond.instanceMethod ({ cls := "AlgebraHouseModel", name := "feed", desc := "(IIIII)I" } : Jvm.MethodName)) ∈ lw_all := lw_g (lw_at lw_m8 107 rfl) rfl
theorem q2005 : (Jvm.Cond.selects "AlgebraHouseModel" ({ cls := "AlgebraHouseModel", name := "feed", desc := "(IIIII)I" } : Jvm.MethodName) ({ cls := "AlgebraHouseModel", name := "feed", desc := "(IIIII)I" } : Jvm.MethodName)) ∈ lw_all := lw_g (lw_at lw_m8 108 rfl) rfl
theorem q2006 : (Jvm.Cond.code ({ cls := "AlgebraHouseModel", name := "feed", desc := "(IIIII)I" } : Jvm.MethodName) prog_14_method_3_code (6 : Nat) (Option.some Jvm.ClassFile.FieldType.int)) ∈ lw_all := lw_g (lw_at lw_m8 109 rfl) rfl
theorem q2007 : (Jvm.Cond.methodLink "AlgebraHouseModel" (313 : Nat) ({ cls := "AlgebraHouseModel", name := "lay", desc := "(I)V" } : Jvm.MethodName)) ∈ lw_all := lw_g (lw_at lw_m8 110 rfl) rfl
theorem q2008 : (Jvm.Cond.privateMethod ({ cls := "AlgebraHouseModel", name := "lay", desc := "(I)V" } : Jvm.MethodName)) ∈ lw_tbl := lw_at lw_m8 111 rfl
theorem q2009 : (Jvm.Cond.instanceMethod ({ cls := "AlgebraHouseModel", name := "lay", desc := "(I)V" } : Jvm.MethodName)) ∈ lw_all := lw_g (lw_at lw_m8 112 rfl) rfl
theorem q2010 : (Jvm.Cond.code ({ cls := "AlgebraHouseModel", name := "lay", desc := "(I)V" } : Jvm.MethodName) prog_14_method_4_code (3 : Nat) (Option.none : Option Jvm.ClassFile.FieldType)) ∈ lw_all := lw_g (lw_at lw_m8 113 rfl) rfl
theorem q2012 : (Jvm.Cond.instanceMethod ({ cls := "AlgebraHouseModel", name := "line", desc := "(I)I" } : Jvm.MethodName)) ∈ lw_all := lw_g (lw_at lw_m8 115 rfl) rfl
theorem q2013 : (Jvm.Cond.selects "AlgebraHouseModel" ({ cls := "AlgebraHouseModel", name := "line", desc := "(I)I" } : Jvm.MethodName) ({ cls := "AlgebraHouseModel", name := "line", desc := "(I)I" } : Jvm.MethodName)) ∈ lw_all := lw_g (lw_at lw_m8 116 rfl) rfl
theorem q2014 : (Jvm.Cond.code ({ cls := "AlgebraHouseModel", name := "line", desc := "(I)I" } : Jvm.MethodName) prog_14_method_136_code (6 : Nat) (Option.some Jvm.ClassFile.FieldType.int)) ∈ lw_all := lw_g (lw_at lw_m8 117 rfl) rfl
theorem q2015 : (Jvm.Cond.methodLink "AlgebraHouseModel" (896 : Nat) ({ cls := "AlgebraHouseModel", name := "scan", desc := "(I)V" } : Jvm.MethodName)) ∈ lw_all := lw_g (lw_at lw_m8 118 rfl) rfl
theorem q2016 : (Jvm.Cond.privateMethod ({ cls := "AlgebraHouseModel", name := "scan", desc := "(I)V" } : Jvm.MethodName)) ∈ lw_tbl := lw_at lw_m8 119 rfl
theorem q2017 : (Jvm.Cond.instanceMethod ({ cls := "AlgebraHouseModel", name := "scan", desc := "(I)V" } : Jvm.MethodName)) ∈ lw_all := lw_g (lw_at lw_m8 120 rfl) rfl
theorem q2018 : (Jvm.Cond.code ({ cls := "AlgebraHouseModel", name := "scan", desc := "(I)V" } : Jvm.MethodName) prog_14_method_7_code (5 : Nat) (Option.none : Option Jvm.ClassFile.FieldType)) ∈ lw_all := lw_g (lw_at lw_m8 121 rfl) rfl
theorem q2019 : (Jvm.Cond.methodLink "AlgebraHouseModel" (320 : Nat) ({ cls := "AlgebraHouseModel", name := "token", desc := "(II)I" } : Jvm.MethodName)) ∈ lw_all := lw_g (lw_at lw_m8 122 rfl) rfl
theorem q2020 : (Jvm.Cond.privateMethod ({ cls := "AlgebraHouseModel", name := "token", desc := "(II)I" } : Jvm.MethodName)) ∈ lw_tbl := lw_at lw_m8 123 rfl
theorem q2021 : (Jvm.Cond.instanceMethod ({ cls := "AlgebraHouseModel", name := "token", desc := "(II)I" } : Jvm.MethodName)) ∈ lw_all := lw_g (lw_at lw_m8 124 rfl) rfl
theorem q2022 : (Jvm.Cond.code ({ cls := "AlgebraHouseModel", name := "token", desc := "(II)I" } : Jvm.MethodName) prog_14_method_8_code (10 : Nat) (Option.some Jvm.ClassFile.FieldType.int)) ∈ lw_all := lw_g (lw_at lw_m8 125 rfl) rfl
theorem q2023 : (Jvm.Cond.methodLink "AlgebraHouseModel" (327 : Nat) ({ cls := "AlgebraHouseModel", name := "isLetter", desc := "(I)Z" } : Jvm.MethodName)) ∈ lw_all := lw_g (lw_at lw_m8 126 rfl) rfl
theorem q2024 : (Jvm.Cond.static ({ cls := "AlgebraHouseModel", name := "isLetter", desc := "(I)Z" } : Jvm.MethodName)) ∈ lw_all := lw_g (lw_at lw_m8 127 rfl) rfl
theorem q2025 : (Jvm.Cond.code ({ cls := "AlgebraHouseModel", name := "isLetter", desc := "(I)Z" } : Jvm.MethodName) prog_14_method_5_code (1 : Nat) (Option.some Jvm.ClassFile.FieldType.boolean)) ∈ lw_all := lw_g (lw_at lw_m8 128 rfl) rfl
theorem q2026 : (Jvm.Cond.methodLink "AlgebraHouseModel" (331 : Nat) ({ cls := "AlgebraHouseModel", name := "isDigit", desc := "(I)Z" } : Jvm.MethodName)) ∈ lw_all := lw_g (lw_at lw_m8 129 rfl) rfl
theorem q2027 : (Jvm.Cond.static ({ cls := "AlgebraHouseModel", name := "isDigit", desc := "(I)Z" } : Jvm.MethodName)) ∈ lw_all := lw_g (lw_at lw_m8 130 rfl) rfl
theorem q2028 : (Jvm.Cond.code ({ cls := "AlgebraHouseModel", name := "isDigit", desc := "(I)Z" } : Jvm.MethodName) prog_14_method_6_code (1 : Nat) (Option.some Jvm.ClassFile.FieldType.boolean)) ∈ lw_all := lw_g (lw_at lw_m8 131 rfl) rfl
theorem q2029 : (Jvm.Cond.methodLink "AlgebraHouseModel" (334 : Nat) ({ cls := "AlgebraHouseModel", name := "wordKind", desc := "(J)I" } : Jvm.MethodName)) ∈ lw_all := lw_g (lw_at lw_m8 132 rfl) rfl
theorem q2030 : (Jvm.Cond.privateMethod ({ cls := "AlgebraHouseModel", name := "wordKind", desc := "(J)I" } : Jvm.MethodName)) ∈ lw_tbl := lw_at lw_m8 133 rfl
theorem q2031 : (Jvm.Cond.instanceMethod ({ cls := "AlgebraHouseModel", name := "wordKind", desc := "(J)I" } : Jvm.MethodName)) ∈ lw_all := lw_g (lw_at lw_m8 134 rfl) rfl
theorem q2032 : (Jvm.Cond.code ({ cls := "AlgebraHouseModel", name := "wordKind", desc := "(J)I" } : Jvm.MethodName) prog_14_method_9_code (4 : Nat) (Option.some Jvm.ClassFile.FieldType.int)) ∈ lw_all := lw_g (lw_at lw_m8 135 rfl) rfl
theorem q2033 : (Jvm.Cond.methodLink "AlgebraHouseModel" (344 : Nat) ({ cls := "AlgebraHouseModel", name := "builtInOf", desc := "(J)I" } : Jvm.MethodName)) ∈ lw_all := lw_g (lw_at lw_m8 136 rfl) rfl
theorem q2034 : (Jvm.Cond.privateMethod ({ cls := "AlgebraHouseModel", name := "builtInOf", desc := "(J)I" } : Jvm.MethodName)) ∈ lw_tbl := lw_at lw_m8 137 rfl
theorem q2035 : (Jvm.Cond.instanceMethod ({ cls := "AlgebraHouseModel", name := "builtInOf", desc := "(J)I" } : Jvm.MethodName)) ∈ lw_all := lw_g (lw_at lw_m8 138 rfl) rfl
theorem q2036 : (Jvm.Cond.code ({ cls := "AlgebraHouseModel", name := "builtInOf", desc := "(J)I" } : Jvm.MethodName) prog_14_method_10_code (4 : Nat) (Option.some Jvm.ClassFile.FieldType.int)) ∈ lw_all := lw_g (lw_at lw_m8 139 rfl) rfl
theorem q2037 : (Jvm.Cond.constantLong "AlgebraHouseModel" (338 : Nat) (10 : Int64)) ∈ lw_all := lw_g (lw_at lw_m8 140 rfl) rfl
theorem q2038 : (Jvm.Cond.constantLong "AlgebraHouseModel" (340 : Nat) (48 : Int64)) ∈ lw_all := lw_g (lw_at lw_m8 141 rfl) rfl
theorem q2039 : (Jvm.Cond.constantLong "AlgebraHouseModel" (342 : Nat) (256 : Int64)) ∈ lw_all := lw_g (lw_at lw_m8 142 rfl) rfl
theorem q2040 : (Jvm.Cond.constantLong "AlgebraHouseModel" (899 : Nat) (40 : Int64)) ∈ lw_all := lw_g (lw_at lw_m8 143 rfl) rfl
theorem q2041 : (Jvm.Cond.constantLong "AlgebraHouseModel" (901 : Nat) (58 : Int64)) ∈ lw_all := lw_g (lw_at lw_m8 144 rfl) rfl
theorem q2042 : (Jvm.Cond.constantLong "AlgebraHouseModel" (907 : Nat) (14909 : Int64)) ∈ lw_all := lw_g (lw_at lw_m8 145 rfl) rfl
theorem q2043 : (Jvm.Cond.methodLink "AlgebraHouseModel" (909 : Nat) ({ cls := "AlgebraHouseModel", name := "readDefinition", desc := "()I" } : Jvm.MethodName)) ∈ lw_all := lw_g (lw_at lw_m8 146 rfl) rfl
theorem q2044 : (Jvm.Cond.privateMethod ({ cls := "AlgebraHouseModel", name := "readDefinition", desc := "()I" } : Jvm.MethodName)) ∈ lw_tbl := lw_at lw_m8 147 rfl
theorem q2045 : (Jvm.Cond.instanceMethod ({ cls := "AlgebraHouseModel", name := "readDefinition", desc := "()I" } : Jvm.MethodName)) ∈ lw_all := lw_g (lw_at lw_m8 148 rfl) rfl
theorem q2046 : (Jvm.Cond.code ({ cls := "AlgebraHouseModel", name := "readDefinition", desc := "()I" } : Jvm.MethodName) prog_14_method_131_code (6 : Nat) (Option.some Jvm.ClassFile.FieldType.int)) ∈ lw_all := lw_g (lw_at lw_m8 149 rfl) rfl
theorem q2047 : (Jvm.Cond.methodLink "AlgebraHouseModel" (388 : Nat) ({ cls := "AlgebraHouseModel", name := "need", desc := "(I)I" } : Jvm.MethodName)) ∈ lw_all := lw_g (lw_at lw_m8 150 rfl) rfl
theorem q2048 : (Jvm.Cond.privateMethod ({ cls := "AlgebraHouseModel", name := "need", desc := "(I)I" } : Jvm.MethodName)) ∈ lw_tbl := lw_at lw_m8 151 rfl
theorem q2049 : (Jvm.Cond.instanceMethod ({ cls := "AlgebraHouseModel", name := "need", desc := "(I)I" } : Jvm.MethodName)) ∈ lw_all := lw_g (lw_at lw_m8 152 rfl) rfl
theorem q2050 : (Jvm.Cond.code ({ cls := "AlgebraHouseModel", name := "need", desc := "(I)I" } : Jvm.MethodName) prog_14_method_20_code (3 : Nat) (Option.some Jvm.ClassFile.FieldType.int)) ∈ lw_all := lw_g (lw_at lw_m8 153 rfl) rfl
theorem q2051 : (Jvm.Cond.methodLink "AlgebraHouseModel" (362 : Nat) ({ cls := "AlgebraHouseModel", name := "accept", desc := "()V" } : Jvm.MethodName)) ∈ lw_all := lw_g (lw_at lw_m8 154 rfl) rfl
theorem q2052 : (Jvm.Cond.privateMethod ({ cls := "AlgebraHouseModel", name := "accept", desc := "()V" } : Jvm.MethodName)) ∈ lw_tbl := lw_at lw_m8 155 rfl
theorem q2053 : (Jvm.Cond.instanceMethod ({ cls := "AlgebraHouseModel", name := "accept", desc := "()V" } : Jvm.MethodName)) ∈ lw_all := lw_g (lw_at lw_m8 156 rfl) rfl
theorem q2054 : (Jvm.Cond.code ({ cls := "AlgebraHouseModel", name := "accept", desc := "()V" } : Jvm.MethodName) prog_14_method_15_code (1 : Nat) (Option.none : Option Jvm.ClassFile.FieldType)) ∈ lw_all := lw_g (lw_at lw_m8 157 rfl) rfl
theorem q2055 : (Jvm.Cond.methodLink "AlgebraHouseModel" (356 : Nat) ({ cls := "AlgebraHouseModel", name := "fail", desc := "(I)V" } : Jvm.MethodName)) ∈ lw_all := lw_g (lw_at lw_m8 158 rfl) rfl
theorem q2056 : (Jvm.Cond.privateMethod ({ cls := "AlgebraHouseModel", name := "fail", desc := "(I)V" } : Jvm.MethodName)) ∈ lw_tbl := lw_at lw_m8 159 rfl
theorem q2057 : (Jvm.Cond.instanceMethod ({ cls := "AlgebraHouseModel", name := "fail", desc := "(I)V" } : Jvm.MethodName)) ∈ lw_all := lw_g (lw_at lw_m8 160 rfl) rfl
theorem q2058 : (Jvm.Cond.code ({ cls := "AlgebraHouseModel", name := "fail", desc := "(I)V" } : Jvm.MethodName) prog_14_method_11_code (2 : Nat) (Option.none : Option Jvm.ClassFile.FieldType)) ∈ lw_all := lw_g (lw_at lw_m8 161 rfl) rfl
theorem q2059 : (Jvm.Cond.methodLink "AlgebraHouseModel" (385 : Nat) ({ cls := "AlgebraHouseModel", name := "openWith", desc := "(I)V" } : Jvm.MethodName)) ∈ lw_all := lw_g (lw_at lw_m8 162 rfl) rfl
theorem q2060 : (Jvm.Cond.privateMethod ({ cls := "AlgebraHouseModel", name := "openWith", desc := "(I)V" } : Jvm.MethodName)) ∈ lw_tbl := lw_at lw_m8 163 rfl
theorem q2061 : (Jvm.Cond.instanceMethod ({ cls := "AlgebraHouseModel", name := "openWith", desc := "(I)V" } : Jvm.MethodName)) ∈ lw_all := lw_g (lw_at lw_m8 164 rfl) rfl
theorem q2062 : (Jvm.Cond.code ({ cls := "AlgebraHouseModel", name := "openWith", desc := "(I)V" } : Jvm.MethodName) prog_14_method_22_code (3 : Nat) (Option.none : Option Jvm.ClassFile.FieldType)) ∈ lw_all := lw_g (lw_at lw_m8 165 rfl) rfl
theorem q2063 : (Jvm.Cond.methodLink "AlgebraHouseModel" (372 : Nat) ({ cls := "AlgebraHouseModel", name := "sign", desc := "(I)V" } : Jvm.MethodName)) ∈ lw_all := lw_g (lw_at lw_m8 166 rfl) rfl
theorem q2064 : (Jvm.Cond.privateMethod ({ cls := "AlgebraHouseModel", name := "sign", desc := "(I)V" } : Jvm.MethodName)) ∈ lw_tbl := lw_at lw_m8 167 rfl
theorem q2065 : (Jvm.Cond.instanceMethod ({ cls := "AlgebraHouseModel", name := "sign", desc := "(I)V" } : Jvm.MethodName)) ∈ lw_all := lw_g (lw_at lw_m8 168 rfl) rfl
theorem q2066 : (Jvm.Cond.code ({ cls := "AlgebraHouseModel", name := "sign", desc := "(I)V" } : Jvm.MethodName) prog_14_method_18_code (2 : Nat) (Option.none : Option Jvm.ClassFile.FieldType)) ∈ lw_all := lw_g (lw_at lw_m8 169 rfl) rfl
theorem q2067 : (Jvm.Cond.methodLink "AlgebraHouseModel" (359 : Nat) ({ cls := "AlgebraHouseModel", name := "isSign", desc := "(I)Z" } : Jvm.MethodName)) ∈ lw_all := lw_g (lw_at lw_m8 170 rfl) rfl
theorem q2068 : (Jvm.Cond.privateMethod ({ cls := "AlgebraHouseModel", name := "isSign", desc := "(I)Z" } : Jvm.MethodName)) ∈ lw_tbl := lw_at lw_m8 171 rfl
theorem q2069 : (Jvm.Cond.instanceMethod ({ cls := "AlgebraHouseModel", name := "isSign", desc := "(I)Z" } : Jvm.MethodName)) ∈ lw_all := lw_g (lw_at lw_m8 172 rfl) rfl
theorem q2070 : (Jvm.Cond.code ({ cls := "AlgebraHouseModel", name := "isSign", desc := "(I)Z" } : Jvm.MethodName) prog_14_method_13_code (2 : Nat) (Option.some Jvm.ClassFile.FieldType.boolean)) ∈ lw_all := lw_g (lw_at lw_m8 173 rfl) rfl
theorem q2071 : (Jvm.Cond.methodLink "AlgebraHouseModel" (375 : Nat) ({ cls := "AlgebraHouseModel", name := "opens", desc := "(I)V" } : Jvm.MethodName)) ∈ lw_all := lw_g (lw_at lw_m8 174 rfl) rfl
theorem q2072 : (Jvm.Cond.privateMethod ({ cls := "AlgebraHouseModel", name := "opens", desc := "(I)V" } : Jvm.MethodName)) ∈ lw_tbl := lw_at lw_m8 175 rfl
theorem q2073 : (Jvm.Cond.instanceMethod ({ cls := "AlgebraHouseModel", name := "opens", desc := "(I)V" } : Jvm.MethodName)) ∈ lw_all := lw_g (lw_at lw_m8 176 rfl) rfl
theorem q2074 : (Jvm.Cond.code ({ cls := "AlgebraHouseModel", name := "opens", desc := "(I)V" } : Jvm.MethodName) prog_14_method_21_code (2 : Nat) (Option.none : Option Jvm.ClassFile.FieldType)) ∈ lw_all := lw_g (lw_at lw_m8 177 rfl) rfl
theorem q2075 : (Jvm.Cond.methodLink "AlgebraHouseModel" (392 : Nat) ({ cls := "AlgebraHouseModel", name := "readRing", desc := "()I" } : Jvm.MethodName)) ∈ lw_all := lw_g (lw_at lw_m8 178 rfl) rfl
theorem q2076 : (Jvm.Cond.privateMethod ({ cls := "AlgebraHouseModel", name := "readRing", desc := "()I" } : Jvm.MethodName)) ∈ lw_tbl := lw_at lw_m8 179 rfl
theorem q2077 : (Jvm.Cond.instanceMethod ({ cls := "AlgebraHouseModel", name := "readRing", desc := "()I" } : Jvm.MethodName)) ∈ lw_all := lw_g (lw_at lw_m8 180 rfl) rfl
theorem q2078 : (Jvm.Cond.code ({ cls := "AlgebraHouseModel", name := "readRing", desc := "()I" } : Jvm.MethodName) prog_14_method_26_code (5 : Nat) (Option.some Jvm.ClassFile.FieldType.int)) ∈ lw_all := lw_g (lw_at lw_m8 181 rfl) rfl
theorem q2079 : (Jvm.Cond.methodLink "AlgebraHouseModel" (381 : Nat) ({ cls := "AlgebraHouseModel", name := "node", desc := "(IIIII)I" } : Jvm.MethodName)) ∈ lw_all := lw_g (lw_at lw_m8 182 rfl) rfl
theorem q2080 : (Jvm.Cond.privateMethod ({ cls := "AlgebraHouseModel", name := "node", desc := "(IIIII)I" } : Jvm.MethodName)) ∈ lw_tbl := lw_at lw_m8 183 rfl
theorem q2081 : (Jvm.Cond.instanceMethod ({ cls := "AlgebraHouseModel", name := "node", desc := "(IIIII)I" } : Jvm.MethodName)) ∈ lw_all := lw_g (lw_at lw_m8 184 rfl) rfl
theorem q2082 : (Jvm.Cond.code ({ cls := "AlgebraHouseModel", name := "node", desc := "(IIIII)I" } : Jvm.MethodName) prog_14_method_24_code (7 : Nat) (Option.some Jvm.ClassFile.FieldType.int)) ∈ lw_all := lw_g (lw_at lw_m8 185 rfl) rfl
theorem q2083 : (Jvm.Cond.methodLink "AlgebraHouseModel" (365 : Nat) ({ cls := "AlgebraHouseModel", name := "isKey", desc := "(J)Z" } : Jvm.MethodName)) ∈ lw_all := lw_g (lw_at lw_m8 186 rfl) rfl
theorem q2084 : (Jvm.Cond.privateMethod ({ cls := "AlgebraHouseModel", name := "isKey", desc := "(J)Z" } : Jvm.MethodName)) ∈ lw_tbl := lw_at lw_m8 187 rfl
theorem q2085 : (Jvm.Cond.instanceMethod ({ cls := "AlgebraHouseModel", name := "isKey", desc := "(J)Z" } : Jvm.MethodName)) ∈ lw_all := lw_g (lw_at lw_m8 188 rfl) rfl
theorem q2086 : (Jvm.Cond.code ({ cls := "AlgebraHouseModel", name := "isKey", desc := "(J)Z" } : Jvm.MethodName) prog_14_method_14_code (3 : Nat) (Option.some Jvm.ClassFile.FieldType.boolean)) ∈ lw_all := lw_g (lw_at lw_m8 189 rfl) rfl
theorem q2087 : (Jvm.Cond.methodLink "AlgebraHouseModel" (396 : Nat) ({ cls := "AlgebraHouseModel", name := "closeWith", desc := "(I)V" } : Jvm.MethodName)) ∈ lw_all := lw_g (lw_at lw_m8 190 rfl) rfl
theorem q2088 : (Jvm.Cond.privateMethod ({ cls := "AlgebraHouseModel", name := "closeWith", desc := "(I)V" } : Jvm.MethodName)) ∈ lw_tbl := lw_at lw_m8 191 rfl
theorem q2089 : (Jvm.Cond.instanceMethod ({ cls := "AlgebraHouseModel", name := "closeWith", desc := "(I)V" } : Jvm.MethodName)) ∈ lw_all := lw_g (lw_at lw_m8 192 rfl) rfl
theorem q2090 : (Jvm.Cond.code ({ cls := "AlgebraHouseModel", name := "closeWith", desc := "(I)V" } : Jvm.MethodName) prog_14_method_23_code (2 : Nat) (Option.none : Option Jvm.ClassFile.FieldType)) ∈ lw_all := lw_g (lw_at lw_m8 193 rfl) rfl
theorem q2091 : (Jvm.Cond.methodLink "AlgebraHouseModel" (430 : Nat) ({ cls := "AlgebraHouseModel", name := "takesSign", desc := "(I)Z" } : Jvm.MethodName)) ∈ lw_all := lw_g (lw_at lw_m8 194 rfl) rfl
theorem q2092 : (Jvm.Cond.privateMethod ({ cls := "AlgebraHouseModel", name := "takesSign", desc := "(I)Z" } : Jvm.MethodName)) ∈ lw_tbl := lw_at lw_m8 195 rfl
theorem q2093 : (Jvm.Cond.instanceMethod ({ cls := "AlgebraHouseModel", name := "takesSign", desc := "(I)Z" } : Jvm.MethodName)) ∈ lw_all := lw_g (lw_at lw_m8 196 rfl) rfl
theorem q2094 : (Jvm.Cond.code ({ cls := "AlgebraHouseModel", name := "takesSign", desc := "(I)Z" } : Jvm.MethodName) prog_14_method_16_code (2 : Nat) (Option.some Jvm.ClassFile.FieldType.boolean)) ∈ lw_all := lw_g (lw_at lw_m8 197 rfl) rfl
theorem q2095 : (Jvm.Cond.methodLink "AlgebraHouseModel" (399 : Nat) ({ cls := "AlgebraHouseModel", name := "takesKey", desc := "(J)Z" } : Jvm.MethodName)) ∈ lw_all := lw_g (lw_at lw_m8 198 rfl) rfl
theorem q2096 : (Jvm.Cond.privateMethod ({ cls := "AlgebraHouseModel", name := "takesKey", desc := "(J)Z" } : Jvm.MethodName)) ∈ lw_tbl := lw_at lw_m8 199 rfl
theorem q2097 : (Jvm.Cond.instanceMethod ({ cls := "AlgebraHouseModel", name := "takesKey", desc := "(J)Z" } : Jvm.MethodName)) ∈ lw_all := lw_g (lw_at lw_m8 200 rfl) rfl
theorem q2098 : (Jvm.Cond.code ({ cls := "AlgebraHouseModel", name := "takesKey", desc := "(J)Z" } : Jvm.MethodName) prog_14_method_17_code (3 : Nat) (Option.some Jvm.ClassFile.FieldType.boolean)) ∈ lw_all := lw_g (lw_at lw_m8 201 rfl) rfl
theorem q2099 : (Jvm.Cond.methodLink "AlgebraHouseModel" (408 : Nat) ({ cls := "AlgebraHouseModel", name := "key", desc := "(J)V" } : Jvm.MethodName)) ∈ lw_all := lw_g (lw_at lw_m8 202 rfl) rfl
theorem q2100 : (Jvm.Cond.privateMethod ({ cls := "AlgebraHouseModel", name := "key", desc := "(J)V" } : Jvm.MethodName)) ∈ lw_tbl := lw_at lw_m8 203 rfl
theorem q2101 : (Jvm.Cond.instanceMethod ({ cls := "AlgebraHouseModel", name := "key", desc := "(J)V" } : Jvm.MethodName)) ∈ lw_all := lw_g (lw_at lw_m8 204 rfl) rfl
theorem q2102 : (Jvm.Cond.code ({ cls := "AlgebraHouseModel", name := "key", desc := "(J)V" } : Jvm.MethodName) prog_14_method_19_code (3 : Nat) (Option.none : Option Jvm.ClassFile.FieldType)) ∈ lw_all := lw_g (lw_at lw_m8 205 rfl) rfl
theorem q2103 : (Jvm.Cond.methodLink "AlgebraHouseModel" (405 : Nat) ({ cls := "AlgebraHouseModel", name := "readE", desc := "()I" } : Jvm.MethodName)) ∈ lw_all := lw_g (lw_at lw_m8 206 rfl) rfl
theorem q2104 : (Jvm.Cond.privateMethod ({ cls := "AlgebraHouseModel", name := "readE", desc := "()I" } : Jvm.MethodName)) ∈ lw_tbl := lw_at lw_m8 207 rfl
theorem q2105 : (Jvm.Cond.instanceMethod ({ cls := "AlgebraHouseModel", name := "readE", desc := "()I" } : Jvm.MethodName)) ∈ lw_all := lw_g (lw_at lw_m8 208 rfl) rfl
theorem q2106 : (Jvm.Cond.code ({ cls := "AlgebraHouseModel", name := "readE", desc := "()I" } : Jvm.MethodName) prog_14_method_27_code (5 : Nat) (Option.some Jvm.ClassFile.FieldType.int)) ∈ lw_all := lw_g (lw_at lw_m8 209 rfl) rfl
theorem q2107 : (Jvm.Cond.methodLink "AlgebraHouseModel" (402 : Nat) ({ cls := "AlgebraHouseModel", name := "readOr", desc := "()I" } : Jvm.MethodName)) ∈ lw_all := lw_g (lw_at lw_m8 210 rfl) rfl
theorem q2108 : (Jvm.Cond.privateMethod ({ cls := "AlgebraHouseModel", name := "readOr", desc := "()I" } : Jvm.MethodName)) ∈ lw_tbl := lw_at lw_m8 211 rfl
theorem q2109 : (Jvm.Cond.instanceMethod ({ cls := "AlgebraHouseModel", name := "readOr", desc := "()I" } : Jvm.MethodName)) ∈ lw_all := lw_g (lw_at lw_m8 212 rfl) rfl
theorem q2110 : (Jvm.Cond.code ({ cls := "AlgebraHouseModel", name := "readOr", desc := "()I" } : Jvm.MethodName) prog_14_method_28_code (4 : Nat) (Option.some Jvm.ClassFile.FieldType.int)) ∈ lw_all := lw_g (lw_at lw_m8 213 rfl) rfl
theorem q2111 : (Jvm.Cond.methodLink "AlgebraHouseModel" (412 : Nat) ({ cls := "AlgebraHouseModel", name := "readAnd", desc := "()I" } : Jvm.MethodName)) ∈ lw_all := lw_g (lw_at lw_m8 214 rfl) rfl
theorem q2112 : (Jvm.Cond.privateMethod ({ cls := "AlgebraHouseModel", name := "readAnd", desc := "()I" } : Jvm.MethodName)) ∈ lw_tbl := lw_at lw_m8 215 rfl
theorem q2113 : (Jvm.Cond.instanceMethod ({ cls := "AlgebraHouseModel", name := "readAnd", desc := "()I" } : Jvm.MethodName)) ∈ lw_all := lw_g (lw_at lw_m8 216 rfl) rfl
theorem q2114 : (Jvm.Cond.code ({ cls := "AlgebraHouseModel", name := "readAnd", desc := "()I" } : Jvm.MethodName) prog_14_method_29_code (4 : Nat) (Option.some Jvm.ClassFile.FieldType.int)) ∈ lw_all := lw_g (lw_at lw_m8 217 rfl) rfl
theorem q2115 : (Jvm.Cond.methodLink "AlgebraHouseModel" (415 : Nat) ({ cls := "AlgebraHouseModel", name := "readNot", desc := "()I" } : Jvm.MethodName)) ∈ lw_all := lw_g (lw_at lw_m8 218 rfl) rfl
theorem q2116 : (Jvm.Cond.privateMethod ({ cls := "AlgebraHouseModel", name := "readNot", desc := "()I" } : Jvm.MethodName)) ∈ lw_tbl := lw_at lw_m8 219 rfl
theorem q2117 : (Jvm.Cond.instanceMethod ({ cls := "AlgebraHouseModel", name := "readNot", desc := "()I" } : Jvm.MethodName)) ∈ lw_all := lw_g (lw_at lw_m8 220 rfl) rfl
theorem q2118 : (Jvm.Cond.code ({ cls := "AlgebraHouseModel", name := "readNot", desc := "()I" } : Jvm.MethodName) prog_14_method_30_code (3 : Nat) (Option.some Jvm.ClassFile.FieldType.int)) ∈ lw_all := lw_g (lw_at lw_m8 221 rfl) rfl
theorem q2119 : (Jvm.Cond.methodLink "AlgebraHouseModel" (418 : Nat) ({ cls := "AlgebraHouseModel", name := "readCompare", desc := "()I" } : Jvm.MethodName)) ∈ lw_all := lw_g (lw_at lw_m8 222 rfl) rfl
theorem q2120 : (Jvm.Cond.privateMethod ({ cls := "AlgebraHouseModel", name := "readCompare", desc := "()I" } : Jvm.MethodName)) ∈ lw_tbl := lw_at lw_m8 223 rfl
theorem q2121 : (Jvm.Cond.instanceMethod ({ cls := "AlgebraHouseModel", name := "readCompare", desc := "()I" } : Jvm.MethodName)) ∈ lw_all := lw_g (lw_at lw_m8 224 rfl) rfl
theorem q2122 : (Jvm.Cond.code ({ cls := "AlgebraHouseModel", name := "readCompare", desc := "()I" } : Jvm.MethodName) prog_14_method_31_code (5 : Nat) (Option.some Jvm.ClassFile.FieldType.int)) ∈ lw_all := lw_g (lw_at lw_m8 225 rfl) rfl
theorem q2123 : (Jvm.Cond.methodLink "AlgebraHouseModel" (421 : Nat) ({ cls := "AlgebraHouseModel", name := "readSum", desc := "()I" } : Jvm.MethodName)) ∈ lw_all := lw_g (lw_at lw_m8 226 rfl) rfl
theorem q2124 : (Jvm.Cond.privateMethod ({ cls := "AlgebraHouseModel", name := "readSum", desc := "()I" } : Jvm.MethodName)) ∈ lw_tbl := lw_at lw_m8 227 rfl
theorem q2125 : (Jvm.Cond.instanceMethod ({ cls := "AlgebraHouseModel", name := "readSum", desc := "()I" } : Jvm.MethodName)) ∈ lw_all := lw_g (lw_at lw_m8 228 rfl) rfl
theorem q2126 : (Jvm.Cond.code ({ cls := "AlgebraHouseModel", name := "readSum", desc := "()I" } : Jvm.MethodName) prog_14_method_32_code (5 : Nat) (Option.some Jvm.ClassFile.FieldType.int)) ∈ lw_all := lw_g (lw_at lw_m8 229 rfl) rfl
theorem q2127 : (Jvm.Cond.methodLink "AlgebraHouseModel" (424 : Nat) ({ cls := "AlgebraHouseModel", name := "readProduct", desc := "()I" } : Jvm.MethodName)) ∈ lw_all := lw_g (lw_at lw_m8 230 rfl) rfl
theorem q2128 : (Jvm.Cond.privateMethod ({ cls := "AlgebraHouseModel", name := "readProduct", desc := "()I" } : Jvm.MethodName)) ∈ lw_tbl := lw_at lw_m8 231 rfl
theorem q2129 : (Jvm.Cond.instanceMethod ({ cls := "AlgebraHouseModel", name := "readProduct", desc := "()I" } : Jvm.MethodName)) ∈ lw_all := lw_g (lw_at lw_m8 232 rfl) rfl
theorem q2130 : (Jvm.Cond.code ({ cls := "AlgebraHouseModel", name := "readProduct", desc := "()I" } : Jvm.MethodName) prog_14_method_33_code (6 : Nat) (Option.some Jvm.ClassFile.FieldType.int)) ∈ lw_all := lw_g (lw_at lw_m8 233 rfl) rfl
theorem q2131 : (Jvm.Cond.methodLink "AlgebraHouseModel" (427 : Nat) ({ cls := "AlgebraHouseModel", name := "readUnary", desc := "()I" } : Jvm.MethodName)) ∈ lw_all := lw_g (lw_at lw_m8 234 rfl) rfl
theorem q2132 : (Jvm.Cond.privateMethod ({ cls := "AlgebraHouseModel", name := "readUnary", desc := "()I" } : Jvm.MethodName)) ∈ lw_tbl := lw_at lw_m8 235 rfl
theorem q2133 : (Jvm.Cond.instanceMethod ({ cls := "AlgebraHouseModel", name := "readUnary", desc := "()I" } : Jvm.MethodName)) ∈ lw_all := lw_g (lw_at lw_m8 236 rfl) rfl
theorem q2134 : (Jvm.Cond.code ({ cls := "AlgebraHouseModel", name := "readUnary", desc := "()I" } : Jvm.MethodName) prog_14_method_34_code (3 : Nat) (Option.some Jvm.ClassFile.FieldType.int)) ∈ lw_all := lw_g (lw_at lw_m8 237 rfl) rfl
theorem q2135 : (Jvm.Cond.methodLink "AlgebraHouseModel" (433 : Nat) ({ cls := "AlgebraHouseModel", name := "readBehind", desc := "()I" } : Jvm.MethodName)) ∈ lw_all := lw_g (lw_at lw_m8 238 rfl) rfl
theorem q2136 : (Jvm.Cond.privateMethod ({ cls := "AlgebraHouseModel", name := "readBehind", desc := "()I" } : Jvm.MethodName)) ∈ lw_tbl := lw_at lw_m8 239 rfl
theorem q2137 : (Jvm.Cond.instanceMethod ({ cls := "AlgebraHouseModel", name := "readBehind", desc := "()I" } : Jvm.MethodName)) ∈ lw_all := lw_g (lw_at lw_m9 0 rfl) rfl
theorem q2138 : (Jvm.Cond.code ({ cls := "AlgebraHouseModel", name := "readBehind", desc := "()I" } : Jvm.MethodName) prog_14_method_35_code (5 : Nat) (Option.some Jvm.ClassFile.FieldType.int)) ∈ lw_all := lw_g (lw_at lw_m9 1 rfl) rfl
theorem q2139 : (Jvm.Cond.methodLink "AlgebraHouseModel" (436 : Nat) ({ cls := "AlgebraHouseModel", name := "readAtom", desc := "()I" } : Jvm.MethodName)) ∈ lw_all := lw_g (lw_at lw_m9 2 rfl) rfl
theorem q2140 : (Jvm.Cond.privateMethod ({ cls := "AlgebraHouseModel", name := "readAtom", desc := "()I" } : Jvm.MethodName)) ∈ lw_tbl := lw_at lw_m9 3 rfl
theorem q2141 : (Jvm.Cond.instanceMethod ({ cls := "AlgebraHouseModel", name := "readAtom", desc := "()I" } : Jvm.MethodName)) ∈ lw_all := lw_g (lw_at lw_m9 4 rfl) rfl
theorem q2142 : (Jvm.Cond.code ({ cls := "AlgebraHouseModel", name := "readAtom", desc := "()I" } : Jvm.MethodName) prog_14_method_36_code (9 : Nat) (Option.some Jvm.ClassFile.FieldType.int)) ∈ lw_all := lw_g (lw_at lw_m9 5 rfl) rfl
theorem q2143 : (Jvm.Cond.methodLink "AlgebraHouseModel" (439 : Nat) ({ cls := "AlgebraHouseModel", name := "readItems", desc := "(I)I" } : Jvm.MethodName)) ∈ lw_all := lw_g (lw_at lw_m9 6 rfl) rfl
theorem q2144 : (Jvm.Cond.privateMethod ({ cls := "AlgebraHouseModel", name := "readItems", desc := "(I)I" } : Jvm.MethodName)) ∈ lw_tbl := lw_at lw_m9 7 rfl
theorem q2145 : (Jvm.Cond.instanceMethod ({ cls := "AlgebraHouseModel", name := "readItems", desc := "(I)I" } : Jvm.MethodName)) ∈ lw_all := lw_g (lw_at lw_m9 8 rfl) rfl
theorem q2146 : (Jvm.Cond.code ({ cls := "AlgebraHouseModel", name := "readItems", desc := "(I)I" } : Jvm.MethodName) prog_14_method_37_code (8 : Nat) (Option.some Jvm.ClassFile.FieldType.int)) ∈ lw_all := lw_g (lw_at lw_m9 9 rfl) rfl
theorem q2147 : (Jvm.Cond.methodLink "AlgebraHouseModel" (912 : Nat) ({ cls := "AlgebraHouseModel", name := "readLine", desc := "(Z)I" } : Jvm.MethodName)) ∈ lw_all := lw_g (lw_at lw_m9 10 rfl) rfl
theorem q2148 : (Jvm.Cond.privateMethod ({ cls := "AlgebraHouseModel", name := "readLine", desc := "(Z)I" } : Jvm.MethodName)) ∈ lw_tbl := lw_at lw_m9 11 rfl
theorem q2149 : (Jvm.Cond.instanceMethod ({ cls := "AlgebraHouseModel", name := "readLine", desc := "(Z)I" } : Jvm.MethodName)) ∈ lw_all := lw_g (lw_at lw_m9 12 rfl) rfl
theorem q2150 : (Jvm.Cond.code ({ cls := "AlgebraHouseModel", name := "readLine", desc := "(Z)I" } : Jvm.MethodName) prog_14_method_137_code (2 : Nat) (Option.some Jvm.ClassFile.FieldType.int)) ∈ lw_all := lw_g (lw_at lw_m9 13 rfl) rfl
theorem q2151 : (Jvm.Cond.methodLink "AlgebraHouseModel" (916 : Nat) ({ cls := "AlgebraHouseModel", name := "judgeDefinition", desc := "(I)V" } : Jvm.MethodName)) ∈ lw_all := lw_g (lw_at lw_m9 14 rfl) rfl
theorem q2152 : (Jvm.Cond.privateMethod ({ cls := "AlgebraHouseModel", name := "judgeDefinition", desc := "(I)V" } : Jvm.MethodName)) ∈ lw_tbl := lw_at lw_m9 15 rfl
theorem q2153 : (Jvm.Cond.instanceMethod ({ cls := "AlgebraHouseModel", name := "judgeDefinition", desc := "(I)V" } : Jvm.MethodName)) ∈ lw_all := lw_g (lw_at lw_m9 16 rfl) rfl
theorem q2154 : (Jvm.Cond.code ({ cls := "AlgebraHouseModel", name := "judgeDefinition", desc := "(I)V" } : Jvm.MethodName) prog_14_method_133_code (8 : Nat) (Option.none : Option Jvm.ClassFile.FieldType)) ∈ lw_all := lw_g (lw_at lw_m9 17 rfl) rfl
theorem q2155 : (Jvm.Cond.methodLink "AlgebraHouseModel" (887 : Nat) ({ cls := "AlgebraHouseModel", name := "judgeHead", desc := "(I)V" } : Jvm.MethodName)) ∈ lw_all := lw_g (lw_at lw_m9 18 rfl) rfl
theorem q2156 : (Jvm.Cond.privateMethod ({ cls := "AlgebraHouseModel", name := "judgeHead", desc := "(I)V" } : Jvm.MethodName)) ∈ lw_tbl := lw_at lw_m9 19 rfl
theorem q2157 : (Jvm.Cond.instanceMethod ({ cls := "AlgebraHouseModel", name := "judgeHead", desc := "(I)V" } : Jvm.MethodName)) ∈ lw_all := lw_g (lw_at lw_m9 20 rfl) rfl
theorem q2158 : (Jvm.Cond.code ({ cls := "AlgebraHouseModel", name := "judgeHead", desc := "(I)V" } : Jvm.MethodName) prog_14_method_132_code (2 : Nat) (Option.none : Option Jvm.ClassFile.FieldType)) ∈ lw_all := lw_g (lw_at lw_m9 21 rfl) rfl
theorem q2159 : (Jvm.Cond.methodLink "AlgebraHouseModel" (479 : Nat) ({ cls := "AlgebraHouseModel", name := "judgeRing", desc := "(I)V" } : Jvm.MethodName)) ∈ lw_all := lw_g (lw_at lw_m9 22 rfl) rfl
theorem q2160 : (Jvm.Cond.privateMethod ({ cls := "AlgebraHouseModel", name := "judgeRing", desc := "(I)V" } : Jvm.MethodName)) ∈ lw_tbl := lw_at lw_m9 23 rfl
theorem q2161 : (Jvm.Cond.instanceMethod ({ cls := "AlgebraHouseModel", name := "judgeRing", desc := "(I)V" } : Jvm.MethodName)) ∈ lw_all := lw_g (lw_at lw_m9 24 rfl) rfl
theorem q2162 : (Jvm.Cond.code ({ cls := "AlgebraHouseModel", name := "judgeRing", desc := "(I)V" } : Jvm.MethodName) prog_14_method_48_code (3 : Nat) (Option.none : Option Jvm.ClassFile.FieldType)) ∈ lw_all := lw_g (lw_at lw_m9 25 rfl) rfl
theorem q2163 : (Jvm.Cond.methodLink "AlgebraHouseModel" (482 : Nat) ({ cls := "AlgebraHouseModel", name := "setRing", desc := "(IIII)V" } : Jvm.MethodName)) ∈ lw_all := lw_g (lw_at lw_m9 26 rfl) rfl
theorem q2164 : (Jvm.Cond.privateMethod ({ cls := "AlgebraHouseModel", name := "setRing", desc := "(IIII)V" } : Jvm.MethodName)) ∈ lw_tbl := lw_at lw_m9 27 rfl
theorem q2165 : (Jvm.Cond.instanceMethod ({ cls := "AlgebraHouseModel", name := "setRing", desc := "(IIII)V" } : Jvm.MethodName)) ∈ lw_all := lw_g (lw_at lw_m9 28 rfl) rfl
theorem q2166 : (Jvm.Cond.code ({ cls := "AlgebraHouseModel", name := "setRing", desc := "(IIII)V" } : Jvm.MethodName) prog_14_method_25_code (5 : Nat) (Option.none : Option Jvm.ClassFile.FieldType)) ∈ lw_all := lw_g (lw_at lw_m9 29 rfl) rfl
theorem q2167 : (Jvm.Cond.constantLong "AlgebraHouseModel" (505 : Nat) (2 : Int64)) ∈ lw_all := lw_g (lw_at lw_m9 30 rfl) rfl
theorem q2168 : (Jvm.Cond.constantLong "AlgebraHouseModel" (507 : Nat) (9973 : Int64)) ∈ lw_all := lw_g (lw_at lw_m9 31 rfl) rfl
theorem q2169 : (Jvm.Cond.methodLink "AlgebraHouseModel" (472 : Nat) ({ cls := "AlgebraHouseModel", name := "note", desc := "(II)V" } : Jvm.MethodName)) ∈ lw_all := lw_g (lw_at lw_m9 32 rfl) rfl
theorem q2170 : (Jvm.Cond.privateMethod ({ cls := "AlgebraHouseModel", name := "note", desc := "(II)V" } : Jvm.MethodName)) ∈ lw_tbl := lw_at lw_m9 33 rfl
theorem q2171 : (Jvm.Cond.instanceMethod ({ cls := "AlgebraHouseModel", name := "note", desc := "(II)V" } : Jvm.MethodName)) ∈ lw_all := lw_g (lw_at lw_m9 34 rfl) rfl
theorem q2172 : (Jvm.Cond.code ({ cls := "AlgebraHouseModel", name := "note", desc := "(II)V" } : Jvm.MethodName) prog_14_method_12_code (4 : Nat) (Option.none : Option Jvm.ClassFile.FieldType)) ∈ lw_all := lw_g (lw_at lw_m9 35 rfl) rfl
theorem q2173 : (Jvm.Cond.methodLink "AlgebraHouseModel" (515 : Nat) ({ cls := "AlgebraHouseModel", name := "judgeOver", desc := "(II)V" } : Jvm.MethodName)) ∈ lw_all := lw_g (lw_at lw_m9 36 rfl) rfl
theorem q2174 : (Jvm.Cond.privateMethod ({ cls := "AlgebraHouseModel", name := "judgeOver", desc := "(II)V" } : Jvm.MethodName)) ∈ lw_tbl := lw_at lw_m9 37 rfl
theorem q2175 : (Jvm.Cond.instanceMethod ({ cls := "AlgebraHouseModel", name := "judgeOver", desc := "(II)V" } : Jvm.MethodName)) ∈ lw_all := lw_g (lw_at lw_m9 38 rfl) rfl
theorem q2176 : (Jvm.Cond.code ({ cls := "AlgebraHouseModel", name := "judgeOver", desc := "(II)V" } : Jvm.MethodName) prog_14_method_49_code (6 : Nat) (Option.none : Option Jvm.ClassFile.FieldType)) ∈ lw_all := lw_g (lw_at lw_m9 39 rfl) rfl
theorem q2177 : (Jvm.Cond.constantLong "AlgebraHouseModel" (518 : Nat) (3 : Int64)) ∈ lw_all := lw_g (lw_at lw_m9 40 rfl) rfl
theorem q2178 : (Jvm.Cond.methodLink "AlgebraHouseModel" (520 : Nat) ({ cls := "AlgebraHouseModel", name := "hasR", desc := "(I)Z" } : Jvm.MethodName)) ∈ lw_all := lw_g (lw_at lw_m9 41 rfl) rfl
theorem q2179 : (Jvm.Cond.privateMethod ({ cls := "AlgebraHouseModel", name := "hasR", desc := "(I)Z" } : Jvm.MethodName)) ∈ lw_tbl := lw_at lw_m9 42 rfl
theorem q2180 : (Jvm.Cond.instanceMethod ({ cls := "AlgebraHouseModel", name := "hasR", desc := "(I)Z" } : Jvm.MethodName)) ∈ lw_all := lw_g (lw_at lw_m9 43 rfl) rfl
theorem q2181 : (Jvm.Cond.code ({ cls := "AlgebraHouseModel", name := "hasR", desc := "(I)Z" } : Jvm.MethodName) prog_14_method_50_code (2 : Nat) (Option.some Jvm.ClassFile.FieldType.boolean)) ∈ lw_all := lw_g (lw_at lw_m9 44 rfl) rfl
theorem q2182 : (Jvm.Cond.methodLink "AlgebraHouseModel" (890 : Nat) ({ cls := "AlgebraHouseModel", name := "isTwin", desc := "(II)Z" } : Jvm.MethodName)) ∈ lw_all := lw_g (lw_at lw_m9 45 rfl) rfl
theorem q2183 : (Jvm.Cond.privateMethod ({ cls := "AlgebraHouseModel", name := "isTwin", desc := "(II)Z" } : Jvm.MethodName)) ∈ lw_tbl := lw_at lw_m9 46 rfl
theorem q2184 : (Jvm.Cond.instanceMethod ({ cls := "AlgebraHouseModel", name := "isTwin", desc := "(II)Z" } : Jvm.MethodName)) ∈ lw_all := lw_g (lw_at lw_m9 47 rfl) rfl
theorem q2185 : (Jvm.Cond.code ({ cls := "AlgebraHouseModel", name := "isTwin", desc := "(II)Z" } : Jvm.MethodName) prog_14_method_134_code (7 : Nat) (Option.some Jvm.ClassFile.FieldType.boolean)) ∈ lw_all := lw_g (lw_at lw_m9 48 rfl) rfl
theorem q2186 : (Jvm.Cond.methodLink "AlgebraHouseModel" (893 : Nat) ({ cls := "AlgebraHouseModel", name := "judgeBody", desc := "(I)V" } : Jvm.MethodName)) ∈ lw_all := lw_g (lw_at lw_m9 49 rfl) rfl
theorem q2187 : (Jvm.Cond.privateMethod ({ cls := "AlgebraHouseModel", name := "judgeBody", desc := "(I)V" } : Jvm.MethodName)) ∈ lw_tbl := lw_at lw_m9 50 rfl
theorem q2188 : (Jvm.Cond.instanceMethod ({ cls := "AlgebraHouseModel", name := "judgeBody", desc := "(I)V" } : Jvm.MethodName)) ∈ lw_all := lw_g (lw_at lw_m9 51 rfl) rfl
theorem q2189 : (Jvm.Cond.code ({ cls := "AlgebraHouseModel", name := "judgeBody", desc := "(I)V" } : Jvm.MethodName) prog_14_method_135_code (3 : Nat) (Option.none : Option Jvm.ClassFile.FieldType)) ∈ lw_all := lw_g (lw_at lw_m9 52 rfl) rfl
theorem q2190 : (Jvm.Cond.methodLink "AlgebraHouseModel" (476 : Nat) ({ cls := "AlgebraHouseModel", name := "judge", desc := "(I)V" } : Jvm.MethodName)) ∈ lw_all := lw_g (lw_at lw_m9 53 rfl) rfl
theorem q2191 : (Jvm.Cond.privateMethod ({ cls := "AlgebraHouseModel", name := "judge", desc := "(I)V" } : Jvm.MethodName)) ∈ lw_tbl := lw_at lw_m9 54 rfl
theorem q2192 : (Jvm.Cond.instanceMethod ({ cls := "AlgebraHouseModel", name := "judge", desc := "(I)V" } : Jvm.MethodName)) ∈ lw_all := lw_g (lw_at lw_m9 55 rfl) rfl
theorem q2193 : (Jvm.Cond.code ({ cls := "AlgebraHouseModel", name := "judge", desc := "(I)V" } : Jvm.MethodName) prog_14_method_44_code (4 : Nat) (Option.none : Option Jvm.ClassFile.FieldType)) ∈ lw_all := lw_g (lw_at lw_m9 56 rfl) rfl
theorem q2194 : (Jvm.Cond.methodLink "AlgebraHouseModel" (463 : Nat) ({ cls := "AlgebraHouseModel", name := "isLeft", desc := "(I)Z" } : Jvm.MethodName)) ∈ lw_all := lw_g (lw_at lw_m9 57 rfl) rfl
theorem q2195 : (Jvm.Cond.static ({ cls := "AlgebraHouseModel", name := "isLeft", desc := "(I)Z" } : Jvm.MethodName)) ∈ lw_all := lw_g (lw_at lw_m9 58 rfl) rfl
theorem q2196 : (Jvm.Cond.code ({ cls := "AlgebraHouseModel", name := "isLeft", desc := "(I)Z" } : Jvm.MethodName) prog_14_method_43_code (1 : Nat) (Option.some Jvm.ClassFile.FieldType.boolean)) ∈ lw_all := lw_g (lw_at lw_m9 59 rfl) rfl
theorem q2197 : (Jvm.Cond.methodLink "AlgebraHouseModel" (466 : Nat) ({ cls := "AlgebraHouseModel", name := "judgePart", desc := "(I)V" } : Jvm.MethodName)) ∈ lw_all := lw_g (lw_at lw_m9 60 rfl) rfl
theorem q2198 : (Jvm.Cond.privateMethod ({ cls := "AlgebraHouseModel", name := "judgePart", desc := "(I)V" } : Jvm.MethodName)) ∈ lw_tbl := lw_at lw_m9 61 rfl
theorem q2199 : (Jvm.Cond.instanceMethod ({ cls := "AlgebraHouseModel", name := "judgePart", desc := "(I)V" } : Jvm.MethodName)) ∈ lw_all := lw_g (lw_at lw_m9 62 rfl) rfl
theorem q2200 : (Jvm.Cond.code ({ cls := "AlgebraHouseModel", name := "judgePart", desc := "(I)V" } : Jvm.MethodName) prog_14_method_51_code (2 : Nat) (Option.none : Option Jvm.ClassFile.FieldType)) ∈ lw_all := lw_g (lw_at lw_m9 63 rfl) rfl
theorem q2201 : (Jvm.Cond.methodLink "AlgebraHouseModel" (526 : Nat) ({ cls := "AlgebraHouseModel", name := "judgeName", desc := "(I)V" } : Jvm.MethodName)) ∈ lw_all := lw_g (lw_at lw_m9 64 rfl) rfl
theorem q2202 : (Jvm.Cond.privateMethod ({ cls := "AlgebraHouseModel", name := "judgeName", desc := "(I)V" } : Jvm.MethodName)) ∈ lw_tbl := lw_at lw_m9 65 rfl
theorem q2203 : (Jvm.Cond.instanceMethod ({ cls := "AlgebraHouseModel", name := "judgeName", desc := "(I)V" } : Jvm.MethodName)) ∈ lw_all := lw_g (lw_at lw_m9 66 rfl) rfl
theorem q2204 : (Jvm.Cond.code ({ cls := "AlgebraHouseModel", name := "judgeName", desc := "(I)V" } : Jvm.MethodName) prog_14_method_52_code (3 : Nat) (Option.none : Option Jvm.ClassFile.FieldType)) ∈ lw_all := lw_g (lw_at lw_m9 67 rfl) rfl
theorem q2205 : (Jvm.Cond.methodLink "AlgebraHouseModel" (538 : Nat) ({ cls := "AlgebraHouseModel", name := "instance", desc := "(IIIII)Z" } : Jvm.MethodName)) ∈ lw_all := lw_g (lw_at lw_m9 68 rfl) rfl
theorem q2206 : (Jvm.Cond.privateMethod ({ cls := "AlgebraHouseModel", name := "instance", desc := "(IIIII)Z" } : Jvm.MethodName)) ∈ lw_tbl := lw_at lw_m9 69 rfl
theorem q2207 : (Jvm.Cond.instanceMethod ({ cls := "AlgebraHouseModel", name := "instance", desc := "(IIIII)Z" } : Jvm.MethodName)) ∈ lw_all := lw_g (lw_at lw_m9 70 rfl) rfl
theorem q2208 : (Jvm.Cond.code ({ cls := "AlgebraHouseModel", name := "instance", desc := "(IIIII)Z" } : Jvm.MethodName) prog_14_method_54_code (9 : Nat) (Option.some Jvm.ClassFile.FieldType.boolean)) ∈ lw_all := lw_g (lw_at lw_m9 71 rfl) rfl
theorem q2209 : (Jvm.Cond.methodLink "AlgebraHouseModel" (551 : Nat) ({ cls := "AlgebraHouseModel", name := "variableOf", desc := "(J)I" } : Jvm.MethodName)) ∈ lw_all := lw_g (lw_at lw_m9 72 rfl) rfl
theorem q2210 : (Jvm.Cond.privateMethod ({ cls := "AlgebraHouseModel", name := "variableOf", desc := "(J)I" } : Jvm.MethodName)) ∈ lw_tbl := lw_at lw_m9 73 rfl
theorem q2211 : (Jvm.Cond.instanceMethod ({ cls := "AlgebraHouseModel", name := "variableOf", desc := "(J)I" } : Jvm.MethodName)) ∈ lw_all := lw_g (lw_at lw_m9 74 rfl) rfl
theorem q2212 : (Jvm.Cond.code ({ cls := "AlgebraHouseModel", name := "variableOf", desc := "(J)I" } : Jvm.MethodName) prog_14_method_53_code (4 : Nat) (Option.some Jvm.ClassFile.FieldType.int)) ∈ lw_all := lw_g (lw_at lw_m9 75 rfl) rfl
theorem q2213 : (Jvm.Cond.methodLink "AlgebraHouseModel" (529 : Nat) ({ cls := "AlgebraHouseModel", name := "judgeCall", desc := "(I)V" } : Jvm.MethodName)) ∈ lw_all := lw_g (lw_at lw_m9 76 rfl) rfl
theorem q2214 : (Jvm.Cond.privateMethod ({ cls := "AlgebraHouseModel", name := "judgeCall", desc := "(I)V" } : Jvm.MethodName)) ∈ lw_tbl := lw_at lw_m9 77 rfl
theorem q2215 : (Jvm.Cond.instanceMethod ({ cls := "AlgebraHouseModel", name := "judgeCall", desc := "(I)V" } : Jvm.MethodName)) ∈ lw_all := lw_g (lw_at lw_m9 78 rfl) rfl
theorem q2216 : (Jvm.Cond.code ({ cls := "AlgebraHouseModel", name := "judgeCall", desc := "(I)V" } : Jvm.MethodName) prog_14_method_59_code (8 : Nat) (Option.none : Option Jvm.ClassFile.FieldType)) ∈ lw_all := lw_g (lw_at lw_m9 79 rfl) rfl
theorem q2217 : (Jvm.Cond.methodLink "AlgebraHouseModel" (594 : Nat) ({ cls := "AlgebraHouseModel", name := "meantOf", desc := "(JI)I" } : Jvm.MethodName)) ∈ lw_all := lw_g (lw_at lw_m9 80 rfl) rfl
theorem q2218 : (Jvm.Cond.privateMethod ({ cls := "AlgebraHouseModel", name := "meantOf", desc := "(JI)I" } : Jvm.MethodName)) ∈ lw_tbl := lw_at lw_m9 81 rfl
theorem q2219 : (Jvm.Cond.instanceMethod ({ cls := "AlgebraHouseModel", name := "meantOf", desc := "(JI)I" } : Jvm.MethodName)) ∈ lw_all := lw_g (lw_at lw_m9 82 rfl) rfl
theorem q2220 : (Jvm.Cond.code ({ cls := "AlgebraHouseModel", name := "meantOf", desc := "(JI)I" } : Jvm.MethodName) prog_14_method_58_code (8 : Nat) (Option.some Jvm.ClassFile.FieldType.int)) ∈ lw_all := lw_g (lw_at lw_m9 83 rfl) rfl
theorem q2221 : (Jvm.Cond.methodLink "AlgebraHouseModel" (579 : Nat) ({ cls := "AlgebraHouseModel", name := "isMeant", desc := "(I)Z" } : Jvm.MethodName)) ∈ lw_all := lw_g (lw_at lw_m9 84 rfl) rfl
theorem q2222 : (Jvm.Cond.privateMethod ({ cls := "AlgebraHouseModel", name := "isMeant", desc := "(I)Z" } : Jvm.MethodName)) ∈ lw_tbl := lw_at lw_m9 85 rfl
theorem q2223 : (Jvm.Cond.instanceMethod ({ cls := "AlgebraHouseModel", name := "isMeant", desc := "(I)Z" } : Jvm.MethodName)) ∈ lw_all := lw_g (lw_at lw_m9 86 rfl) rfl
theorem q2224 : (Jvm.Cond.code ({ cls := "AlgebraHouseModel", name := "isMeant", desc := "(I)Z" } : Jvm.MethodName) prog_14_method_56_code (3 : Nat) (Option.some Jvm.ClassFile.FieldType.boolean)) ∈ lw_all := lw_g (lw_at lw_m9 87 rfl) rfl
theorem q2225 : (Jvm.Cond.methodLink "AlgebraHouseModel" (569 : Nat) ({ cls := "AlgebraHouseModel", name := "findR", desc := "(I)Z" } : Jvm.MethodName)) ∈ lw_all := lw_g (lw_at lw_m9 88 rfl) rfl
theorem q2226 : (Jvm.Cond.privateMethod ({ cls := "AlgebraHouseModel", name := "findR", desc := "(I)Z" } : Jvm.MethodName)) ∈ lw_tbl := lw_at lw_m9 89 rfl
theorem q2227 : (Jvm.Cond.instanceMethod ({ cls := "AlgebraHouseModel", name := "findR", desc := "(I)Z" } : Jvm.MethodName)) ∈ lw_all := lw_g (lw_at lw_m9 90 rfl) rfl
theorem q2228 : (Jvm.Cond.code ({ cls := "AlgebraHouseModel", name := "findR", desc := "(I)Z" } : Jvm.MethodName) prog_14_method_57_code (7 : Nat) (Option.some Jvm.ClassFile.FieldType.boolean)) ∈ lw_all := lw_g (lw_at lw_m9 91 rfl) rfl
theorem q2229 : (Jvm.Cond.methodLink "AlgebraHouseModel" (445 : Nat) ({ cls := "java/lang/Math", name := "max", desc := "(II)I" } : Jvm.MethodName)) ∈ lw_all := lw_g (lw_at lw_m9 92 rfl) rfl
theorem q2230 : (Jvm.Cond.methodLink "AlgebraHouseModel" (456 : Nat) ({ cls := "AlgebraHouseModel", name := "joins", desc := "(IIIIII)Z" } : Jvm.MethodName)) ∈ lw_all := lw_g (lw_at lw_m9 93 rfl) rfl
theorem q2231 : (Jvm.Cond.privateMethod ({ cls := "AlgebraHouseModel", name := "joins", desc := "(IIIIII)Z" } : Jvm.MethodName)) ∈ lw_tbl := lw_at lw_m9 94 rfl
theorem q2232 : (Jvm.Cond.instanceMethod ({ cls := "AlgebraHouseModel", name := "joins", desc := "(IIIIII)Z" } : Jvm.MethodName)) ∈ lw_all := lw_g (lw_at lw_m9 95 rfl) rfl
theorem q2233 : (Jvm.Cond.code ({ cls := "AlgebraHouseModel", name := "joins", desc := "(IIIIII)Z" } : Jvm.MethodName) prog_14_method_38_code (10 : Nat) (Option.some Jvm.ClassFile.FieldType.boolean)) ∈ lw_all := lw_g (lw_at lw_m9 96 rfl) rfl
theorem q2234 : (Jvm.Cond.methodLink "AlgebraHouseModel" (575 : Nat) ({ cls := "AlgebraHouseModel", name := "canBe", desc := "(IIII)Z" } : Jvm.MethodName)) ∈ lw_all := lw_g (lw_at lw_m9 97 rfl) rfl
theorem q2235 : (Jvm.Cond.privateMethod ({ cls := "AlgebraHouseModel", name := "canBe", desc := "(IIII)Z" } : Jvm.MethodName)) ∈ lw_tbl := lw_at lw_m9 98 rfl
theorem q2236 : (Jvm.Cond.instanceMethod ({ cls := "AlgebraHouseModel", name := "canBe", desc := "(IIII)Z" } : Jvm.MethodName)) ∈ lw_all := lw_g (lw_at lw_m9 99 rfl) rfl
theorem q2237 : (Jvm.Cond.code ({ cls := "AlgebraHouseModel", name := "canBe", desc := "(IIII)Z" } : Jvm.MethodName) prog_14_method_55_code (7 : Nat) (Option.some Jvm.ClassFile.FieldType.boolean)) ∈ lw_all := lw_g (lw_at lw_m9 100 rfl) rfl
theorem q2238 : (Jvm.Cond.methodLink "AlgebraHouseModel" (493 : Nat) ({ cls := "AlgebraHouseModel", name := "isField", desc := "(I)Z" } : Jvm.MethodName)) ∈ lw_all := lw_g (lw_at lw_m9 101 rfl) rfl
theorem q2239 : (Jvm.Cond.static ({ cls := "AlgebraHouseModel", name := "isField", desc := "(I)Z" } : Jvm.MethodName)) ∈ lw_all := lw_g (lw_at lw_m9 102 rfl) rfl
theorem q2240 : (Jvm.Cond.code ({ cls := "AlgebraHouseModel", name := "isField", desc := "(I)Z" } : Jvm.MethodName) prog_14_method_41_code (2 : Nat) (Option.some Jvm.ClassFile.FieldType.boolean)) ∈ lw_all := lw_g (lw_at lw_m9 103 rfl) rfl
theorem q2241 : (Jvm.Cond.methodLink "AlgebraHouseModel" (502 : Nat) ({ cls := "AlgebraHouseModel", name := "goes", desc := "(IIIIII)Z" } : Jvm.MethodName)) ∈ lw_all := lw_g (lw_at lw_m9 104 rfl) rfl
theorem q2242 : (Jvm.Cond.privateMethod ({ cls := "AlgebraHouseModel", name := "goes", desc := "(IIIIII)Z" } : Jvm.MethodName)) ∈ lw_tbl := lw_at lw_m9 105 rfl
theorem q2243 : (Jvm.Cond.instanceMethod ({ cls := "AlgebraHouseModel", name := "goes", desc := "(IIIIII)Z" } : Jvm.MethodName)) ∈ lw_all := lw_g (lw_at lw_m9 106 rfl) rfl
theorem q2244 : (Jvm.Cond.code ({ cls := "AlgebraHouseModel", name := "goes", desc := "(IIIIII)Z" } : Jvm.MethodName) prog_14_method_40_code (7 : Nat) (Option.some Jvm.ClassFile.FieldType.boolean)) ∈ lw_all := lw_g (lw_at lw_m9 107 rfl) rfl
theorem q2245 : (Jvm.Cond.methodLink "AlgebraHouseModel" (486 : Nat) ({ cls := "AlgebraHouseModel", name := "wrong", desc := "(I)V" } : Jvm.MethodName)) ∈ lw_all := lw_g (lw_at lw_m9 108 rfl) rfl
theorem q2246 : (Jvm.Cond.privateMethod ({ cls := "AlgebraHouseModel", name := "wrong", desc := "(I)V" } : Jvm.MethodName)) ∈ lw_tbl := lw_at lw_m9 109 rfl
theorem q2247 : (Jvm.Cond.instanceMethod ({ cls := "AlgebraHouseModel", name := "wrong", desc := "(I)V" } : Jvm.MethodName)) ∈ lw_all := lw_g (lw_at lw_m9 110 rfl) rfl
theorem q2248 : (Jvm.Cond.code ({ cls := "AlgebraHouseModel", name := "wrong", desc := "(I)V" } : Jvm.MethodName) prog_14_method_45_code (2 : Nat) (Option.none : Option Jvm.ClassFile.FieldType)) ∈ lw_all := lw_g (lw_at lw_m9 111 rfl) rfl
theorem q2249 : (Jvm.Cond.methodLink "AlgebraHouseModel" (532 : Nat) ({ cls := "AlgebraHouseModel", name := "judgeBuilt", desc := "(I)V" } : Jvm.MethodName)) ∈ lw_all := lw_g (lw_at lw_m9 112 rfl) rfl
theorem q2250 : (Jvm.Cond.privateMethod ({ cls := "AlgebraHouseModel", name := "judgeBuilt", desc := "(I)V" } : Jvm.MethodName)) ∈ lw_tbl := lw_at lw_m9 113 rfl
theorem q2251 : (Jvm.Cond.instanceMethod ({ cls := "AlgebraHouseModel", name := "judgeBuilt", desc := "(I)V" } : Jvm.MethodName)) ∈ lw_all := lw_g (lw_at lw_m9 114 rfl) rfl
theorem q2252 : (Jvm.Cond.code ({ cls := "AlgebraHouseModel", name := "judgeBuilt", desc := "(I)V" } : Jvm.MethodName) prog_14_method_61_code (13 : Nat) (Option.none : Option Jvm.ClassFile.FieldType)) ∈ lw_all := lw_g (lw_at lw_m9 115 rfl) rfl
theorem q2253 : (Jvm.Cond.methodLink "AlgebraHouseModel" (489 : Nat) ({ cls := "AlgebraHouseModel", name := "joinsParts", desc := "(II)Z" } : Jvm.MethodName)) ∈ lw_all := lw_g (lw_at lw_m9 116 rfl) rfl
theorem q2254 : (Jvm.Cond.privateMethod ({ cls := "AlgebraHouseModel", name := "joinsParts", desc := "(II)Z" } : Jvm.MethodName)) ∈ lw_tbl := lw_at lw_m9 117 rfl
theorem q2255 : (Jvm.Cond.instanceMethod ({ cls := "AlgebraHouseModel", name := "joinsParts", desc := "(II)Z" } : Jvm.MethodName)) ∈ lw_all := lw_g (lw_at lw_m9 118 rfl) rfl
theorem q2256 : (Jvm.Cond.code ({ cls := "AlgebraHouseModel", name := "joinsParts", desc := "(II)Z" } : Jvm.MethodName) prog_14_method_39_code (3 : Nat) (Option.some Jvm.ClassFile.FieldType.boolean)) ∈ lw_all := lw_g (lw_at lw_m9 119 rfl) rfl
theorem q2257 : (Jvm.Cond.methodLink "AlgebraHouseModel" (496 : Nat) ({ cls := "AlgebraHouseModel", name := "isDivided", desc := "()Z" } : Jvm.MethodName)) ∈ lw_all := lw_g (lw_at lw_m9 120 rfl) rfl
theorem q2258 : (Jvm.Cond.privateMethod ({ cls := "AlgebraHouseModel", name := "isDivided", desc := "()Z" } : Jvm.MethodName)) ∈ lw_tbl := lw_at lw_m9 121 rfl
theorem q2259 : (Jvm.Cond.instanceMethod ({ cls := "AlgebraHouseModel", name := "isDivided", desc := "()Z" } : Jvm.MethodName)) ∈ lw_all := lw_g (lw_at lw_m9 122 rfl) rfl
theorem q2260 : (Jvm.Cond.code ({ cls := "AlgebraHouseModel", name := "isDivided", desc := "()Z" } : Jvm.MethodName) prog_14_method_47_code (1 : Nat) (Option.some Jvm.ClassFile.FieldType.boolean)) ∈ lw_all := lw_g (lw_at lw_m9 123 rfl) rfl
theorem q2261 : (Jvm.Cond.methodLink "AlgebraHouseModel" (598 : Nat) ({ cls := "AlgebraHouseModel", name := "isNumber", desc := "(II)Z" } : Jvm.MethodName)) ∈ lw_all := lw_g (lw_at lw_m9 124 rfl) rfl
theorem q2262 : (Jvm.Cond.privateMethod ({ cls := "AlgebraHouseModel", name := "isNumber", desc := "(II)Z" } : Jvm.MethodName)) ∈ lw_tbl := lw_at lw_m9 125 rfl
theorem q2263 : (Jvm.Cond.instanceMethod ({ cls := "AlgebraHouseModel", name := "isNumber", desc := "(II)Z" } : Jvm.MethodName)) ∈ lw_all := lw_g (lw_at lw_m9 126 rfl) rfl
theorem q2264 : (Jvm.Cond.code ({ cls := "AlgebraHouseModel", name := "isNumber", desc := "(II)Z" } : Jvm.MethodName) prog_14_method_42_code (3 : Nat) (Option.some Jvm.ClassFile.FieldType.boolean)) ∈ lw_all := lw_g (lw_at lw_m9 127 rfl) rfl
theorem q2265 : (Jvm.Cond.methodLink "AlgebraHouseModel" (535 : Nat) ({ cls := "AlgebraHouseModel", name := "judgeMatrix", desc := "(I)V" } : Jvm.MethodName)) ∈ lw_all := lw_g (lw_at lw_m9 128 rfl) rfl
theorem q2266 : (Jvm.Cond.privateMethod ({ cls := "AlgebraHouseModel", name := "judgeMatrix", desc := "(I)V" } : Jvm.MethodName)) ∈ lw_tbl := lw_at lw_m9 129 rfl
theorem q2267 : (Jvm.Cond.instanceMethod ({ cls := "AlgebraHouseModel", name := "judgeMatrix", desc := "(I)V" } : Jvm.MethodName)) ∈ lw_all := lw_g (lw_at lw_m9 130 rfl) rfl
theorem q2268 : (Jvm.Cond.code ({ cls := "AlgebraHouseModel", name := "judgeMatrix", desc := "(I)V" } : Jvm.MethodName) prog_14_method_60_code (13 : Nat) (Option.none : Option Jvm.ClassFile.FieldType)) ∈ lw_all := lw_g (lw_at lw_m9 131 rfl) rfl
theorem q2269 : (Jvm.Cond.methodLink "AlgebraHouseModel" (469 : Nat) ({ cls := "AlgebraHouseModel", name := "judgeLeft", desc := "(I)V" } : Jvm.MethodName)) ∈ lw_all := lw_g (lw_at lw_m9 132 rfl) rfl
theorem q2270 : (Jvm.Cond.privateMethod ({ cls := "AlgebraHouseModel", name := "judgeLeft", desc := "(I)V" } : Jvm.MethodName)) ∈ lw_tbl := lw_at lw_m9 133 rfl
theorem q2271 : (Jvm.Cond.instanceMethod ({ cls := "AlgebraHouseModel", name := "judgeLeft", desc := "(I)V" } : Jvm.MethodName)) ∈ lw_all := lw_g (lw_at lw_m9 134 rfl) rfl
theorem q2272 : (Jvm.Cond.code ({ cls := "AlgebraHouseModel", name := "judgeLeft", desc := "(I)V" } : Jvm.MethodName) prog_14_method_46_code (5 : Nat) (Option.none : Option Jvm.ClassFile.FieldType)) ∈ lw_all := lw_g (lw_at lw_m9 135 rfl) rfl
theorem q2273 : (Jvm.Cond.constantLong "AlgebraHouseModel" (500 : Nat) (12 : Int64)) ∈ lw_all := lw_g (lw_at lw_m9 136 rfl) rfl
theorem q2274 : (Jvm.Cond.methodLink "AlgebraHouseModel" (919 : Nat) ({ cls := "AlgebraHouseModel", name := "eval", desc := "(I)V" } : Jvm.MethodName)) ∈ lw_all := lw_g (lw_at lw_m9 137 rfl) rfl
theorem q2275 : (Jvm.Cond.privateMethod ({ cls := "AlgebraHouseModel", name := "eval", desc := "(I)V" } : Jvm.MethodName)) ∈ lw_tbl := lw_at lw_m9 138 rfl
theorem q2276 : (Jvm.Cond.instanceMethod ({ cls := "AlgebraHouseModel", name := "eval", desc := "(I)V" } : Jvm.MethodName)) ∈ lw_all := lw_g (lw_at lw_m9 139 rfl) rfl
theorem q2277 : (Jvm.Cond.code ({ cls := "AlgebraHouseModel", name := "eval", desc := "(I)V" } : Jvm.MethodName) prog_14_method_98_code (2 : Nat) (Option.none : Option Jvm.ClassFile.FieldType)) ∈ lw_all := lw_g (lw_at lw_m9 140 rfl) rfl
theorem q2278 : (Jvm.Cond.methodLink "AlgebraHouseModel" (733 : Nat) ({ cls := "AlgebraHouseModel", name := "later", desc := "(I)V" } : Jvm.MethodName)) ∈ lw_all := lw_g (lw_at lw_m9 141 rfl) rfl
theorem q2279 : (Jvm.Cond.privateMethod ({ cls := "AlgebraHouseModel", name := "later", desc := "(I)V" } : Jvm.MethodName)) ∈ lw_tbl := lw_at lw_m9 142 rfl
theorem q2280 : (Jvm.Cond.instanceMethod ({ cls := "AlgebraHouseModel", name := "later", desc := "(I)V" } : Jvm.MethodName)) ∈ lw_all := lw_g (lw_at lw_m9 143 rfl) rfl
theorem q2281 : (Jvm.Cond.code ({ cls := "AlgebraHouseModel", name := "later", desc := "(I)V" } : Jvm.MethodName) prog_14_method_97_code (2 : Nat) (Option.none : Option Jvm.ClassFile.FieldType)) ∈ lw_all := lw_g (lw_at lw_m9 144 rfl) rfl
theorem q2282 : (Jvm.Cond.methodLink "AlgebraHouseModel" (730 : Nat) ({ cls := "AlgebraHouseModel", name := "later", desc := "(IIIII)V" } : Jvm.MethodName)) ∈ lw_all := lw_g (lw_at lw_m9 145 rfl) rfl
theorem q2283 : (Jvm.Cond.privateMethod ({ cls := "AlgebraHouseModel", name := "later", desc := "(IIIII)V" } : Jvm.MethodName)) ∈ lw_tbl := lw_at lw_m9 146 rfl
theorem q2284 : (Jvm.Cond.instanceMethod ({ cls := "AlgebraHouseModel", name := "later", desc := "(IIIII)V" } : Jvm.MethodName)) ∈ lw_all := lw_g (lw_at lw_m9 147 rfl) rfl
theorem q2285 : (Jvm.Cond.code ({ cls := "AlgebraHouseModel", name := "later", desc := "(IIIII)V" } : Jvm.MethodName) prog_14_method_96_code (6 : Nat) (Option.none : Option Jvm.ClassFile.FieldType)) ∈ lw_all := lw_g (lw_at lw_m9 148 rfl) rfl
theorem q2286 : (Jvm.Cond.methodLink "AlgebraHouseModel" (735 : Nat) ({ cls := "AlgebraHouseModel", name := "task", desc := "(IIIII)V" } : Jvm.MethodName)) ∈ lw_all := lw_g (lw_at lw_m9 149 rfl) rfl
theorem q2287 : (Jvm.Cond.privateMethod ({ cls := "AlgebraHouseModel", name := "task", desc := "(IIIII)V" } : Jvm.MethodName)) ∈ lw_tbl := lw_at lw_m9 150 rfl
theorem q2288 : (Jvm.Cond.instanceMethod ({ cls := "AlgebraHouseModel", name := "task", desc := "(IIIII)V" } : Jvm.MethodName)) ∈ lw_all := lw_g (lw_at lw_m9 151 rfl) rfl
theorem q2289 : (Jvm.Cond.code ({ cls := "AlgebraHouseModel", name := "task", desc := "(IIIII)V" } : Jvm.MethodName) prog_14_method_99_code (8 : Nat) (Option.none : Option Jvm.ClassFile.FieldType)) ∈ lw_all := lw_g (lw_at lw_m9 152 rfl) rfl
theorem q2290 : (Jvm.Cond.methodLink "AlgebraHouseModel" (721 : Nat) ({ cls := "AlgebraHouseModel", name := "valueAt", desc := "(I)I" } : Jvm.MethodName)) ∈ lw_all := lw_g (lw_at lw_m9 153 rfl) rfl
theorem q2291 : (Jvm.Cond.static ({ cls := "AlgebraHouseModel", name := "valueAt", desc := "(I)I" } : Jvm.MethodName)) ∈ lw_all := lw_g (lw_at lw_m9 154 rfl) rfl
theorem q2292 : (Jvm.Cond.code ({ cls := "AlgebraHouseModel", name := "valueAt", desc := "(I)I" } : Jvm.MethodName) prog_14_method_94_code (1 : Nat) (Option.some Jvm.ClassFile.FieldType.int)) ∈ lw_all := lw_g (lw_at lw_m9 155 rfl) rfl
theorem q2293 : (Jvm.Cond.methodLink "AlgebraHouseModel" (738 : Nat) ({ cls := "AlgebraHouseModel", name := "evalPart", desc := "(I)V" } : Jvm.MethodName)) ∈ lw_all := lw_g (lw_at lw_m9 156 rfl) rfl
theorem q2294 : (Jvm.Cond.privateMethod ({ cls := "AlgebraHouseModel", name := "evalPart", desc := "(I)V" } : Jvm.MethodName)) ∈ lw_tbl := lw_at lw_m9 157 rfl
theorem q2295 : (Jvm.Cond.instanceMethod ({ cls := "AlgebraHouseModel", name := "evalPart", desc := "(I)V" } : Jvm.MethodName)) ∈ lw_all := lw_g (lw_at lw_m9 158 rfl) rfl
theorem q2296 : (Jvm.Cond.code ({ cls := "AlgebraHouseModel", name := "evalPart", desc := "(I)V" } : Jvm.MethodName) prog_14_method_109_code (5 : Nat) (Option.none : Option Jvm.ClassFile.FieldType)) ∈ lw_all := lw_g (lw_at lw_m9 159 rfl) rfl
theorem q2297 : (Jvm.Cond.methodLink "AlgebraHouseModel" (802 : Nat) ({ cls := "AlgebraHouseModel", name := "stepsOf", desc := "(I)J" } : Jvm.MethodName)) ∈ lw_all := lw_g (lw_at lw_m9 160 rfl) rfl
theorem q2298 : (Jvm.Cond.privateMethod ({ cls := "AlgebraHouseModel", name := "stepsOf", desc := "(I)J" } : Jvm.MethodName)) ∈ lw_tbl := lw_at lw_m9 161 rfl
theorem q2299 : (Jvm.Cond.instanceMethod ({ cls := "AlgebraHouseModel", name := "stepsOf", desc := "(I)J" } : Jvm.MethodName)) ∈ lw_all := lw_g (lw_at lw_m9 162 rfl) rfl
theorem q2300 : (Jvm.Cond.code ({ cls := "AlgebraHouseModel", name := "stepsOf", desc := "(I)J" } : Jvm.MethodName) prog_14_method_92_code (4 : Nat) (Option.some Jvm.ClassFile.FieldType.long)) ∈ lw_all := lw_g (lw_at lw_m9 163 rfl) rfl
theorem q2301 : (Jvm.Cond.methodLink "AlgebraHouseModel" (713 : Nat) ({ cls := "AlgebraHouseModel", name := "weight", desc := "(I)J" } : Jvm.MethodName)) ∈ lw_all := lw_g (lw_at lw_m9 164 rfl) rfl
theorem q2302 : (Jvm.Cond.privateMethod ({ cls := "AlgebraHouseModel", name := "weight", desc := "(I)J" } : Jvm.MethodName)) ∈ lw_tbl := lw_at lw_m9 165 rfl
theorem q2303 : (Jvm.Cond.instanceMethod ({ cls := "AlgebraHouseModel", name := "weight", desc := "(I)J" } : Jvm.MethodName)) ∈ lw_all := lw_g (lw_at lw_m9 166 rfl) rfl
theorem q2304 : (Jvm.Cond.code ({ cls := "AlgebraHouseModel", name := "weight", desc := "(I)J" } : Jvm.MethodName) prog_14_method_91_code (4 : Nat) (Option.some Jvm.ClassFile.FieldType.long)) ∈ lw_all := lw_g (lw_at lw_m9 167 rfl) rfl
theorem q2305 : (Jvm.Cond.constantLong "AlgebraHouseModel" (709 : Nat) (7 : Int64)) ∈ lw_all := lw_g (lw_at lw_m9 168 rfl) rfl
theorem q2306 : (Jvm.Cond.constantLong "AlgebraHouseModel" (711 : Nat) (49 : Int64)) ∈ lw_all := lw_g (lw_at lw_m9 169 rfl) rfl
theorem q2307 : (Jvm.Cond.methodLink "AlgebraHouseModel" (716 : Nat) ({ cls := "java/lang/Math", name := "max", desc := "(JJ)J" } : Jvm.MethodName)) ∈ lw_all := lw_g (lw_at lw_m9 170 rfl) rfl
theorem q2310 : (Jvm.Cond.methodLink "AlgebraHouseModel" (805 : Nat) ({ cls := "AlgebraHouseModel", name := "step", desc := "(J)Z" } : Jvm.MethodName)) ∈ lw_all := lw_g (lw_at lw_m9 173 rfl) rfl
theorem q2311 : (Jvm.Cond.privateMethod ({ cls := "AlgebraHouseModel", name := "step", desc := "(J)Z" } : Jvm.MethodName)) ∈ lw_tbl := lw_at lw_m9 174 rfl
theorem q2312 : (Jvm.Cond.instanceMethod ({ cls := "AlgebraHouseModel", name := "step", desc := "(J)Z" } : Jvm.MethodName)) ∈ lw_all := lw_g (lw_at lw_m9 175 rfl) rfl
theorem q2313 : (Jvm.Cond.code ({ cls := "AlgebraHouseModel", name := "step", desc := "(J)Z" } : Jvm.MethodName) prog_14_method_90_code (3 : Nat) (Option.some Jvm.ClassFile.FieldType.boolean)) ∈ lw_all := lw_g (lw_at lw_m9 176 rfl) rfl
theorem q2314 : (Jvm.Cond.constantLong "AlgebraHouseModel" (707 : Nat) (20000 : Int64)) ∈ lw_all := lw_g (lw_at lw_m9 177 rfl) rfl
theorem q2315 : (Jvm.Cond.methodLink "AlgebraHouseModel" (808 : Nat) ({ cls := "AlgebraHouseModel", name := "newValue", desc := "()I" } : Jvm.MethodName)) ∈ lw_all := lw_g (lw_at lw_m9 178 rfl) rfl
theorem q2316 : (Jvm.Cond.privateMethod ({ cls := "AlgebraHouseModel", name := "newValue", desc := "()I" } : Jvm.MethodName)) ∈ lw_tbl := lw_at lw_m9 179 rfl
theorem q2317 : (Jvm.Cond.instanceMethod ({ cls := "AlgebraHouseModel", name := "newValue", desc := "()I" } : Jvm.MethodName)) ∈ lw_all := lw_g (lw_at lw_m9 180 rfl) rfl
theorem q2318 : (Jvm.Cond.code ({ cls := "AlgebraHouseModel", name := "newValue", desc := "()I" } : Jvm.MethodName) prog_14_method_93_code (2 : Nat) (Option.some Jvm.ClassFile.FieldType.int)) ∈ lw_all := lw_g (lw_at lw_m9 181 rfl) rfl
theorem q2319 : (Jvm.Cond.methodLink "AlgebraHouseModel" (685 : Nat) ({ cls := "AlgebraHouseModel", name := "clear", desc := "(II)V" } : Jvm.MethodName)) ∈ lw_all := lw_g (lw_at lw_m9 182 rfl) rfl
theorem q2320 : (Jvm.Cond.privateMethod ({ cls := "AlgebraHouseModel", name := "clear", desc := "(II)V" } : Jvm.MethodName)) ∈ lw_tbl := lw_at lw_m9 183 rfl
theorem q2321 : (Jvm.Cond.instanceMethod ({ cls := "AlgebraHouseModel", name := "clear", desc := "(II)V" } : Jvm.MethodName)) ∈ lw_all := lw_g (lw_at lw_m9 184 rfl) rfl
theorem q2322 : (Jvm.Cond.code ({ cls := "AlgebraHouseModel", name := "clear", desc := "(II)V" } : Jvm.MethodName) prog_14_method_73_code (4 : Nat) (Option.none : Option Jvm.ClassFile.FieldType)) ∈ lw_all := lw_g (lw_at lw_m9 185 rfl) rfl
theorem q2323 : (Jvm.Cond.methodLink "AlgebraHouseModel" (633 : Nat) ({ cls := "AlgebraHouseModel", name := "set", desc := "(IJ)V" } : Jvm.MethodName)) ∈ lw_all := lw_g (lw_at lw_m9 186 rfl) rfl
theorem q2324 : (Jvm.Cond.privateMethod ({ cls := "AlgebraHouseModel", name := "set", desc := "(IJ)V" } : Jvm.MethodName)) ∈ lw_tbl := lw_at lw_m9 187 rfl
theorem q2325 : (Jvm.Cond.instanceMethod ({ cls := "AlgebraHouseModel", name := "set", desc := "(IJ)V" } : Jvm.MethodName)) ∈ lw_all := lw_g (lw_at lw_m9 188 rfl) rfl
theorem q2326 : (Jvm.Cond.code ({ cls := "AlgebraHouseModel", name := "set", desc := "(IJ)V" } : Jvm.MethodName) prog_14_method_71_code (4 : Nat) (Option.none : Option Jvm.ClassFile.FieldType)) ∈ lw_all := lw_g (lw_at lw_m9 189 rfl) rfl
theorem q2327 : (Jvm.Cond.methodLink "AlgebraHouseModel" (658 : Nat) ({ cls := "AlgebraHouseModel", name := "copy", desc := "(III)V" } : Jvm.MethodName)) ∈ lw_all := lw_g (lw_at lw_m9 190 rfl) rfl
theorem q2328 : (Jvm.Cond.privateMethod ({ cls := "AlgebraHouseModel", name := "copy", desc := "(III)V" } : Jvm.MethodName)) ∈ lw_tbl := lw_at lw_m9 191 rfl
theorem q2329 : (Jvm.Cond.instanceMethod ({ cls := "AlgebraHouseModel", name := "copy", desc := "(III)V" } : Jvm.MethodName)) ∈ lw_all := lw_g (lw_at lw_m9 192 rfl) rfl
theorem q2330 : (Jvm.Cond.code ({ cls := "AlgebraHouseModel", name := "copy", desc := "(III)V" } : Jvm.MethodName) prog_14_method_72_code (5 : Nat) (Option.none : Option Jvm.ClassFile.FieldType)) ∈ lw_all := lw_g (lw_at lw_m9 193 rfl) rfl
theorem q2331 : (Jvm.Cond.methodLink "AlgebraHouseModel" (758 : Nat) ({ cls := "AlgebraHouseModel", name := "arguments", desc := "(III)V" } : Jvm.MethodName)) ∈ lw_all := lw_g (lw_at lw_m9 194 rfl) rfl
theorem q2332 : (Jvm.Cond.privateMethod ({ cls := "AlgebraHouseModel", name := "arguments", desc := "(III)V" } : Jvm.MethodName)) ∈ lw_tbl := lw_at lw_m9 195 rfl
theorem q2333 : (Jvm.Cond.instanceMethod ({ cls := "AlgebraHouseModel", name := "arguments", desc := "(III)V" } : Jvm.MethodName)) ∈ lw_all := lw_g (lw_at lw_m9 196 rfl) rfl
theorem q2334 : (Jvm.Cond.code ({ cls := "AlgebraHouseModel", name := "arguments", desc := "(III)V" } : Jvm.MethodName) prog_14_method_111_code (8 : Nat) (Option.none : Option Jvm.ClassFile.FieldType)) ∈ lw_all := lw_g (lw_at lw_m9 197 rfl) rfl
theorem q2335 : (Jvm.Cond.methodLink "AlgebraHouseModel" (820 : Nat) ({ cls := "AlgebraHouseModel", name := "makeReady", desc := "()V" } : Jvm.MethodName)) ∈ lw_all := lw_g (lw_at lw_m9 198 rfl) rfl
theorem q2336 : (Jvm.Cond.privateMethod ({ cls := "AlgebraHouseModel", name := "makeReady", desc := "()V" } : Jvm.MethodName)) ∈ lw_tbl := lw_at lw_m9 199 rfl
theorem q2337 : (Jvm.Cond.instanceMethod ({ cls := "AlgebraHouseModel", name := "makeReady", desc := "()V" } : Jvm.MethodName)) ∈ lw_all := lw_g (lw_at lw_m9 200 rfl) rfl
theorem q2338 : (Jvm.Cond.code ({ cls := "AlgebraHouseModel", name := "makeReady", desc := "()V" } : Jvm.MethodName) prog_14_method_113_code (1 : Nat) (Option.none : Option Jvm.ClassFile.FieldType)) ∈ lw_all := lw_g (lw_at lw_m9 201 rfl) rfl
theorem q2339 : (Jvm.Cond.methodLink "AlgebraHouseModel" (741 : Nat) ({ cls := "AlgebraHouseModel", name := "evalLeft", desc := "(II)V" } : Jvm.MethodName)) ∈ lw_all := lw_g (lw_at lw_m9 202 rfl) rfl
theorem q2340 : (Jvm.Cond.privateMethod ({ cls := "AlgebraHouseModel", name := "evalLeft", desc := "(II)V" } : Jvm.MethodName)) ∈ lw_tbl := lw_at lw_m9 203 rfl
theorem q2341 : (Jvm.Cond.instanceMethod ({ cls := "AlgebraHouseModel", name := "evalLeft", desc := "(II)V" } : Jvm.MethodName)) ∈ lw_all := lw_g (lw_at lw_m9 204 rfl) rfl
theorem q2342 : (Jvm.Cond.code ({ cls := "AlgebraHouseModel", name := "evalLeft", desc := "(II)V" } : Jvm.MethodName) prog_14_method_100_code (6 : Nat) (Option.none : Option Jvm.ClassFile.FieldType)) ∈ lw_all := lw_g (lw_at lw_m9 205 rfl) rfl
theorem q2343 : (Jvm.Cond.methodLink "AlgebraHouseModel" (770 : Nat) ({ cls := "AlgebraHouseModel", name := "evalPower", desc := "(II)V" } : Jvm.MethodName)) ∈ lw_all := lw_g (lw_at lw_m9 206 rfl) rfl
theorem q2344 : (Jvm.Cond.privateMethod ({ cls := "AlgebraHouseModel", name := "evalPower", desc := "(II)V" } : Jvm.MethodName)) ∈ lw_tbl := lw_at lw_m9 207 rfl
theorem q2345 : (Jvm.Cond.instanceMethod ({ cls := "AlgebraHouseModel", name := "evalPower", desc := "(II)V" } : Jvm.MethodName)) ∈ lw_all := lw_g (lw_at lw_m9 208 rfl) rfl
theorem q2346 : (Jvm.Cond.code ({ cls := "AlgebraHouseModel", name := "evalPower", desc := "(II)V" } : Jvm.MethodName) prog_14_method_101_code (5 : Nat) (Option.none : Option Jvm.ClassFile.FieldType)) ∈ lw_all := lw_g (lw_at lw_m9 209 rfl) rfl
theorem q2347 : (Jvm.Cond.constant "AlgebraHouseModel" (750 : Nat) (1593000 : Int32)) ∈ lw_all := lw_g (lw_at lw_m9 210 rfl) rfl
theorem q2348 : (Jvm.Cond.methodLink "AlgebraHouseModel" (776 : Nat) ({ cls := "AlgebraHouseModel", name := "setOne", desc := "(II)V" } : Jvm.MethodName)) ∈ lw_all := lw_g (lw_at lw_m9 211 rfl) rfl
theorem q2349 : (Jvm.Cond.privateMethod ({ cls := "AlgebraHouseModel", name := "setOne", desc := "(II)V" } : Jvm.MethodName)) ∈ lw_tbl := lw_at lw_m9 212 rfl
theorem q2350 : (Jvm.Cond.instanceMethod ({ cls := "AlgebraHouseModel", name := "setOne", desc := "(II)V" } : Jvm.MethodName)) ∈ lw_all := lw_g (lw_at lw_m9 213 rfl) rfl
theorem q2351 : (Jvm.Cond.code ({ cls := "AlgebraHouseModel", name := "setOne", desc := "(II)V" } : Jvm.MethodName) prog_14_method_84_code (4 : Nat) (Option.none : Option Jvm.ClassFile.FieldType)) ∈ lw_all := lw_g (lw_at lw_m9 214 rfl) rfl
theorem q2352 : (Jvm.Cond.methodLink "AlgebraHouseModel" (674 : Nat) ({ cls := "AlgebraHouseModel", name := "rows", desc := "(I)I" } : Jvm.MethodName)) ∈ lw_all := lw_g (lw_at lw_m9 215 rfl) rfl
theorem q2353 : (Jvm.Cond.static ({ cls := "AlgebraHouseModel", name := "rows", desc := "(I)I" } : Jvm.MethodName)) ∈ lw_all := lw_g (lw_at lw_m9 216 rfl) rfl
theorem q2354 : (Jvm.Cond.code ({ cls := "AlgebraHouseModel", name := "rows", desc := "(I)I" } : Jvm.MethodName) prog_14_method_81_code (1 : Nat) (Option.some Jvm.ClassFile.FieldType.int)) ∈ lw_all := lw_g (lw_at lw_m9 217 rfl) rfl
theorem q2355 : (Jvm.Cond.methodLink "AlgebraHouseModel" (677 : Nat) ({ cls := "AlgebraHouseModel", name := "entryAt", desc := "(III)I" } : Jvm.MethodName)) ∈ lw_all := lw_g (lw_at lw_m9 218 rfl) rfl
theorem q2356 : (Jvm.Cond.static ({ cls := "AlgebraHouseModel", name := "entryAt", desc := "(III)I" } : Jvm.MethodName)) ∈ lw_all := lw_g (lw_at lw_m9 219 rfl) rfl
theorem q2357 : (Jvm.Cond.code ({ cls := "AlgebraHouseModel", name := "entryAt", desc := "(III)I" } : Jvm.MethodName) prog_14_method_80_code (3 : Nat) (Option.some Jvm.ClassFile.FieldType.int)) ∈ lw_all := lw_g (lw_at lw_m9 220 rfl) rfl
theorem q2358 : (Jvm.Cond.methodLink "AlgebraHouseModel" (779 : Nat) ({ cls := "AlgebraHouseModel", name := "multiplyValues", desc := "(IIIIII)V" } : Jvm.MethodName)) ∈ lw_all := lw_g (lw_at lw_m9 221 rfl) rfl
theorem q2359 : (Jvm.Cond.privateMethod ({ cls := "AlgebraHouseModel", name := "multiplyValues", desc := "(IIIIII)V" } : Jvm.MethodName)) ∈ lw_tbl := lw_at lw_m9 222 rfl
theorem q2360 : (Jvm.Cond.instanceMethod ({ cls := "AlgebraHouseModel", name := "multiplyValues", desc := "(IIIIII)V" } : Jvm.MethodName)) ∈ lw_all := lw_g (lw_at lw_m9 223 rfl) rfl
theorem q2361 : (Jvm.Cond.code ({ cls := "AlgebraHouseModel", name := "multiplyValues", desc := "(IIIIII)V" } : Jvm.MethodName) prog_14_method_83_code (10 : Nat) (Option.none : Option Jvm.ClassFile.FieldType)) ∈ lw_all := lw_g (lw_at lw_m9 224 rfl) rfl
theorem q2362 : (Jvm.Cond.constant "AlgebraHouseModel" (684 : Nat) (1591000 : Int32)) ∈ lw_all := lw_g (lw_at lw_m9 225 rfl) rfl
theorem q2363 : (Jvm.Cond.constant "AlgebraHouseModel" (688 : Nat) (1590300 : Int32)) ∈ lw_all := lw_g (lw_at lw_m9 226 rfl) rfl
theorem q2364 : (Jvm.Cond.methodLink "AlgebraHouseModel" (689 : Nat) ({ cls := "AlgebraHouseModel", name := "multiplyBlocks", desc := "(IIIII)V" } : Jvm.MethodName)) ∈ lw_all := lw_g (lw_at lw_m9 227 rfl) rfl
theorem q2365 : (Jvm.Cond.privateMethod ({ cls := "AlgebraHouseModel", name := "multiplyBlocks", desc := "(IIIII)V" } : Jvm.MethodName)) ∈ lw_tbl := lw_at lw_m9 228 rfl
theorem q2366 : (Jvm.Cond.instanceMethod ({ cls := "AlgebraHouseModel", name := "multiplyBlocks", desc := "(IIIII)V" } : Jvm.MethodName)) ∈ lw_all := lw_g (lw_at lw_m9 229 rfl) rfl
theorem q2367 : (Jvm.Cond.code ({ cls := "AlgebraHouseModel", name := "multiplyBlocks", desc := "(IIIII)V" } : Jvm.MethodName) prog_14_method_79_code (9 : Nat) (Option.none : Option Jvm.ClassFile.FieldType)) ∈ lw_all := lw_g (lw_at lw_m9 230 rfl) rfl
theorem q2368 : (Jvm.Cond.methodLink "AlgebraHouseModel" (653 : Nat) ({ cls := "AlgebraHouseModel", name := "multiplyNumbers", desc := "(III)V" } : Jvm.MethodName)) ∈ lw_all := lw_g (lw_at lw_m9 231 rfl) rfl
theorem q2369 : (Jvm.Cond.privateMethod ({ cls := "AlgebraHouseModel", name := "multiplyNumbers", desc := "(III)V" } : Jvm.MethodName)) ∈ lw_tbl := lw_at lw_m9 232 rfl
theorem q2370 : (Jvm.Cond.instanceMethod ({ cls := "AlgebraHouseModel", name := "multiplyNumbers", desc := "(III)V" } : Jvm.MethodName)) ∈ lw_all := lw_g (lw_at lw_m9 233 rfl) rfl
theorem q2371 : (Jvm.Cond.code ({ cls := "AlgebraHouseModel", name := "multiplyNumbers", desc := "(III)V" } : Jvm.MethodName) prog_14_method_67_code (4 : Nat) (Option.none : Option Jvm.ClassFile.FieldType)) ∈ lw_all := lw_g (lw_at lw_m9 234 rfl) rfl
theorem q2372 : (Jvm.Cond.methodLink "AlgebraHouseModel" (626 : Nat) ({ cls := "AlgebraHouseModel", name := "number", desc := "(IJJ)V" } : Jvm.MethodName)) ∈ lw_all := lw_g (lw_at lw_m9 235 rfl) rfl
theorem q2373 : (Jvm.Cond.privateMethod ({ cls := "AlgebraHouseModel", name := "number", desc := "(IJJ)V" } : Jvm.MethodName)) ∈ lw_tbl := lw_at lw_m9 236 rfl
theorem q2374 : (Jvm.Cond.instanceMethod ({ cls := "AlgebraHouseModel", name := "number", desc := "(IJJ)V" } : Jvm.MethodName)) ∈ lw_all := lw_g (lw_at lw_m9 237 rfl) rfl
theorem q2375 : (Jvm.Cond.code ({ cls := "AlgebraHouseModel", name := "number", desc := "(IJJ)V" } : Jvm.MethodName) prog_14_method_64_code (8 : Nat) (Option.none : Option Jvm.ClassFile.FieldType)) ∈ lw_all := lw_g (lw_at lw_m9 238 rfl) rfl
theorem q2376 : (Jvm.Cond.methodLink "AlgebraHouseModel" (611 : Nat) ({ cls := "AlgebraHouseModel", name := "modulo", desc := "(I)J" } : Jvm.MethodName)) ∈ lw_all := lw_g (lw_at lw_m9 239 rfl) rfl
theorem q2377 : (Jvm.Cond.privateMethod ({ cls := "AlgebraHouseModel", name := "modulo", desc := "(I)J" } : Jvm.MethodName)) ∈ lw_tbl := lw_at lw_m10 0 rfl
theorem q2378 : (Jvm.Cond.instanceMethod ({ cls := "AlgebraHouseModel", name := "modulo", desc := "(I)J" } : Jvm.MethodName)) ∈ lw_all := lw_g (lw_at lw_m10 1 rfl) rfl
theorem q2379 : (Jvm.Cond.code ({ cls := "AlgebraHouseModel", name := "modulo", desc := "(I)J" } : Jvm.MethodName) prog_14_method_62_code (2 : Nat) (Option.some Jvm.ClassFile.FieldType.long)) ∈ lw_all := lw_g (lw_at lw_m10 2 rfl) rfl
theorem q2380 : (Jvm.Cond.methodLink "AlgebraHouseModel" (615 : Nat) ({ cls := "java/lang/Math", name := "floorMod", desc := "(JJ)J" } : Jvm.MethodName)) ∈ lw_all := lw_g (lw_at lw_m10 3 rfl) rfl
theorem q2381 : (Jvm.Cond.methodLink "AlgebraHouseModel" (619 : Nat) ({ cls := "AlgebraHouseModel", name := "common", desc := "(JJ)J" } : Jvm.MethodName)) ∈ lw_all := lw_g (lw_at lw_m10 4 rfl) rfl
theorem q2382 : (Jvm.Cond.static ({ cls := "AlgebraHouseModel", name := "common", desc := "(JJ)J" } : Jvm.MethodName)) ∈ lw_all := lw_g (lw_at lw_m10 5 rfl) rfl
theorem q2383 : (Jvm.Cond.code ({ cls := "AlgebraHouseModel", name := "common", desc := "(JJ)J" } : Jvm.MethodName) prog_14_method_63_code (10 : Nat) (Option.some Jvm.ClassFile.FieldType.long)) ∈ lw_all := lw_g (lw_at lw_m10 6 rfl) rfl
theorem q2384 : (Jvm.Cond.constantLong "AlgebraHouseModel" (622 : Nat) (999999999 : Int64)) ∈ lw_all := lw_g (lw_at lw_m10 7 rfl) rfl
theorem q2385 : (Jvm.Cond.constantLong "AlgebraHouseModel" (624 : Nat) (-999999999 : Int64)) ∈ lw_all := lw_g (lw_at lw_m10 8 rfl) rfl
theorem q2386 : (Jvm.Cond.methodLink "AlgebraHouseModel" (644 : Nat) ({ cls := "AlgebraHouseModel", name := "put", desc := "(I)V" } : Jvm.MethodName)) ∈ lw_all := lw_g (lw_at lw_m10 9 rfl) rfl
theorem q2387 : (Jvm.Cond.privateMethod ({ cls := "AlgebraHouseModel", name := "put", desc := "(I)V" } : Jvm.MethodName)) ∈ lw_tbl := lw_at lw_m10 10 rfl
theorem q2388 : (Jvm.Cond.instanceMethod ({ cls := "AlgebraHouseModel", name := "put", desc := "(I)V" } : Jvm.MethodName)) ∈ lw_all := lw_g (lw_at lw_m10 11 rfl) rfl
theorem q2389 : (Jvm.Cond.code ({ cls := "AlgebraHouseModel", name := "put", desc := "(I)V" } : Jvm.MethodName) prog_14_method_70_code (2 : Nat) (Option.none : Option Jvm.ClassFile.FieldType)) ∈ lw_all := lw_g (lw_at lw_m10 12 rfl) rfl
theorem q2390 : (Jvm.Cond.constant "AlgebraHouseModel" (661 : Nat) (1590200 : Int32)) ∈ lw_all := lw_g (lw_at lw_m10 13 rfl) rfl
theorem q2391 : (Jvm.Cond.methodLink "AlgebraHouseModel" (662 : Nat) ({ cls := "AlgebraHouseModel", name := "multiplyRows", desc := "(IIII)V" } : Jvm.MethodName)) ∈ lw_all := lw_g (lw_at lw_m10 14 rfl) rfl
theorem q2392 : (Jvm.Cond.privateMethod ({ cls := "AlgebraHouseModel", name := "multiplyRows", desc := "(IIII)V" } : Jvm.MethodName)) ∈ lw_tbl := lw_at lw_m10 15 rfl
theorem q2393 : (Jvm.Cond.instanceMethod ({ cls := "AlgebraHouseModel", name := "multiplyRows", desc := "(IIII)V" } : Jvm.MethodName)) ∈ lw_all := lw_g (lw_at lw_m10 16 rfl) rfl
theorem q2394 : (Jvm.Cond.code ({ cls := "AlgebraHouseModel", name := "multiplyRows", desc := "(IIII)V" } : Jvm.MethodName) prog_14_method_78_code (8 : Nat) (Option.none : Option Jvm.ClassFile.FieldType)) ∈ lw_all := lw_g (lw_at lw_m10 17 rfl) rfl
theorem q2395 : (Jvm.Cond.methodLink "AlgebraHouseModel" (650 : Nat) ({ cls := "java/lang/Math", name := "min", desc := "(II)I" } : Jvm.MethodName)) ∈ lw_all := lw_g (lw_at lw_m10 18 rfl) rfl
theorem q2396 : (Jvm.Cond.constant "AlgebraHouseModel" (656 : Nat) (1594002 : Int32)) ∈ lw_all := lw_g (lw_at lw_m10 19 rfl) rfl
theorem q2397 : (Jvm.Cond.constant "AlgebraHouseModel" (657 : Nat) (1594000 : Int32)) ∈ lw_all := lw_g (lw_at lw_m10 20 rfl) rfl
theorem q2398 : (Jvm.Cond.methodLink "AlgebraHouseModel" (640 : Nat) ({ cls := "AlgebraHouseModel", name := "addNumbers", desc := "(III)V" } : Jvm.MethodName)) ∈ lw_all := lw_g (lw_at lw_m10 21 rfl) rfl
theorem q2399 : (Jvm.Cond.privateMethod ({ cls := "AlgebraHouseModel", name := "addNumbers", desc := "(III)V" } : Jvm.MethodName)) ∈ lw_tbl := lw_at lw_m10 22 rfl
theorem q2400 : (Jvm.Cond.instanceMethod ({ cls := "AlgebraHouseModel", name := "addNumbers", desc := "(III)V" } : Jvm.MethodName)) ∈ lw_all := lw_g (lw_at lw_m10 23 rfl) rfl
theorem q2401 : (Jvm.Cond.code ({ cls := "AlgebraHouseModel", name := "addNumbers", desc := "(III)V" } : Jvm.MethodName) prog_14_method_65_code (4 : Nat) (Option.none : Option Jvm.ClassFile.FieldType)) ∈ lw_all := lw_g (lw_at lw_m10 24 rfl) rfl
theorem q2402 : (Jvm.Cond.constant "AlgebraHouseModel" (665 : Nat) (1590100 : Int32)) ∈ lw_all := lw_g (lw_at lw_m10 25 rfl) rfl
theorem q2403 : (Jvm.Cond.constant "AlgebraHouseModel" (666 : Nat) (1590000 : Int32)) ∈ lw_all := lw_g (lw_at lw_m10 26 rfl) rfl
theorem q2404 : (Jvm.Cond.methodLink "AlgebraHouseModel" (667 : Nat) ({ cls := "AlgebraHouseModel", name := "addBlocks", desc := "(IIIII)V" } : Jvm.MethodName)) ∈ lw_all := lw_g (lw_at lw_m10 27 rfl) rfl
theorem q2405 : (Jvm.Cond.privateMethod ({ cls := "AlgebraHouseModel", name := "addBlocks", desc := "(IIIII)V" } : Jvm.MethodName)) ∈ lw_tbl := lw_at lw_m10 28 rfl
theorem q2406 : (Jvm.Cond.instanceMethod ({ cls := "AlgebraHouseModel", name := "addBlocks", desc := "(IIIII)V" } : Jvm.MethodName)) ∈ lw_all := lw_g (lw_at lw_m10 29 rfl) rfl
theorem q2407 : (Jvm.Cond.code ({ cls := "AlgebraHouseModel", name := "addBlocks", desc := "(IIIII)V" } : Jvm.MethodName) prog_14_method_76_code (7 : Nat) (Option.none : Option Jvm.ClassFile.FieldType)) ∈ lw_all := lw_g (lw_at lw_m10 30 rfl) rfl
theorem q2408 : (Jvm.Cond.methodLink "AlgebraHouseModel" (637 : Nat) ({ cls := "AlgebraHouseModel", name := "width", desc := "(I)I" } : Jvm.MethodName)) ∈ lw_all := lw_g (lw_at lw_m10 31 rfl) rfl
theorem q2409 : (Jvm.Cond.static ({ cls := "AlgebraHouseModel", name := "width", desc := "(I)I" } : Jvm.MethodName)) ∈ lw_all := lw_g (lw_at lw_m10 32 rfl) rfl
theorem q2410 : (Jvm.Cond.code ({ cls := "AlgebraHouseModel", name := "width", desc := "(I)I" } : Jvm.MethodName) prog_14_method_75_code (1 : Nat) (Option.some Jvm.ClassFile.FieldType.int)) ∈ lw_all := lw_g (lw_at lw_m10 33 rfl) rfl
theorem q2411 : (Jvm.Cond.methodLink "AlgebraHouseModel" (671 : Nat) ({ cls := "AlgebraHouseModel", name := "isZero", desc := "(II)Z" } : Jvm.MethodName)) ∈ lw_all := lw_g (lw_at lw_m10 34 rfl) rfl
theorem q2412 : (Jvm.Cond.privateMethod ({ cls := "AlgebraHouseModel", name := "isZero", desc := "(II)Z" } : Jvm.MethodName)) ∈ lw_tbl := lw_at lw_m10 35 rfl
theorem q2413 : (Jvm.Cond.instanceMethod ({ cls := "AlgebraHouseModel", name := "isZero", desc := "(II)Z" } : Jvm.MethodName)) ∈ lw_all := lw_g (lw_at lw_m10 36 rfl) rfl
theorem q2414 : (Jvm.Cond.code ({ cls := "AlgebraHouseModel", name := "isZero", desc := "(II)Z" } : Jvm.MethodName) prog_14_method_74_code (4 : Nat) (Option.some Jvm.ClassFile.FieldType.boolean)) ∈ lw_all := lw_g (lw_at lw_m10 37 rfl) rfl
theorem q2415 : (Jvm.Cond.methodLink "AlgebraHouseModel" (747 : Nat) ({ cls := "AlgebraHouseModel", name := "goLatest", desc := "(IIII)V" } : Jvm.MethodName)) ∈ lw_all := lw_g (lw_at lw_m10 38 rfl) rfl
theorem q2416 : (Jvm.Cond.privateMethod ({ cls := "AlgebraHouseModel", name := "goLatest", desc := "(IIII)V" } : Jvm.MethodName)) ∈ lw_tbl := lw_at lw_m10 39 rfl
theorem q2417 : (Jvm.Cond.instanceMethod ({ cls := "AlgebraHouseModel", name := "goLatest", desc := "(IIII)V" } : Jvm.MethodName)) ∈ lw_all := lw_g (lw_at lw_m10 40 rfl) rfl
theorem q2418 : (Jvm.Cond.code ({ cls := "AlgebraHouseModel", name := "goLatest", desc := "(IIII)V" } : Jvm.MethodName) prog_14_method_95_code (5 : Nat) (Option.none : Option Jvm.ClassFile.FieldType)) ∈ lw_all := lw_g (lw_at lw_m10 41 rfl) rfl
theorem q2419 : (Jvm.Cond.methodLink "AlgebraHouseModel" (724 : Nat) ({ cls := "AlgebraHouseModel", name := "go", desc := "(IIIIIII)V" } : Jvm.MethodName)) ∈ lw_all := lw_g (lw_at lw_m10 42 rfl) rfl
theorem q2420 : (Jvm.Cond.privateMethod ({ cls := "AlgebraHouseModel", name := "go", desc := "(IIIIIII)V" } : Jvm.MethodName)) ∈ lw_tbl := lw_at lw_m10 43 rfl
theorem q2421 : (Jvm.Cond.instanceMethod ({ cls := "AlgebraHouseModel", name := "go", desc := "(IIIIIII)V" } : Jvm.MethodName)) ∈ lw_all := lw_g (lw_at lw_m10 44 rfl) rfl
theorem q2422 : (Jvm.Cond.code ({ cls := "AlgebraHouseModel", name := "go", desc := "(IIIIIII)V" } : Jvm.MethodName) prog_14_method_85_code (9 : Nat) (Option.none : Option Jvm.ClassFile.FieldType)) ∈ lw_all := lw_g (lw_at lw_m10 45 rfl) rfl
theorem q2423 : (Jvm.Cond.methodLink "AlgebraHouseModel" (773 : Nat) ({ cls := "AlgebraHouseModel", name := "goBack", desc := "(IIIIIII)V" } : Jvm.MethodName)) ∈ lw_all := lw_g (lw_at lw_m10 46 rfl) rfl
theorem q2424 : (Jvm.Cond.privateMethod ({ cls := "AlgebraHouseModel", name := "goBack", desc := "(IIIIIII)V" } : Jvm.MethodName)) ∈ lw_tbl := lw_at lw_m10 47 rfl
theorem q2425 : (Jvm.Cond.instanceMethod ({ cls := "AlgebraHouseModel", name := "goBack", desc := "(IIIIIII)V" } : Jvm.MethodName)) ∈ lw_all := lw_g (lw_at lw_m10 48 rfl) rfl
theorem q2426 : (Jvm.Cond.code ({ cls := "AlgebraHouseModel", name := "goBack", desc := "(IIIIIII)V" } : Jvm.MethodName) prog_14_method_108_code (12 : Nat) (Option.none : Option Jvm.ClassFile.FieldType)) ∈ lw_all := lw_g (lw_at lw_m10 49 rfl) rfl
theorem q2427 : (Jvm.Cond.methodLink "AlgebraHouseModel" (744 : Nat) ({ cls := "AlgebraHouseModel", name := "evalTwo", desc := "(III)V" } : Jvm.MethodName)) ∈ lw_all := lw_g (lw_at lw_m10 50 rfl) rfl
theorem q2428 : (Jvm.Cond.privateMethod ({ cls := "AlgebraHouseModel", name := "evalTwo", desc := "(III)V" } : Jvm.MethodName)) ∈ lw_tbl := lw_at lw_m10 51 rfl
theorem q2429 : (Jvm.Cond.instanceMethod ({ cls := "AlgebraHouseModel", name := "evalTwo", desc := "(III)V" } : Jvm.MethodName)) ∈ lw_all := lw_g (lw_at lw_m10 52 rfl) rfl
theorem q2430 : (Jvm.Cond.code ({ cls := "AlgebraHouseModel", name := "evalTwo", desc := "(III)V" } : Jvm.MethodName) prog_14_method_102_code (11 : Nat) (Option.none : Option Jvm.ClassFile.FieldType)) ∈ lw_all := lw_g (lw_at lw_m10 53 rfl) rfl
theorem q2431 : (Jvm.Cond.methodLink "AlgebraHouseModel" (783 : Nat) ({ cls := "AlgebraHouseModel", name := "isAlike", desc := "(II)Z" } : Jvm.MethodName)) ∈ lw_all := lw_g (lw_at lw_m10 54 rfl) rfl
theorem q2432 : (Jvm.Cond.privateMethod ({ cls := "AlgebraHouseModel", name := "isAlike", desc := "(II)Z" } : Jvm.MethodName)) ∈ lw_tbl := lw_at lw_m10 55 rfl
theorem q2433 : (Jvm.Cond.instanceMethod ({ cls := "AlgebraHouseModel", name := "isAlike", desc := "(II)Z" } : Jvm.MethodName)) ∈ lw_all := lw_g (lw_at lw_m10 56 rfl) rfl
theorem q2434 : (Jvm.Cond.code ({ cls := "AlgebraHouseModel", name := "isAlike", desc := "(II)Z" } : Jvm.MethodName) prog_14_method_103_code (4 : Nat) (Option.some Jvm.ClassFile.FieldType.boolean)) ∈ lw_all := lw_g (lw_at lw_m10 57 rfl) rfl
theorem q2435 : (Jvm.Cond.methodLink "AlgebraHouseModel" (786 : Nat) ({ cls := "AlgebraHouseModel", name := "tell", desc := "(IZ)V" } : Jvm.MethodName)) ∈ lw_all := lw_g (lw_at lw_m10 58 rfl) rfl
theorem q2436 : (Jvm.Cond.privateMethod ({ cls := "AlgebraHouseModel", name := "tell", desc := "(IZ)V" } : Jvm.MethodName)) ∈ lw_tbl := lw_at lw_m10 59 rfl
theorem q2437 : (Jvm.Cond.instanceMethod ({ cls := "AlgebraHouseModel", name := "tell", desc := "(IZ)V" } : Jvm.MethodName)) ∈ lw_all := lw_g (lw_at lw_m10 60 rfl) rfl
theorem q2438 : (Jvm.Cond.code ({ cls := "AlgebraHouseModel", name := "tell", desc := "(IZ)V" } : Jvm.MethodName) prog_14_method_104_code (3 : Nat) (Option.none : Option Jvm.ClassFile.FieldType)) ∈ lw_all := lw_g (lw_at lw_m10 61 rfl) rfl
theorem q2439 : (Jvm.Cond.methodLink "AlgebraHouseModel" (751 : Nat) ({ cls := "AlgebraHouseModel", name := "addValues", desc := "(IIIIIIZ)V" } : Jvm.MethodName)) ∈ lw_all := lw_g (lw_at lw_m10 62 rfl) rfl
theorem q2440 : (Jvm.Cond.privateMethod ({ cls := "AlgebraHouseModel", name := "addValues", desc := "(IIIIIIZ)V" } : Jvm.MethodName)) ∈ lw_tbl := lw_at lw_m10 63 rfl
theorem q2441 : (Jvm.Cond.instanceMethod ({ cls := "AlgebraHouseModel", name := "addValues", desc := "(IIIIIIZ)V" } : Jvm.MethodName)) ∈ lw_all := lw_g (lw_at lw_m10 64 rfl) rfl
theorem q2442 : (Jvm.Cond.code ({ cls := "AlgebraHouseModel", name := "addValues", desc := "(IIIIIIZ)V" } : Jvm.MethodName) prog_14_method_82_code (10 : Nat) (Option.none : Option Jvm.ClassFile.FieldType)) ∈ lw_all := lw_g (lw_at lw_m10 65 rfl) rfl
theorem q2443 : (Jvm.Cond.methodLink "AlgebraHouseModel" (681 : Nat) ({ cls := "AlgebraHouseModel", name := "takeBlocks", desc := "(IIIII)V" } : Jvm.MethodName)) ∈ lw_all := lw_g (lw_at lw_m10 66 rfl) rfl
theorem q2444 : (Jvm.Cond.privateMethod ({ cls := "AlgebraHouseModel", name := "takeBlocks", desc := "(IIIII)V" } : Jvm.MethodName)) ∈ lw_tbl := lw_at lw_m10 67 rfl
theorem q2445 : (Jvm.Cond.instanceMethod ({ cls := "AlgebraHouseModel", name := "takeBlocks", desc := "(IIIII)V" } : Jvm.MethodName)) ∈ lw_all := lw_g (lw_at lw_m10 68 rfl) rfl
theorem q2446 : (Jvm.Cond.code ({ cls := "AlgebraHouseModel", name := "takeBlocks", desc := "(IIIII)V" } : Jvm.MethodName) prog_14_method_77_code (7 : Nat) (Option.none : Option Jvm.ClassFile.FieldType)) ∈ lw_all := lw_g (lw_at lw_m10 69 rfl) rfl
theorem q2447 : (Jvm.Cond.methodLink "AlgebraHouseModel" (647 : Nat) ({ cls := "AlgebraHouseModel", name := "takeNumbers", desc := "(III)V" } : Jvm.MethodName)) ∈ lw_all := lw_g (lw_at lw_m10 70 rfl) rfl
theorem q2448 : (Jvm.Cond.privateMethod ({ cls := "AlgebraHouseModel", name := "takeNumbers", desc := "(III)V" } : Jvm.MethodName)) ∈ lw_tbl := lw_at lw_m10 71 rfl
theorem q2449 : (Jvm.Cond.instanceMethod ({ cls := "AlgebraHouseModel", name := "takeNumbers", desc := "(III)V" } : Jvm.MethodName)) ∈ lw_all := lw_g (lw_at lw_m10 72 rfl) rfl
theorem q2450 : (Jvm.Cond.code ({ cls := "AlgebraHouseModel", name := "takeNumbers", desc := "(III)V" } : Jvm.MethodName) prog_14_method_66_code (4 : Nat) (Option.none : Option Jvm.ClassFile.FieldType)) ∈ lw_all := lw_g (lw_at lw_m10 73 rfl) rfl
theorem q2451 : (Jvm.Cond.methodLink "AlgebraHouseModel" (790 : Nat) ({ cls := "AlgebraHouseModel", name := "divideBy", desc := "(IIIII)V" } : Jvm.MethodName)) ∈ lw_all := lw_g (lw_at lw_m10 74 rfl) rfl
theorem q2452 : (Jvm.Cond.privateMethod ({ cls := "AlgebraHouseModel", name := "divideBy", desc := "(IIIII)V" } : Jvm.MethodName)) ∈ lw_tbl := lw_at lw_m10 75 rfl
theorem q2453 : (Jvm.Cond.instanceMethod ({ cls := "AlgebraHouseModel", name := "divideBy", desc := "(IIIII)V" } : Jvm.MethodName)) ∈ lw_all := lw_g (lw_at lw_m10 76 rfl) rfl
theorem q2454 : (Jvm.Cond.code ({ cls := "AlgebraHouseModel", name := "divideBy", desc := "(IIIII)V" } : Jvm.MethodName) prog_14_method_105_code (10 : Nat) (Option.none : Option Jvm.ClassFile.FieldType)) ∈ lw_all := lw_g (lw_at lw_m10 77 rfl) rfl
theorem q2455 : (Jvm.Cond.methodLink "AlgebraHouseModel" (796 : Nat) ({ cls := "AlgebraHouseModel", name := "divideNumbers", desc := "(III)V" } : Jvm.MethodName)) ∈ lw_all := lw_g (lw_at lw_m10 78 rfl) rfl
theorem q2456 : (Jvm.Cond.privateMethod ({ cls := "AlgebraHouseModel", name := "divideNumbers", desc := "(III)V" } : Jvm.MethodName)) ∈ lw_tbl := lw_at lw_m10 79 rfl
theorem q2457 : (Jvm.Cond.instanceMethod ({ cls := "AlgebraHouseModel", name := "divideNumbers", desc := "(III)V" } : Jvm.MethodName)) ∈ lw_all := lw_g (lw_at lw_m10 80 rfl) rfl
theorem q2458 : (Jvm.Cond.code ({ cls := "AlgebraHouseModel", name := "divideNumbers", desc := "(III)V" } : Jvm.MethodName) prog_14_method_69_code (4 : Nat) (Option.none : Option Jvm.ClassFile.FieldType)) ∈ lw_all := lw_g (lw_at lw_m10 81 rfl) rfl
theorem q2459 : (Jvm.Cond.methodLink "AlgebraHouseModel" (630 : Nat) ({ cls := "AlgebraHouseModel", name := "inverse", desc := "(JJ)J" } : Jvm.MethodName)) ∈ lw_all := lw_g (lw_at lw_m10 82 rfl) rfl
theorem q2460 : (Jvm.Cond.static ({ cls := "AlgebraHouseModel", name := "inverse", desc := "(JJ)J" } : Jvm.MethodName)) ∈ lw_all := lw_g (lw_at lw_m10 83 rfl) rfl
theorem q2461 : (Jvm.Cond.code ({ cls := "AlgebraHouseModel", name := "inverse", desc := "(JJ)J" } : Jvm.MethodName) prog_14_method_68_code (10 : Nat) (Option.some Jvm.ClassFile.FieldType.long)) ∈ lw_all := lw_g (lw_at lw_m10 84 rfl) rfl
theorem q2462 : (Jvm.Cond.methodLink "AlgebraHouseModel" (793 : Nat) ({ cls := "AlgebraHouseModel", name := "divide", desc := "(IIII)V" } : Jvm.MethodName)) ∈ lw_all := lw_g (lw_at lw_m10 85 rfl) rfl
theorem q2463 : (Jvm.Cond.privateMethod ({ cls := "AlgebraHouseModel", name := "divide", desc := "(IIII)V" } : Jvm.MethodName)) ∈ lw_tbl := lw_at lw_m10 86 rfl
theorem q2464 : (Jvm.Cond.instanceMethod ({ cls := "AlgebraHouseModel", name := "divide", desc := "(IIII)V" } : Jvm.MethodName)) ∈ lw_all := lw_g (lw_at lw_m10 87 rfl) rfl
theorem q2465 : (Jvm.Cond.code ({ cls := "AlgebraHouseModel", name := "divide", desc := "(IIII)V" } : Jvm.MethodName) prog_14_method_107_code (11 : Nat) (Option.none : Option Jvm.ClassFile.FieldType)) ∈ lw_all := lw_g (lw_at lw_m10 88 rfl) rfl
theorem q2466 : (Jvm.Cond.constant "AlgebraHouseModel" (703 : Nat) (1592000 : Int32)) ∈ lw_all := lw_g (lw_at lw_m10 89 rfl) rfl
theorem q2467 : (Jvm.Cond.methodLink "AlgebraHouseModel" (799 : Nat) ({ cls := "AlgebraHouseModel", name := "degreeOf", desc := "(I)I" } : Jvm.MethodName)) ∈ lw_all := lw_g (lw_at lw_m10 90 rfl) rfl
theorem q2468 : (Jvm.Cond.privateMethod ({ cls := "AlgebraHouseModel", name := "degreeOf", desc := "(I)I" } : Jvm.MethodName)) ∈ lw_tbl := lw_at lw_m10 91 rfl
theorem q2469 : (Jvm.Cond.instanceMethod ({ cls := "AlgebraHouseModel", name := "degreeOf", desc := "(I)I" } : Jvm.MethodName)) ∈ lw_all := lw_g (lw_at lw_m10 92 rfl) rfl
theorem q2470 : (Jvm.Cond.code ({ cls := "AlgebraHouseModel", name := "degreeOf", desc := "(I)I" } : Jvm.MethodName) prog_14_method_106_code (3 : Nat) (Option.some Jvm.ClassFile.FieldType.int)) ∈ lw_all := lw_g (lw_at lw_m10 93 rfl) rfl
theorem q2471 : (Jvm.Cond.methodLink "AlgebraHouseModel" (755 : Nat) ({ cls := "AlgebraHouseModel", name := "evalEntry", desc := "(IIII)V" } : Jvm.MethodName)) ∈ lw_all := lw_g (lw_at lw_m10 94 rfl) rfl
theorem q2472 : (Jvm.Cond.privateMethod ({ cls := "AlgebraHouseModel", name := "evalEntry", desc := "(IIII)V" } : Jvm.MethodName)) ∈ lw_tbl := lw_at lw_m10 95 rfl
theorem q2473 : (Jvm.Cond.instanceMethod ({ cls := "AlgebraHouseModel", name := "evalEntry", desc := "(IIII)V" } : Jvm.MethodName)) ∈ lw_all := lw_g (lw_at lw_m10 96 rfl) rfl
theorem q2474 : (Jvm.Cond.code ({ cls := "AlgebraHouseModel", name := "evalEntry", desc := "(IIII)V" } : Jvm.MethodName) prog_14_method_110_code (7 : Nat) (Option.none : Option Jvm.ClassFile.FieldType)) ∈ lw_all := lw_g (lw_at lw_m10 97 rfl) rfl
theorem q2475 : (Jvm.Cond.methodLink "AlgebraHouseModel" (761 : Nat) ({ cls := "AlgebraHouseModel", name := "leaveCall", desc := "(I)V" } : Jvm.MethodName)) ∈ lw_all := lw_g (lw_at lw_m10 98 rfl) rfl
theorem q2476 : (Jvm.Cond.privateMethod ({ cls := "AlgebraHouseModel", name := "leaveCall", desc := "(I)V" } : Jvm.MethodName)) ∈ lw_tbl := lw_at lw_m10 99 rfl
theorem q2477 : (Jvm.Cond.instanceMethod ({ cls := "AlgebraHouseModel", name := "leaveCall", desc := "(I)V" } : Jvm.MethodName)) ∈ lw_all := lw_g (lw_at lw_m10 100 rfl) rfl
theorem q2478 : (Jvm.Cond.code ({ cls := "AlgebraHouseModel", name := "leaveCall", desc := "(I)V" } : Jvm.MethodName) prog_14_method_112_code (4 : Nat) (Option.none : Option Jvm.ClassFile.FieldType)) ∈ lw_all := lw_g (lw_at lw_m10 101 rfl) rfl
theorem q2479 : (Jvm.Cond.methodLink "AlgebraHouseModel" (764 : Nat) ({ cls := "AlgebraHouseModel", name := "evalFirst", desc := "(I)V" } : Jvm.MethodName)) ∈ lw_all := lw_g (lw_at lw_m10 102 rfl) rfl
theorem q2480 : (Jvm.Cond.privateMethod ({ cls := "AlgebraHouseModel", name := "evalFirst", desc := "(I)V" } : Jvm.MethodName)) ∈ lw_tbl := lw_at lw_m10 103 rfl
theorem q2481 : (Jvm.Cond.instanceMethod ({ cls := "AlgebraHouseModel", name := "evalFirst", desc := "(I)V" } : Jvm.MethodName)) ∈ lw_all := lw_g (lw_at lw_m10 104 rfl) rfl
theorem q2482 : (Jvm.Cond.code ({ cls := "AlgebraHouseModel", name := "evalFirst", desc := "(I)V" } : Jvm.MethodName) prog_14_method_114_code (4 : Nat) (Option.none : Option Jvm.ClassFile.FieldType)) ∈ lw_all := lw_g (lw_at lw_m10 105 rfl) rfl
theorem q2483 : (Jvm.Cond.methodLink "AlgebraHouseModel" (823 : Nat) ({ cls := "AlgebraHouseModel", name := "built", desc := "(IIIII)V" } : Jvm.MethodName)) ∈ lw_all := lw_g (lw_at lw_m10 106 rfl) rfl
theorem q2484 : (Jvm.Cond.privateMethod ({ cls := "AlgebraHouseModel", name := "built", desc := "(IIIII)V" } : Jvm.MethodName)) ∈ lw_tbl := lw_at lw_m10 107 rfl
theorem q2485 : (Jvm.Cond.instanceMethod ({ cls := "AlgebraHouseModel", name := "built", desc := "(IIIII)V" } : Jvm.MethodName)) ∈ lw_all := lw_g (lw_at lw_m10 108 rfl) rfl
theorem q2486 : (Jvm.Cond.code ({ cls := "AlgebraHouseModel", name := "built", desc := "(IIIII)V" } : Jvm.MethodName) prog_14_method_116_code (11 : Nat) (Option.none : Option Jvm.ClassFile.FieldType)) ∈ lw_all := lw_g (lw_at lw_m10 109 rfl) rfl
theorem q2487 : (Jvm.Cond.methodLink "AlgebraHouseModel" (826 : Nat) ({ cls := "AlgebraHouseModel", name := "greatest", desc := "(IIII)V" } : Jvm.MethodName)) ∈ lw_all := lw_g (lw_at lw_m10 110 rfl) rfl
theorem q2488 : (Jvm.Cond.privateMethod ({ cls := "AlgebraHouseModel", name := "greatest", desc := "(IIII)V" } : Jvm.MethodName)) ∈ lw_tbl := lw_at lw_m10 111 rfl
theorem q2489 : (Jvm.Cond.instanceMethod ({ cls := "AlgebraHouseModel", name := "greatest", desc := "(IIII)V" } : Jvm.MethodName)) ∈ lw_all := lw_g (lw_at lw_m10 112 rfl) rfl
theorem q2490 : (Jvm.Cond.code ({ cls := "AlgebraHouseModel", name := "greatest", desc := "(IIII)V" } : Jvm.MethodName) prog_14_method_119_code (7 : Nat) (Option.none : Option Jvm.ClassFile.FieldType)) ∈ lw_all := lw_g (lw_at lw_m10 113 rfl) rfl
theorem q2491 : (Jvm.Cond.methodLink "AlgebraHouseModel" (832 : Nat) ({ cls := "AlgebraHouseModel", name := "tellNumber", desc := "(IJ)V" } : Jvm.MethodName)) ∈ lw_all := lw_g (lw_at lw_m10 114 rfl) rfl
theorem q2492 : (Jvm.Cond.privateMethod ({ cls := "AlgebraHouseModel", name := "tellNumber", desc := "(IJ)V" } : Jvm.MethodName)) ∈ lw_tbl := lw_at lw_m10 115 rfl
theorem q2493 : (Jvm.Cond.instanceMethod ({ cls := "AlgebraHouseModel", name := "tellNumber", desc := "(IJ)V" } : Jvm.MethodName)) ∈ lw_all := lw_g (lw_at lw_m10 116 rfl) rfl
theorem q2494 : (Jvm.Cond.code ({ cls := "AlgebraHouseModel", name := "tellNumber", desc := "(IJ)V" } : Jvm.MethodName) prog_14_method_117_code (4 : Nat) (Option.none : Option Jvm.ClassFile.FieldType)) ∈ lw_all := lw_g (lw_at lw_m10 117 rfl) rfl
theorem q2495 : (Jvm.Cond.constant "AlgebraHouseModel" (861 : Nat) (1594004 : Int32)) ∈ lw_all := lw_g (lw_at lw_m10 118 rfl) rfl
theorem q2496 : (Jvm.Cond.methodLink "AlgebraHouseModel" (829 : Nat) ({ cls := "AlgebraHouseModel", name := "outerDegree", desc := "(I)I" } : Jvm.MethodName)) ∈ lw_all := lw_g (lw_at lw_m10 119 rfl) rfl
theorem q2497 : (Jvm.Cond.privateMethod ({ cls := "AlgebraHouseModel", name := "outerDegree", desc := "(I)I" } : Jvm.MethodName)) ∈ lw_tbl := lw_at lw_m10 120 rfl
theorem q2498 : (Jvm.Cond.instanceMethod ({ cls := "AlgebraHouseModel", name := "outerDegree", desc := "(I)I" } : Jvm.MethodName)) ∈ lw_all := lw_g (lw_at lw_m10 121 rfl) rfl
theorem q2499 : (Jvm.Cond.code ({ cls := "AlgebraHouseModel", name := "outerDegree", desc := "(I)I" } : Jvm.MethodName) prog_14_method_118_code (3 : Nat) (Option.some Jvm.ClassFile.FieldType.int)) ∈ lw_all := lw_g (lw_at lw_m10 122 rfl) rfl
theorem q2500 : (Jvm.Cond.methodLink "AlgebraHouseModel" (835 : Nat) ({ cls := "AlgebraHouseModel", name := "coefficient", desc := "(IJI)V" } : Jvm.MethodName)) ∈ lw_all := lw_g (lw_at lw_m10 123 rfl) rfl
theorem q2501 : (Jvm.Cond.privateMethod ({ cls := "AlgebraHouseModel", name := "coefficient", desc := "(IJI)V" } : Jvm.MethodName)) ∈ lw_tbl := lw_at lw_m10 124 rfl
theorem q2502 : (Jvm.Cond.instanceMethod ({ cls := "AlgebraHouseModel", name := "coefficient", desc := "(IJI)V" } : Jvm.MethodName)) ∈ lw_all := lw_g (lw_at lw_m10 125 rfl) rfl
theorem q2503 : (Jvm.Cond.code ({ cls := "AlgebraHouseModel", name := "coefficient", desc := "(IJI)V" } : Jvm.MethodName) prog_14_method_120_code (5 : Nat) (Option.none : Option Jvm.ClassFile.FieldType)) ∈ lw_all := lw_g (lw_at lw_m10 126 rfl) rfl
theorem q2504 : (Jvm.Cond.methodLink "AlgebraHouseModel" (839 : Nat) ({ cls := "AlgebraHouseModel", name := "evalAt", desc := "(IIII)V" } : Jvm.MethodName)) ∈ lw_all := lw_g (lw_at lw_m10 127 rfl) rfl
theorem q2505 : (Jvm.Cond.privateMethod ({ cls := "AlgebraHouseModel", name := "evalAt", desc := "(IIII)V" } : Jvm.MethodName)) ∈ lw_tbl := lw_at lw_m10 128 rfl
theorem q2506 : (Jvm.Cond.instanceMethod ({ cls := "AlgebraHouseModel", name := "evalAt", desc := "(IIII)V" } : Jvm.MethodName)) ∈ lw_all := lw_g (lw_at lw_m10 129 rfl) rfl
theorem q2507 : (Jvm.Cond.code ({ cls := "AlgebraHouseModel", name := "evalAt", desc := "(IIII)V" } : Jvm.MethodName) prog_14_method_121_code (6 : Nat) (Option.none : Option Jvm.ClassFile.FieldType)) ∈ lw_all := lw_g (lw_at lw_m10 130 rfl) rfl
theorem q2508 : (Jvm.Cond.constant "AlgebraHouseModel" (862 : Nat) (1595000 : Int32)) ∈ lw_all := lw_g (lw_at lw_m10 131 rfl) rfl
theorem q2509 : (Jvm.Cond.methodLink "AlgebraHouseModel" (842 : Nat) ({ cls := "AlgebraHouseModel", name := "derive", desc := "(III)V" } : Jvm.MethodName)) ∈ lw_all := lw_g (lw_at lw_m10 132 rfl) rfl
theorem q2510 : (Jvm.Cond.privateMethod ({ cls := "AlgebraHouseModel", name := "derive", desc := "(III)V" } : Jvm.MethodName)) ∈ lw_tbl := lw_at lw_m10 133 rfl
theorem q2511 : (Jvm.Cond.instanceMethod ({ cls := "AlgebraHouseModel", name := "derive", desc := "(III)V" } : Jvm.MethodName)) ∈ lw_all := lw_g (lw_at lw_m10 134 rfl) rfl
theorem q2512 : (Jvm.Cond.code ({ cls := "AlgebraHouseModel", name := "derive", desc := "(III)V" } : Jvm.MethodName) prog_14_method_122_code (6 : Nat) (Option.none : Option Jvm.ClassFile.FieldType)) ∈ lw_all := lw_g (lw_at lw_m10 135 rfl) rfl
theorem q2513 : (Jvm.Cond.methodLink "AlgebraHouseModel" (845 : Nat) ({ cls := "AlgebraHouseModel", name := "det", desc := "(IIIII)V" } : Jvm.MethodName)) ∈ lw_all := lw_g (lw_at lw_m10 136 rfl) rfl
theorem q2514 : (Jvm.Cond.privateMethod ({ cls := "AlgebraHouseModel", name := "det", desc := "(IIIII)V" } : Jvm.MethodName)) ∈ lw_tbl := lw_at lw_m10 137 rfl
theorem q2515 : (Jvm.Cond.instanceMethod ({ cls := "AlgebraHouseModel", name := "det", desc := "(IIIII)V" } : Jvm.MethodName)) ∈ lw_all := lw_g (lw_at lw_m10 138 rfl) rfl
theorem q2516 : (Jvm.Cond.code ({ cls := "AlgebraHouseModel", name := "det", desc := "(IIIII)V" } : Jvm.MethodName) prog_14_method_88_code (9 : Nat) (Option.none : Option Jvm.ClassFile.FieldType)) ∈ lw_all := lw_g (lw_at lw_m10 139 rfl) rfl
theorem q2517 : (Jvm.Cond.constant "AlgebraHouseModel" (697 : Nat) (1590600 : Int32)) ∈ lw_all := lw_g (lw_at lw_m10 140 rfl) rfl
theorem q2518 : (Jvm.Cond.methodLink "AlgebraHouseModel" (698 : Nat) ({ cls := "AlgebraHouseModel", name := "smallDet", desc := "(IIIIIII)V" } : Jvm.MethodName)) ∈ lw_all := lw_g (lw_at lw_m10 141 rfl) rfl
theorem q2519 : (Jvm.Cond.privateMethod ({ cls := "AlgebraHouseModel", name := "smallDet", desc := "(IIIIIII)V" } : Jvm.MethodName)) ∈ lw_tbl := lw_at lw_m10 142 rfl
theorem q2520 : (Jvm.Cond.instanceMethod ({ cls := "AlgebraHouseModel", name := "smallDet", desc := "(IIIIIII)V" } : Jvm.MethodName)) ∈ lw_all := lw_g (lw_at lw_m10 143 rfl) rfl
theorem q2521 : (Jvm.Cond.code ({ cls := "AlgebraHouseModel", name := "smallDet", desc := "(IIIIIII)V" } : Jvm.MethodName) prog_14_method_87_code (8 : Nat) (Option.none : Option Jvm.ClassFile.FieldType)) ∈ lw_all := lw_g (lw_at lw_m10 144 rfl) rfl
theorem q2522 : (Jvm.Cond.constant "AlgebraHouseModel" (692 : Nat) (1590400 : Int32)) ∈ lw_all := lw_g (lw_at lw_m10 145 rfl) rfl
theorem q2523 : (Jvm.Cond.methodLink "AlgebraHouseModel" (693 : Nat) ({ cls := "AlgebraHouseModel", name := "lessOrMore", desc := "(IIIIZ)V" } : Jvm.MethodName)) ∈ lw_all := lw_g (lw_at lw_m10 146 rfl) rfl
theorem q2524 : (Jvm.Cond.privateMethod ({ cls := "AlgebraHouseModel", name := "lessOrMore", desc := "(IIIIZ)V" } : Jvm.MethodName)) ∈ lw_tbl := lw_at lw_m10 147 rfl
theorem q2525 : (Jvm.Cond.instanceMethod ({ cls := "AlgebraHouseModel", name := "lessOrMore", desc := "(IIIIZ)V" } : Jvm.MethodName)) ∈ lw_all := lw_g (lw_at lw_m10 148 rfl) rfl
theorem q2526 : (Jvm.Cond.code ({ cls := "AlgebraHouseModel", name := "lessOrMore", desc := "(IIIIZ)V" } : Jvm.MethodName) prog_14_method_86_code (6 : Nat) (Option.none : Option Jvm.ClassFile.FieldType)) ∈ lw_all := lw_g (lw_at lw_m10 149 rfl) rfl
theorem q2527 : (Jvm.Cond.constant "AlgebraHouseModel" (702 : Nat) (1590500 : Int32)) ∈ lw_all := lw_g (lw_at lw_m10 150 rfl) rfl
theorem q2528 : (Jvm.Cond.methodLink "AlgebraHouseModel" (848 : Nat) ({ cls := "AlgebraHouseModel", name := "adjoin", desc := "(IIIII)V" } : Jvm.MethodName)) ∈ lw_all := lw_g (lw_at lw_m10 151 rfl) rfl
theorem q2529 : (Jvm.Cond.privateMethod ({ cls := "AlgebraHouseModel", name := "adjoin", desc := "(IIIII)V" } : Jvm.MethodName)) ∈ lw_tbl := lw_at lw_m10 152 rfl
theorem q2530 : (Jvm.Cond.instanceMethod ({ cls := "AlgebraHouseModel", name := "adjoin", desc := "(IIIII)V" } : Jvm.MethodName)) ∈ lw_all := lw_g (lw_at lw_m10 153 rfl) rfl
theorem q2531 : (Jvm.Cond.code ({ cls := "AlgebraHouseModel", name := "adjoin", desc := "(IIIII)V" } : Jvm.MethodName) prog_14_method_89_code (13 : Nat) (Option.none : Option Jvm.ClassFile.FieldType)) ∈ lw_all := lw_g (lw_at lw_m10 154 rfl) rfl
theorem q2532 : (Jvm.Cond.methodLink "AlgebraHouseModel" (851 : Nat) ({ cls := "AlgebraHouseModel", name := "invert", desc := "(III)V" } : Jvm.MethodName)) ∈ lw_all := lw_g (lw_at lw_m10 155 rfl) rfl
theorem q2533 : (Jvm.Cond.privateMethod ({ cls := "AlgebraHouseModel", name := "invert", desc := "(III)V" } : Jvm.MethodName)) ∈ lw_tbl := lw_at lw_m10 156 rfl
theorem q2534 : (Jvm.Cond.instanceMethod ({ cls := "AlgebraHouseModel", name := "invert", desc := "(III)V" } : Jvm.MethodName)) ∈ lw_all := lw_g (lw_at lw_m10 157 rfl) rfl
theorem q2535 : (Jvm.Cond.code ({ cls := "AlgebraHouseModel", name := "invert", desc := "(III)V" } : Jvm.MethodName) prog_14_method_123_code (4 : Nat) (Option.none : Option Jvm.ClassFile.FieldType)) ∈ lw_all := lw_g (lw_at lw_m10 158 rfl) rfl
theorem q2536 : (Jvm.Cond.methodLink "AlgebraHouseModel" (854 : Nat) ({ cls := "AlgebraHouseModel", name := "characterize", desc := "(III)V" } : Jvm.MethodName)) ∈ lw_all := lw_g (lw_at lw_m10 159 rfl) rfl
theorem q2537 : (Jvm.Cond.privateMethod ({ cls := "AlgebraHouseModel", name := "characterize", desc := "(III)V" } : Jvm.MethodName)) ∈ lw_tbl := lw_at lw_m10 160 rfl
theorem q2538 : (Jvm.Cond.instanceMethod ({ cls := "AlgebraHouseModel", name := "characterize", desc := "(III)V" } : Jvm.MethodName)) ∈ lw_all := lw_g (lw_at lw_m10 161 rfl) rfl
theorem q2539 : (Jvm.Cond.code ({ cls := "AlgebraHouseModel", name := "characterize", desc := "(III)V" } : Jvm.MethodName) prog_14_method_124_code (7 : Nat) (Option.none : Option Jvm.ClassFile.FieldType)) ∈ lw_all := lw_g (lw_at lw_m10 162 rfl) rfl
theorem q2540 : (Jvm.Cond.methodLink "AlgebraHouseModel" (857 : Nat) ({ cls := "AlgebraHouseModel", name := "rootsOf", desc := "(IJ)I" } : Jvm.MethodName)) ∈ lw_all := lw_g (lw_at lw_m10 163 rfl) rfl
theorem q2541 : (Jvm.Cond.privateMethod ({ cls := "AlgebraHouseModel", name := "rootsOf", desc := "(IJ)I" } : Jvm.MethodName)) ∈ lw_tbl := lw_at lw_m10 164 rfl
theorem q2542 : (Jvm.Cond.instanceMethod ({ cls := "AlgebraHouseModel", name := "rootsOf", desc := "(IJ)I" } : Jvm.MethodName)) ∈ lw_all := lw_g (lw_at lw_m10 165 rfl) rfl
theorem q2543 : (Jvm.Cond.code ({ cls := "AlgebraHouseModel", name := "rootsOf", desc := "(IJ)I" } : Jvm.MethodName) prog_14_method_126_code (8 : Nat) (Option.some Jvm.ClassFile.FieldType.int)) ∈ lw_all := lw_g (lw_at lw_m10 166 rfl) rfl
theorem q2544 : (Jvm.Cond.methodLink "AlgebraHouseModel" (863 : Nat) ({ cls := "AlgebraHouseModel", name := "rootInverse", desc := "(JJ)J" } : Jvm.MethodName)) ∈ lw_all := lw_g (lw_at lw_m10 167 rfl) rfl
theorem q2545 : (Jvm.Cond.static ({ cls := "AlgebraHouseModel", name := "rootInverse", desc := "(JJ)J" } : Jvm.MethodName)) ∈ lw_all := lw_g (lw_at lw_m10 168 rfl) rfl
theorem q2546 : (Jvm.Cond.code ({ cls := "AlgebraHouseModel", name := "rootInverse", desc := "(JJ)J" } : Jvm.MethodName) prog_14_method_125_code (7 : Nat) (Option.some Jvm.ClassFile.FieldType.long)) ∈ lw_all := lw_g (lw_at lw_m10 169 rfl) rfl
theorem q2547 : (Jvm.Cond.methodLink "AlgebraHouseModel" (866 : Nat) ({ cls := "AlgebraHouseModel", name := "rootOne", desc := "()V" } : Jvm.MethodName)) ∈ lw_all := lw_g (lw_at lw_m10 170 rfl) rfl
theorem q2548 : (Jvm.Cond.privateMethod ({ cls := "AlgebraHouseModel", name := "rootOne", desc := "()V" } : Jvm.MethodName)) ∈ lw_tbl := lw_at lw_m10 171 rfl
theorem q2549 : (Jvm.Cond.instanceMethod ({ cls := "AlgebraHouseModel", name := "rootOne", desc := "()V" } : Jvm.MethodName)) ∈ lw_all := lw_g (lw_at lw_m10 172 rfl) rfl
theorem q2550 : (Jvm.Cond.code ({ cls := "AlgebraHouseModel", name := "rootOne", desc := "()V" } : Jvm.MethodName) prog_14_method_127_code (2 : Nat) (Option.none : Option Jvm.ClassFile.FieldType)) ∈ lw_all := lw_g (lw_at lw_m10 173 rfl) rfl
theorem q2551 : (Jvm.Cond.methodLink "AlgebraHouseModel" (869 : Nat) ({ cls := "AlgebraHouseModel", name := "rootSquare", desc := "(IJ)V" } : Jvm.MethodName)) ∈ lw_all := lw_g (lw_at lw_m10 174 rfl) rfl
theorem q2552 : (Jvm.Cond.privateMethod ({ cls := "AlgebraHouseModel", name := "rootSquare", desc := "(IJ)V" } : Jvm.MethodName)) ∈ lw_tbl := lw_at lw_m10 175 rfl
theorem q2553 : (Jvm.Cond.instanceMethod ({ cls := "AlgebraHouseModel", name := "rootSquare", desc := "(IJ)V" } : Jvm.MethodName)) ∈ lw_all := lw_g (lw_at lw_m10 176 rfl) rfl
theorem q2554 : (Jvm.Cond.code ({ cls := "AlgebraHouseModel", name := "rootSquare", desc := "(IJ)V" } : Jvm.MethodName) prog_14_method_129_code (8 : Nat) (Option.none : Option Jvm.ClassFile.FieldType)) ∈ lw_all := lw_g (lw_at lw_m10 177 rfl) rfl
theorem q2555 : (Jvm.Cond.methodLink "AlgebraHouseModel" (872 : Nat) ({ cls := "AlgebraHouseModel", name := "rootUp", desc := "(IJ)V" } : Jvm.MethodName)) ∈ lw_all := lw_g (lw_at lw_m10 178 rfl) rfl
theorem q2556 : (Jvm.Cond.privateMethod ({ cls := "AlgebraHouseModel", name := "rootUp", desc := "(IJ)V" } : Jvm.MethodName)) ∈ lw_tbl := lw_at lw_m10 179 rfl
theorem q2557 : (Jvm.Cond.instanceMethod ({ cls := "AlgebraHouseModel", name := "rootUp", desc := "(IJ)V" } : Jvm.MethodName)) ∈ lw_all := lw_g (lw_at lw_m10 180 rfl) rfl
theorem q2558 : (Jvm.Cond.code ({ cls := "AlgebraHouseModel", name := "rootUp", desc := "(IJ)V" } : Jvm.MethodName) prog_14_method_128_code (7 : Nat) (Option.none : Option Jvm.ClassFile.FieldType)) ∈ lw_all := lw_g (lw_at lw_m10 181 rfl) rfl
theorem q2559 : (Jvm.Cond.methodLink "AlgebraHouseModel" (875 : Nat) ({ cls := "AlgebraHouseModel", name := "rootCommon", desc := "(IJ)I" } : Jvm.MethodName)) ∈ lw_all := lw_g (lw_at lw_m10 182 rfl) rfl
theorem q2560 : (Jvm.Cond.privateMethod ({ cls := "AlgebraHouseModel", name := "rootCommon", desc := "(IJ)I" } : Jvm.MethodName)) ∈ lw_tbl := lw_at lw_m10 183 rfl
theorem q2561 : (Jvm.Cond.instanceMethod ({ cls := "AlgebraHouseModel", name := "rootCommon", desc := "(IJ)I" } : Jvm.MethodName)) ∈ lw_all := lw_g (lw_at lw_m10 184 rfl) rfl
theorem q2562 : (Jvm.Cond.code ({ cls := "AlgebraHouseModel", name := "rootCommon", desc := "(IJ)I" } : Jvm.MethodName) prog_14_method_130_code (14 : Nat) (Option.some Jvm.ClassFile.FieldType.int)) ∈ lw_all := lw_g (lw_at lw_m10 185 rfl) rfl
theorem q2563 : (Jvm.Cond.methodLink "AlgebraHouseModel" (767 : Nat) ({ cls := "AlgebraHouseModel", name := "evalSecond", desc := "(I)V" } : Jvm.MethodName)) ∈ lw_all := lw_g (lw_at lw_m10 186 rfl) rfl
theorem q2564 : (Jvm.Cond.privateMethod ({ cls := "AlgebraHouseModel", name := "evalSecond", desc := "(I)V" } : Jvm.MethodName)) ∈ lw_tbl := lw_at lw_m10 187 rfl
theorem q2565 : (Jvm.Cond.instanceMethod ({ cls := "AlgebraHouseModel", name := "evalSecond", desc := "(I)V" } : Jvm.MethodName)) ∈ lw_all := lw_g (lw_at lw_m10 188 rfl) rfl
theorem q2566 : (Jvm.Cond.code ({ cls := "AlgebraHouseModel", name := "evalSecond", desc := "(I)V" } : Jvm.MethodName) prog_14_method_115_code (4 : Nat) (Option.none : Option Jvm.ClassFile.FieldType)) ∈ lw_all := lw_g (lw_at lw_m10 189 rfl) rfl
theorem q2567 : (Jvm.Cond.methodLink "AlgebraHouseModel" (922 : Nat) ({ cls := "AlgebraHouseModel", name := "keep", desc := "(IZI)V" } : Jvm.MethodName)) ∈ lw_all := lw_g (lw_at lw_m10 190 rfl) rfl
theorem q2568 : (Jvm.Cond.privateMethod ({ cls := "AlgebraHouseModel", name := "keep", desc := "(IZI)V" } : Jvm.MethodName)) ∈ lw_tbl := lw_at lw_m10 191 rfl
theorem q2569 : (Jvm.Cond.instanceMethod ({ cls := "AlgebraHouseModel", name := "keep", desc := "(IZI)V" } : Jvm.MethodName)) ∈ lw_all := lw_g (lw_at lw_m10 192 rfl) rfl
theorem q2570 : (Jvm.Cond.code ({ cls := "AlgebraHouseModel", name := "keep", desc := "(IZI)V" } : Jvm.MethodName) prog_14_method_138_code (6 : Nat) (Option.none : Option Jvm.ClassFile.FieldType)) ∈ lw_all := lw_g (lw_at lw_m10 193 rfl) rfl
theorem q2572 : (Jvm.Cond.instanceMethod ({ cls := "AlgebraHouseModel", name := "told", desc := "(I)I" } : Jvm.MethodName)) ∈ lw_all := lw_g (lw_at lw_m10 195 rfl) rfl
theorem q2573 : (Jvm.Cond.selects "AlgebraHouseModel" ({ cls := "AlgebraHouseModel", name := "told", desc := "(I)I" } : Jvm.MethodName) ({ cls := "AlgebraHouseModel", name := "told", desc := "(I)I" } : Jvm.MethodName)) ∈ lw_all := lw_g (lw_at lw_m10 196 rfl) rfl
theorem q2574 : (Jvm.Cond.code ({ cls := "AlgebraHouseModel", name := "told", desc := "(I)I" } : Jvm.MethodName) prog_14_method_139_code (2 : Nat) (Option.some Jvm.ClassFile.FieldType.int)) ∈ lw_all := lw_g (lw_at lw_m10 197 rfl) rfl
theorem q2576 : (Jvm.Cond.instanceMethod ({ cls := "AlgebraHouseModel", name := "count", desc := "(I)I" } : Jvm.MethodName)) ∈ lw_all := lw_g (lw_at lw_m10 199 rfl) rfl
theorem q2577 : (Jvm.Cond.selects "AlgebraHouseModel" ({ cls := "AlgebraHouseModel", name := "count", desc := "(I)I" } : Jvm.MethodName) ({ cls := "AlgebraHouseModel", name := "count", desc := "(I)I" } : Jvm.MethodName)) ∈ lw_all := lw_g (lw_at lw_m10 200 rfl) rfl
theorem q2578 : (Jvm.Cond.code ({ cls := "AlgebraHouseModel", name := "count", desc := "(I)I" } : Jvm.MethodName) prog_14_method_140_code (2 : Nat) (Option.some Jvm.ClassFile.FieldType.int)) ∈ lw_all := lw_g (lw_at lw_m10 201 rfl) rfl
theorem q2580 : (Jvm.Cond.instanceMethod ({ cls := "AlgebraHouseModel", name := "ring", desc := "(II)I" } : Jvm.MethodName)) ∈ lw_all := lw_g (lw_at lw_m10 203 rfl) rfl
theorem q2581 : (Jvm.Cond.selects "AlgebraHouseModel" ({ cls := "AlgebraHouseModel", name := "ring", desc := "(II)I" } : Jvm.MethodName) ({ cls := "AlgebraHouseModel", name := "ring", desc := "(II)I" } : Jvm.MethodName)) ∈ lw_all := lw_g (lw_at lw_m10 204 rfl) rfl
theorem q2582 : (Jvm.Cond.code ({ cls := "AlgebraHouseModel", name := "ring", desc := "(II)I" } : Jvm.MethodName) prog_14_method_142_code (4 : Nat) (Option.some Jvm.ClassFile.FieldType.int)) ∈ lw_all := lw_g (lw_at lw_m10 205 rfl) rfl
theorem q2583 : (Jvm.Cond.methodLink "AlgebraHouseModel" (928 : Nat) ({ cls := "AlgebraHouseModel", name := "isThere", desc := "(I)Z" } : Jvm.MethodName)) ∈ lw_all := lw_g (lw_at lw_m10 206 rfl) rfl
theorem q2584 : (Jvm.Cond.privateMethod ({ cls := "AlgebraHouseModel", name := "isThere", desc := "(I)Z" } : Jvm.MethodName)) ∈ lw_tbl := lw_at lw_m10 207 rfl
theorem q2585 : (Jvm.Cond.instanceMethod ({ cls := "AlgebraHouseModel", name := "isThere", desc := "(I)Z" } : Jvm.MethodName)) ∈ lw_all := lw_g (lw_at lw_m10 208 rfl) rfl
theorem q2586 : (Jvm.Cond.code ({ cls := "AlgebraHouseModel", name := "isThere", desc := "(I)Z" } : Jvm.MethodName) prog_14_method_141_code (2 : Nat) (Option.some Jvm.ClassFile.FieldType.boolean)) ∈ lw_all := lw_g (lw_at lw_m10 209 rfl) rfl
theorem q2587 : (Jvm.Cond.constantLong "AlgebraHouseModel" (926 : Nat) (-1 : Int64)) ∈ lw_all := lw_g (lw_at lw_m10 210 rfl) rfl
theorem q2589 : (Jvm.Cond.instanceMethod ({ cls := "AlgebraHouseModel", name := "entry", desc := "(IIIIII)I" } : Jvm.MethodName)) ∈ lw_all := lw_g (lw_at lw_m10 212 rfl) rfl
theorem q2590 : (Jvm.Cond.selects "AlgebraHouseModel" ({ cls := "AlgebraHouseModel", name := "entry", desc := "(IIIIII)I" } : Jvm.MethodName) ({ cls := "AlgebraHouseModel", name := "entry", desc := "(IIIIII)I" } : Jvm.MethodName)) ∈ lw_all := lw_g (lw_at lw_m10 213 rfl) rfl
theorem q2591 : (Jvm.Cond.code ({ cls := "AlgebraHouseModel", name := "entry", desc := "(IIIIII)I" } : Jvm.MethodName) prog_14_method_143_code (10 : Nat) (Option.some Jvm.ClassFile.FieldType.int)) ∈ lw_all := lw_g (lw_at lw_m10 214 rfl) rfl
theorem q2592 : (Jvm.Cond.methodLink "AlgebraHouseModel" (931 : Nat) ({ cls := "AlgebraHouseModel", name := "ring", desc := "(II)I" } : Jvm.MethodName)) ∈ lw_all := lw_g (lw_at lw_m10 215 rfl) rfl
theorem q2594 : (Jvm.Cond.instanceMethod ({ cls := "AlgebraHouseModel", name := "function", desc := "(II)I" } : Jvm.MethodName)) ∈ lw_all := lw_g (lw_at lw_m10 217 rfl) rfl
theorem q2595 : (Jvm.Cond.selects "AlgebraHouseModel" ({ cls := "AlgebraHouseModel", name := "function", desc := "(II)I" } : Jvm.MethodName) ({ cls := "AlgebraHouseModel", name := "function", desc := "(II)I" } : Jvm.MethodName)) ∈ lw_all := lw_g (lw_at lw_m10 218 rfl) rfl
theorem q2596 : (Jvm.Cond.code ({ cls := "AlgebraHouseModel", name := "function", desc := "(II)I" } : Jvm.MethodName) prog_14_method_144_code (7 : Nat) (Option.some Jvm.ClassFile.FieldType.int)) ∈ lw_all := lw_g (lw_at lw_m10 219 rfl) rfl
theorem q2598 : (Jvm.Cond.instanceMethod ({ cls := "AlgebraHouseModel", name := "meant", desc := "(JIIII)I" } : Jvm.MethodName)) ∈ lw_all := lw_g (lw_at lw_m10 221 rfl) rfl
theorem q2599 : (Jvm.Cond.selects "AlgebraHouseModel" ({ cls := "AlgebraHouseModel", name := "meant", desc := "(JIIII)I" } : Jvm.MethodName) ({ cls := "AlgebraHouseModel", name := "meant", desc := "(JIIII)I" } : Jvm.MethodName)) ∈ lw_all := lw_g (lw_at lw_m10 222 rfl) rfl
theorem q2600 : (Jvm.Cond.code ({ cls := "AlgebraHouseModel", name := "meant", desc := "(JIIII)I" } : Jvm.MethodName) prog_14_method_145_code (11 : Nat) (Option.some Jvm.ClassFile.FieldType.int)) ∈ lw_all := lw_g (lw_at lw_m10 223 rfl) rfl
theorem q2601 : (Jvm.Cond.constantLong "AlgebraHouseModel" (934 : Nat) (255 : Int64)) ∈ lw_all := lw_g (lw_at lw_m10 224 rfl) rfl
theorem in_X10 : ∀ w ∈ wsX100, w ∈ lw_all := lw_in wsX100 [1770, 1772, 1774, 1776, 1778, 1780, 1782, 1784, 1786, 1788, 1790, 1792, 1794, 1796, 1798, 1800, 1802, 1804, 1806, 1808, 1810, 1812, 1814, 1816, 1818, 1820, 1822, 1824, 1826, 1828, 1830, 1832, 1834, 1836, 1838, 1840, 1842, 1844, 1846, 1848, 1850, 1852, 1854, 1856, 1858, 1860, 1862, 1864, 1866, 1868, 1870, 1872, 1874, 1876, 1878, 1880, 1882, 1884, 1886, 1888, 1890, 1892, 1894, 1896, 1898, 1900, 1902, 1904, 1906, 1908, 1910, 1912, 1914, 1916, 1918, 1920, 1922, 1924, 1926, 1928, 1930, 1932, 1934, 1936, 1938, 1940, 1942, 1944, 1946, 1948, 1950, 1952, 1954, 1956, 1958, 1960, 1962, 1964, 1966, 1968, 1970, 1972, 1974, 1976, 1978, 1980, 1982, 1984, 1986, 1988, 1990, 1992, 1994, 1996, 1998, 2000] (by decide +kernel) (by decide +kernel)
/-! java/lang/String -/
def RJ0 : String := "java/lang/String"
abbrev cJ0_length : ByteArray := prog_18_method_54_code
def yJ0_length : MethodName := ⟨RJ0, "length", "()I"⟩
abbrev cJ0_coder : ByteArray := prog_18_method_152_code
def yJ0_coder : MethodName := ⟨RJ0, "coder", "()B"⟩
abbrev cJ0_charAt : ByteArray := prog_18_method_56_code
def yJ0_charAt : MethodName := ⟨RJ0, "charAt", "(I)C"⟩
abbrev cJ0_isLatin1 : ByteArray := prog_18_method_154_code
def yJ0_isLatin1 : MethodName := ⟨RJ0, "isLatin1", "()Z"⟩
abbrev cJ0_checkIndex : ByteArray := prog_18_method_155_code
def yJ0_checkIndex : MethodName := ⟨RJ0, "checkIndex", "(II)V"⟩
abbrev cJ0_indexOf : ByteArray := prog_18_method_79_code
def yJ0_indexOf : MethodName := ⟨RJ0, "indexOf", "(I)I"⟩
abbrev cJ0_indexOf_2 : ByteArray := prog_18_method_80_code
def yJ0_indexOf_2 : MethodName := ⟨RJ0, "indexOf", "(II)I"⟩
abbrev cJ0_checkBoundsBeginEnd : ByteArray := prog_18_method_158_code
def yJ0_checkBoundsBeginEnd : MethodName := ⟨RJ0, "checkBoundsBeginEnd", "(III)V"⟩
theorem q230 : (Jvm.Cond.initialized "java/lang/String") ∈ lw_all := lw_g (lw_at lw_m1 13 rfl) rfl
theorem q786 : (Jvm.Cond.instanceMethod ({ cls := "java/lang/String", name := "length", desc := "()I" } : Jvm.MethodName)) ∈ lw_all := lw_g (lw_at lw_m3 89 rfl) rfl
theorem q787 : (Jvm.Cond.selects "java/lang/String" ({ cls := "java/lang/String", name := "length", desc := "()I" } : Jvm.MethodName) ({ cls := "java/lang/String", name := "length", desc := "()I" } : Jvm.MethodName)) ∈ lw_all := lw_g (lw_at lw_m3 90 rfl) rfl
theorem q788 : (Jvm.Cond.code ({ cls := "java/lang/String", name := "length", desc := "()I" } : Jvm.MethodName) prog_18_method_54_code (1 : Nat) (Option.some Jvm.ClassFile.FieldType.int)) ∈ lw_all := lw_g (lw_at lw_m3 91 rfl) rfl
theorem q789 : (Jvm.Cond.methodLink "java/lang/String" (335 : Nat) ({ cls := "java/lang/String", name := "coder", desc := "()B" } : Jvm.MethodName)) ∈ lw_all := lw_g (lw_at lw_m3 92 rfl) rfl
theorem q790 : (Jvm.Cond.instanceMethod ({ cls := "java/lang/String", name := "coder", desc := "()B" } : Jvm.MethodName)) ∈ lw_all := lw_g (lw_at lw_m3 93 rfl) rfl
theorem q791 : (Jvm.Cond.selects "java/lang/String" ({ cls := "java/lang/String", name := "coder", desc := "()B" } : Jvm.MethodName) ({ cls := "java/lang/String", name := "coder", desc := "()B" } : Jvm.MethodName)) ∈ lw_all := lw_g (lw_at lw_m3 94 rfl) rfl
theorem q792 : (Jvm.Cond.code ({ cls := "java/lang/String", name := "coder", desc := "()B" } : Jvm.MethodName) prog_18_method_152_code (1 : Nat) (Option.some Jvm.ClassFile.FieldType.byte)) ∈ lw_all := lw_g (lw_at lw_m3 95 rfl) rfl
theorem q793 : (Jvm.Cond.fieldLink "java/lang/String" (38 : Nat) "java/lang/String" "COMPACT_STRINGS" "Z") ∈ lw_all := lw_g (lw_at lw_m3 96 rfl) rfl
theorem q794 : (Jvm.Cond.laysStatic "java/lang/String" "COMPACT_STRINGS" "Z") ∈ lw_tbl := lw_at lw_m3 97 rfl
theorem q796 : (Jvm.Cond.instanceMethod ({ cls := "java/lang/String", name := "charAt", desc := "(I)C" } : Jvm.MethodName)) ∈ lw_all := lw_g (lw_at lw_m3 99 rfl) rfl
theorem q797 : (Jvm.Cond.selects "java/lang/String" ({ cls := "java/lang/String", name := "charAt", desc := "(I)C" } : Jvm.MethodName) ({ cls := "java/lang/String", name := "charAt", desc := "(I)C" } : Jvm.MethodName)) ∈ lw_all := lw_g (lw_at lw_m3 100 rfl) rfl
theorem q798 : (Jvm.Cond.code ({ cls := "java/lang/String", name := "charAt", desc := "(I)C" } : Jvm.MethodName) prog_18_method_56_code (2 : Nat) (Option.some Jvm.ClassFile.FieldType.char)) ∈ lw_all := lw_g (lw_at lw_m3 101 rfl) rfl
theorem q799 : (Jvm.Cond.methodLink "java/lang/String" (492 : Nat) ({ cls := "java/lang/String", name := "isLatin1", desc := "()Z" } : Jvm.MethodName)) ∈ lw_all := lw_g (lw_at lw_m3 102 rfl) rfl
theorem q800 : (Jvm.Cond.instanceMethod ({ cls := "java/lang/String", name := "isLatin1", desc := "()Z" } : Jvm.MethodName)) ∈ lw_all := lw_g (lw_at lw_m3 103 rfl) rfl
theorem q801 : (Jvm.Cond.selects "java/lang/String" ({ cls := "java/lang/String", name := "isLatin1", desc := "()Z" } : Jvm.MethodName) ({ cls := "java/lang/String", name := "isLatin1", desc := "()Z" } : Jvm.MethodName)) ∈ lw_all := lw_g (lw_at lw_m3 104 rfl) rfl
theorem q802 : (Jvm.Cond.code ({ cls := "java/lang/String", name := "isLatin1", desc := "()Z" } : Jvm.MethodName) prog_18_method_154_code (1 : Nat) (Option.some Jvm.ClassFile.FieldType.boolean)) ∈ lw_all := lw_g (lw_at lw_m3 105 rfl) rfl
theorem q803 : (Jvm.Cond.methodLink "java/lang/String" (495 : Nat) ({ cls := "java/lang/StringLatin1", name := "charAt", desc := "([BI)C" } : Jvm.MethodName)) ∈ lw_all := lw_g (lw_at lw_m3 106 rfl) rfl
theorem q807 : (Jvm.Cond.static ({ cls := "java/lang/String", name := "checkIndex", desc := "(II)V" } : Jvm.MethodName)) ∈ lw_all := lw_g (lw_at lw_m3 110 rfl) rfl
theorem q808 : (Jvm.Cond.code ({ cls := "java/lang/String", name := "checkIndex", desc := "(II)V" } : Jvm.MethodName) prog_18_method_155_code (2 : Nat) (Option.none : Option Jvm.ClassFile.FieldType)) ∈ lw_all := lw_g (lw_at lw_m3 111 rfl) rfl
theorem q809 : (Jvm.Cond.fieldLink "java/lang/String" (1053 : Nat) "jdk/internal/util/Preconditions" "SIOOBE_FORMATTER" "Ljava/util/function/BiFunction;") ∈ lw_all := lw_g (lw_at lw_m3 112 rfl) rfl
theorem q811 : (Jvm.Cond.methodLink "java/lang/String" (1059 : Nat) ({ cls := "jdk/internal/util/Preconditions", name := "checkIndex", desc := "(IILjava/util/function/BiFunction;)I" } : Jvm.MethodName)) ∈ lw_all := lw_g (lw_at lw_m3 114 rfl) rfl
theorem q814 : (Jvm.Cond.methodLink "java/lang/String" (498 : Nat) ({ cls := "java/lang/StringUTF16", name := "charAt", desc := "([BI)C" } : Jvm.MethodName)) ∈ lw_all := lw_g (lw_at lw_m3 117 rfl) rfl
theorem q847 : (Jvm.Cond.instanceMethod ({ cls := "java/lang/String", name := "indexOf", desc := "(I)I" } : Jvm.MethodName)) ∈ lw_all := lw_g (lw_at lw_m3 150 rfl) rfl
theorem q848 : (Jvm.Cond.selects "java/lang/String" ({ cls := "java/lang/String", name := "indexOf", desc := "(I)I" } : Jvm.MethodName) ({ cls := "java/lang/String", name := "indexOf", desc := "(I)I" } : Jvm.MethodName)) ∈ lw_all := lw_g (lw_at lw_m3 151 rfl) rfl
theorem q849 : (Jvm.Cond.code ({ cls := "java/lang/String", name := "indexOf", desc := "(I)I" } : Jvm.MethodName) prog_18_method_79_code (2 : Nat) (Option.some Jvm.ClassFile.FieldType.int)) ∈ lw_all := lw_g (lw_at lw_m3 152 rfl) rfl
theorem q850 : (Jvm.Cond.methodLink "java/lang/String" (633 : Nat) ({ cls := "java/lang/String", name := "indexOf", desc := "(II)I" } : Jvm.MethodName)) ∈ lw_all := lw_g (lw_at lw_m3 153 rfl) rfl
theorem q851 : (Jvm.Cond.instanceMethod ({ cls := "java/lang/String", name := "indexOf", desc := "(II)I" } : Jvm.MethodName)) ∈ lw_all := lw_g (lw_at lw_m3 154 rfl) rfl
theorem q852 : (Jvm.Cond.selects "java/lang/String" ({ cls := "java/lang/String", name := "indexOf", desc := "(II)I" } : Jvm.MethodName) ({ cls := "java/lang/String", name := "indexOf", desc := "(II)I" } : Jvm.MethodName)) ∈ lw_all := lw_g (lw_at lw_m3 155 rfl) rfl
theorem q853 : (Jvm.Cond.code ({ cls := "java/lang/String", name := "indexOf", desc := "(II)I" } : Jvm.MethodName) prog_18_method_80_code (3 : Nat) (Option.some Jvm.ClassFile.FieldType.int)) ∈ lw_all := lw_g (lw_at lw_m3 156 rfl) rfl
theorem q854 : (Jvm.Cond.methodLink "java/lang/String" (505 : Nat) ({ cls := "java/lang/String", name := "length", desc := "()I" } : Jvm.MethodName)) ∈ lw_all := lw_g (lw_at lw_m3 157 rfl) rfl
theorem q855 : (Jvm.Cond.methodLink "java/lang/String" (637 : Nat) ({ cls := "java/lang/StringLatin1", name := "indexOf", desc := "([BIII)I" } : Jvm.MethodName)) ∈ lw_all := lw_g (lw_at lw_m3 158 rfl) rfl
theorem q868 : (Jvm.Cond.methodLink "java/lang/String" (640 : Nat) ({ cls := "java/lang/StringUTF16", name := "indexOf", desc := "([BIII)I" } : Jvm.MethodName)) ∈ lw_all := lw_g (lw_at lw_m3 171 rfl) rfl
theorem q881 : (Jvm.Cond.static ({ cls := "java/lang/String", name := "checkBoundsBeginEnd", desc := "(III)V" } : Jvm.MethodName)) ∈ lw_all := lw_g (lw_at lw_m3 184 rfl) rfl
theorem q882 : (Jvm.Cond.code ({ cls := "java/lang/String", name := "checkBoundsBeginEnd", desc := "(III)V" } : Jvm.MethodName) prog_18_method_158_code (3 : Nat) (Option.none : Option Jvm.ClassFile.FieldType)) ∈ lw_all := lw_g (lw_at lw_m3 185 rfl) rfl
theorem q883 : (Jvm.Cond.methodLink "java/lang/String" (1062 : Nat) ({ cls := "jdk/internal/util/Preconditions", name := "checkFromToIndex", desc := "(IIILjava/util/function/BiFunction;)I" } : Jvm.MethodName)) ∈ lw_all := lw_g (lw_at lw_m3 186 rfl) rfl
theorem q2604 : (Jvm.Cond.fieldLink "java/lang/String" (9 : Nat) "java/lang/String" "value" "[B") ∈ lw_all := lw_g (lw_at lw_m10 227 rfl) rfl
theorem q2605 : (Jvm.Cond.fieldLink "java/lang/String" (15 : Nat) "java/lang/String" "coder" "B") ∈ lw_all := lw_g (lw_at lw_m10 228 rfl) rfl
/-! java/lang/StringLatin1 -/
def RJ1 : String := "java/lang/StringLatin1"
abbrev cJ1_charAt : ByteArray := prog_19_method_2_code
def yJ1_charAt : MethodName := ⟨RJ1, "charAt", "([BI)C"⟩
abbrev cJ1_indexOf : ByteArray := prog_19_method_22_code
def yJ1_indexOf : MethodName := ⟨RJ1, "indexOf", "([BIII)I"⟩
abbrev cJ1_canEncode : ByteArray := prog_19_method_4_code
def yJ1_canEncode : MethodName := ⟨RJ1, "canEncode", "(I)Z"⟩
abbrev cJ1_indexOfChar : ByteArray := prog_19_method_23_code
def yJ1_indexOfChar : MethodName := ⟨RJ1, "indexOfChar", "([BIII)I"⟩
theorem q231 : (Jvm.Cond.initialized "java/lang/StringLatin1") ∈ lw_all := lw_g (lw_at lw_m1 14 rfl) rfl
theorem q804 : (Jvm.Cond.static ({ cls := "java/lang/StringLatin1", name := "charAt", desc := "([BI)C" } : Jvm.MethodName)) ∈ lw_all := lw_g (lw_at lw_m3 107 rfl) rfl
theorem q805 : (Jvm.Cond.code ({ cls := "java/lang/StringLatin1", name := "charAt", desc := "([BI)C" } : Jvm.MethodName) prog_19_method_2_code (2 : Nat) (Option.some Jvm.ClassFile.FieldType.char)) ∈ lw_all := lw_g (lw_at lw_m3 108 rfl) rfl
theorem q806 : (Jvm.Cond.methodLink "java/lang/StringLatin1" (9 : Nat) ({ cls := "java/lang/String", name := "checkIndex", desc := "(II)V" } : Jvm.MethodName)) ∈ lw_all := lw_g (lw_at lw_m3 109 rfl) rfl
theorem q856 : (Jvm.Cond.static ({ cls := "java/lang/StringLatin1", name := "indexOf", desc := "([BIII)I" } : Jvm.MethodName)) ∈ lw_all := lw_g (lw_at lw_m3 159 rfl) rfl
theorem q857 : (Jvm.Cond.code ({ cls := "java/lang/StringLatin1", name := "indexOf", desc := "([BIII)I" } : Jvm.MethodName) prog_19_method_22_code (4 : Nat) (Option.some Jvm.ClassFile.FieldType.int)) ∈ lw_all := lw_g (lw_at lw_m3 160 rfl) rfl
theorem q858 : (Jvm.Cond.methodLink "java/lang/StringLatin1" (88 : Nat) ({ cls := "java/lang/StringLatin1", name := "canEncode", desc := "(I)Z" } : Jvm.MethodName)) ∈ lw_all := lw_g (lw_at lw_m3 161 rfl) rfl
theorem q859 : (Jvm.Cond.static ({ cls := "java/lang/StringLatin1", name := "canEncode", desc := "(I)Z" } : Jvm.MethodName)) ∈ lw_all := lw_g (lw_at lw_m3 162 rfl) rfl
theorem q860 : (Jvm.Cond.code ({ cls := "java/lang/StringLatin1", name := "canEncode", desc := "(I)Z" } : Jvm.MethodName) prog_19_method_4_code (1 : Nat) (Option.some Jvm.ClassFile.FieldType.boolean)) ∈ lw_all := lw_g (lw_at lw_m3 163 rfl) rfl
theorem q861 : (Jvm.Cond.methodLink "java/lang/StringLatin1" (92 : Nat) ({ cls := "java/lang/Math", name := "max", desc := "(II)I" } : Jvm.MethodName)) ∈ lw_all := lw_g (lw_at lw_m3 164 rfl) rfl
theorem q862 : (Jvm.Cond.methodLink "java/lang/StringLatin1" (38 : Nat) ({ cls := "java/lang/Math", name := "min", desc := "(II)I" } : Jvm.MethodName)) ∈ lw_all := lw_g (lw_at lw_m3 165 rfl) rfl
theorem q865 : (Jvm.Cond.methodLink "java/lang/StringLatin1" (95 : Nat) ({ cls := "java/lang/StringLatin1", name := "indexOfChar", desc := "([BIII)I" } : Jvm.MethodName)) ∈ lw_all := lw_g (lw_at lw_m3 168 rfl) rfl
theorem q866 : (Jvm.Cond.static ({ cls := "java/lang/StringLatin1", name := "indexOfChar", desc := "([BIII)I" } : Jvm.MethodName)) ∈ lw_all := lw_g (lw_at lw_m3 169 rfl) rfl
theorem q867 : (Jvm.Cond.code ({ cls := "java/lang/StringLatin1", name := "indexOfChar", desc := "([BIII)I" } : Jvm.MethodName) prog_19_method_23_code (6 : Nat) (Option.some Jvm.ClassFile.FieldType.int)) ∈ lw_all := lw_g (lw_at lw_m3 170 rfl) rfl
/-! jdk/internal/util/Preconditions -/
def RJ2 : String := "jdk/internal/util/Preconditions"
abbrev cJ2_checkIndex : ByteArray := prog_22_method_11_code
def yJ2_checkIndex : MethodName := ⟨RJ2, "checkIndex", "(IILjava/util/function/BiFunction;)I"⟩
abbrev cJ2_checkFromToIndex : ByteArray := prog_22_method_12_code
def yJ2_checkFromToIndex : MethodName := ⟨RJ2, "checkFromToIndex", "(IIILjava/util/function/BiFunction;)I"⟩
theorem q232 : (Jvm.Cond.initialized "jdk/internal/util/Preconditions") ∈ lw_all := lw_g (lw_at lw_m1 15 rfl) rfl
theorem q810 : (Jvm.Cond.laysStatic "jdk/internal/util/Preconditions" "SIOOBE_FORMATTER" "Ljava/util/function/BiFunction;") ∈ lw_tbl := lw_at lw_m3 113 rfl
theorem q812 : (Jvm.Cond.static ({ cls := "jdk/internal/util/Preconditions", name := "checkIndex", desc := "(IILjava/util/function/BiFunction;)I" } : Jvm.MethodName)) ∈ lw_all := lw_g (lw_at lw_m3 115 rfl) rfl
theorem q813 : (Jvm.Cond.code ({ cls := "jdk/internal/util/Preconditions", name := "checkIndex", desc := "(IILjava/util/function/BiFunction;)I" } : Jvm.MethodName) prog_22_method_11_code (3 : Nat) (Option.some Jvm.ClassFile.FieldType.int)) ∈ lw_all := lw_g (lw_at lw_m3 116 rfl) rfl
theorem q884 : (Jvm.Cond.static ({ cls := "jdk/internal/util/Preconditions", name := "checkFromToIndex", desc := "(IIILjava/util/function/BiFunction;)I" } : Jvm.MethodName)) ∈ lw_all := lw_g (lw_at lw_m3 187 rfl) rfl
theorem q885 : (Jvm.Cond.code ({ cls := "jdk/internal/util/Preconditions", name := "checkFromToIndex", desc := "(IIILjava/util/function/BiFunction;)I" } : Jvm.MethodName) prog_22_method_12_code (4 : Nat) (Option.some Jvm.ClassFile.FieldType.int)) ∈ lw_all := lw_g (lw_at lw_m3 188 rfl) rfl
/-! java/lang/StringUTF16 -/
def RJ3 : String := "java/lang/StringUTF16"
abbrev cJ3_charAt : ByteArray := prog_20_method_83_code
def yJ3_charAt : MethodName := ⟨RJ3, "charAt", "([BI)C"⟩
abbrev cJ3_checkIndex : ByteArray := prog_20_method_91_code
def yJ3_checkIndex : MethodName := ⟨RJ3, "checkIndex", "(I[B)V"⟩
abbrev cJ3_length : ByteArray := prog_20_method_6_code
def yJ3_length : MethodName := ⟨RJ3, "length", "([B)I"⟩
abbrev cJ3_getChar : ByteArray := prog_20_method_5_code
def yJ3_getChar : MethodName := ⟨RJ3, "getChar", "([BI)C"⟩
abbrev cJ3_indexOf : ByteArray := prog_20_method_40_code
def yJ3_indexOf : MethodName := ⟨RJ3, "indexOf", "([BIII)I"⟩
abbrev cJ3_indexOfChar : ByteArray := prog_20_method_47_code
def yJ3_indexOfChar : MethodName := ⟨RJ3, "indexOfChar", "([BIII)I"⟩
abbrev cJ3_checkBoundsBeginEnd : ByteArray := prog_20_method_93_code
def yJ3_checkBoundsBeginEnd : MethodName := ⟨RJ3, "checkBoundsBeginEnd", "(II[B)V"⟩
abbrev cJ3_indexOfCharUnsafe : ByteArray := prog_20_method_48_code
def yJ3_indexOfCharUnsafe : MethodName := ⟨RJ3, "indexOfCharUnsafe", "([BIII)I"⟩
abbrev cJ3_indexOfSupplementary : ByteArray := prog_20_method_49_code
def yJ3_indexOfSupplementary : MethodName := ⟨RJ3, "indexOfSupplementary", "([BIII)I"⟩
theorem q233 : (Jvm.Cond.initialized "java/lang/StringUTF16") ∈ lw_all := lw_g (lw_at lw_m1 16 rfl) rfl
theorem q815 : (Jvm.Cond.static ({ cls := "java/lang/StringUTF16", name := "charAt", desc := "([BI)C" } : Jvm.MethodName)) ∈ lw_all := lw_g (lw_at lw_m3 118 rfl) rfl
theorem q816 : (Jvm.Cond.code ({ cls := "java/lang/StringUTF16", name := "charAt", desc := "([BI)C" } : Jvm.MethodName) prog_20_method_83_code (2 : Nat) (Option.some Jvm.ClassFile.FieldType.char)) ∈ lw_all := lw_g (lw_at lw_m3 119 rfl) rfl
theorem q817 : (Jvm.Cond.methodLink "java/lang/StringUTF16" (67 : Nat) ({ cls := "java/lang/StringUTF16", name := "checkIndex", desc := "(I[B)V" } : Jvm.MethodName)) ∈ lw_all := lw_g (lw_at lw_m3 120 rfl) rfl
theorem q818 : (Jvm.Cond.static ({ cls := "java/lang/StringUTF16", name := "checkIndex", desc := "(I[B)V" } : Jvm.MethodName)) ∈ lw_all := lw_g (lw_at lw_m3 121 rfl) rfl
theorem q819 : (Jvm.Cond.code ({ cls := "java/lang/StringUTF16", name := "checkIndex", desc := "(I[B)V" } : Jvm.MethodName) prog_20_method_91_code (2 : Nat) (Option.none : Option Jvm.ClassFile.FieldType)) ∈ lw_all := lw_g (lw_at lw_m3 122 rfl) rfl
theorem q820 : (Jvm.Cond.methodLink "java/lang/StringUTF16" (48 : Nat) ({ cls := "java/lang/StringUTF16", name := "length", desc := "([B)I" } : Jvm.MethodName)) ∈ lw_all := lw_g (lw_at lw_m3 123 rfl) rfl
theorem q821 : (Jvm.Cond.static ({ cls := "java/lang/StringUTF16", name := "length", desc := "([B)I" } : Jvm.MethodName)) ∈ lw_all := lw_g (lw_at lw_m3 124 rfl) rfl
theorem q822 : (Jvm.Cond.code ({ cls := "java/lang/StringUTF16", name := "length", desc := "([B)I" } : Jvm.MethodName) prog_20_method_6_code (1 : Nat) (Option.some Jvm.ClassFile.FieldType.int)) ∈ lw_all := lw_g (lw_at lw_m3 125 rfl) rfl
theorem q823 : (Jvm.Cond.methodLink "java/lang/StringUTF16" (414 : Nat) ({ cls := "java/lang/String", name := "checkIndex", desc := "(II)V" } : Jvm.MethodName)) ∈ lw_all := lw_g (lw_at lw_m3 126 rfl) rfl
theorem q824 : (Jvm.Cond.methodLink "java/lang/StringUTF16" (71 : Nat) ({ cls := "java/lang/StringUTF16", name := "getChar", desc := "([BI)C" } : Jvm.MethodName)) ∈ lw_all := lw_g (lw_at lw_m3 127 rfl) rfl
theorem q825 : (Jvm.Cond.static ({ cls := "java/lang/StringUTF16", name := "getChar", desc := "([BI)C" } : Jvm.MethodName)) ∈ lw_all := lw_g (lw_at lw_m3 128 rfl) rfl
theorem q826 : (Jvm.Cond.code ({ cls := "java/lang/StringUTF16", name := "getChar", desc := "([BI)C" } : Jvm.MethodName) prog_20_method_5_code (2 : Nat) (Option.some Jvm.ClassFile.FieldType.char)) ∈ lw_all := lw_g (lw_at lw_m3 129 rfl) rfl
theorem q827 : (Jvm.Cond.fieldLink "java/lang/StringUTF16" (44 : Nat) "java/lang/StringUTF16" "$assertionsDisabled" "Z") ∈ lw_all := lw_g (lw_at lw_m3 130 rfl) rfl
theorem q828 : (Jvm.Cond.laysStatic "java/lang/StringUTF16" "$assertionsDisabled" "Z") ∈ lw_tbl := lw_at lw_m3 131 rfl
theorem q829 : (Jvm.Cond.fieldLink "java/lang/StringUTF16" (59 : Nat) "java/lang/StringUTF16" "HI_BYTE_SHIFT" "I") ∈ lw_all := lw_g (lw_at lw_m3 132 rfl) rfl
theorem q830 : (Jvm.Cond.laysStatic "java/lang/StringUTF16" "HI_BYTE_SHIFT" "I") ∈ lw_tbl := lw_at lw_m3 133 rfl
theorem q831 : (Jvm.Cond.fieldLink "java/lang/StringUTF16" (63 : Nat) "java/lang/StringUTF16" "LO_BYTE_SHIFT" "I") ∈ lw_all := lw_g (lw_at lw_m3 134 rfl) rfl
theorem q832 : (Jvm.Cond.laysStatic "java/lang/StringUTF16" "LO_BYTE_SHIFT" "I") ∈ lw_tbl := lw_at lw_m3 135 rfl
theorem q869 : (Jvm.Cond.static ({ cls := "java/lang/StringUTF16", name := "indexOf", desc := "([BIII)I" } : Jvm.MethodName)) ∈ lw_all := lw_g (lw_at lw_m3 172 rfl) rfl
theorem q870 : (Jvm.Cond.code ({ cls := "java/lang/StringUTF16", name := "indexOf", desc := "([BIII)I" } : Jvm.MethodName) prog_20_method_40_code (4 : Nat) (Option.some Jvm.ClassFile.FieldType.int)) ∈ lw_all := lw_g (lw_at lw_m3 173 rfl) rfl
theorem q871 : (Jvm.Cond.methodLink "java/lang/StringUTF16" (224 : Nat) ({ cls := "java/lang/Math", name := "max", desc := "(II)I" } : Jvm.MethodName)) ∈ lw_all := lw_g (lw_at lw_m3 174 rfl) rfl
theorem q872 : (Jvm.Cond.methodLink "java/lang/StringUTF16" (183 : Nat) ({ cls := "java/lang/Math", name := "min", desc := "(II)I" } : Jvm.MethodName)) ∈ lw_all := lw_g (lw_at lw_m3 175 rfl) rfl
theorem q873 : (Jvm.Cond.constant "java/lang/StringUTF16" (227 : Nat) (65536 : Int32)) ∈ lw_all := lw_g (lw_at lw_m3 176 rfl) rfl
theorem q874 : (Jvm.Cond.methodLink "java/lang/StringUTF16" (228 : Nat) ({ cls := "java/lang/StringUTF16", name := "indexOfChar", desc := "([BIII)I" } : Jvm.MethodName)) ∈ lw_all := lw_g (lw_at lw_m3 177 rfl) rfl
theorem q875 : (Jvm.Cond.static ({ cls := "java/lang/StringUTF16", name := "indexOfChar", desc := "([BIII)I" } : Jvm.MethodName)) ∈ lw_all := lw_g (lw_at lw_m3 178 rfl) rfl
theorem q876 : (Jvm.Cond.code ({ cls := "java/lang/StringUTF16", name := "indexOfChar", desc := "([BIII)I" } : Jvm.MethodName) prog_20_method_47_code (4 : Nat) (Option.some Jvm.ClassFile.FieldType.int)) ∈ lw_all := lw_g (lw_at lw_m3 179 rfl) rfl
theorem q877 : (Jvm.Cond.methodLink "java/lang/StringUTF16" (96 : Nat) ({ cls := "java/lang/StringUTF16", name := "checkBoundsBeginEnd", desc := "(II[B)V" } : Jvm.MethodName)) ∈ lw_all := lw_g (lw_at lw_m3 180 rfl) rfl
theorem q878 : (Jvm.Cond.static ({ cls := "java/lang/StringUTF16", name := "checkBoundsBeginEnd", desc := "(II[B)V" } : Jvm.MethodName)) ∈ lw_all := lw_g (lw_at lw_m3 181 rfl) rfl
theorem q879 : (Jvm.Cond.code ({ cls := "java/lang/StringUTF16", name := "checkBoundsBeginEnd", desc := "(II[B)V" } : Jvm.MethodName) prog_20_method_93_code (3 : Nat) (Option.none : Option Jvm.ClassFile.FieldType)) ∈ lw_all := lw_g (lw_at lw_m3 182 rfl) rfl
theorem q880 : (Jvm.Cond.methodLink "java/lang/StringUTF16" (241 : Nat) ({ cls := "java/lang/String", name := "checkBoundsBeginEnd", desc := "(III)V" } : Jvm.MethodName)) ∈ lw_all := lw_g (lw_at lw_m3 183 rfl) rfl
theorem q886 : (Jvm.Cond.methodLink "java/lang/StringUTF16" (244 : Nat) ({ cls := "java/lang/StringUTF16", name := "indexOfCharUnsafe", desc := "([BIII)I" } : Jvm.MethodName)) ∈ lw_all := lw_g (lw_at lw_m3 189 rfl) rfl
theorem q887 : (Jvm.Cond.static ({ cls := "java/lang/StringUTF16", name := "indexOfCharUnsafe", desc := "([BIII)I" } : Jvm.MethodName)) ∈ lw_all := lw_g (lw_at lw_m3 190 rfl) rfl
theorem q888 : (Jvm.Cond.code ({ cls := "java/lang/StringUTF16", name := "indexOfCharUnsafe", desc := "([BIII)I" } : Jvm.MethodName) prog_20_method_48_code (5 : Nat) (Option.some Jvm.ClassFile.FieldType.int)) ∈ lw_all := lw_g (lw_at lw_m3 191 rfl) rfl
theorem q889 : (Jvm.Cond.methodLink "java/lang/StringUTF16" (232 : Nat) ({ cls := "java/lang/StringUTF16", name := "indexOfSupplementary", desc := "([BIII)I" } : Jvm.MethodName)) ∈ lw_all := lw_g (lw_at lw_m3 192 rfl) rfl
theorem q890 : (Jvm.Cond.static ({ cls := "java/lang/StringUTF16", name := "indexOfSupplementary", desc := "([BIII)I" } : Jvm.MethodName)) ∈ lw_all := lw_g (lw_at lw_m3 193 rfl) rfl
theorem q891 : (Jvm.Cond.code ({ cls := "java/lang/StringUTF16", name := "indexOfSupplementary", desc := "([BIII)I" } : Jvm.MethodName) prog_20_method_49_code (7 : Nat) (Option.some Jvm.ClassFile.FieldType.int)) ∈ lw_all := lw_g (lw_at lw_m3 194 rfl) rfl
theorem q892 : (Jvm.Cond.methodLink "java/lang/StringUTF16" (164 : Nat) ({ cls := "java/lang/Character", name := "isValidCodePoint", desc := "(I)Z" } : Jvm.MethodName)) ∈ lw_all := lw_g (lw_at lw_m3 195 rfl) rfl
theorem q895 : (Jvm.Cond.methodLink "java/lang/StringUTF16" (157 : Nat) ({ cls := "java/lang/Character", name := "highSurrogate", desc := "(I)C" } : Jvm.MethodName)) ∈ lw_all := lw_g (lw_at lw_m3 198 rfl) rfl
theorem q899 : (Jvm.Cond.methodLink "java/lang/StringUTF16" (161 : Nat) ({ cls := "java/lang/Character", name := "lowSurrogate", desc := "(I)C" } : Jvm.MethodName)) ∈ lw_all := lw_g (lw_at lw_m3 202 rfl) rfl
/-! java/lang/Math -/
def RJ4 : String := "java/lang/Math"
abbrev cJ4_max : ByteArray := prog_17_method_65_code
def yJ4_max : MethodName := ⟨RJ4, "max", "(II)I"⟩
abbrev cJ4_min : ByteArray := prog_17_method_69_code
def yJ4_min : MethodName := ⟨RJ4, "min", "(II)I"⟩
abbrev cJ4_floorMod : ByteArray := prog_17_method_50_code
def yJ4_floorMod : MethodName := ⟨RJ4, "floorMod", "(II)I"⟩
abbrev cJ4_abs : ByteArray := prog_17_method_61_code
def yJ4_abs : MethodName := ⟨RJ4, "abs", "(J)J"⟩
abbrev cJ4_floorMod_2 : ByteArray := prog_17_method_52_code
def yJ4_floorMod_2 : MethodName := ⟨RJ4, "floorMod", "(JJ)J"⟩
abbrev cJ4_floorDiv : ByteArray := prog_17_method_47_code
def yJ4_floorDiv : MethodName := ⟨RJ4, "floorDiv", "(II)I"⟩
abbrev cJ4_abs_2 : ByteArray := prog_17_method_59_code
def yJ4_abs_2 : MethodName := ⟨RJ4, "abs", "(I)I"⟩
abbrev cJ4_max_2 : ByteArray := prog_17_method_66_code
def yJ4_max_2 : MethodName := ⟨RJ4, "max", "(JJ)J"⟩
theorem q234 : (Jvm.Cond.initialized "java/lang/Math") ∈ lw_all := lw_g (lw_at lw_m1 17 rfl) rfl
theorem q835 : (Jvm.Cond.static ({ cls := "java/lang/Math", name := "max", desc := "(II)I" } : Jvm.MethodName)) ∈ lw_all := lw_g (lw_at lw_m3 138 rfl) rfl
theorem q836 : (Jvm.Cond.code ({ cls := "java/lang/Math", name := "max", desc := "(II)I" } : Jvm.MethodName) prog_17_method_65_code (2 : Nat) (Option.some Jvm.ClassFile.FieldType.int)) ∈ lw_all := lw_g (lw_at lw_m3 139 rfl) rfl
theorem q863 : (Jvm.Cond.static ({ cls := "java/lang/Math", name := "min", desc := "(II)I" } : Jvm.MethodName)) ∈ lw_all := lw_g (lw_at lw_m3 166 rfl) rfl
theorem q864 : (Jvm.Cond.code ({ cls := "java/lang/Math", name := "min", desc := "(II)I" } : Jvm.MethodName) prog_17_method_69_code (2 : Nat) (Option.some Jvm.ClassFile.FieldType.int)) ∈ lw_all := lw_g (lw_at lw_m3 167 rfl) rfl
theorem q1329 : (Jvm.Cond.static ({ cls := "java/lang/Math", name := "floorMod", desc := "(II)I" } : Jvm.MethodName)) ∈ lw_all := lw_g (lw_at lw_m5 152 rfl) rfl
theorem q1330 : (Jvm.Cond.code ({ cls := "java/lang/Math", name := "floorMod", desc := "(II)I" } : Jvm.MethodName) prog_17_method_50_code (3 : Nat) (Option.some Jvm.ClassFile.FieldType.int)) ∈ lw_all := lw_g (lw_at lw_m5 153 rfl) rfl
theorem q1402 : (Jvm.Cond.static ({ cls := "java/lang/Math", name := "abs", desc := "(J)J" } : Jvm.MethodName)) ∈ lw_all := lw_g (lw_at lw_m5 225 rfl) rfl
theorem q1403 : (Jvm.Cond.code ({ cls := "java/lang/Math", name := "abs", desc := "(J)J" } : Jvm.MethodName) prog_17_method_61_code (2 : Nat) (Option.some Jvm.ClassFile.FieldType.long)) ∈ lw_all := lw_g (lw_at lw_m5 226 rfl) rfl
theorem q1416 : (Jvm.Cond.static ({ cls := "java/lang/Math", name := "floorMod", desc := "(JJ)J" } : Jvm.MethodName)) ∈ lw_all := lw_g (lw_at lw_m5 239 rfl) rfl
theorem q1417 : (Jvm.Cond.code ({ cls := "java/lang/Math", name := "floorMod", desc := "(JJ)J" } : Jvm.MethodName) prog_17_method_52_code (6 : Nat) (Option.some Jvm.ClassFile.FieldType.long)) ∈ lw_all := lw_g (lw_at lw_m6 0 rfl) rfl
theorem q1556 : (Jvm.Cond.static ({ cls := "java/lang/Math", name := "floorDiv", desc := "(II)I" } : Jvm.MethodName)) ∈ lw_all := lw_g (lw_at lw_m6 139 rfl) rfl
theorem q1557 : (Jvm.Cond.code ({ cls := "java/lang/Math", name := "floorDiv", desc := "(II)I" } : Jvm.MethodName) prog_17_method_47_code (3 : Nat) (Option.some Jvm.ClassFile.FieldType.int)) ∈ lw_all := lw_g (lw_at lw_m6 140 rfl) rfl
theorem q1559 : (Jvm.Cond.static ({ cls := "java/lang/Math", name := "abs", desc := "(I)I" } : Jvm.MethodName)) ∈ lw_all := lw_g (lw_at lw_m6 142 rfl) rfl
theorem q1560 : (Jvm.Cond.code ({ cls := "java/lang/Math", name := "abs", desc := "(I)I" } : Jvm.MethodName) prog_17_method_59_code (1 : Nat) (Option.some Jvm.ClassFile.FieldType.int)) ∈ lw_all := lw_g (lw_at lw_m6 143 rfl) rfl
theorem q2308 : (Jvm.Cond.static ({ cls := "java/lang/Math", name := "max", desc := "(JJ)J" } : Jvm.MethodName)) ∈ lw_all := lw_g (lw_at lw_m9 171 rfl) rfl
theorem q2309 : (Jvm.Cond.code ({ cls := "java/lang/Math", name := "max", desc := "(JJ)J" } : Jvm.MethodName) prog_17_method_66_code (4 : Nat) (Option.some Jvm.ClassFile.FieldType.long)) ∈ lw_all := lw_g (lw_at lw_m9 172 rfl) rfl
/-! java/lang/Character -/
def RJ5 : String := "java/lang/Character"
abbrev cJ5_isValidCodePoint : ByteArray := prog_15_method_11_code
def yJ5_isValidCodePoint : MethodName := ⟨RJ5, "isValidCodePoint", "(I)Z"⟩
abbrev cJ5_highSurrogate : ByteArray := prog_15_method_28_code
def yJ5_highSurrogate : MethodName := ⟨RJ5, "highSurrogate", "(I)C"⟩
abbrev cJ5_lowSurrogate : ByteArray := prog_15_method_29_code
def yJ5_lowSurrogate : MethodName := ⟨RJ5, "lowSurrogate", "(I)C"⟩
theorem q235 : (Jvm.Cond.initialized "java/lang/Character") ∈ lw_all := lw_g (lw_at lw_m1 18 rfl) rfl
theorem q893 : (Jvm.Cond.static ({ cls := "java/lang/Character", name := "isValidCodePoint", desc := "(I)Z" } : Jvm.MethodName)) ∈ lw_all := lw_g (lw_at lw_m3 196 rfl) rfl
theorem q894 : (Jvm.Cond.code ({ cls := "java/lang/Character", name := "isValidCodePoint", desc := "(I)Z" } : Jvm.MethodName) prog_15_method_11_code (2 : Nat) (Option.some Jvm.ClassFile.FieldType.boolean)) ∈ lw_all := lw_g (lw_at lw_m3 197 rfl) rfl
theorem q896 : (Jvm.Cond.static ({ cls := "java/lang/Character", name := "highSurrogate", desc := "(I)C" } : Jvm.MethodName)) ∈ lw_all := lw_g (lw_at lw_m3 199 rfl) rfl
theorem q897 : (Jvm.Cond.code ({ cls := "java/lang/Character", name := "highSurrogate", desc := "(I)C" } : Jvm.MethodName) prog_15_method_28_code (1 : Nat) (Option.some Jvm.ClassFile.FieldType.char)) ∈ lw_all := lw_g (lw_at lw_m3 200 rfl) rfl
theorem q898 : (Jvm.Cond.constant "java/lang/Character" (110 : Nat) (55232 : Int32)) ∈ lw_all := lw_g (lw_at lw_m3 201 rfl) rfl
theorem q900 : (Jvm.Cond.static ({ cls := "java/lang/Character", name := "lowSurrogate", desc := "(I)C" } : Jvm.MethodName)) ∈ lw_all := lw_g (lw_at lw_m3 203 rfl) rfl
theorem q901 : (Jvm.Cond.code ({ cls := "java/lang/Character", name := "lowSurrogate", desc := "(I)C" } : Jvm.MethodName) prog_15_method_29_code (1 : Nat) (Option.some Jvm.ClassFile.FieldType.char)) ∈ lw_all := lw_g (lw_at lw_m3 204 rfl) rfl
theorem q902 : (Jvm.Cond.constant "java/lang/Character" (76 : Nat) (56320 : Int32)) ∈ lw_all := lw_g (lw_at lw_m3 205 rfl) rfl
/-! AlgebraHouse$Rings -/
def RX11 : String := "AlgebraHouse$Rings"
abbrev cX11_of : ByteArray := prog_10_method_2_code
def yX11_of : MethodName := ⟨RX11, "of", "(III)I"⟩
abbrev cX11_size : ByteArray := prog_10_method_5_code
def yX11_size : MethodName := ⟨RX11, "size", "(I)I"⟩
abbrev cX11_depth : ByteArray := prog_10_method_4_code
def yX11_depth : MethodName := ⟨RX11, "depth", "(I)I"⟩
abbrev cX11_base : ByteArray := prog_10_method_3_code
def yX11_base : MethodName := ⟨RX11, "base", "(I)I"⟩
abbrev cX11_join : ByteArray := prog_10_method_9_code
def yX11_join : MethodName := ⟨RX11, "join", "(II)I"⟩
abbrev cX11_isField : ByteArray := prog_10_method_13_code
def yX11_isField : MethodName := ⟨RX11, "isField", "(I)Z"⟩
abbrev cX11_isPrime : ByteArray := prog_10_method_12_code
def yX11_isPrime : MethodName := ⟨RX11, "isPrime", "(I)Z"⟩
abbrev cX11_goes : ByteArray := prog_10_method_10_code
def yX11_goes : MethodName := ⟨RX11, "goes", "(II)Z"⟩
abbrev cX11_price : ByteArray := prog_10_method_11_code
def yX11_price : MethodName := ⟨RX11, "price", "(II)I"⟩
abbrev cX11_divides : ByteArray := prog_10_method_14_code
def yX11_divides : MethodName := ⟨RX11, "divides", "(I)Z"⟩
abbrev cX11_plain : ByteArray := prog_10_method_7_code
def yX11_plain : MethodName := ⟨RX11, "plain", "(I)I"⟩
abbrev cX11_fraction : ByteArray := prog_10_method_15_code
def yX11_fraction : MethodName := ⟨RX11, "fraction", "(I)I"⟩
abbrev cX11_withBase : ByteArray := prog_10_method_8_code
def yX11_withBase : MethodName := ⟨RX11, "withBase", "(II)I"⟩
abbrev cX11_weight : ByteArray := prog_10_method_19_code
def yX11_weight : MethodName := ⟨RX11, "weight", "(I)I"⟩
abbrev cX11_coefficients : ByteArray := prog_10_method_17_code
def yX11_coefficients : MethodName := ⟨RX11, "coefficients", "(I)I"⟩
abbrev cX11_entries : ByteArray := prog_10_method_16_code
def yX11_entries : MethodName := ⟨RX11, "entries", "(I)I"⟩
abbrev cX11_cells : ByteArray := prog_10_method_18_code
def yX11_cells : MethodName := ⟨RX11, "cells", "(I)I"⟩
theorem q236 : (Jvm.Cond.initialized "AlgebraHouse$Rings") ∈ lw_all := lw_g (lw_at lw_m1 19 rfl) rfl
theorem q1045 : (Jvm.Cond.static ({ cls := "AlgebraHouse$Rings", name := "of", desc := "(III)I" } : Jvm.MethodName)) ∈ lw_all := lw_g (lw_at lw_m4 108 rfl) rfl
theorem q1046 : (Jvm.Cond.code ({ cls := "AlgebraHouse$Rings", name := "of", desc := "(III)I" } : Jvm.MethodName) prog_10_method_2_code (3 : Nat) (Option.some Jvm.ClassFile.FieldType.int)) ∈ lw_all := lw_g (lw_at lw_m4 109 rfl) rfl
theorem q1064 : (Jvm.Cond.static ({ cls := "AlgebraHouse$Rings", name := "size", desc := "(I)I" } : Jvm.MethodName)) ∈ lw_all := lw_g (lw_at lw_m4 127 rfl) rfl
theorem q1065 : (Jvm.Cond.code ({ cls := "AlgebraHouse$Rings", name := "size", desc := "(I)I" } : Jvm.MethodName) prog_10_method_5_code (1 : Nat) (Option.some Jvm.ClassFile.FieldType.int)) ∈ lw_all := lw_g (lw_at lw_m4 128 rfl) rfl
theorem q1067 : (Jvm.Cond.static ({ cls := "AlgebraHouse$Rings", name := "depth", desc := "(I)I" } : Jvm.MethodName)) ∈ lw_all := lw_g (lw_at lw_m4 130 rfl) rfl
theorem q1068 : (Jvm.Cond.code ({ cls := "AlgebraHouse$Rings", name := "depth", desc := "(I)I" } : Jvm.MethodName) prog_10_method_4_code (1 : Nat) (Option.some Jvm.ClassFile.FieldType.int)) ∈ lw_all := lw_g (lw_at lw_m4 131 rfl) rfl
theorem q1103 : (Jvm.Cond.static ({ cls := "AlgebraHouse$Rings", name := "base", desc := "(I)I" } : Jvm.MethodName)) ∈ lw_all := lw_g (lw_at lw_m4 166 rfl) rfl
theorem q1104 : (Jvm.Cond.code ({ cls := "AlgebraHouse$Rings", name := "base", desc := "(I)I" } : Jvm.MethodName) prog_10_method_3_code (1 : Nat) (Option.some Jvm.ClassFile.FieldType.int)) ∈ lw_all := lw_g (lw_at lw_m4 167 rfl) rfl
theorem q1139 : (Jvm.Cond.static ({ cls := "AlgebraHouse$Rings", name := "join", desc := "(II)I" } : Jvm.MethodName)) ∈ lw_all := lw_g (lw_at lw_m4 202 rfl) rfl
theorem q1140 : (Jvm.Cond.code ({ cls := "AlgebraHouse$Rings", name := "join", desc := "(II)I" } : Jvm.MethodName) prog_10_method_9_code (6 : Nat) (Option.some Jvm.ClassFile.FieldType.int)) ∈ lw_all := lw_g (lw_at lw_m4 203 rfl) rfl
theorem q1141 : (Jvm.Cond.methodLink "AlgebraHouse$Rings" (9 : Nat) ({ cls := "AlgebraHouse$Rings", name := "base", desc := "(I)I" } : Jvm.MethodName)) ∈ lw_all := lw_g (lw_at lw_m4 204 rfl) rfl
theorem q1142 : (Jvm.Cond.methodLink "AlgebraHouse$Rings" (15 : Nat) ({ cls := "AlgebraHouse$Rings", name := "size", desc := "(I)I" } : Jvm.MethodName)) ∈ lw_all := lw_g (lw_at lw_m4 205 rfl) rfl
theorem q1143 : (Jvm.Cond.methodLink "AlgebraHouse$Rings" (18 : Nat) ({ cls := "AlgebraHouse$Rings", name := "depth", desc := "(I)I" } : Jvm.MethodName)) ∈ lw_all := lw_g (lw_at lw_m4 206 rfl) rfl
theorem q1144 : (Jvm.Cond.methodLink "AlgebraHouse$Rings" (21 : Nat) ({ cls := "java/lang/Math", name := "max", desc := "(II)I" } : Jvm.MethodName)) ∈ lw_all := lw_g (lw_at lw_m4 207 rfl) rfl
theorem q1145 : (Jvm.Cond.methodLink "AlgebraHouse$Rings" (27 : Nat) ({ cls := "AlgebraHouse$Rings", name := "of", desc := "(III)I" } : Jvm.MethodName)) ∈ lw_all := lw_g (lw_at lw_m4 208 rfl) rfl
theorem q1150 : (Jvm.Cond.static ({ cls := "AlgebraHouse$Rings", name := "isField", desc := "(I)Z" } : Jvm.MethodName)) ∈ lw_all := lw_g (lw_at lw_m4 213 rfl) rfl
theorem q1151 : (Jvm.Cond.code ({ cls := "AlgebraHouse$Rings", name := "isField", desc := "(I)Z" } : Jvm.MethodName) prog_10_method_13_code (1 : Nat) (Option.some Jvm.ClassFile.FieldType.boolean)) ∈ lw_all := lw_g (lw_at lw_m4 214 rfl) rfl
theorem q1152 : (Jvm.Cond.methodLink "AlgebraHouse$Rings" (34 : Nat) ({ cls := "AlgebraHouse$Rings", name := "isPrime", desc := "(I)Z" } : Jvm.MethodName)) ∈ lw_all := lw_g (lw_at lw_m4 215 rfl) rfl
theorem q1153 : (Jvm.Cond.static ({ cls := "AlgebraHouse$Rings", name := "isPrime", desc := "(I)Z" } : Jvm.MethodName)) ∈ lw_all := lw_g (lw_at lw_m4 216 rfl) rfl
theorem q1154 : (Jvm.Cond.code ({ cls := "AlgebraHouse$Rings", name := "isPrime", desc := "(I)Z" } : Jvm.MethodName) prog_10_method_12_code (2 : Nat) (Option.some Jvm.ClassFile.FieldType.boolean)) ∈ lw_all := lw_g (lw_at lw_m4 217 rfl) rfl
theorem q1160 : (Jvm.Cond.static ({ cls := "AlgebraHouse$Rings", name := "goes", desc := "(II)Z" } : Jvm.MethodName)) ∈ lw_all := lw_g (lw_at lw_m4 223 rfl) rfl
theorem q1161 : (Jvm.Cond.code ({ cls := "AlgebraHouse$Rings", name := "goes", desc := "(II)Z" } : Jvm.MethodName) prog_10_method_10_code (2 : Nat) (Option.some Jvm.ClassFile.FieldType.boolean)) ∈ lw_all := lw_g (lw_at lw_m4 224 rfl) rfl
theorem q1162 : (Jvm.Cond.methodLink "AlgebraHouse$Rings" (31 : Nat) ({ cls := "AlgebraHouse$Rings", name := "join", desc := "(II)I" } : Jvm.MethodName)) ∈ lw_all := lw_g (lw_at lw_m4 225 rfl) rfl
theorem q1164 : (Jvm.Cond.static ({ cls := "AlgebraHouse$Rings", name := "price", desc := "(II)I" } : Jvm.MethodName)) ∈ lw_all := lw_g (lw_at lw_m4 227 rfl) rfl
theorem q1165 : (Jvm.Cond.code ({ cls := "AlgebraHouse$Rings", name := "price", desc := "(II)I" } : Jvm.MethodName) prog_10_method_11_code (2 : Nat) (Option.some Jvm.ClassFile.FieldType.int)) ∈ lw_all := lw_g (lw_at lw_m4 228 rfl) rfl
theorem q1179 : (Jvm.Cond.static ({ cls := "AlgebraHouse$Rings", name := "divides", desc := "(I)Z" } : Jvm.MethodName)) ∈ lw_all := lw_g (lw_at lw_m5 2 rfl) rfl
theorem q1180 : (Jvm.Cond.code ({ cls := "AlgebraHouse$Rings", name := "divides", desc := "(I)Z" } : Jvm.MethodName) prog_10_method_14_code (1 : Nat) (Option.some Jvm.ClassFile.FieldType.boolean)) ∈ lw_all := lw_g (lw_at lw_m5 3 rfl) rfl
theorem q1181 : (Jvm.Cond.methodLink "AlgebraHouse$Rings" (38 : Nat) ({ cls := "AlgebraHouse$Rings", name := "isField", desc := "(I)Z" } : Jvm.MethodName)) ∈ lw_all := lw_g (lw_at lw_m5 4 rfl) rfl
theorem q1187 : (Jvm.Cond.static ({ cls := "AlgebraHouse$Rings", name := "plain", desc := "(I)I" } : Jvm.MethodName)) ∈ lw_all := lw_g (lw_at lw_m5 10 rfl) rfl
theorem q1188 : (Jvm.Cond.code ({ cls := "AlgebraHouse$Rings", name := "plain", desc := "(I)I" } : Jvm.MethodName) prog_10_method_7_code (1 : Nat) (Option.some Jvm.ClassFile.FieldType.int)) ∈ lw_all := lw_g (lw_at lw_m5 11 rfl) rfl
theorem q1191 : (Jvm.Cond.static ({ cls := "AlgebraHouse$Rings", name := "fraction", desc := "(I)I" } : Jvm.MethodName)) ∈ lw_all := lw_g (lw_at lw_m5 14 rfl) rfl
theorem q1192 : (Jvm.Cond.code ({ cls := "AlgebraHouse$Rings", name := "fraction", desc := "(I)I" } : Jvm.MethodName) prog_10_method_15_code (1 : Nat) (Option.some Jvm.ClassFile.FieldType.int)) ∈ lw_all := lw_g (lw_at lw_m5 15 rfl) rfl
theorem q1193 : (Jvm.Cond.methodLink "AlgebraHouse$Rings" (41 : Nat) ({ cls := "AlgebraHouse$Rings", name := "withBase", desc := "(II)I" } : Jvm.MethodName)) ∈ lw_all := lw_g (lw_at lw_m5 16 rfl) rfl
theorem q1194 : (Jvm.Cond.static ({ cls := "AlgebraHouse$Rings", name := "withBase", desc := "(II)I" } : Jvm.MethodName)) ∈ lw_all := lw_g (lw_at lw_m5 17 rfl) rfl
theorem q1195 : (Jvm.Cond.code ({ cls := "AlgebraHouse$Rings", name := "withBase", desc := "(II)I" } : Jvm.MethodName) prog_10_method_8_code (2 : Nat) (Option.some Jvm.ClassFile.FieldType.int)) ∈ lw_all := lw_g (lw_at lw_m5 18 rfl) rfl
theorem q1240 : (Jvm.Cond.static ({ cls := "AlgebraHouse$Rings", name := "weight", desc := "(I)I" } : Jvm.MethodName)) ∈ lw_all := lw_g (lw_at lw_m5 63 rfl) rfl
theorem q1241 : (Jvm.Cond.code ({ cls := "AlgebraHouse$Rings", name := "weight", desc := "(I)I" } : Jvm.MethodName) prog_10_method_19_code (1 : Nat) (Option.some Jvm.ClassFile.FieldType.int)) ∈ lw_all := lw_g (lw_at lw_m5 64 rfl) rfl
theorem q1242 : (Jvm.Cond.methodLink "AlgebraHouse$Rings" (47 : Nat) ({ cls := "AlgebraHouse$Rings", name := "coefficients", desc := "(I)I" } : Jvm.MethodName)) ∈ lw_all := lw_g (lw_at lw_m5 65 rfl) rfl
theorem q1243 : (Jvm.Cond.static ({ cls := "AlgebraHouse$Rings", name := "coefficients", desc := "(I)I" } : Jvm.MethodName)) ∈ lw_all := lw_g (lw_at lw_m5 66 rfl) rfl
theorem q1244 : (Jvm.Cond.code ({ cls := "AlgebraHouse$Rings", name := "coefficients", desc := "(I)I" } : Jvm.MethodName) prog_10_method_17_code (1 : Nat) (Option.some Jvm.ClassFile.FieldType.int)) ∈ lw_all := lw_g (lw_at lw_m5 67 rfl) rfl
theorem q1245 : (Jvm.Cond.methodLink "AlgebraHouse$Rings" (44 : Nat) ({ cls := "AlgebraHouse$Rings", name := "entries", desc := "(I)I" } : Jvm.MethodName)) ∈ lw_all := lw_g (lw_at lw_m5 68 rfl) rfl
theorem q1246 : (Jvm.Cond.static ({ cls := "AlgebraHouse$Rings", name := "entries", desc := "(I)I" } : Jvm.MethodName)) ∈ lw_all := lw_g (lw_at lw_m5 69 rfl) rfl
theorem q1247 : (Jvm.Cond.code ({ cls := "AlgebraHouse$Rings", name := "entries", desc := "(I)I" } : Jvm.MethodName) prog_10_method_16_code (1 : Nat) (Option.some Jvm.ClassFile.FieldType.int)) ∈ lw_all := lw_g (lw_at lw_m5 70 rfl) rfl
theorem q1308 : (Jvm.Cond.static ({ cls := "AlgebraHouse$Rings", name := "cells", desc := "(I)I" } : Jvm.MethodName)) ∈ lw_all := lw_g (lw_at lw_m5 131 rfl) rfl
theorem q1309 : (Jvm.Cond.code ({ cls := "AlgebraHouse$Rings", name := "cells", desc := "(I)I" } : Jvm.MethodName) prog_10_method_18_code (1 : Nat) (Option.some Jvm.ClassFile.FieldType.int)) ∈ lw_all := lw_g (lw_at lw_m5 132 rfl) rfl
/-! java/lang/Integer -/
def RJ6 : String := "java/lang/Integer"
abbrev cJ6_numberOfTrailingZeros : ByteArray := prog_16_method_48_code
def yJ6_numberOfTrailingZeros : MethodName := ⟨RJ6, "numberOfTrailingZeros", "(I)I"⟩
theorem q237 : (Jvm.Cond.initialized "java/lang/Integer") ∈ lw_all := lw_g (lw_at lw_m1 20 rfl) rfl
theorem q1488 : (Jvm.Cond.static ({ cls := "java/lang/Integer", name := "numberOfTrailingZeros", desc := "(I)I" } : Jvm.MethodName)) ∈ lw_all := lw_g (lw_at lw_m6 71 rfl) rfl
theorem q1489 : (Jvm.Cond.code ({ cls := "java/lang/Integer", name := "numberOfTrailingZeros", desc := "(I)I" } : Jvm.MethodName) prog_16_method_48_code (2 : Nat) (Option.some Jvm.ClassFile.FieldType.int)) ∈ lw_all := lw_g (lw_at lw_m6 72 rfl) rfl
theorem q1490 : (Jvm.Cond.constant "java/lang/Integer" (264 : Nat) (65536 : Int32)) ∈ lw_all := lw_g (lw_at lw_m6 73 rfl) rfl
/-! java/lang/Object -/
def RJ7 : String := "java/lang/Object"
abbrev cJ7_init : ByteArray := object_method_1_code
def yJ7_init : MethodName := ⟨RJ7, "<init>", "()V"⟩
theorem q244 : (Jvm.Cond.instanceMethod ({ cls := "java/lang/Object", name := "<init>", desc := "()V" } : Jvm.MethodName)) ∈ lw_all := lw_g (lw_at lw_m1 27 rfl) rfl
theorem q245 : (Jvm.Cond.code ({ cls := "java/lang/Object", name := "<init>", desc := "()V" } : Jvm.MethodName) object_method_1_code (1 : Nat) (Option.none : Option Jvm.ClassFile.FieldType)) ∈ lw_all := lw_g (lw_at lw_m1 28 rfl) rfl
/-! the law's own entry -/
abbrev cL_law : ByteArray := code
theorem q253 : (Jvm.Cond.arrayOver (Jvm.ClassFile.FieldType.object "AlgebraHouse$Text")) ∈ lw_tbl := lw_at lw_m1 36 rfl
theorem q408 : (Jvm.Cond.arrayClass Jvm.ClassFile.FieldType.byte) ∈ lw_all := lw_g (lw_at lw_m1 191 rfl) rfl
theorem q409 : (Jvm.Cond.arrayClass Jvm.ClassFile.FieldType.long) ∈ lw_all := lw_g (lw_at lw_m1 192 rfl) rfl
theorem q410 : (Jvm.Cond.arrayClass Jvm.ClassFile.FieldType.int) ∈ lw_all := lw_g (lw_at lw_m1 193 rfl) rfl
theorem q411 : (Jvm.Cond.arrayClass Jvm.ClassFile.FieldType.boolean) ∈ lw_all := lw_g (lw_at lw_m1 194 rfl) rfl
theorem q589 : (Jvm.Cond.arrayOver (Jvm.ClassFile.FieldType.object "AlgebraHouse$Code")) ∈ lw_tbl := lw_at lw_m2 132 rfl
theorem q217 : (Jvm.Cond.initialized "AlgebraHouseLaw") ∈ lw_all := lw_g (lw_at lw_m1 0 rfl) rfl
theorem q238 : (Jvm.Cond.classLink "AlgebraHouseLaw" (7 : Nat) "AlgebraHouse") ∈ lw_all := lw_g (lw_at lw_m1 21 rfl) rfl
theorem q240 : (Jvm.Cond.methodLink "AlgebraHouseLaw" (9 : Nat) ({ cls := "AlgebraHouse", name := "<init>", desc := "()V" } : Jvm.MethodName)) ∈ lw_all := lw_g (lw_at lw_m1 23 rfl) rfl
theorem q738 : (Jvm.Cond.methodLink "AlgebraHouseLaw" (13 : Nat) ({ cls := "AlgebraHouse", name := "feed", desc := "(IIIII)I" } : Jvm.MethodName)) ∈ lw_all := lw_g (lw_at lw_m3 41 rfl) rfl
theorem q742 : (Jvm.Cond.methodLink "AlgebraHouseLaw" (18 : Nat) ({ cls := "AlgebraHouse", name := "line", desc := "(I)I" } : Jvm.MethodName)) ∈ lw_all := lw_g (lw_at lw_m3 45 rfl) rfl
theorem q1569 : (Jvm.Cond.methodLink "AlgebraHouseLaw" (23 : Nat) ({ cls := "AlgebraHouse", name := "told", desc := "(I)I" } : Jvm.MethodName)) ∈ lw_all := lw_g (lw_at lw_m6 152 rfl) rfl
theorem q1573 : (Jvm.Cond.methodLink "AlgebraHouseLaw" (27 : Nat) ({ cls := "AlgebraHouse", name := "count", desc := "(I)I" } : Jvm.MethodName)) ∈ lw_all := lw_g (lw_at lw_m6 156 rfl) rfl
theorem q1577 : (Jvm.Cond.methodLink "AlgebraHouseLaw" (31 : Nat) ({ cls := "AlgebraHouse", name := "ring", desc := "(II)I" } : Jvm.MethodName)) ∈ lw_all := lw_g (lw_at lw_m6 160 rfl) rfl
theorem q1595 : (Jvm.Cond.methodLink "AlgebraHouseLaw" (36 : Nat) ({ cls := "AlgebraHouse", name := "entry", desc := "(IIIIII)I" } : Jvm.MethodName)) ∈ lw_all := lw_g (lw_at lw_m6 178 rfl) rfl
theorem q1601 : (Jvm.Cond.methodLink "AlgebraHouseLaw" (41 : Nat) ({ cls := "AlgebraHouse", name := "function", desc := "(II)I" } : Jvm.MethodName)) ∈ lw_all := lw_g (lw_at lw_m6 184 rfl) rfl
theorem q1605 : (Jvm.Cond.methodLink "AlgebraHouseLaw" (47 : Nat) ({ cls := "AlgebraHouse", name := "meant", desc := "(JIIII)I" } : Jvm.MethodName)) ∈ lw_all := lw_g (lw_at lw_m6 188 rfl) rfl
theorem q1611 : (Jvm.Cond.classLink "AlgebraHouseLaw" (10 : Nat) "AlgebraHouseModel") ∈ lw_all := lw_g (lw_at lw_m6 194 rfl) rfl
theorem q1613 : (Jvm.Cond.methodLink "AlgebraHouseLaw" (12 : Nat) ({ cls := "AlgebraHouseModel", name := "<init>", desc := "()V" } : Jvm.MethodName)) ∈ lw_all := lw_g (lw_at lw_m6 196 rfl) rfl
theorem q2003 : (Jvm.Cond.methodLink "AlgebraHouseLaw" (17 : Nat) ({ cls := "AlgebraHouseModel", name := "feed", desc := "(IIIII)I" } : Jvm.MethodName)) ∈ lw_all := lw_g (lw_at lw_m8 106 rfl) rfl
theorem q2011 : (Jvm.Cond.methodLink "AlgebraHouseLaw" (22 : Nat) ({ cls := "AlgebraHouseModel", name := "line", desc := "(I)I" } : Jvm.MethodName)) ∈ lw_all := lw_g (lw_at lw_m8 114 rfl) rfl
theorem q2571 : (Jvm.Cond.methodLink "AlgebraHouseLaw" (26 : Nat) ({ cls := "AlgebraHouseModel", name := "told", desc := "(I)I" } : Jvm.MethodName)) ∈ lw_all := lw_g (lw_at lw_m10 194 rfl) rfl
theorem q2575 : (Jvm.Cond.methodLink "AlgebraHouseLaw" (30 : Nat) ({ cls := "AlgebraHouseModel", name := "count", desc := "(I)I" } : Jvm.MethodName)) ∈ lw_all := lw_g (lw_at lw_m10 198 rfl) rfl
theorem q2579 : (Jvm.Cond.methodLink "AlgebraHouseLaw" (35 : Nat) ({ cls := "AlgebraHouseModel", name := "ring", desc := "(II)I" } : Jvm.MethodName)) ∈ lw_all := lw_g (lw_at lw_m10 202 rfl) rfl
theorem q2588 : (Jvm.Cond.methodLink "AlgebraHouseLaw" (40 : Nat) ({ cls := "AlgebraHouseModel", name := "entry", desc := "(IIIIII)I" } : Jvm.MethodName)) ∈ lw_all := lw_g (lw_at lw_m10 211 rfl) rfl
theorem q2593 : (Jvm.Cond.methodLink "AlgebraHouseLaw" (44 : Nat) ({ cls := "AlgebraHouseModel", name := "function", desc := "(II)I" } : Jvm.MethodName)) ∈ lw_all := lw_g (lw_at lw_m10 216 rfl) rfl
theorem q2597 : (Jvm.Cond.methodLink "AlgebraHouseLaw" (51 : Nat) ({ cls := "AlgebraHouseModel", name := "meant", desc := "(JIIII)I" } : Jvm.MethodName)) ∈ lw_all := lw_g (lw_at lw_m10 220 rfl) rfl
theorem q2602 : (Jvm.Cond.constantLong "AlgebraHouseLaw" (45 : Nat) (4294967295 : Int64)) ∈ lw_all := lw_g (lw_at lw_m10 225 rfl) rfl
theorem q229 : (Jvm.Cond.initialized "java/lang/System") ∈ lw_all := lw_g (lw_at lw_m1 12 rfl) rfl
theorem q760 : (Jvm.Cond.static ({ cls := "java/lang/System", name := "arraycopy", desc := "(Ljava/lang/Object;ILjava/lang/Object;II)V" } : Jvm.MethodName)) ∈ lw_all := lw_g (lw_at lw_m3 63 rfl) rfl
theorem q761 : (Jvm.Cond.native ({ cls := "java/lang/System", name := "arraycopy", desc := "(Ljava/lang/Object;ILjava/lang/Object;II)V" } : Jvm.MethodName)) ∈ lw_all := lw_g (lw_at lw_m3 64 rfl) rfl
theorem q2603 : (Jvm.Cond.castable "AlgebraHouse$Fault" "AlgebraHouse$Fault") ∈ lw_tbl := lw_at lw_m10 226 rfl
