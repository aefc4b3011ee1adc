set_option maxRecDepth 100000
abbrev cL_law : ByteArray := code
abbrev R_law : String := "TwoWorldsLaw"
def RX0 : String := "TwoWorlds"
def TX0 : u_T := fun k => match k with
  | 0 => ("TwoWorlds", "worlds", "[LTwoWorlds$World;", true)
  | 1 => ("TwoWorlds", "played", "LTwoWorlds$Match;", false)
  | 2 => ("TwoWorlds", "rounds", "I", false)
  | 3 => ("TwoWorlds", "turn", "I", false)
  | 4 => ("TwoWorlds", "pickSide", "I", false)
  | 5 => ("TwoWorlds", "pickThing", "I", false)
  | 6 => ("TwoWorlds", "tape", "[B", true)
  | 7 => ("TwoWorlds", "taped", "I", false)
  | 8 => ("TwoWorlds", "sentences", "Ljava/util/List;", true)
  | 9 => ("TwoWorlds", "askedLast", "I", false)
  | 10 => ("TwoWorlds", "kinds", "[I", true)
  | 11 => ("TwoWorlds", "kindMany", "I", false)
  | _ => ("TwoWorlds", "coloured", "LTwoWorlds$Colouring;", false)
def tyX0 : Nat → FieldType := fun k => match k with
  | 0 => .array (.object "TwoWorlds$World")
  | 1 => .object "TwoWorlds$Match"
  | 2 => .int
  | 3 => .int
  | 4 => .int
  | 5 => .int
  | 6 => .array .byte
  | 7 => .int
  | 8 => .object "java/util/List"
  | 9 => .int
  | 10 => .array .int
  | 11 => .int
  | _ => .object "TwoWorlds$Colouring"
abbrev wsX00 : List Cond := u_ws RX0 TX0 13
theorem nmX0 : ∀ a, a < 13 → ∀ b, b < 13 → a ≠ b → (TX0 a).2.1 ≠ (TX0 b).2.1 := by decide +kernel
theorem tyX0_ok : ∀ k, k < 13 → parseFieldDescriptor (TX0 k).2.2.1 = some (tyX0 k) := by decide +kernel
abbrev cX0_init : ByteArray := prog_1_method_1_code
abbrev yX0_init : MethodName := ⟨RX0, "<init>", "()V"⟩
abbrev cX0_world : ByteArray := prog_1_method_6_code
abbrev yX0_world : MethodName := ⟨RX0, "world", "(II)I"⟩
abbrev cX0_isPlace : ByteArray := prog_1_method_3_code
abbrev yX0_isPlace : MethodName := ⟨RX0, "isPlace", "(I)Z"⟩
abbrev cX0_isIn : ByteArray := prog_1_method_2_code
abbrev yX0_isIn : MethodName := ⟨RX0, "isIn", "(JJJ)Z"⟩
abbrev cX0_mark : ByteArray := prog_1_method_7_code
abbrev yX0_mark : MethodName := ⟨RX0, "mark", "(IIIZ)I"⟩
abbrev cX0_isThing : ByteArray := prog_1_method_5_code
abbrev yX0_isThing : MethodName := ⟨RX0, "isThing", "(II)Z"⟩
abbrev cX0_isWorld : ByteArray := prog_1_method_4_code
abbrev yX0_isWorld : MethodName := ⟨RX0, "isWorld", "(I)Z"⟩
abbrev cX0_tie : ByteArray := prog_1_method_8_code
abbrev yX0_tie : MethodName := ⟨RX0, "tie", "(IIIZ)I"⟩
abbrev cX0_turn : ByteArray := prog_1_method_9_code
abbrev yX0_turn : MethodName := ⟨RX0, "turn", "(IIII)I"⟩
abbrev cX0_join : ByteArray := prog_1_method_10_code
abbrev yX0_join : MethodName := ⟨RX0, "join", "(III)I"⟩
abbrev cX0_about : ByteArray := prog_1_method_11_code
abbrev yX0_about : MethodName := ⟨RX0, "about", "(II)I"⟩
abbrev cX0_tied : ByteArray := prog_1_method_12_code
abbrev yX0_tied : MethodName := ⟨RX0, "tied", "(III)I"⟩
abbrev cX0_game : ByteArray := prog_1_method_14_code
abbrev yX0_game : MethodName := ⟨RX0, "game", "(III)I"⟩
abbrev cX0_match : ByteArray := prog_1_method_13_code
abbrev yX0_match : MethodName := ⟨RX0, "match", "(II)LTwoWorlds$Match;"⟩
abbrev cX0_rank : ByteArray := prog_1_method_16_code
abbrev yX0_rank : MethodName := ⟨RX0, "rank", "(II)I"⟩
abbrev cX0_rankOf : ByteArray := prog_1_method_15_code
abbrev yX0_rankOf : MethodName := ⟨RX0, "rankOf", "(LTwoWorlds$Match;)I"⟩
abbrev cX0_play : ByteArray := prog_1_method_18_code
abbrev yX0_play : MethodName := ⟨RX0, "play", "(III)I"⟩
abbrev cX0_copyOf : ByteArray := prog_1_method_17_code
abbrev yX0_copyOf : MethodName := ⟨RX0, "copyOf", "(LTwoWorlds$World;)LTwoWorlds$World;"⟩
abbrev cX0_pick : ByteArray := prog_1_method_19_code
abbrev yX0_pick : MethodName := ⟨RX0, "pick", "(II)I"⟩
abbrev cX0_answer : ByteArray := prog_1_method_20_code
abbrev yX0_answer : MethodName := ⟨RX0, "answer", "(I)I"⟩
abbrev cX0_best : ByteArray := prog_1_method_21_code
abbrev yX0_best : MethodName := ⟨RX0, "best", "()I"⟩
abbrev cX0_state : ByteArray := prog_1_method_22_code
abbrev yX0_state : MethodName := ⟨RX0, "state", "()I"⟩
abbrev cX0_left : ByteArray := prog_1_method_23_code
abbrev yX0_left : MethodName := ⟨RX0, "left", "()I"⟩
abbrev cX0_feed : ByteArray := prog_1_method_27_code
abbrev yX0_feed : MethodName := ⟨RX0, "feed", "(IIIII)I"⟩
abbrev cX0_trim : ByteArray := prog_1_method_28_code
abbrev yX0_trim : MethodName := ⟨RX0, "trim", "(I)I"⟩
abbrev cX0_read : ByteArray := prog_1_method_29_code
abbrev yX0_read : MethodName := ⟨RX0, "read", "()I"⟩
abbrev cX0_comes : ByteArray := prog_1_method_26_code
abbrev yX0_comes : MethodName := ⟨RX0, "comes", "(LTwoWorlds$Formula;)I"⟩
abbrev cX0_textOf : ByteArray := prog_1_method_24_code
abbrev yX0_textOf : MethodName := ⟨RX0, "textOf", "(LTwoWorlds$Formula;)[B"⟩
abbrev cX0_sentence : ByteArray := prog_1_method_30_code
abbrev yX0_sentence : MethodName := ⟨RX0, "sentence", "(II)I"⟩
abbrev cX0_isSentence : ByteArray := prog_1_method_25_code
abbrev yX0_isSentence : MethodName := ⟨RX0, "isSentence", "(I)Z"⟩
abbrev cX0_written : ByteArray := prog_1_method_31_code
abbrev yX0_written : MethodName := ⟨RX0, "written", "(II)I"⟩
abbrev cX0_holds : ByteArray := prog_1_method_32_code
abbrev yX0_holds : MethodName := ⟨RX0, "holds", "(II)I"⟩
abbrev cX0_asked : ByteArray := prog_1_method_33_code
abbrev yX0_asked : MethodName := ⟨RX0, "asked", "()I"⟩
abbrev cX0_same : ByteArray := prog_1_method_34_code
abbrev yX0_same : MethodName := ⟨RX0, "same", "(II)I"⟩
abbrev cX0_part : ByteArray := prog_1_method_40_code
abbrev yX0_part : MethodName := ⟨RX0, "part", "(II)I"⟩
abbrev cX0_parting : ByteArray := prog_1_method_37_code
abbrev yX0_parting : MethodName := ⟨RX0, "parting", "(LTwoWorlds$Match;I)LTwoWorlds$Formula;"⟩
abbrev cX0_unlike : ByteArray := prog_1_method_36_code
abbrev yX0_unlike : MethodName := ⟨RX0, "unlike", "(LTwoWorlds$Match;I)LTwoWorlds$Formula;"⟩
abbrev cX0_literal : ByteArray := prog_1_method_35_code
abbrev yX0_literal : MethodName := ⟨RX0, "literal", "(CIIZZ)LTwoWorlds$Formula;"⟩
abbrev cX0_answers : ByteArray := prog_1_method_38_code
abbrev yX0_answers : MethodName := ⟨RX0, "answers", "(LTwoWorlds$Match;II)LTwoWorlds$Formula;"⟩
abbrev cX0_isThere : ByteArray := prog_1_method_39_code
abbrev yX0_isThere : MethodName := ⟨RX0, "isThere", "(Ljava/util/List;LTwoWorlds$Formula;)Z"⟩
abbrev cX0_kinds : ByteArray := prog_1_method_41_code
abbrev yX0_kinds : MethodName := ⟨RX0, "kinds", "(III)I"⟩
abbrev cX0_kind : ByteArray := prog_1_method_42_code
abbrev yX0_kind : MethodName := ⟨RX0, "kind", "(I)I"⟩
abbrev cX0_colour : ByteArray := prog_1_method_43_code
abbrev yX0_colour : MethodName := ⟨RX0, "colour", "(III)I"⟩
abbrev cX0_coloured : ByteArray := prog_1_method_44_code
abbrev yX0_coloured : MethodName := ⟨RX0, "coloured", "(I)I"⟩
abbrev cX0_still : ByteArray := prog_1_method_45_code
abbrev yX0_still : MethodName := ⟨RX0, "still", "(I)I"⟩
abbrev cX0_told : ByteArray := prog_1_method_46_code
abbrev yX0_told : MethodName := ⟨RX0, "told", "(I)I"⟩
theorem q87 : (Jvm.Cond.initialized "TwoWorlds") ∈ lw_all := lw_g (lw_at lw_m1 1 rfl) rfl
theorem q117 : (Jvm.Cond.instantiable "TwoWorlds" (13 : Nat)) ∈ lw_all := lw_g (lw_at lw_m1 31 rfl) rfl
theorem q119 : (Jvm.Cond.instanceMethod ({ cls := "TwoWorlds", name := "<init>", desc := "()V" } : Jvm.MethodName)) ∈ lw_all := lw_g (lw_at lw_m1 33 rfl) rfl
theorem q120 : (Jvm.Cond.code ({ cls := "TwoWorlds", name := "<init>", desc := "()V" } : Jvm.MethodName) prog_1_method_1_code (1 : Nat) (Option.none : Option Jvm.ClassFile.FieldType)) ∈ lw_all := lw_g (lw_at lw_m1 34 rfl) rfl
theorem q121 : (Jvm.Cond.methodLink "TwoWorlds" (1 : Nat) ({ cls := "java/lang/Object", name := "<init>", desc := "()V" } : Jvm.MethodName)) ∈ lw_all := lw_g (lw_at lw_m1 35 rfl) rfl
theorem q124 : (Jvm.Cond.classLink "TwoWorlds" (9 : Nat) "TwoWorlds$World") ∈ lw_all := lw_g (lw_at lw_m1 38 rfl) rfl
theorem q126 : (Jvm.Cond.classLink "TwoWorlds" (19 : Nat) "java/util/ArrayList") ∈ lw_all := lw_g (lw_at lw_m1 40 rfl) rfl
theorem q128 : (Jvm.Cond.methodLink "TwoWorlds" (21 : Nat) ({ cls := "java/util/ArrayList", name := "<init>", desc := "()V" } : Jvm.MethodName)) ∈ lw_all := lw_g (lw_at lw_m1 42 rfl) rfl
theorem q153 : (Jvm.Cond.fieldLink "TwoWorlds" (11 : Nat) "TwoWorlds" "worlds" "[LTwoWorlds$World;") ∈ lw_all := lw_g (lw_at lw_m1 67 rfl) rfl
theorem q154 : (Jvm.Cond.fieldLink "TwoWorlds" (101 : Nat) "TwoWorlds" "played" "LTwoWorlds$Match;") ∈ lw_all := lw_g (lw_at lw_m1 68 rfl) rfl
theorem q155 : (Jvm.Cond.fieldLink "TwoWorlds" (105 : Nat) "TwoWorlds" "rounds" "I") ∈ lw_all := lw_g (lw_at lw_m1 69 rfl) rfl
theorem q156 : (Jvm.Cond.fieldLink "TwoWorlds" (108 : Nat) "TwoWorlds" "turn" "I") ∈ lw_all := lw_g (lw_at lw_m1 70 rfl) rfl
theorem q157 : (Jvm.Cond.fieldLink "TwoWorlds" (114 : Nat) "TwoWorlds" "pickSide" "I") ∈ lw_all := lw_g (lw_at lw_m1 71 rfl) rfl
theorem q158 : (Jvm.Cond.fieldLink "TwoWorlds" (117 : Nat) "TwoWorlds" "pickThing" "I") ∈ lw_all := lw_g (lw_at lw_m1 72 rfl) rfl
theorem q159 : (Jvm.Cond.fieldLink "TwoWorlds" (15 : Nat) "TwoWorlds" "tape" "[B") ∈ lw_all := lw_g (lw_at lw_m1 73 rfl) rfl
theorem q160 : (Jvm.Cond.fieldLink "TwoWorlds" (178 : Nat) "TwoWorlds" "taped" "I") ∈ lw_all := lw_g (lw_at lw_m1 74 rfl) rfl
theorem q161 : (Jvm.Cond.fieldLink "TwoWorlds" (22 : Nat) "TwoWorlds" "sentences" "Ljava/util/List;") ∈ lw_all := lw_g (lw_at lw_m1 75 rfl) rfl
theorem q162 : (Jvm.Cond.fieldLink "TwoWorlds" (230 : Nat) "TwoWorlds" "askedLast" "I") ∈ lw_all := lw_g (lw_at lw_m1 76 rfl) rfl
theorem q163 : (Jvm.Cond.fieldLink "TwoWorlds" (26 : Nat) "TwoWorlds" "kinds" "[I") ∈ lw_all := lw_g (lw_at lw_m1 77 rfl) rfl
theorem q164 : (Jvm.Cond.fieldLink "TwoWorlds" (292 : Nat) "TwoWorlds" "kindMany" "I") ∈ lw_all := lw_g (lw_at lw_m1 78 rfl) rfl
theorem q165 : (Jvm.Cond.fieldLink "TwoWorlds" (301 : Nat) "TwoWorlds" "coloured" "LTwoWorlds$Colouring;") ∈ lw_all := lw_g (lw_at lw_m1 79 rfl) rfl
theorem q166 : (Jvm.Cond.laysFinal "TwoWorlds" "TwoWorlds" "worlds" "[LTwoWorlds$World;") ∈ lw_all := lw_g (lw_at lw_m1 80 rfl) rfl
theorem q167 : (Jvm.Cond.soleField "TwoWorlds" "worlds") ∈ lw_all := lw_g (lw_at lw_m1 81 rfl) rfl
theorem q168 : (Jvm.Cond.lays "TwoWorlds" "TwoWorlds" "played" "LTwoWorlds$Match;") ∈ lw_all := lw_g (lw_at lw_m1 82 rfl) rfl
theorem q169 : (Jvm.Cond.soleField "TwoWorlds" "played") ∈ lw_all := lw_g (lw_at lw_m1 83 rfl) rfl
theorem q170 : (Jvm.Cond.lays "TwoWorlds" "TwoWorlds" "rounds" "I") ∈ lw_all := lw_g (lw_at lw_m1 84 rfl) rfl
theorem q171 : (Jvm.Cond.soleField "TwoWorlds" "rounds") ∈ lw_all := lw_g (lw_at lw_m1 85 rfl) rfl
theorem q172 : (Jvm.Cond.lays "TwoWorlds" "TwoWorlds" "turn" "I") ∈ lw_all := lw_g (lw_at lw_m1 86 rfl) rfl
theorem q173 : (Jvm.Cond.soleField "TwoWorlds" "turn") ∈ lw_all := lw_g (lw_at lw_m1 87 rfl) rfl
theorem q174 : (Jvm.Cond.lays "TwoWorlds" "TwoWorlds" "pickSide" "I") ∈ lw_all := lw_g (lw_at lw_m1 88 rfl) rfl
theorem q175 : (Jvm.Cond.soleField "TwoWorlds" "pickSide") ∈ lw_all := lw_g (lw_at lw_m1 89 rfl) rfl
theorem q176 : (Jvm.Cond.lays "TwoWorlds" "TwoWorlds" "pickThing" "I") ∈ lw_all := lw_g (lw_at lw_m1 90 rfl) rfl
theorem q177 : (Jvm.Cond.soleField "TwoWorlds" "pickThing") ∈ lw_all := lw_g (lw_at lw_m1 91 rfl) rfl
theorem q178 : (Jvm.Cond.laysFinal "TwoWorlds" "TwoWorlds" "tape" "[B") ∈ lw_all := lw_g (lw_at lw_m1 92 rfl) rfl
theorem q179 : (Jvm.Cond.soleField "TwoWorlds" "tape") ∈ lw_all := lw_g (lw_at lw_m1 93 rfl) rfl
theorem q180 : (Jvm.Cond.lays "TwoWorlds" "TwoWorlds" "taped" "I") ∈ lw_all := lw_g (lw_at lw_m1 94 rfl) rfl
theorem q181 : (Jvm.Cond.soleField "TwoWorlds" "taped") ∈ lw_all := lw_g (lw_at lw_m1 95 rfl) rfl
theorem q182 : (Jvm.Cond.laysFinal "TwoWorlds" "TwoWorlds" "sentences" "Ljava/util/List;") ∈ lw_all := lw_g (lw_at lw_m1 96 rfl) rfl
theorem q183 : (Jvm.Cond.soleField "TwoWorlds" "sentences") ∈ lw_all := lw_g (lw_at lw_m1 97 rfl) rfl
theorem q184 : (Jvm.Cond.lays "TwoWorlds" "TwoWorlds" "askedLast" "I") ∈ lw_all := lw_g (lw_at lw_m1 98 rfl) rfl
theorem q185 : (Jvm.Cond.soleField "TwoWorlds" "askedLast") ∈ lw_all := lw_g (lw_at lw_m1 99 rfl) rfl
theorem q186 : (Jvm.Cond.laysFinal "TwoWorlds" "TwoWorlds" "kinds" "[I") ∈ lw_all := lw_g (lw_at lw_m1 100 rfl) rfl
theorem q187 : (Jvm.Cond.soleField "TwoWorlds" "kinds") ∈ lw_all := lw_g (lw_at lw_m1 101 rfl) rfl
theorem q188 : (Jvm.Cond.lays "TwoWorlds" "TwoWorlds" "kindMany" "I") ∈ lw_all := lw_g (lw_at lw_m1 102 rfl) rfl
theorem q189 : (Jvm.Cond.soleField "TwoWorlds" "kindMany") ∈ lw_all := lw_g (lw_at lw_m1 103 rfl) rfl
theorem q190 : (Jvm.Cond.lays "TwoWorlds" "TwoWorlds" "coloured" "LTwoWorlds$Colouring;") ∈ lw_all := lw_g (lw_at lw_m1 104 rfl) rfl
theorem q191 : (Jvm.Cond.soleField "TwoWorlds" "coloured") ∈ lw_all := lw_g (lw_at lw_m1 105 rfl) rfl
theorem q192 : (Jvm.Cond.superclass "TwoWorlds" "java/lang/Object") ∈ lw_all := lw_g (lw_at lw_m1 106 rfl) rfl
theorem q195 : (Jvm.Cond.instanceMethod ({ cls := "TwoWorlds", name := "world", desc := "(II)I" } : Jvm.MethodName)) ∈ lw_all := lw_g (lw_at lw_m1 109 rfl) rfl
theorem q196 : (Jvm.Cond.selects "TwoWorlds" ({ cls := "TwoWorlds", name := "world", desc := "(II)I" } : Jvm.MethodName) ({ cls := "TwoWorlds", name := "world", desc := "(II)I" } : Jvm.MethodName)) ∈ lw_all := lw_g (lw_at lw_m1 110 rfl) rfl
theorem q197 : (Jvm.Cond.code ({ cls := "TwoWorlds", name := "world", desc := "(II)I" } : Jvm.MethodName) prog_1_method_6_code (3 : Nat) (Option.some Jvm.ClassFile.FieldType.int)) ∈ lw_all := lw_g (lw_at lw_m1 111 rfl) rfl
theorem q198 : (Jvm.Cond.methodLink "TwoWorlds" (36 : Nat) ({ cls := "TwoWorlds", name := "isPlace", desc := "(I)Z" } : Jvm.MethodName)) ∈ lw_all := lw_g (lw_at lw_m1 112 rfl) rfl
theorem q199 : (Jvm.Cond.static ({ cls := "TwoWorlds", name := "isPlace", desc := "(I)Z" } : Jvm.MethodName)) ∈ lw_all := lw_g (lw_at lw_m1 113 rfl) rfl
theorem q200 : (Jvm.Cond.code ({ cls := "TwoWorlds", name := "isPlace", desc := "(I)Z" } : Jvm.MethodName) prog_1_method_3_code (1 : Nat) (Option.some Jvm.ClassFile.FieldType.boolean)) ∈ lw_all := lw_g (lw_at lw_m1 114 rfl) rfl
theorem q201 : (Jvm.Cond.constantLong "TwoWorlds" (30 : Nat) (5 : Int64)) ∈ lw_all := lw_g (lw_at lw_m1 115 rfl) rfl
theorem q202 : (Jvm.Cond.methodLink "TwoWorlds" (32 : Nat) ({ cls := "TwoWorlds", name := "isIn", desc := "(JJJ)Z" } : Jvm.MethodName)) ∈ lw_all := lw_g (lw_at lw_m1 116 rfl) rfl
theorem q203 : (Jvm.Cond.static ({ cls := "TwoWorlds", name := "isIn", desc := "(JJJ)Z" } : Jvm.MethodName)) ∈ lw_all := lw_g (lw_at lw_m1 117 rfl) rfl
theorem q204 : (Jvm.Cond.code ({ cls := "TwoWorlds", name := "isIn", desc := "(JJJ)Z" } : Jvm.MethodName) prog_1_method_2_code (6 : Nat) (Option.some Jvm.ClassFile.FieldType.boolean)) ∈ lw_all := lw_g (lw_at lw_m1 118 rfl) rfl
theorem q205 : (Jvm.Cond.constantLong "TwoWorlds" (46 : Nat) (6 : Int64)) ∈ lw_all := lw_g (lw_at lw_m1 119 rfl) rfl
theorem q207 : (Jvm.Cond.methodLink "TwoWorlds" (48 : Nat) ({ cls := "TwoWorlds$World", name := "<init>", desc := "(I)V" } : Jvm.MethodName)) ∈ lw_all := lw_g (lw_at lw_m1 121 rfl) rfl
theorem q216 : (Jvm.Cond.fieldLinkNest "TwoWorlds" (64 : Nat) "TwoWorlds$World" "n" "I" "TwoWorlds") ∈ lw_tbl := lw_at lw_m1 130 rfl
theorem q221 : (Jvm.Cond.fieldLinkNest "TwoWorlds" (54 : Nat) "TwoWorlds$World" "marks" "[I" "TwoWorlds") ∈ lw_tbl := lw_at lw_m1 135 rfl
theorem q223 : (Jvm.Cond.fieldLinkNest "TwoWorlds" (60 : Nat) "TwoWorlds$World" "ties" "[Z" "TwoWorlds") ∈ lw_tbl := lw_at lw_m1 137 rfl
theorem q233 : (Jvm.Cond.instanceMethod ({ cls := "TwoWorlds", name := "mark", desc := "(IIIZ)I" } : Jvm.MethodName)) ∈ lw_all := lw_g (lw_at lw_m1 147 rfl) rfl
theorem q234 : (Jvm.Cond.selects "TwoWorlds" ({ cls := "TwoWorlds", name := "mark", desc := "(IIIZ)I" } : Jvm.MethodName) ({ cls := "TwoWorlds", name := "mark", desc := "(IIIZ)I" } : Jvm.MethodName)) ∈ lw_all := lw_g (lw_at lw_m1 148 rfl) rfl
theorem q235 : (Jvm.Cond.code ({ cls := "TwoWorlds", name := "mark", desc := "(IIIZ)I" } : Jvm.MethodName) prog_1_method_7_code (7 : Nat) (Option.some Jvm.ClassFile.FieldType.int)) ∈ lw_all := lw_g (lw_at lw_m1 149 rfl) rfl
theorem q236 : (Jvm.Cond.methodLink "TwoWorlds" (51 : Nat) ({ cls := "TwoWorlds", name := "isThing", desc := "(II)Z" } : Jvm.MethodName)) ∈ lw_all := lw_g (lw_at lw_m1 150 rfl) rfl
theorem q237 : (Jvm.Cond.privateMethod ({ cls := "TwoWorlds", name := "isThing", desc := "(II)Z" } : Jvm.MethodName)) ∈ lw_tbl := lw_at lw_m1 151 rfl
theorem q238 : (Jvm.Cond.instanceMethod ({ cls := "TwoWorlds", name := "isThing", desc := "(II)Z" } : Jvm.MethodName)) ∈ lw_all := lw_g (lw_at lw_m1 152 rfl) rfl
theorem q239 : (Jvm.Cond.code ({ cls := "TwoWorlds", name := "isThing", desc := "(II)Z" } : Jvm.MethodName) prog_1_method_5_code (3 : Nat) (Option.some Jvm.ClassFile.FieldType.boolean)) ∈ lw_all := lw_g (lw_at lw_m1 153 rfl) rfl
theorem q240 : (Jvm.Cond.methodLink "TwoWorlds" (40 : Nat) ({ cls := "TwoWorlds", name := "isWorld", desc := "(I)Z" } : Jvm.MethodName)) ∈ lw_all := lw_g (lw_at lw_m1 154 rfl) rfl
theorem q241 : (Jvm.Cond.privateMethod ({ cls := "TwoWorlds", name := "isWorld", desc := "(I)Z" } : Jvm.MethodName)) ∈ lw_tbl := lw_at lw_m1 155 rfl
theorem q242 : (Jvm.Cond.instanceMethod ({ cls := "TwoWorlds", name := "isWorld", desc := "(I)Z" } : Jvm.MethodName)) ∈ lw_all := lw_g (lw_at lw_m1 156 rfl) rfl
theorem q243 : (Jvm.Cond.code ({ cls := "TwoWorlds", name := "isWorld", desc := "(I)Z" } : Jvm.MethodName) prog_1_method_4_code (2 : Nat) (Option.some Jvm.ClassFile.FieldType.boolean)) ∈ lw_all := lw_g (lw_at lw_m1 157 rfl) rfl
theorem q244 : (Jvm.Cond.methodLink "TwoWorlds" (43 : Nat) ({ cls := "TwoWorlds$World", name := "isThing", desc := "(I)Z" } : Jvm.MethodName)) ∈ lw_all := lw_g (lw_at lw_m1 158 rfl) rfl
theorem q250 : (Jvm.Cond.instanceMethod ({ cls := "TwoWorlds", name := "tie", desc := "(IIIZ)I" } : Jvm.MethodName)) ∈ lw_all := lw_g (lw_at lw_m1 164 rfl) rfl
theorem q251 : (Jvm.Cond.selects "TwoWorlds" ({ cls := "TwoWorlds", name := "tie", desc := "(IIIZ)I" } : Jvm.MethodName) ({ cls := "TwoWorlds", name := "tie", desc := "(IIIZ)I" } : Jvm.MethodName)) ∈ lw_all := lw_g (lw_at lw_m1 165 rfl) rfl
theorem q252 : (Jvm.Cond.code ({ cls := "TwoWorlds", name := "tie", desc := "(IIIZ)I" } : Jvm.MethodName) prog_1_method_8_code (6 : Nat) (Option.some Jvm.ClassFile.FieldType.int)) ∈ lw_all := lw_g (lw_at lw_m1 166 rfl) rfl
theorem q253 : (Jvm.Cond.methodLink "TwoWorlds" (57 : Nat) ({ cls := "TwoWorlds$World", name := "isTied", desc := "(II)Z" } : Jvm.MethodName)) ∈ lw_all := lw_g (lw_at lw_m1 167 rfl) rfl
theorem q258 : (Jvm.Cond.instanceMethod ({ cls := "TwoWorlds", name := "turn", desc := "(IIII)I" } : Jvm.MethodName)) ∈ lw_all := lw_g (lw_at lw_m1 172 rfl) rfl
theorem q259 : (Jvm.Cond.selects "TwoWorlds" ({ cls := "TwoWorlds", name := "turn", desc := "(IIII)I" } : Jvm.MethodName) ({ cls := "TwoWorlds", name := "turn", desc := "(IIII)I" } : Jvm.MethodName)) ∈ lw_all := lw_g (lw_at lw_m1 173 rfl) rfl
theorem q260 : (Jvm.Cond.code ({ cls := "TwoWorlds", name := "turn", desc := "(IIII)I" } : Jvm.MethodName) prog_1_method_9_code (7 : Nat) (Option.some Jvm.ClassFile.FieldType.int)) ∈ lw_all := lw_g (lw_at lw_m1 174 rfl) rfl
theorem q261 : (Jvm.Cond.methodLink "TwoWorlds" (68 : Nat) ({ cls := "TwoWorlds$World", name := "take", desc := "(LTwoWorlds$World;[I)V" } : Jvm.MethodName)) ∈ lw_all := lw_g (lw_at lw_m1 175 rfl) rfl
theorem q267 : (Jvm.Cond.instanceMethod ({ cls := "TwoWorlds", name := "join", desc := "(III)I" } : Jvm.MethodName)) ∈ lw_all := lw_g (lw_at lw_m1 181 rfl) rfl
theorem q268 : (Jvm.Cond.selects "TwoWorlds" ({ cls := "TwoWorlds", name := "join", desc := "(III)I" } : Jvm.MethodName) ({ cls := "TwoWorlds", name := "join", desc := "(III)I" } : Jvm.MethodName)) ∈ lw_all := lw_g (lw_at lw_m1 182 rfl) rfl
theorem q269 : (Jvm.Cond.code ({ cls := "TwoWorlds", name := "join", desc := "(III)I" } : Jvm.MethodName) prog_1_method_10_code (9 : Nat) (Option.some Jvm.ClassFile.FieldType.int)) ∈ lw_all := lw_g (lw_at lw_m1 183 rfl) rfl
theorem q271 : (Jvm.Cond.instanceMethod ({ cls := "TwoWorlds", name := "about", desc := "(II)I" } : Jvm.MethodName)) ∈ lw_all := lw_g (lw_at lw_m1 185 rfl) rfl
theorem q272 : (Jvm.Cond.selects "TwoWorlds" ({ cls := "TwoWorlds", name := "about", desc := "(II)I" } : Jvm.MethodName) ({ cls := "TwoWorlds", name := "about", desc := "(II)I" } : Jvm.MethodName)) ∈ lw_all := lw_g (lw_at lw_m1 186 rfl) rfl
theorem q273 : (Jvm.Cond.code ({ cls := "TwoWorlds", name := "about", desc := "(II)I" } : Jvm.MethodName) prog_1_method_11_code (6 : Nat) (Option.some Jvm.ClassFile.FieldType.int)) ∈ lw_all := lw_g (lw_at lw_m1 187 rfl) rfl
theorem q274 : (Jvm.Cond.constantLong "TwoWorlds" (72 : Nat) (10 : Int64)) ∈ lw_all := lw_g (lw_at lw_m1 188 rfl) rfl
theorem q275 : (Jvm.Cond.constantLong "TwoWorlds" (74 : Nat) (9 : Int64)) ∈ lw_all := lw_g (lw_at lw_m1 189 rfl) rfl
theorem q277 : (Jvm.Cond.instanceMethod ({ cls := "TwoWorlds", name := "tied", desc := "(III)I" } : Jvm.MethodName)) ∈ lw_all := lw_g (lw_at lw_m1 191 rfl) rfl
theorem q278 : (Jvm.Cond.selects "TwoWorlds" ({ cls := "TwoWorlds", name := "tied", desc := "(III)I" } : Jvm.MethodName) ({ cls := "TwoWorlds", name := "tied", desc := "(III)I" } : Jvm.MethodName)) ∈ lw_all := lw_g (lw_at lw_m1 192 rfl) rfl
theorem q279 : (Jvm.Cond.code ({ cls := "TwoWorlds", name := "tied", desc := "(III)I" } : Jvm.MethodName) prog_1_method_12_code (4 : Nat) (Option.some Jvm.ClassFile.FieldType.int)) ∈ lw_all := lw_g (lw_at lw_m1 193 rfl) rfl
theorem q281 : (Jvm.Cond.instanceMethod ({ cls := "TwoWorlds", name := "game", desc := "(III)I" } : Jvm.MethodName)) ∈ lw_all := lw_g (lw_at lw_m1 195 rfl) rfl
theorem q282 : (Jvm.Cond.selects "TwoWorlds" ({ cls := "TwoWorlds", name := "game", desc := "(III)I" } : Jvm.MethodName) ({ cls := "TwoWorlds", name := "game", desc := "(III)I" } : Jvm.MethodName)) ∈ lw_all := lw_g (lw_at lw_m1 196 rfl) rfl
theorem q283 : (Jvm.Cond.code ({ cls := "TwoWorlds", name := "game", desc := "(III)I" } : Jvm.MethodName) prog_1_method_14_code (4 : Nat) (Option.some Jvm.ClassFile.FieldType.int)) ∈ lw_all := lw_g (lw_at lw_m1 197 rfl) rfl
theorem q284 : (Jvm.Cond.constantLong "TwoWorlds" (81 : Nat) (3 : Int64)) ∈ lw_all := lw_g (lw_at lw_m1 198 rfl) rfl
theorem q285 : (Jvm.Cond.methodLink "TwoWorlds" (83 : Nat) ({ cls := "TwoWorlds", name := "match", desc := "(II)LTwoWorlds$Match;" } : Jvm.MethodName)) ∈ lw_all := lw_g (lw_at lw_m1 199 rfl) rfl
theorem q286 : (Jvm.Cond.privateMethod ({ cls := "TwoWorlds", name := "match", desc := "(II)LTwoWorlds$Match;" } : Jvm.MethodName)) ∈ lw_tbl := lw_at lw_m1 200 rfl
theorem q287 : (Jvm.Cond.instanceMethod ({ cls := "TwoWorlds", name := "match", desc := "(II)LTwoWorlds$Match;" } : Jvm.MethodName)) ∈ lw_all := lw_g (lw_at lw_m1 201 rfl) rfl
theorem q288 : (Jvm.Cond.code ({ cls := "TwoWorlds", name := "match", desc := "(II)LTwoWorlds$Match;" } : Jvm.MethodName) prog_1_method_13_code (3 : Nat) (Option.some (Jvm.ClassFile.FieldType.object "TwoWorlds$Match"))) ∈ lw_all := lw_g (lw_at lw_m1 202 rfl) rfl
theorem q289 : (Jvm.Cond.classLink "TwoWorlds" (76 : Nat) "TwoWorlds$Match") ∈ lw_all := lw_g (lw_at lw_m1 203 rfl) rfl
theorem q291 : (Jvm.Cond.methodLink "TwoWorlds" (78 : Nat) ({ cls := "TwoWorlds$Match", name := "<init>", desc := "(LTwoWorlds$World;LTwoWorlds$World;)V" } : Jvm.MethodName)) ∈ lw_all := lw_g (lw_at lw_m1 205 rfl) rfl
theorem q297 : (Jvm.Cond.fieldLinkNest "TwoWorlds" (111 : Nat) "TwoWorlds$Match" "sides" "[LTwoWorlds$World;" "TwoWorlds") ∈ lw_tbl := lw_at lw_m1 211 rfl
theorem q300 : (Jvm.Cond.fieldLinkNest "TwoWorlds" (90 : Nat) "TwoWorlds$Match" "size" "I" "TwoWorlds") ∈ lw_tbl := lw_at lw_m1 214 rfl
theorem q308 : (Jvm.Cond.methodLink "TwoWorlds" (87 : Nat) ({ cls := "TwoWorlds$Match", name := "isKept", desc := "(I)Z" } : Jvm.MethodName)) ∈ lw_all := lw_g (lw_at lw_m1 222 rfl) rfl
theorem q359 : (Jvm.Cond.instanceMethod ({ cls := "TwoWorlds", name := "rank", desc := "(II)I" } : Jvm.MethodName)) ∈ lw_all := lw_g (lw_at lw_m2 33 rfl) rfl
theorem q360 : (Jvm.Cond.selects "TwoWorlds" ({ cls := "TwoWorlds", name := "rank", desc := "(II)I" } : Jvm.MethodName) ({ cls := "TwoWorlds", name := "rank", desc := "(II)I" } : Jvm.MethodName)) ∈ lw_all := lw_g (lw_at lw_m2 34 rfl) rfl
theorem q361 : (Jvm.Cond.code ({ cls := "TwoWorlds", name := "rank", desc := "(II)I" } : Jvm.MethodName) prog_1_method_16_code (3 : Nat) (Option.some Jvm.ClassFile.FieldType.int)) ∈ lw_all := lw_g (lw_at lw_m2 35 rfl) rfl
theorem q362 : (Jvm.Cond.methodLink "TwoWorlds" (93 : Nat) ({ cls := "TwoWorlds", name := "rankOf", desc := "(LTwoWorlds$Match;)I" } : Jvm.MethodName)) ∈ lw_all := lw_g (lw_at lw_m2 36 rfl) rfl
theorem q363 : (Jvm.Cond.static ({ cls := "TwoWorlds", name := "rankOf", desc := "(LTwoWorlds$Match;)I" } : Jvm.MethodName)) ∈ lw_all := lw_g (lw_at lw_m2 37 rfl) rfl
theorem q364 : (Jvm.Cond.code ({ cls := "TwoWorlds", name := "rankOf", desc := "(LTwoWorlds$Match;)I" } : Jvm.MethodName) prog_1_method_15_code (2 : Nat) (Option.some Jvm.ClassFile.FieldType.int)) ∈ lw_all := lw_g (lw_at lw_m2 38 rfl) rfl
theorem q366 : (Jvm.Cond.instanceMethod ({ cls := "TwoWorlds", name := "play", desc := "(III)I" } : Jvm.MethodName)) ∈ lw_all := lw_g (lw_at lw_m2 40 rfl) rfl
theorem q367 : (Jvm.Cond.selects "TwoWorlds" ({ cls := "TwoWorlds", name := "play", desc := "(III)I" } : Jvm.MethodName) ({ cls := "TwoWorlds", name := "play", desc := "(III)I" } : Jvm.MethodName)) ∈ lw_all := lw_g (lw_at lw_m2 41 rfl) rfl
theorem q368 : (Jvm.Cond.code ({ cls := "TwoWorlds", name := "play", desc := "(III)I" } : Jvm.MethodName) prog_1_method_18_code (4 : Nat) (Option.some Jvm.ClassFile.FieldType.int)) ∈ lw_all := lw_g (lw_at lw_m2 42 rfl) rfl
theorem q369 : (Jvm.Cond.methodLink "TwoWorlds" (97 : Nat) ({ cls := "TwoWorlds", name := "copyOf", desc := "(LTwoWorlds$World;)LTwoWorlds$World;" } : Jvm.MethodName)) ∈ lw_all := lw_g (lw_at lw_m2 43 rfl) rfl
theorem q370 : (Jvm.Cond.static ({ cls := "TwoWorlds", name := "copyOf", desc := "(LTwoWorlds$World;)LTwoWorlds$World;" } : Jvm.MethodName)) ∈ lw_all := lw_g (lw_at lw_m2 44 rfl) rfl
theorem q371 : (Jvm.Cond.code ({ cls := "TwoWorlds", name := "copyOf", desc := "(LTwoWorlds$World;)LTwoWorlds$World;" } : Jvm.MethodName) prog_1_method_17_code (3 : Nat) (Option.some (Jvm.ClassFile.FieldType.object "TwoWorlds$World"))) ∈ lw_all := lw_g (lw_at lw_m2 45 rfl) rfl
theorem q373 : (Jvm.Cond.instanceMethod ({ cls := "TwoWorlds", name := "pick", desc := "(II)I" } : Jvm.MethodName)) ∈ lw_all := lw_g (lw_at lw_m2 47 rfl) rfl
theorem q374 : (Jvm.Cond.selects "TwoWorlds" ({ cls := "TwoWorlds", name := "pick", desc := "(II)I" } : Jvm.MethodName) ({ cls := "TwoWorlds", name := "pick", desc := "(II)I" } : Jvm.MethodName)) ∈ lw_all := lw_g (lw_at lw_m2 48 rfl) rfl
theorem q375 : (Jvm.Cond.code ({ cls := "TwoWorlds", name := "pick", desc := "(II)I" } : Jvm.MethodName) prog_1_method_19_code (3 : Nat) (Option.some Jvm.ClassFile.FieldType.int)) ∈ lw_all := lw_g (lw_at lw_m2 49 rfl) rfl
theorem q377 : (Jvm.Cond.instanceMethod ({ cls := "TwoWorlds", name := "answer", desc := "(I)I" } : Jvm.MethodName)) ∈ lw_all := lw_g (lw_at lw_m2 51 rfl) rfl
theorem q378 : (Jvm.Cond.selects "TwoWorlds" ({ cls := "TwoWorlds", name := "answer", desc := "(I)I" } : Jvm.MethodName) ({ cls := "TwoWorlds", name := "answer", desc := "(I)I" } : Jvm.MethodName)) ∈ lw_all := lw_g (lw_at lw_m2 52 rfl) rfl
theorem q379 : (Jvm.Cond.code ({ cls := "TwoWorlds", name := "answer", desc := "(I)I" } : Jvm.MethodName) prog_1_method_20_code (2 : Nat) (Option.some Jvm.ClassFile.FieldType.int)) ∈ lw_all := lw_g (lw_at lw_m2 53 rfl) rfl
theorem q380 : (Jvm.Cond.methodLink "TwoWorlds" (120 : Nat) ({ cls := "TwoWorlds$Match", name := "push", desc := "(III)V" } : Jvm.MethodName)) ∈ lw_all := lw_g (lw_at lw_m2 54 rfl) rfl
theorem q381 : (Jvm.Cond.methodLink "TwoWorlds" (124 : Nat) ({ cls := "TwoWorlds$Match", name := "isLastAlike", desc := "()Z" } : Jvm.MethodName)) ∈ lw_all := lw_g (lw_at lw_m2 55 rfl) rfl
theorem q383 : (Jvm.Cond.instanceMethod ({ cls := "TwoWorlds", name := "best", desc := "()I" } : Jvm.MethodName)) ∈ lw_all := lw_g (lw_at lw_m2 57 rfl) rfl
theorem q384 : (Jvm.Cond.selects "TwoWorlds" ({ cls := "TwoWorlds", name := "best", desc := "()I" } : Jvm.MethodName) ({ cls := "TwoWorlds", name := "best", desc := "()I" } : Jvm.MethodName)) ∈ lw_all := lw_g (lw_at lw_m2 58 rfl) rfl
theorem q385 : (Jvm.Cond.code ({ cls := "TwoWorlds", name := "best", desc := "()I" } : Jvm.MethodName) prog_1_method_21_code (2 : Nat) (Option.some Jvm.ClassFile.FieldType.int)) ∈ lw_all := lw_g (lw_at lw_m2 59 rfl) rfl
theorem q386 : (Jvm.Cond.methodLink "TwoWorlds" (128 : Nat) ({ cls := "TwoWorlds$Match", name := "wins", desc := "(II)Z" } : Jvm.MethodName)) ∈ lw_all := lw_g (lw_at lw_m2 60 rfl) rfl
theorem q387 : (Jvm.Cond.methodLink "TwoWorlds" (131 : Nat) ({ cls := "TwoWorlds$Match", name := "sideOf", desc := "(I)I" } : Jvm.MethodName)) ∈ lw_all := lw_g (lw_at lw_m2 61 rfl) rfl
theorem q388 : (Jvm.Cond.methodLink "TwoWorlds" (135 : Nat) ({ cls := "TwoWorlds$Match", name := "thingOf", desc := "(I)I" } : Jvm.MethodName)) ∈ lw_all := lw_g (lw_at lw_m2 62 rfl) rfl
theorem q389 : (Jvm.Cond.methodLink "TwoWorlds" (138 : Nat) ({ cls := "TwoWorlds$Match", name := "isGood", desc := "(IIII)Z" } : Jvm.MethodName)) ∈ lw_all := lw_g (lw_at lw_m2 63 rfl) rfl
theorem q391 : (Jvm.Cond.instanceMethod ({ cls := "TwoWorlds", name := "state", desc := "()I" } : Jvm.MethodName)) ∈ lw_all := lw_g (lw_at lw_m2 65 rfl) rfl
theorem q392 : (Jvm.Cond.selects "TwoWorlds" ({ cls := "TwoWorlds", name := "state", desc := "()I" } : Jvm.MethodName) ({ cls := "TwoWorlds", name := "state", desc := "()I" } : Jvm.MethodName)) ∈ lw_all := lw_g (lw_at lw_m2 66 rfl) rfl
theorem q393 : (Jvm.Cond.code ({ cls := "TwoWorlds", name := "state", desc := "()I" } : Jvm.MethodName) prog_1_method_22_code (1 : Nat) (Option.some Jvm.ClassFile.FieldType.int)) ∈ lw_all := lw_g (lw_at lw_m2 67 rfl) rfl
theorem q395 : (Jvm.Cond.instanceMethod ({ cls := "TwoWorlds", name := "left", desc := "()I" } : Jvm.MethodName)) ∈ lw_all := lw_g (lw_at lw_m2 69 rfl) rfl
theorem q396 : (Jvm.Cond.selects "TwoWorlds" ({ cls := "TwoWorlds", name := "left", desc := "()I" } : Jvm.MethodName) ({ cls := "TwoWorlds", name := "left", desc := "()I" } : Jvm.MethodName)) ∈ lw_all := lw_g (lw_at lw_m2 70 rfl) rfl
theorem q397 : (Jvm.Cond.code ({ cls := "TwoWorlds", name := "left", desc := "()I" } : Jvm.MethodName) prog_1_method_23_code (1 : Nat) (Option.some Jvm.ClassFile.FieldType.int)) ∈ lw_all := lw_g (lw_at lw_m2 71 rfl) rfl
theorem q399 : (Jvm.Cond.instanceMethod ({ cls := "TwoWorlds", name := "feed", desc := "(IIIII)I" } : Jvm.MethodName)) ∈ lw_all := lw_g (lw_at lw_m2 73 rfl) rfl
theorem q400 : (Jvm.Cond.selects "TwoWorlds" ({ cls := "TwoWorlds", name := "feed", desc := "(IIIII)I" } : Jvm.MethodName) ({ cls := "TwoWorlds", name := "feed", desc := "(IIIII)I" } : Jvm.MethodName)) ∈ lw_all := lw_g (lw_at lw_m2 74 rfl) rfl
theorem q401 : (Jvm.Cond.code ({ cls := "TwoWorlds", name := "feed", desc := "(IIIII)I" } : Jvm.MethodName) prog_1_method_27_code (8 : Nat) (Option.some Jvm.ClassFile.FieldType.int)) ∈ lw_all := lw_g (lw_at lw_m2 75 rfl) rfl
theorem q403 : (Jvm.Cond.instanceMethod ({ cls := "TwoWorlds", name := "trim", desc := "(I)I" } : Jvm.MethodName)) ∈ lw_all := lw_g (lw_at lw_m2 77 rfl) rfl
theorem q404 : (Jvm.Cond.selects "TwoWorlds" ({ cls := "TwoWorlds", name := "trim", desc := "(I)I" } : Jvm.MethodName) ({ cls := "TwoWorlds", name := "trim", desc := "(I)I" } : Jvm.MethodName)) ∈ lw_all := lw_g (lw_at lw_m2 78 rfl) rfl
theorem q405 : (Jvm.Cond.code ({ cls := "TwoWorlds", name := "trim", desc := "(I)I" } : Jvm.MethodName) prog_1_method_28_code (2 : Nat) (Option.some Jvm.ClassFile.FieldType.int)) ∈ lw_all := lw_g (lw_at lw_m2 79 rfl) rfl
theorem q407 : (Jvm.Cond.instanceMethod ({ cls := "TwoWorlds", name := "read", desc := "()I" } : Jvm.MethodName)) ∈ lw_all := lw_g (lw_at lw_m2 81 rfl) rfl
theorem q408 : (Jvm.Cond.selects "TwoWorlds" ({ cls := "TwoWorlds", name := "read", desc := "()I" } : Jvm.MethodName) ({ cls := "TwoWorlds", name := "read", desc := "()I" } : Jvm.MethodName)) ∈ lw_all := lw_g (lw_at lw_m2 82 rfl) rfl
theorem q409 : (Jvm.Cond.codeWith ({ cls := "TwoWorlds", name := "read", desc := "()I" } : Jvm.MethodName) prog_1_method_29_code (3 : Nat) (Option.some Jvm.ClassFile.FieldType.int) [((10 : Nat), (29 : Nat), (30 : Nat), (194 : Nat))]) ∈ lw_all := lw_g (lw_at lw_m2 83 rfl) rfl
theorem q410 : (Jvm.Cond.classLink "TwoWorlds" (194 : Nat) "TwoWorlds$Wrong") ∈ lw_all := lw_g (lw_at lw_m2 84 rfl) rfl
theorem q411 : (Jvm.Cond.classLink "TwoWorlds" (181 : Nat) "TwoWorlds$Reader") ∈ lw_all := lw_g (lw_at lw_m2 85 rfl) rfl
theorem q413 : (Jvm.Cond.methodLink "TwoWorlds" (183 : Nat) ({ cls := "TwoWorlds$Reader", name := "<init>", desc := "([BI)V" } : Jvm.MethodName)) ∈ lw_all := lw_g (lw_at lw_m2 87 rfl) rfl
theorem q436 : (Jvm.Cond.methodLink "TwoWorlds" (186 : Nat) ({ cls := "TwoWorlds$Reader", name := "read", desc := "()LTwoWorlds$Formula;" } : Jvm.MethodName)) ∈ lw_all := lw_g (lw_at lw_m2 110 rfl) rfl
theorem q532 : (Jvm.Cond.fieldLinkNest "TwoWorlds" (196 : Nat) "TwoWorlds$Wrong" "place" "I" "TwoWorlds") ∈ lw_tbl := lw_at lw_m2 206 rfl
theorem q622 : (Jvm.Cond.selects "TwoWorlds" ({ cls := "java/lang/Object", name := "getClass", desc := "()Ljava/lang/Class;" } : Jvm.MethodName) ({ cls := "java/lang/Object", name := "getClass", desc := "()Ljava/lang/Class;" } : Jvm.MethodName)) ∈ lw_all := lw_g (lw_at lw_m3 56 rfl) rfl
theorem q667 : (Jvm.Cond.methodLink "TwoWorlds" (190 : Nat) ({ cls := "TwoWorlds", name := "comes", desc := "(LTwoWorlds$Formula;)I" } : Jvm.MethodName)) ∈ lw_all := lw_g (lw_at lw_m3 101 rfl) rfl
theorem q668 : (Jvm.Cond.privateMethod ({ cls := "TwoWorlds", name := "comes", desc := "(LTwoWorlds$Formula;)I" } : Jvm.MethodName)) ∈ lw_tbl := lw_at lw_m3 102 rfl
theorem q669 : (Jvm.Cond.instanceMethod ({ cls := "TwoWorlds", name := "comes", desc := "(LTwoWorlds$Formula;)I" } : Jvm.MethodName)) ∈ lw_all := lw_g (lw_at lw_m3 103 rfl) rfl
theorem q670 : (Jvm.Cond.code ({ cls := "TwoWorlds", name := "comes", desc := "(LTwoWorlds$Formula;)I" } : Jvm.MethodName) prog_1_method_26_code (2 : Nat) (Option.some Jvm.ClassFile.FieldType.int)) ∈ lw_all := lw_g (lw_at lw_m3 104 rfl) rfl
theorem q671 : (Jvm.Cond.methodLink "TwoWorlds" (166 : Nat) ({ cls := "TwoWorlds$Formula", name := "nodes", desc := "()I" } : Jvm.MethodName)) ∈ lw_all := lw_g (lw_at lw_m3 105 rfl) rfl
theorem q714 : (Jvm.Cond.interfaceEntry "TwoWorlds" (161 : Nat)) ∈ lw_tbl := lw_at lw_m3 148 rfl
theorem q715 : (Jvm.Cond.methodLink "TwoWorlds" (161 : Nat) ({ cls := "java/util/List", name := "size", desc := "()I" } : Jvm.MethodName)) ∈ lw_all := lw_g (lw_at lw_m3 149 rfl) rfl
theorem q716 : (Jvm.Cond.classLink "TwoWorlds" (169 : Nat) "TwoWorlds$Sentence") ∈ lw_all := lw_g (lw_at lw_m3 150 rfl) rfl
theorem q718 : (Jvm.Cond.methodLink "TwoWorlds" (171 : Nat) ({ cls := "TwoWorlds$Sentence", name := "<init>", desc := "(LTwoWorlds$Formula;)V" } : Jvm.MethodName)) ∈ lw_all := lw_g (lw_at lw_m3 152 rfl) rfl
theorem q743 : (Jvm.Cond.static ({ cls := "TwoWorlds", name := "textOf", desc := "(LTwoWorlds$Formula;)[B" } : Jvm.MethodName)) ∈ lw_all := lw_g (lw_at lw_m3 177 rfl) rfl
theorem q744 : (Jvm.Cond.code ({ cls := "TwoWorlds", name := "textOf", desc := "(LTwoWorlds$Formula;)[B" } : Jvm.MethodName) prog_1_method_24_code (3 : Nat) (Option.some (Jvm.ClassFile.FieldType.array Jvm.ClassFile.FieldType.byte))) ∈ lw_all := lw_g (lw_at lw_m3 178 rfl) rfl
theorem q745 : (Jvm.Cond.classLink "TwoWorlds" (142 : Nat) "TwoWorlds$Paper") ∈ lw_all := lw_g (lw_at lw_m3 179 rfl) rfl
theorem q747 : (Jvm.Cond.methodLinkNest "TwoWorlds" (144 : Nat) ({ cls := "TwoWorlds$Paper", name := "<init>", desc := "()V" } : Jvm.MethodName) "TwoWorlds") ∈ lw_tbl := lw_at lw_m3 181 rfl
theorem q752 : (Jvm.Cond.fieldLinkNest "TwoWorlds" (152 : Nat) "TwoWorlds$Paper" "bytes" "[B" "TwoWorlds") ∈ lw_tbl := lw_at lw_m3 186 rfl
theorem q754 : (Jvm.Cond.fieldLinkNest "TwoWorlds" (151 : Nat) "TwoWorlds$Paper" "size" "I" "TwoWorlds") ∈ lw_tbl := lw_at lw_m3 188 rfl
theorem q760 : (Jvm.Cond.methodLink "TwoWorlds" (145 : Nat) ({ cls := "TwoWorlds$Formula", name := "write", desc := "(LTwoWorlds$Paper;)V" } : Jvm.MethodName)) ∈ lw_all := lw_g (lw_at lw_m3 194 rfl) rfl
theorem q808 : (Jvm.Cond.methodLink "TwoWorlds" (155 : Nat) ({ cls := "java/lang/System", name := "arraycopy", desc := "(Ljava/lang/Object;ILjava/lang/Object;II)V" } : Jvm.MethodName)) ∈ lw_all := lw_g (lw_at lw_m4 2 rfl) rfl
theorem q810 : (Jvm.Cond.fieldLinkNest "TwoWorlds" (219 : Nat) "TwoWorlds$Sentence" "formula" "LTwoWorlds$Formula;" "TwoWorlds") ∈ lw_tbl := lw_at lw_m4 4 rfl
theorem q812 : (Jvm.Cond.fieldLinkNest "TwoWorlds" (206 : Nat) "TwoWorlds$Sentence" "depth" "I" "TwoWorlds") ∈ lw_tbl := lw_at lw_m4 6 rfl
theorem q814 : (Jvm.Cond.fieldLinkNest "TwoWorlds" (209 : Nat) "TwoWorlds$Sentence" "nodes" "I" "TwoWorlds") ∈ lw_tbl := lw_at lw_m4 8 rfl
theorem q816 : (Jvm.Cond.fieldLinkNest "TwoWorlds" (211 : Nat) "TwoWorlds$Sentence" "text" "[B" "TwoWorlds") ∈ lw_tbl := lw_at lw_m4 10 rfl
theorem q826 : (Jvm.Cond.interfaceEntry "TwoWorlds" (174 : Nat)) ∈ lw_tbl := lw_at lw_m4 20 rfl
theorem q827 : (Jvm.Cond.methodLink "TwoWorlds" (174 : Nat) ({ cls := "java/util/List", name := "add", desc := "(Ljava/lang/Object;)Z" } : Jvm.MethodName)) ∈ lw_all := lw_g (lw_at lw_m4 21 rfl) rfl
theorem q829 : (Jvm.Cond.instanceMethod ({ cls := "TwoWorlds", name := "sentence", desc := "(II)I" } : Jvm.MethodName)) ∈ lw_all := lw_g (lw_at lw_m4 23 rfl) rfl
theorem q830 : (Jvm.Cond.selects "TwoWorlds" ({ cls := "TwoWorlds", name := "sentence", desc := "(II)I" } : Jvm.MethodName) ({ cls := "TwoWorlds", name := "sentence", desc := "(II)I" } : Jvm.MethodName)) ∈ lw_all := lw_g (lw_at lw_m4 24 rfl) rfl
theorem q831 : (Jvm.Cond.code ({ cls := "TwoWorlds", name := "sentence", desc := "(II)I" } : Jvm.MethodName) prog_1_method_30_code (4 : Nat) (Option.some Jvm.ClassFile.FieldType.int)) ∈ lw_all := lw_g (lw_at lw_m4 25 rfl) rfl
theorem q832 : (Jvm.Cond.methodLink "TwoWorlds" (199 : Nat) ({ cls := "TwoWorlds", name := "isSentence", desc := "(I)Z" } : Jvm.MethodName)) ∈ lw_all := lw_g (lw_at lw_m4 26 rfl) rfl
theorem q833 : (Jvm.Cond.privateMethod ({ cls := "TwoWorlds", name := "isSentence", desc := "(I)Z" } : Jvm.MethodName)) ∈ lw_tbl := lw_at lw_m4 27 rfl
theorem q834 : (Jvm.Cond.instanceMethod ({ cls := "TwoWorlds", name := "isSentence", desc := "(I)Z" } : Jvm.MethodName)) ∈ lw_all := lw_g (lw_at lw_m4 28 rfl) rfl
theorem q835 : (Jvm.Cond.code ({ cls := "TwoWorlds", name := "isSentence", desc := "(I)Z" } : Jvm.MethodName) prog_1_method_25_code (2 : Nat) (Option.some Jvm.ClassFile.FieldType.boolean)) ∈ lw_all := lw_g (lw_at lw_m4 29 rfl) rfl
theorem q836 : (Jvm.Cond.interfaceEntry "TwoWorlds" (202 : Nat)) ∈ lw_tbl := lw_at lw_m4 30 rfl
theorem q837 : (Jvm.Cond.methodLink "TwoWorlds" (202 : Nat) ({ cls := "java/util/List", name := "get", desc := "(I)Ljava/lang/Object;" } : Jvm.MethodName)) ∈ lw_all := lw_g (lw_at lw_m4 31 rfl) rfl
theorem q839 : (Jvm.Cond.instanceMethod ({ cls := "TwoWorlds", name := "written", desc := "(II)I" } : Jvm.MethodName)) ∈ lw_all := lw_g (lw_at lw_m4 33 rfl) rfl
theorem q840 : (Jvm.Cond.selects "TwoWorlds" ({ cls := "TwoWorlds", name := "written", desc := "(II)I" } : Jvm.MethodName) ({ cls := "TwoWorlds", name := "written", desc := "(II)I" } : Jvm.MethodName)) ∈ lw_all := lw_g (lw_at lw_m4 34 rfl) rfl
theorem q841 : (Jvm.Cond.code ({ cls := "TwoWorlds", name := "written", desc := "(II)I" } : Jvm.MethodName) prog_1_method_31_code (3 : Nat) (Option.some Jvm.ClassFile.FieldType.int)) ∈ lw_all := lw_g (lw_at lw_m4 35 rfl) rfl
theorem q843 : (Jvm.Cond.instanceMethod ({ cls := "TwoWorlds", name := "holds", desc := "(II)I" } : Jvm.MethodName)) ∈ lw_all := lw_g (lw_at lw_m4 37 rfl) rfl
theorem q844 : (Jvm.Cond.selects "TwoWorlds" ({ cls := "TwoWorlds", name := "holds", desc := "(II)I" } : Jvm.MethodName) ({ cls := "TwoWorlds", name := "holds", desc := "(II)I" } : Jvm.MethodName)) ∈ lw_all := lw_g (lw_at lw_m4 38 rfl) rfl
theorem q845 : (Jvm.Cond.codeWith ({ cls := "TwoWorlds", name := "holds", desc := "(II)I" } : Jvm.MethodName) prog_1_method_32_code (5 : Nat) (Option.some Jvm.ClassFile.FieldType.int) [((32 : Nat), (72 : Nat), (73 : Nat), (233 : Nat))]) ∈ lw_all := lw_g (lw_at lw_m4 39 rfl) rfl
theorem q846 : (Jvm.Cond.classLink "TwoWorlds" (233 : Nat) "TwoWorlds$TooMuch") ∈ lw_all := lw_g (lw_at lw_m4 40 rfl) rfl
theorem q847 : (Jvm.Cond.classLink "TwoWorlds" (214 : Nat) "TwoWorlds$Asking") ∈ lw_all := lw_g (lw_at lw_m4 41 rfl) rfl
theorem q849 : (Jvm.Cond.methodLink "TwoWorlds" (216 : Nat) ({ cls := "TwoWorlds$Asking", name := "<init>", desc := "(LTwoWorlds$World;)V" } : Jvm.MethodName)) ∈ lw_all := lw_g (lw_at lw_m4 43 rfl) rfl
theorem q860 : (Jvm.Cond.fieldLinkNest "TwoWorlds" (227 : Nat) "TwoWorlds$Asking" "asked" "I" "TwoWorlds") ∈ lw_tbl := lw_at lw_m4 54 rfl
theorem q868 : (Jvm.Cond.methodLink "TwoWorlds" (223 : Nat) ({ cls := "TwoWorlds$Asking", name := "asks", desc := "(LTwoWorlds$Formula;)Z" } : Jvm.MethodName)) ∈ lw_all := lw_g (lw_at lw_m4 62 rfl) rfl
theorem q909 : (Jvm.Cond.instanceMethod ({ cls := "TwoWorlds", name := "asked", desc := "()I" } : Jvm.MethodName)) ∈ lw_all := lw_g (lw_at lw_m4 103 rfl) rfl
theorem q910 : (Jvm.Cond.selects "TwoWorlds" ({ cls := "TwoWorlds", name := "asked", desc := "()I" } : Jvm.MethodName) ({ cls := "TwoWorlds", name := "asked", desc := "()I" } : Jvm.MethodName)) ∈ lw_all := lw_g (lw_at lw_m4 104 rfl) rfl
theorem q911 : (Jvm.Cond.code ({ cls := "TwoWorlds", name := "asked", desc := "()I" } : Jvm.MethodName) prog_1_method_33_code (1 : Nat) (Option.some Jvm.ClassFile.FieldType.int)) ∈ lw_all := lw_g (lw_at lw_m4 105 rfl) rfl
theorem q913 : (Jvm.Cond.instanceMethod ({ cls := "TwoWorlds", name := "same", desc := "(II)I" } : Jvm.MethodName)) ∈ lw_all := lw_g (lw_at lw_m4 107 rfl) rfl
theorem q914 : (Jvm.Cond.selects "TwoWorlds" ({ cls := "TwoWorlds", name := "same", desc := "(II)I" } : Jvm.MethodName) ({ cls := "TwoWorlds", name := "same", desc := "(II)I" } : Jvm.MethodName)) ∈ lw_all := lw_g (lw_at lw_m4 108 rfl) rfl
theorem q915 : (Jvm.Cond.code ({ cls := "TwoWorlds", name := "same", desc := "(II)I" } : Jvm.MethodName) prog_1_method_34_code (3 : Nat) (Option.some Jvm.ClassFile.FieldType.int)) ∈ lw_all := lw_g (lw_at lw_m4 109 rfl) rfl
theorem q916 : (Jvm.Cond.methodLink "TwoWorlds" (235 : Nat) ({ cls := "TwoWorlds$Sentence", name := "isLike", desc := "(LTwoWorlds$Sentence;)Z" } : Jvm.MethodName)) ∈ lw_all := lw_g (lw_at lw_m4 110 rfl) rfl
theorem q921 : (Jvm.Cond.instanceMethod ({ cls := "TwoWorlds", name := "part", desc := "(II)I" } : Jvm.MethodName)) ∈ lw_all := lw_g (lw_at lw_m4 115 rfl) rfl
theorem q922 : (Jvm.Cond.selects "TwoWorlds" ({ cls := "TwoWorlds", name := "part", desc := "(II)I" } : Jvm.MethodName) ({ cls := "TwoWorlds", name := "part", desc := "(II)I" } : Jvm.MethodName)) ∈ lw_all := lw_g (lw_at lw_m4 116 rfl) rfl
theorem q923 : (Jvm.Cond.code ({ cls := "TwoWorlds", name := "part", desc := "(II)I" } : Jvm.MethodName) prog_1_method_40_code (4 : Nat) (Option.some Jvm.ClassFile.FieldType.int)) ∈ lw_all := lw_g (lw_at lw_m4 117 rfl) rfl
theorem q924 : (Jvm.Cond.methodLink "TwoWorlds" (268 : Nat) ({ cls := "TwoWorlds", name := "parting", desc := "(LTwoWorlds$Match;I)LTwoWorlds$Formula;" } : Jvm.MethodName)) ∈ lw_all := lw_g (lw_at lw_m4 118 rfl) rfl
theorem q925 : (Jvm.Cond.static ({ cls := "TwoWorlds", name := "parting", desc := "(LTwoWorlds$Match;I)LTwoWorlds$Formula;" } : Jvm.MethodName)) ∈ lw_all := lw_g (lw_at lw_m4 119 rfl) rfl
theorem q926 : (Jvm.Cond.code ({ cls := "TwoWorlds", name := "parting", desc := "(LTwoWorlds$Match;I)LTwoWorlds$Formula;" } : Jvm.MethodName) prog_1_method_37_code (8 : Nat) (Option.some (Jvm.ClassFile.FieldType.object "TwoWorlds$Formula"))) ∈ lw_all := lw_g (lw_at lw_m4 120 rfl) rfl
theorem q927 : (Jvm.Cond.methodLink "TwoWorlds" (260 : Nat) ({ cls := "TwoWorlds", name := "unlike", desc := "(LTwoWorlds$Match;I)LTwoWorlds$Formula;" } : Jvm.MethodName)) ∈ lw_all := lw_g (lw_at lw_m4 121 rfl) rfl
theorem q928 : (Jvm.Cond.static ({ cls := "TwoWorlds", name := "unlike", desc := "(LTwoWorlds$Match;I)LTwoWorlds$Formula;" } : Jvm.MethodName)) ∈ lw_all := lw_g (lw_at lw_m4 122 rfl) rfl
theorem q929 : (Jvm.Cond.code ({ cls := "TwoWorlds", name := "unlike", desc := "(LTwoWorlds$Match;I)LTwoWorlds$Formula;" } : Jvm.MethodName) prog_1_method_36_code (6 : Nat) (Option.some (Jvm.ClassFile.FieldType.object "TwoWorlds$Formula"))) ∈ lw_all := lw_g (lw_at lw_m4 123 rfl) rfl
theorem q930 : (Jvm.Cond.methodLinkNest "TwoWorlds" (247 : Nat) ({ cls := "TwoWorlds$Match", name := "isOne", desc := "(III)Z" } : Jvm.MethodName) "TwoWorlds") ∈ lw_tbl := lw_at lw_m4 124 rfl
theorem q931 : (Jvm.Cond.methodLink "TwoWorlds" (251 : Nat) ({ cls := "TwoWorlds", name := "literal", desc := "(CIIZZ)LTwoWorlds$Formula;" } : Jvm.MethodName)) ∈ lw_all := lw_g (lw_at lw_m4 125 rfl) rfl
theorem q932 : (Jvm.Cond.static ({ cls := "TwoWorlds", name := "literal", desc := "(CIIZZ)LTwoWorlds$Formula;" } : Jvm.MethodName)) ∈ lw_all := lw_g (lw_at lw_m4 126 rfl) rfl
theorem q933 : (Jvm.Cond.code ({ cls := "TwoWorlds", name := "literal", desc := "(CIIZZ)LTwoWorlds$Formula;" } : Jvm.MethodName) prog_1_method_35_code (6 : Nat) (Option.some (Jvm.ClassFile.FieldType.object "TwoWorlds$Formula"))) ∈ lw_all := lw_g (lw_at lw_m4 127 rfl) rfl
theorem q934 : (Jvm.Cond.classLink "TwoWorlds" (239 : Nat) "TwoWorlds$Atom") ∈ lw_all := lw_g (lw_at lw_m4 128 rfl) rfl
theorem q935 : (Jvm.Cond.methodLink "TwoWorlds" (241 : Nat) ({ cls := "TwoWorlds$Atom", name := "<init>", desc := "(CII)V" } : Jvm.MethodName)) ∈ lw_all := lw_g (lw_at lw_m4 129 rfl) rfl
theorem q936 : (Jvm.Cond.classLink "TwoWorlds" (244 : Nat) "TwoWorlds$Not") ∈ lw_all := lw_g (lw_at lw_m4 130 rfl) rfl
theorem q937 : (Jvm.Cond.methodLink "TwoWorlds" (246 : Nat) ({ cls := "TwoWorlds$Not", name := "<init>", desc := "(LTwoWorlds$Formula;)V" } : Jvm.MethodName)) ∈ lw_all := lw_g (lw_at lw_m4 131 rfl) rfl
theorem q938 : (Jvm.Cond.methodLinkNest "TwoWorlds" (255 : Nat) ({ cls := "TwoWorlds$Match", name := "marks", desc := "(II)I" } : Jvm.MethodName) "TwoWorlds") ∈ lw_tbl := lw_at lw_m4 132 rfl
theorem q939 : (Jvm.Cond.methodLinkNest "TwoWorlds" (258 : Nat) ({ cls := "TwoWorlds$Match", name := "isTied", desc := "(III)Z" } : Jvm.MethodName) "TwoWorlds") ∈ lw_tbl := lw_at lw_m4 133 rfl
theorem q940 : (Jvm.Cond.methodLink "TwoWorlds" (264 : Nat) ({ cls := "TwoWorlds", name := "answers", desc := "(LTwoWorlds$Match;II)LTwoWorlds$Formula;" } : Jvm.MethodName)) ∈ lw_all := lw_g (lw_at lw_m4 134 rfl) rfl
theorem q941 : (Jvm.Cond.static ({ cls := "TwoWorlds", name := "answers", desc := "(LTwoWorlds$Match;II)LTwoWorlds$Formula;" } : Jvm.MethodName)) ∈ lw_all := lw_g (lw_at lw_m4 135 rfl) rfl
theorem q942 : (Jvm.Cond.code ({ cls := "TwoWorlds", name := "answers", desc := "(LTwoWorlds$Match;II)LTwoWorlds$Formula;" } : Jvm.MethodName) prog_1_method_38_code (6 : Nat) (Option.some (Jvm.ClassFile.FieldType.object "TwoWorlds$Formula"))) ∈ lw_all := lw_g (lw_at lw_m4 136 rfl) rfl
theorem q943 : (Jvm.Cond.methodLink "TwoWorlds" (271 : Nat) ({ cls := "TwoWorlds$Match", name := "pop", desc := "()V" } : Jvm.MethodName)) ∈ lw_all := lw_g (lw_at lw_m4 137 rfl) rfl
theorem q944 : (Jvm.Cond.methodLink "TwoWorlds" (274 : Nat) ({ cls := "TwoWorlds", name := "isThere", desc := "(Ljava/util/List;LTwoWorlds$Formula;)Z" } : Jvm.MethodName)) ∈ lw_all := lw_g (lw_at lw_m4 138 rfl) rfl
theorem q945 : (Jvm.Cond.static ({ cls := "TwoWorlds", name := "isThere", desc := "(Ljava/util/List;LTwoWorlds$Formula;)Z" } : Jvm.MethodName)) ∈ lw_all := lw_g (lw_at lw_m4 139 rfl) rfl
theorem q946 : (Jvm.Cond.code ({ cls := "TwoWorlds", name := "isThere", desc := "(Ljava/util/List;LTwoWorlds$Formula;)Z" } : Jvm.MethodName) prog_1_method_39_code (4 : Nat) (Option.some Jvm.ClassFile.FieldType.boolean)) ∈ lw_all := lw_g (lw_at lw_m4 140 rfl) rfl
theorem q947 : (Jvm.Cond.classLink "TwoWorlds" (146 : Nat) "TwoWorlds$Formula") ∈ lw_all := lw_g (lw_at lw_m4 141 rfl) rfl
theorem q948 : (Jvm.Cond.methodLink "TwoWorlds" (288 : Nat) ({ cls := "TwoWorlds$Formula", name := "isLike", desc := "(LTwoWorlds$Formula;)Z" } : Jvm.MethodName)) ∈ lw_all := lw_g (lw_at lw_m4 142 rfl) rfl
theorem q971 : (Jvm.Cond.classLink "TwoWorlds" (278 : Nat) "TwoWorlds$Each") ∈ lw_all := lw_g (lw_at lw_m4 165 rfl) rfl
theorem q972 : (Jvm.Cond.classLink "TwoWorlds" (280 : Nat) "TwoWorlds$Many") ∈ lw_all := lw_g (lw_at lw_m4 166 rfl) rfl
theorem q973 : (Jvm.Cond.methodLink "TwoWorlds" (282 : Nat) ({ cls := "TwoWorlds$Many", name := "<init>", desc := "(Ljava/util/List;C)V" } : Jvm.MethodName)) ∈ lw_all := lw_g (lw_at lw_m4 167 rfl) rfl
theorem q974 : (Jvm.Cond.methodLink "TwoWorlds" (285 : Nat) ({ cls := "TwoWorlds$Each", name := "<init>", desc := "(LTwoWorlds$Formula;IZ)V" } : Jvm.MethodName)) ∈ lw_all := lw_g (lw_at lw_m4 168 rfl) rfl
theorem q976 : (Jvm.Cond.instanceMethod ({ cls := "TwoWorlds", name := "kinds", desc := "(III)I" } : Jvm.MethodName)) ∈ lw_all := lw_g (lw_at lw_m4 170 rfl) rfl
theorem q977 : (Jvm.Cond.selects "TwoWorlds" ({ cls := "TwoWorlds", name := "kinds", desc := "(III)I" } : Jvm.MethodName) ({ cls := "TwoWorlds", name := "kinds", desc := "(III)I" } : Jvm.MethodName)) ∈ lw_all := lw_g (lw_at lw_m4 171 rfl) rfl
theorem q978 : (Jvm.Cond.code ({ cls := "TwoWorlds", name := "kinds", desc := "(III)I" } : Jvm.MethodName) prog_1_method_41_code (13 : Nat) (Option.some Jvm.ClassFile.FieldType.int)) ∈ lw_all := lw_g (lw_at lw_m4 172 rfl) rfl
theorem q979 : (Jvm.Cond.constantLong "TwoWorlds" (290 : Nat) (2 : Int64)) ∈ lw_all := lw_g (lw_at lw_m4 173 rfl) rfl
theorem q981 : (Jvm.Cond.instanceMethod ({ cls := "TwoWorlds", name := "kind", desc := "(I)I" } : Jvm.MethodName)) ∈ lw_all := lw_g (lw_at lw_m4 175 rfl) rfl
theorem q982 : (Jvm.Cond.selects "TwoWorlds" ({ cls := "TwoWorlds", name := "kind", desc := "(I)I" } : Jvm.MethodName) ({ cls := "TwoWorlds", name := "kind", desc := "(I)I" } : Jvm.MethodName)) ∈ lw_all := lw_g (lw_at lw_m4 176 rfl) rfl
theorem q983 : (Jvm.Cond.code ({ cls := "TwoWorlds", name := "kind", desc := "(I)I" } : Jvm.MethodName) prog_1_method_42_code (2 : Nat) (Option.some Jvm.ClassFile.FieldType.int)) ∈ lw_all := lw_g (lw_at lw_m4 177 rfl) rfl
theorem q985 : (Jvm.Cond.instanceMethod ({ cls := "TwoWorlds", name := "colour", desc := "(III)I" } : Jvm.MethodName)) ∈ lw_all := lw_g (lw_at lw_m4 179 rfl) rfl
theorem q986 : (Jvm.Cond.selects "TwoWorlds" ({ cls := "TwoWorlds", name := "colour", desc := "(III)I" } : Jvm.MethodName) ({ cls := "TwoWorlds", name := "colour", desc := "(III)I" } : Jvm.MethodName)) ∈ lw_all := lw_g (lw_at lw_m4 180 rfl) rfl
theorem q987 : (Jvm.Cond.code ({ cls := "TwoWorlds", name := "colour", desc := "(III)I" } : Jvm.MethodName) prog_1_method_43_code (6 : Nat) (Option.some Jvm.ClassFile.FieldType.int)) ∈ lw_all := lw_g (lw_at lw_m4 181 rfl) rfl
theorem q988 : (Jvm.Cond.classLink "TwoWorlds" (295 : Nat) "TwoWorlds$Counting") ∈ lw_all := lw_g (lw_at lw_m4 182 rfl) rfl
theorem q990 : (Jvm.Cond.methodLink "TwoWorlds" (297 : Nat) ({ cls := "TwoWorlds$Counting", name := "<init>", desc := "(LTwoWorlds$World;LTwoWorlds$World;)V" } : Jvm.MethodName)) ∈ lw_all := lw_g (lw_at lw_m4 184 rfl) rfl
theorem q1014 : (Jvm.Cond.fieldLink "TwoWorlds" (313 : Nat) "TwoWorlds$Colouring" "all" "I") ∈ lw_all := lw_g (lw_at lw_m4 208 rfl) rfl
theorem q1020 : (Jvm.Cond.fieldLink "TwoWorlds" (316 : Nat) "TwoWorlds$Colouring" "colours" "[I") ∈ lw_all := lw_g (lw_at lw_m4 214 rfl) rfl
theorem q1022 : (Jvm.Cond.fieldLink "TwoWorlds" (310 : Nat) "TwoWorlds$Colouring" "many" "I") ∈ lw_all := lw_g (lw_at lw_m4 216 rfl) rfl
theorem q1024 : (Jvm.Cond.fieldLink "TwoWorlds" (319 : Nat) "TwoWorlds$Colouring" "steps" "I") ∈ lw_all := lw_g (lw_at lw_m4 218 rfl) rfl
theorem q1042 : (Jvm.Cond.classLink "TwoWorlds" (298 : Nat) "TwoWorlds$Pairs") ∈ lw_all := lw_g (lw_at lw_m4 236 rfl) rfl
theorem q1044 : (Jvm.Cond.methodLink "TwoWorlds" (300 : Nat) ({ cls := "TwoWorlds$Pairs", name := "<init>", desc := "(LTwoWorlds$World;LTwoWorlds$World;)V" } : Jvm.MethodName)) ∈ lw_all := lw_g (lw_at lw_m4 238 rfl) rfl
theorem q1060 : (Jvm.Cond.methodLink "TwoWorlds" (305 : Nat) ({ cls := "TwoWorlds$Colouring", name := "run", desc := "()V" } : Jvm.MethodName)) ∈ lw_all := lw_g (lw_at lw_m5 14 rfl) rfl
theorem q1136 : (Jvm.Cond.instanceMethod ({ cls := "TwoWorlds", name := "coloured", desc := "(I)I" } : Jvm.MethodName)) ∈ lw_all := lw_g (lw_at lw_m5 90 rfl) rfl
theorem q1137 : (Jvm.Cond.selects "TwoWorlds" ({ cls := "TwoWorlds", name := "coloured", desc := "(I)I" } : Jvm.MethodName) ({ cls := "TwoWorlds", name := "coloured", desc := "(I)I" } : Jvm.MethodName)) ∈ lw_all := lw_g (lw_at lw_m5 91 rfl) rfl
theorem q1138 : (Jvm.Cond.code ({ cls := "TwoWorlds", name := "coloured", desc := "(I)I" } : Jvm.MethodName) prog_1_method_44_code (2 : Nat) (Option.some Jvm.ClassFile.FieldType.int)) ∈ lw_all := lw_g (lw_at lw_m5 92 rfl) rfl
theorem q1140 : (Jvm.Cond.instanceMethod ({ cls := "TwoWorlds", name := "still", desc := "(I)I" } : Jvm.MethodName)) ∈ lw_all := lw_g (lw_at lw_m5 94 rfl) rfl
theorem q1141 : (Jvm.Cond.selects "TwoWorlds" ({ cls := "TwoWorlds", name := "still", desc := "(I)I" } : Jvm.MethodName) ({ cls := "TwoWorlds", name := "still", desc := "(I)I" } : Jvm.MethodName)) ∈ lw_all := lw_g (lw_at lw_m5 95 rfl) rfl
theorem q1142 : (Jvm.Cond.code ({ cls := "TwoWorlds", name := "still", desc := "(I)I" } : Jvm.MethodName) prog_1_method_45_code (2 : Nat) (Option.some Jvm.ClassFile.FieldType.int)) ∈ lw_all := lw_g (lw_at lw_m5 96 rfl) rfl
theorem q1143 : (Jvm.Cond.methodLink "TwoWorlds" (322 : Nat) ({ cls := "TwoWorlds$Colouring", name := "isBalanced", desc := "()Z" } : Jvm.MethodName)) ∈ lw_all := lw_g (lw_at lw_m5 97 rfl) rfl
theorem q1150 : (Jvm.Cond.instanceMethod ({ cls := "TwoWorlds", name := "told", desc := "(I)I" } : Jvm.MethodName)) ∈ lw_all := lw_g (lw_at lw_m5 104 rfl) rfl
theorem q1151 : (Jvm.Cond.selects "TwoWorlds" ({ cls := "TwoWorlds", name := "told", desc := "(I)I" } : Jvm.MethodName) ({ cls := "TwoWorlds", name := "told", desc := "(I)I" } : Jvm.MethodName)) ∈ lw_all := lw_g (lw_at lw_m5 105 rfl) rfl
theorem q1152 : (Jvm.Cond.code ({ cls := "TwoWorlds", name := "told", desc := "(I)I" } : Jvm.MethodName) prog_1_method_46_code (4 : Nat) (Option.some Jvm.ClassFile.FieldType.int)) ∈ lw_all := lw_g (lw_at lw_m5 106 rfl) rfl
theorem q1738 : (Jvm.Cond.castable "TwoWorlds" "java/lang/Object") ∈ lw_tbl := lw_at lw_m7 212 rfl
theorem in_X0 : ∀ w ∈ wsX00, w ∈ lw_all := lw_in wsX00 [166, 168, 170, 172, 174, 176, 178, 180, 182, 184, 186, 188, 190] (by decide +kernel) (by decide +kernel)
def RX1 : String := "TwoWorldsModel"
def TX1 : u_T := fun k => match k with
  | 0 => ("TwoWorldsModel", "things", "[I", true)
  | 1 => ("TwoWorldsModel", "marks", "[I", true)
  | 2 => ("TwoWorldsModel", "ties", "[I", true)
  | 3 => ("TwoWorldsModel", "newMarks", "[I", true)
  | 4 => ("TwoWorldsModel", "newTies", "[I", true)
  | 5 => ("TwoWorldsModel", "one", "I", false)
  | 6 => ("TwoWorldsModel", "other", "I", false)
  | 7 => ("TwoWorldsModel", "size", "I", false)
  | 8 => ("TwoWorldsModel", "row", "[I", true)
  | 9 => ("TwoWorldsModel", "against", "[I", true)
  | 10 => ("TwoWorldsModel", "turn", "I", false)
  | 11 => ("TwoWorldsModel", "rounds", "I", false)
  | 12 => ("TwoWorldsModel", "played", "I", false)
  | 13 => ("TwoWorldsModel", "playRow", "[I", true)
  | 14 => ("TwoWorldsModel", "playAgainst", "[I", true)
  | 15 => ("TwoWorldsModel", "pickSide", "I", false)
  | 16 => ("TwoWorldsModel", "pickThing", "I", false)
  | 17 => ("TwoWorldsModel", "sentences", "I", false)
  | 18 => ("TwoWorldsModel", "many", "[I", true)
  | 19 => ("TwoWorldsModel", "kind", "[B", true)
  | 20 => ("TwoWorldsModel", "varOne", "[I", true)
  | 21 => ("TwoWorldsModel", "varTwo", "[B", true)
  | 22 => ("TwoWorldsModel", "end", "[I", true)
  | 23 => ("TwoWorldsModel", "made", "I", false)
  | 24 => ("TwoWorldsModel", "newKind", "[B", true)
  | 25 => ("TwoWorldsModel", "newOne", "[I", true)
  | 26 => ("TwoWorldsModel", "newTwo", "[B", true)
  | 27 => ("TwoWorldsModel", "tape", "[B", true)
  | 28 => ("TwoWorldsModel", "taped", "I", false)
  | 29 => ("TwoWorldsModel", "open", "I", false)
  | 30 => ("TwoWorldsModel", "openSort", "[I", true)
  | 31 => ("TwoWorldsModel", "openAt", "[I", true)
  | 32 => ("TwoWorldsModel", "openSign", "[I", true)
  | 33 => ("TwoWorldsModel", "nested", "I", false)
  | 34 => ("TwoWorldsModel", "quantified", "I", false)
  | 35 => ("TwoWorldsModel", "letter", "[I", true)
  | 36 => ("TwoWorldsModel", "at", "I", false)
  | 37 => ("TwoWorldsModel", "wrong", "I", false)
  | 38 => ("TwoWorldsModel", "deep", "I", false)
  | 39 => ("TwoWorldsModel", "wayNode", "[I", true)
  | 40 => ("TwoWorldsModel", "wayPart", "[I", true)
  | 41 => ("TwoWorldsModel", "wayNext", "[I", true)
  | 42 => ("TwoWorldsModel", "signs", "I", false)
  | 43 => ("TwoWorldsModel", "sign", "[B", true)
  | 44 => ("TwoWorldsModel", "asked", "I", false)
  | 45 => ("TwoWorldsModel", "nowAsked", "I", false)
  | 46 => ("TwoWorldsModel", "thingOf", "[I", true)
  | 47 => ("TwoWorldsModel", "answered", "Z", false)
  | 48 => ("TwoWorldsModel", "kindThings", "I", false)
  | 49 => ("TwoWorldsModel", "kindOf", "[I", true)
  | 50 => ("TwoWorldsModel", "firstOf", "[I", true)
  | 51 => ("TwoWorldsModel", "colours", "I", false)
  | 52 => ("TwoWorldsModel", "coloured", "I", false)
  | 53 => ("TwoWorldsModel", "steps", "I", false)
  | 54 => ("TwoWorldsModel", "balance", "Z", false)
  | 55 => ("TwoWorldsModel", "colour", "[I", true)
  | 56 => ("TwoWorldsModel", "newColour", "[I", true)
  | 57 => ("TwoWorldsModel", "inWorld", "[I", true)
  | 58 => ("TwoWorldsModel", "firstThing", "[I", true)
  | 59 => ("TwoWorldsModel", "secondThing", "[I", true)
  | 60 => ("TwoWorldsModel", "secondLow", "[J", true)
  | 61 => ("TwoWorldsModel", "secondHigh", "[J", true)
  | 62 => ("TwoWorldsModel", "firstLow", "[J", true)
  | _ => ("TwoWorldsModel", "firstHigh", "[J", true)
def tyX1 : Nat → FieldType := fun k => match k with
  | 0 => .array .int
  | 1 => .array .int
  | 2 => .array .int
  | 3 => .array .int
  | 4 => .array .int
  | 5 => .int
  | 6 => .int
  | 7 => .int
  | 8 => .array .int
  | 9 => .array .int
  | 10 => .int
  | 11 => .int
  | 12 => .int
  | 13 => .array .int
  | 14 => .array .int
  | 15 => .int
  | 16 => .int
  | 17 => .int
  | 18 => .array .int
  | 19 => .array .byte
  | 20 => .array .int
  | 21 => .array .byte
  | 22 => .array .int
  | 23 => .int
  | 24 => .array .byte
  | 25 => .array .int
  | 26 => .array .byte
  | 27 => .array .byte
  | 28 => .int
  | 29 => .int
  | 30 => .array .int
  | 31 => .array .int
  | 32 => .array .int
  | 33 => .int
  | 34 => .int
  | 35 => .array .int
  | 36 => .int
  | 37 => .int
  | 38 => .int
  | 39 => .array .int
  | 40 => .array .int
  | 41 => .array .int
  | 42 => .int
  | 43 => .array .byte
  | 44 => .int
  | 45 => .int
  | 46 => .array .int
  | 47 => .boolean
  | 48 => .int
  | 49 => .array .int
  | 50 => .array .int
  | 51 => .int
  | 52 => .int
  | 53 => .int
  | 54 => .boolean
  | 55 => .array .int
  | 56 => .array .int
  | 57 => .array .int
  | 58 => .array .int
  | 59 => .array .int
  | 60 => .array .long
  | 61 => .array .long
  | 62 => .array .long
  | _ => .array .long
abbrev wsX10 : List Cond := u_ws RX1 TX1 64
theorem nmX1 : ∀ a, a < 64 → ∀ b, b < 64 → a ≠ b → (TX1 a).2.1 ≠ (TX1 b).2.1 := by decide +kernel
theorem tyX1_ok : ∀ k, k < 64 → parseFieldDescriptor (TX1 k).2.2.1 = some (tyX1 k) := by decide +kernel
abbrev cX1_init : ByteArray := prog_19_method_1_code
abbrev yX1_init : MethodName := ⟨RX1, "<init>", "()V"⟩
abbrev cX1_world : ByteArray := prog_19_method_6_code
abbrev yX1_world : MethodName := ⟨RX1, "world", "(II)I"⟩
abbrev cX1_noPlace : ByteArray := prog_19_method_3_code
abbrev yX1_noPlace : MethodName := ⟨RX1, "noPlace", "(I)Z"⟩
abbrev cX1_in : ByteArray := prog_19_method_2_code
abbrev yX1_in : MethodName := ⟨RX1, "in", "(III)Z"⟩
abbrev cX1_mark : ByteArray := prog_19_method_7_code
abbrev yX1_mark : MethodName := ⟨RX1, "mark", "(IIIZ)I"⟩
abbrev cX1_noThing : ByteArray := prog_19_method_5_code
abbrev yX1_noThing : MethodName := ⟨RX1, "noThing", "(II)Z"⟩
abbrev cX1_noWorld : ByteArray := prog_19_method_4_code
abbrev yX1_noWorld : MethodName := ⟨RX1, "noWorld", "(I)Z"⟩
abbrev cX1_tie : ByteArray := prog_19_method_8_code
abbrev yX1_tie : MethodName := ⟨RX1, "tie", "(IIIZ)I"⟩
abbrev cX1_turn : ByteArray := prog_19_method_12_code
abbrev yX1_turn : MethodName := ⟨RX1, "turn", "(IIII)I"⟩
abbrev cX1_turned : ByteArray := prog_19_method_11_code
abbrev yX1_turned : MethodName := ⟨RX1, "turned", "(III)I"⟩
abbrev cX1_isTied : ByteArray := prog_19_method_9_code
abbrev yX1_isTied : MethodName := ⟨RX1, "isTied", "(III)Z"⟩
abbrev cX1_lay : ByteArray := prog_19_method_10_code
abbrev yX1_lay : MethodName := ⟨RX1, "lay", "(II)V"⟩
abbrev cX1_join : ByteArray := prog_19_method_13_code
abbrev yX1_join : MethodName := ⟨RX1, "join", "(III)I"⟩
abbrev cX1_about : ByteArray := prog_19_method_15_code
abbrev yX1_about : MethodName := ⟨RX1, "about", "(II)I"⟩
abbrev cX1_bits : ByteArray := prog_19_method_14_code
abbrev yX1_bits : MethodName := ⟨RX1, "bits", "(I)I"⟩
abbrev cX1_tied : ByteArray := prog_19_method_16_code
abbrev yX1_tied : MethodName := ⟨RX1, "tied", "(III)I"⟩
abbrev cX1_game : ByteArray := prog_19_method_27_code
abbrev yX1_game : MethodName := ⟨RX1, "game", "(III)I"⟩
abbrev cX1_begin : ByteArray := prog_19_method_17_code
abbrev yX1_begin : MethodName := ⟨RX1, "begin", "(II)V"⟩
abbrev cX1_keeps : ByteArray := prog_19_method_26_code
abbrev yX1_keeps : MethodName := ⟨RX1, "keeps", "(I)Z"⟩
abbrev cX1_areAlike : ByteArray := prog_19_method_20_code
abbrev yX1_areAlike : MethodName := ⟨RX1, "areAlike", "()Z"⟩
abbrev cX1_isPlaceAlike : ByteArray := prog_19_method_19_code
abbrev yX1_isPlaceAlike : MethodName := ⟨RX1, "isPlaceAlike", "(I)Z"⟩
abbrev cX1_keeps1 : ByteArray := prog_19_method_23_code
abbrev yX1_keeps1 : MethodName := ⟨RX1, "keeps1", "()Z"⟩
abbrev cX1_manyOf : ByteArray := prog_19_method_22_code
abbrev yX1_manyOf : MethodName := ⟨RX1, "manyOf", "(I)I"⟩
abbrev cX1_addPick : ByteArray := prog_19_method_21_code
abbrev yX1_addPick : MethodName := ⟨RX1, "addPick", "(III)V"⟩
abbrev cX1_add : ByteArray := prog_19_method_18_code
abbrev yX1_add : MethodName := ⟨RX1, "add", "(II)V"⟩
abbrev cX1_keeps2 : ByteArray := prog_19_method_24_code
abbrev yX1_keeps2 : MethodName := ⟨RX1, "keeps2", "()Z"⟩
abbrev cX1_keeps3 : ByteArray := prog_19_method_25_code
abbrev yX1_keeps3 : MethodName := ⟨RX1, "keeps3", "()Z"⟩
abbrev cX1_rank : ByteArray := prog_19_method_29_code
abbrev yX1_rank : MethodName := ⟨RX1, "rank", "(II)I"⟩
abbrev cX1_least : ByteArray := prog_19_method_28_code
abbrev yX1_least : MethodName := ⟨RX1, "least", "(I)I"⟩
abbrev cX1_play : ByteArray := prog_19_method_33_code
abbrev yX1_play : MethodName := ⟨RX1, "play", "(III)I"⟩
abbrev cX1_copyWorld : ByteArray := prog_19_method_30_code
abbrev yX1_copyWorld : MethodName := ⟨RX1, "copyWorld", "(II)V"⟩
abbrev cX1_judge : ByteArray := prog_19_method_32_code
abbrev yX1_judge : MethodName := ⟨RX1, "judge", "()V"⟩
abbrev cX1_layPlay : ByteArray := prog_19_method_31_code
abbrev yX1_layPlay : MethodName := ⟨RX1, "layPlay", "()V"⟩
abbrev cX1_pick : ByteArray := prog_19_method_34_code
abbrev yX1_pick : MethodName := ⟨RX1, "pick", "(II)I"⟩
abbrev cX1_answer : ByteArray := prog_19_method_35_code
abbrev yX1_answer : MethodName := ⟨RX1, "answer", "(I)I"⟩
abbrev cX1_best : ByteArray := prog_19_method_37_code
abbrev yX1_best : MethodName := ⟨RX1, "best", "()I"⟩
abbrev cX1_answerTo : ByteArray := prog_19_method_36_code
abbrev yX1_answerTo : MethodName := ⟨RX1, "answerTo", "(III)I"⟩
abbrev cX1_state : ByteArray := prog_19_method_38_code
abbrev yX1_state : MethodName := ⟨RX1, "state", "()I"⟩
abbrev cX1_left : ByteArray := prog_19_method_39_code
abbrev yX1_left : MethodName := ⟨RX1, "left", "()I"⟩
abbrev cX1_feed : ByteArray := prog_19_method_40_code
abbrev yX1_feed : MethodName := ⟨RX1, "feed", "(IIIII)I"⟩
abbrev cX1_trim : ByteArray := prog_19_method_41_code
abbrev yX1_trim : MethodName := ⟨RX1, "trim", "(I)I"⟩
abbrev cX1_read : ByteArray := prog_19_method_57_code
abbrev yX1_read : MethodName := ⟨RX1, "read", "()I"⟩
abbrev cX1_parse : ByteArray := prog_19_method_54_code
abbrev yX1_parse : MethodName := ⟨RX1, "parse", "()V"⟩
abbrev cX1_openFormula : ByteArray := prog_19_method_46_code
abbrev yX1_openFormula : MethodName := ⟨RX1, "openFormula", "()V"⟩
abbrev cX1_skip : ByteArray := prog_19_method_44_code
abbrev yX1_skip : MethodName := ⟨RX1, "skip", "()V"⟩
abbrev cX1_beginPart : ByteArray := prog_19_method_52_code
abbrev yX1_beginPart : MethodName := ⟨RX1, "beginPart", "()Z"⟩
abbrev cX1_here : ByteArray := prog_19_method_45_code
abbrev yX1_here : MethodName := ⟨RX1, "here", "()I"⟩
abbrev cX1_emit : ByteArray := prog_19_method_42_code
abbrev yX1_emit : MethodName := ⟨RX1, "emit", "(III)V"⟩
abbrev cX1_openNode : ByteArray := prog_19_method_47_code
abbrev yX1_openNode : MethodName := ⟨RX1, "openNode", "(I)V"⟩
abbrev cX1_quantifier : ByteArray := prog_19_method_51_code
abbrev yX1_quantifier : MethodName := ⟨RX1, "quantifier", "(I)V"⟩
abbrev cX1_atom : ByteArray := prog_19_method_50_code
abbrev yX1_atom : MethodName := ⟨RX1, "atom", "(II)V"⟩
abbrev cX1_variable : ByteArray := prog_19_method_48_code
abbrev yX1_variable : MethodName := ⟨RX1, "variable", "()I"⟩
abbrev cX1_partDone : ByteArray := prog_19_method_49_code
abbrev yX1_partDone : MethodName := ⟨RX1, "partDone", "()V"⟩
abbrev cX1_goOn : ByteArray := prog_19_method_53_code
abbrev yX1_goOn : MethodName := ⟨RX1, "goOn", "()Z"⟩
abbrev cX1_insert : ByteArray := prog_19_method_43_code
abbrev yX1_insert : MethodName := ⟨RX1, "insert", "(II)V"⟩
abbrev cX1_keep : ByteArray := prog_19_method_56_code
abbrev yX1_keep : MethodName := ⟨RX1, "keep", "()I"⟩
abbrev cX1_findEnds : ByteArray := prog_19_method_55_code
abbrev yX1_findEnds : MethodName := ⟨RX1, "findEnds", "(I)V"⟩
abbrev cX1_sentence : ByteArray := prog_19_method_64_code
abbrev yX1_sentence : MethodName := ⟨RX1, "sentence", "(II)I"⟩
abbrev cX1_noSentence : ByteArray := prog_19_method_58_code
abbrev yX1_noSentence : MethodName := ⟨RX1, "noSentence", "(I)Z"⟩
abbrev cX1_writeAll : ByteArray := prog_19_method_63_code
abbrev yX1_writeAll : MethodName := ⟨RX1, "writeAll", "(I)V"⟩
abbrev cX1_write : ByteArray := prog_19_method_60_code
abbrev yX1_write : MethodName := ⟨RX1, "write", "(I)V"⟩
abbrev cX1_writeAtom : ByteArray := prog_19_method_61_code
abbrev yX1_writeAtom : MethodName := ⟨RX1, "writeAtom", "(I)V"⟩
abbrev cX1_writeBehind : ByteArray := prog_19_method_62_code
abbrev yX1_writeBehind : MethodName := ⟨RX1, "writeBehind", "(II)V"⟩
abbrev cX1_depthOf : ByteArray := prog_19_method_59_code
abbrev yX1_depthOf : MethodName := ⟨RX1, "depthOf", "(I)I"⟩
abbrev cX1_written : ByteArray := prog_19_method_65_code
abbrev yX1_written : MethodName := ⟨RX1, "written", "(II)I"⟩
abbrev cX1_same : ByteArray := prog_19_method_66_code
abbrev yX1_same : MethodName := ⟨RX1, "same", "(II)I"⟩
abbrev cX1_holds : ByteArray := prog_19_method_69_code
abbrev yX1_holds : MethodName := ⟨RX1, "holds", "(II)I"⟩
abbrev cX1_isAtom : ByteArray := prog_19_method_67_code
abbrev yX1_isAtom : MethodName := ⟨RX1, "isAtom", "(II)Z"⟩
abbrev cX1_nextAsked : ByteArray := prog_19_method_68_code
abbrev yX1_nextAsked : MethodName := ⟨RX1, "nextAsked", "(IIZ)I"⟩
abbrev cX1_asked : ByteArray := prog_19_method_70_code
abbrev yX1_asked : MethodName := ⟨RX1, "asked", "()I"⟩
abbrev cX1_part : ByteArray := prog_19_method_83_code
abbrev yX1_part : MethodName := ⟨RX1, "part", "(II)I"⟩
abbrev cX1_part3 : ByteArray := prog_19_method_82_code
abbrev yX1_part3 : MethodName := ⟨RX1, "part3", "()V"⟩
abbrev cX1_part2 : ByteArray := prog_19_method_81_code
abbrev yX1_part2 : MethodName := ⟨RX1, "part2", "()V"⟩
abbrev cX1_part1 : ByteArray := prog_19_method_80_code
abbrev yX1_part1 : MethodName := ⟨RX1, "part1", "()V"⟩
abbrev cX1_partAtom : ByteArray := prog_19_method_72_code
abbrev yX1_partAtom : MethodName := ⟨RX1, "partAtom", "()V"⟩
abbrev cX1_parts : ByteArray := prog_19_method_71_code
abbrev yX1_parts : MethodName := ⟨RX1, "parts", "(III)Z"⟩
abbrev cX1_winning : ByteArray := prog_19_method_74_code
abbrev yX1_winning : MethodName := ⟨RX1, "winning", "(I)I"⟩
abbrev cX1_beginPick : ByteArray := prog_19_method_78_code
abbrev yX1_beginPick : MethodName := ⟨RX1, "beginPick", "(I)I"⟩
abbrev cX1_swapRows : ByteArray := prog_19_method_73_code
abbrev yX1_swapRows : MethodName := ⟨RX1, "swapRows", "()V"⟩
abbrev cX1_keepUnlike : ByteArray := prog_19_method_75_code
abbrev yX1_keepUnlike : MethodName := ⟨RX1, "keepUnlike", "(III)I"⟩
abbrev cX1_stops : ByteArray := prog_19_method_76_code
abbrev yX1_stops : MethodName := ⟨RX1, "stops", "(I)I"⟩
abbrev cX1_closeParts : ByteArray := prog_19_method_77_code
abbrev yX1_closeParts : MethodName := ⟨RX1, "closeParts", "(II)V"⟩
abbrev cX1_endPick : ByteArray := prog_19_method_79_code
abbrev yX1_endPick : MethodName := ⟨RX1, "endPick", "(I)V"⟩
abbrev cX1_kinds : ByteArray := prog_19_method_84_code
abbrev yX1_kinds : MethodName := ⟨RX1, "kinds", "(III)I"⟩
abbrev cX1_kind : ByteArray := prog_19_method_85_code
abbrev yX1_kind : MethodName := ⟨RX1, "kind", "(I)I"⟩
abbrev cX1_colour : ByteArray := prog_19_method_93_code
abbrev yX1_colour : MethodName := ⟨RX1, "colour", "(III)I"⟩
abbrev cX1_layThings : ByteArray := prog_19_method_86_code
abbrev yX1_layThings : MethodName := ⟨RX1, "layThings", "(III)V"⟩
abbrev cX1_step : ByteArray := prog_19_method_91_code
abbrev yX1_step : MethodName := ⟨RX1, "step", "(IIIZ)I"⟩
abbrev cX1_gather : ByteArray := prog_19_method_89_code
abbrev yX1_gather : MethodName := ⟨RX1, "gather", "(I)V"⟩
abbrev cX1_startsAlike : ByteArray := prog_19_method_87_code
abbrev yX1_startsAlike : MethodName := ⟨RX1, "startsAlike", "(IIII)Z"⟩
abbrev cX1_staysWith : ByteArray := prog_19_method_90_code
abbrev yX1_staysWith : MethodName := ⟨RX1, "staysWith", "(IIIII)Z"⟩
abbrev cX1_tiedOf : ByteArray := prog_19_method_88_code
abbrev yX1_tiedOf : MethodName := ⟨RX1, "tiedOf", "(III)I"⟩
abbrev cX1_areBalanced : ByteArray := prog_19_method_92_code
abbrev yX1_areBalanced : MethodName := ⟨RX1, "areBalanced", "()Z"⟩
abbrev cX1_coloured : ByteArray := prog_19_method_94_code
abbrev yX1_coloured : MethodName := ⟨RX1, "coloured", "(I)I"⟩
abbrev cX1_still : ByteArray := prog_19_method_95_code
abbrev yX1_still : MethodName := ⟨RX1, "still", "(I)I"⟩
abbrev cX1_told : ByteArray := prog_19_method_96_code
abbrev yX1_told : MethodName := ⟨RX1, "told", "(I)I"⟩
theorem q91 : (Jvm.Cond.initialized "TwoWorldsModel") ∈ lw_all := lw_g (lw_at lw_m1 5 rfl) rfl
theorem q637 : (Jvm.Cond.selects "TwoWorldsModel" ({ cls := "java/lang/Object", name := "getClass", desc := "()Ljava/lang/Class;" } : Jvm.MethodName) ({ cls := "java/lang/Object", name := "getClass", desc := "()Ljava/lang/Class;" } : Jvm.MethodName)) ∈ lw_all := lw_g (lw_at lw_m3 71 rfl) rfl
theorem q1154 : (Jvm.Cond.instantiable "TwoWorldsModel" (64 : Nat)) ∈ lw_all := lw_g (lw_at lw_m5 108 rfl) rfl
theorem q1156 : (Jvm.Cond.instanceMethod ({ cls := "TwoWorldsModel", name := "<init>", desc := "()V" } : Jvm.MethodName)) ∈ lw_all := lw_g (lw_at lw_m5 110 rfl) rfl
theorem q1157 : (Jvm.Cond.code ({ cls := "TwoWorldsModel", name := "<init>", desc := "()V" } : Jvm.MethodName) prog_19_method_1_code (1 : Nat) (Option.none : Option Jvm.ClassFile.FieldType)) ∈ lw_all := lw_g (lw_at lw_m5 111 rfl) rfl
theorem q1158 : (Jvm.Cond.methodLink "TwoWorldsModel" (1 : Nat) ({ cls := "java/lang/Object", name := "<init>", desc := "()V" } : Jvm.MethodName)) ∈ lw_all := lw_g (lw_at lw_m5 112 rfl) rfl
theorem q1159 : (Jvm.Cond.fieldLink "TwoWorldsModel" (7 : Nat) "TwoWorldsModel" "things" "[I") ∈ lw_all := lw_g (lw_at lw_m5 113 rfl) rfl
theorem q1160 : (Jvm.Cond.fieldLink "TwoWorldsModel" (13 : Nat) "TwoWorldsModel" "marks" "[I") ∈ lw_all := lw_g (lw_at lw_m5 114 rfl) rfl
theorem q1161 : (Jvm.Cond.fieldLink "TwoWorldsModel" (16 : Nat) "TwoWorldsModel" "ties" "[I") ∈ lw_all := lw_g (lw_at lw_m5 115 rfl) rfl
theorem q1162 : (Jvm.Cond.fieldLink "TwoWorldsModel" (19 : Nat) "TwoWorldsModel" "newMarks" "[I") ∈ lw_all := lw_g (lw_at lw_m5 116 rfl) rfl
theorem q1163 : (Jvm.Cond.fieldLink "TwoWorldsModel" (22 : Nat) "TwoWorldsModel" "newTies" "[I") ∈ lw_all := lw_g (lw_at lw_m5 117 rfl) rfl
theorem q1164 : (Jvm.Cond.fieldLink "TwoWorldsModel" (163 : Nat) "TwoWorldsModel" "one" "I") ∈ lw_all := lw_g (lw_at lw_m5 118 rfl) rfl
theorem q1165 : (Jvm.Cond.fieldLink "TwoWorldsModel" (166 : Nat) "TwoWorldsModel" "other" "I") ∈ lw_all := lw_g (lw_at lw_m5 119 rfl) rfl
theorem q1166 : (Jvm.Cond.fieldLink "TwoWorldsModel" (169 : Nat) "TwoWorldsModel" "size" "I") ∈ lw_all := lw_g (lw_at lw_m5 120 rfl) rfl
theorem q1167 : (Jvm.Cond.fieldLink "TwoWorldsModel" (25 : Nat) "TwoWorldsModel" "row" "[I") ∈ lw_all := lw_g (lw_at lw_m5 121 rfl) rfl
theorem q1168 : (Jvm.Cond.fieldLink "TwoWorldsModel" (28 : Nat) "TwoWorldsModel" "against" "[I") ∈ lw_all := lw_g (lw_at lw_m5 122 rfl) rfl
theorem q1169 : (Jvm.Cond.fieldLink "TwoWorldsModel" (126 : Nat) "TwoWorldsModel" "turn" "I") ∈ lw_all := lw_g (lw_at lw_m5 123 rfl) rfl
theorem q1170 : (Jvm.Cond.fieldLink "TwoWorldsModel" (213 : Nat) "TwoWorldsModel" "rounds" "I") ∈ lw_all := lw_g (lw_at lw_m5 124 rfl) rfl
theorem q1171 : (Jvm.Cond.fieldLink "TwoWorldsModel" (207 : Nat) "TwoWorldsModel" "played" "I") ∈ lw_all := lw_g (lw_at lw_m5 125 rfl) rfl
theorem q1172 : (Jvm.Cond.fieldLink "TwoWorldsModel" (31 : Nat) "TwoWorldsModel" "playRow" "[I") ∈ lw_all := lw_g (lw_at lw_m5 126 rfl) rfl
theorem q1173 : (Jvm.Cond.fieldLink "TwoWorldsModel" (34 : Nat) "TwoWorldsModel" "playAgainst" "[I") ∈ lw_all := lw_g (lw_at lw_m5 127 rfl) rfl
theorem q1174 : (Jvm.Cond.fieldLink "TwoWorldsModel" (222 : Nat) "TwoWorldsModel" "pickSide" "I") ∈ lw_all := lw_g (lw_at lw_m5 128 rfl) rfl
theorem q1175 : (Jvm.Cond.fieldLink "TwoWorldsModel" (225 : Nat) "TwoWorldsModel" "pickThing" "I") ∈ lw_all := lw_g (lw_at lw_m5 129 rfl) rfl
theorem q1176 : (Jvm.Cond.fieldLink "TwoWorldsModel" (290 : Nat) "TwoWorldsModel" "sentences" "I") ∈ lw_all := lw_g (lw_at lw_m5 130 rfl) rfl
theorem q1177 : (Jvm.Cond.fieldLink "TwoWorldsModel" (37 : Nat) "TwoWorldsModel" "many" "[I") ∈ lw_all := lw_g (lw_at lw_m5 131 rfl) rfl
theorem q1178 : (Jvm.Cond.fieldLink "TwoWorldsModel" (40 : Nat) "TwoWorldsModel" "kind" "[B") ∈ lw_all := lw_g (lw_at lw_m5 132 rfl) rfl
theorem q1179 : (Jvm.Cond.fieldLink "TwoWorldsModel" (44 : Nat) "TwoWorldsModel" "varOne" "[I") ∈ lw_all := lw_g (lw_at lw_m5 133 rfl) rfl
theorem q1180 : (Jvm.Cond.fieldLink "TwoWorldsModel" (47 : Nat) "TwoWorldsModel" "varTwo" "[B") ∈ lw_all := lw_g (lw_at lw_m5 134 rfl) rfl
theorem q1181 : (Jvm.Cond.fieldLink "TwoWorldsModel" (50 : Nat) "TwoWorldsModel" "end" "[I") ∈ lw_all := lw_g (lw_at lw_m5 135 rfl) rfl
theorem q1182 : (Jvm.Cond.fieldLink "TwoWorldsModel" (234 : Nat) "TwoWorldsModel" "made" "I") ∈ lw_all := lw_g (lw_at lw_m5 136 rfl) rfl
theorem q1183 : (Jvm.Cond.fieldLink "TwoWorldsModel" (53 : Nat) "TwoWorldsModel" "newKind" "[B") ∈ lw_all := lw_g (lw_at lw_m5 137 rfl) rfl
theorem q1184 : (Jvm.Cond.fieldLink "TwoWorldsModel" (56 : Nat) "TwoWorldsModel" "newOne" "[I") ∈ lw_all := lw_g (lw_at lw_m5 138 rfl) rfl
theorem q1185 : (Jvm.Cond.fieldLink "TwoWorldsModel" (59 : Nat) "TwoWorldsModel" "newTwo" "[B") ∈ lw_all := lw_g (lw_at lw_m5 139 rfl) rfl
theorem q1186 : (Jvm.Cond.fieldLink "TwoWorldsModel" (62 : Nat) "TwoWorldsModel" "tape" "[B") ∈ lw_all := lw_g (lw_at lw_m5 140 rfl) rfl
theorem q1187 : (Jvm.Cond.fieldLink "TwoWorldsModel" (231 : Nat) "TwoWorldsModel" "taped" "I") ∈ lw_all := lw_g (lw_at lw_m5 141 rfl) rfl
theorem q1188 : (Jvm.Cond.fieldLink "TwoWorldsModel" (240 : Nat) "TwoWorldsModel" "open" "I") ∈ lw_all := lw_g (lw_at lw_m5 142 rfl) rfl
theorem q1189 : (Jvm.Cond.fieldLink "TwoWorldsModel" (65 : Nat) "TwoWorldsModel" "openSort" "[I") ∈ lw_all := lw_g (lw_at lw_m5 143 rfl) rfl
theorem q1190 : (Jvm.Cond.fieldLink "TwoWorldsModel" (68 : Nat) "TwoWorldsModel" "openAt" "[I") ∈ lw_all := lw_g (lw_at lw_m5 144 rfl) rfl
theorem q1191 : (Jvm.Cond.fieldLink "TwoWorldsModel" (71 : Nat) "TwoWorldsModel" "openSign" "[I") ∈ lw_all := lw_g (lw_at lw_m5 145 rfl) rfl
theorem q1192 : (Jvm.Cond.fieldLink "TwoWorldsModel" (243 : Nat) "TwoWorldsModel" "nested" "I") ∈ lw_all := lw_g (lw_at lw_m5 146 rfl) rfl
theorem q1193 : (Jvm.Cond.fieldLink "TwoWorldsModel" (253 : Nat) "TwoWorldsModel" "quantified" "I") ∈ lw_all := lw_g (lw_at lw_m5 147 rfl) rfl
theorem q1194 : (Jvm.Cond.fieldLink "TwoWorldsModel" (74 : Nat) "TwoWorldsModel" "letter" "[I") ∈ lw_all := lw_g (lw_at lw_m5 148 rfl) rfl
theorem q1195 : (Jvm.Cond.fieldLink "TwoWorldsModel" (237 : Nat) "TwoWorldsModel" "at" "I") ∈ lw_all := lw_g (lw_at lw_m5 149 rfl) rfl
theorem q1196 : (Jvm.Cond.fieldLink "TwoWorldsModel" (256 : Nat) "TwoWorldsModel" "wrong" "I") ∈ lw_all := lw_g (lw_at lw_m5 150 rfl) rfl
theorem q1197 : (Jvm.Cond.fieldLink "TwoWorldsModel" (308 : Nat) "TwoWorldsModel" "deep" "I") ∈ lw_all := lw_g (lw_at lw_m5 151 rfl) rfl
theorem q1198 : (Jvm.Cond.fieldLink "TwoWorldsModel" (77 : Nat) "TwoWorldsModel" "wayNode" "[I") ∈ lw_all := lw_g (lw_at lw_m5 152 rfl) rfl
theorem q1199 : (Jvm.Cond.fieldLink "TwoWorldsModel" (80 : Nat) "TwoWorldsModel" "wayPart" "[I") ∈ lw_all := lw_g (lw_at lw_m5 153 rfl) rfl
theorem q1200 : (Jvm.Cond.fieldLink "TwoWorldsModel" (83 : Nat) "TwoWorldsModel" "wayNext" "[I") ∈ lw_all := lw_g (lw_at lw_m5 154 rfl) rfl
theorem q1201 : (Jvm.Cond.fieldLink "TwoWorldsModel" (302 : Nat) "TwoWorldsModel" "signs" "I") ∈ lw_all := lw_g (lw_at lw_m5 155 rfl) rfl
theorem q1202 : (Jvm.Cond.fieldLink "TwoWorldsModel" (86 : Nat) "TwoWorldsModel" "sign" "[B") ∈ lw_all := lw_g (lw_at lw_m5 156 rfl) rfl
theorem q1203 : (Jvm.Cond.fieldLink "TwoWorldsModel" (341 : Nat) "TwoWorldsModel" "asked" "I") ∈ lw_all := lw_g (lw_at lw_m5 157 rfl) rfl
theorem q1204 : (Jvm.Cond.fieldLink "TwoWorldsModel" (330 : Nat) "TwoWorldsModel" "nowAsked" "I") ∈ lw_all := lw_g (lw_at lw_m5 158 rfl) rfl
theorem q1205 : (Jvm.Cond.fieldLink "TwoWorldsModel" (89 : Nat) "TwoWorldsModel" "thingOf" "[I") ∈ lw_all := lw_g (lw_at lw_m5 159 rfl) rfl
theorem q1206 : (Jvm.Cond.fieldLink "TwoWorldsModel" (326 : Nat) "TwoWorldsModel" "answered" "Z") ∈ lw_all := lw_g (lw_at lw_m5 160 rfl) rfl
theorem q1207 : (Jvm.Cond.fieldLink "TwoWorldsModel" (380 : Nat) "TwoWorldsModel" "kindThings" "I") ∈ lw_all := lw_g (lw_at lw_m5 161 rfl) rfl
theorem q1208 : (Jvm.Cond.fieldLink "TwoWorldsModel" (92 : Nat) "TwoWorldsModel" "kindOf" "[I") ∈ lw_all := lw_g (lw_at lw_m5 162 rfl) rfl
theorem q1209 : (Jvm.Cond.fieldLink "TwoWorldsModel" (95 : Nat) "TwoWorldsModel" "firstOf" "[I") ∈ lw_all := lw_g (lw_at lw_m5 163 rfl) rfl
theorem q1210 : (Jvm.Cond.fieldLink "TwoWorldsModel" (130 : Nat) "TwoWorldsModel" "colours" "I") ∈ lw_all := lw_g (lw_at lw_m5 164 rfl) rfl
theorem q1211 : (Jvm.Cond.fieldLink "TwoWorldsModel" (383 : Nat) "TwoWorldsModel" "coloured" "I") ∈ lw_all := lw_g (lw_at lw_m5 165 rfl) rfl
theorem q1212 : (Jvm.Cond.fieldLink "TwoWorldsModel" (407 : Nat) "TwoWorldsModel" "steps" "I") ∈ lw_all := lw_g (lw_at lw_m5 166 rfl) rfl
theorem q1213 : (Jvm.Cond.fieldLink "TwoWorldsModel" (413 : Nat) "TwoWorldsModel" "balance" "Z") ∈ lw_all := lw_g (lw_at lw_m5 167 rfl) rfl
theorem q1214 : (Jvm.Cond.fieldLink "TwoWorldsModel" (98 : Nat) "TwoWorldsModel" "colour" "[I") ∈ lw_all := lw_g (lw_at lw_m5 168 rfl) rfl
theorem q1215 : (Jvm.Cond.fieldLink "TwoWorldsModel" (101 : Nat) "TwoWorldsModel" "newColour" "[I") ∈ lw_all := lw_g (lw_at lw_m5 169 rfl) rfl
theorem q1216 : (Jvm.Cond.fieldLink "TwoWorldsModel" (104 : Nat) "TwoWorldsModel" "inWorld" "[I") ∈ lw_all := lw_g (lw_at lw_m5 170 rfl) rfl
theorem q1217 : (Jvm.Cond.fieldLink "TwoWorldsModel" (107 : Nat) "TwoWorldsModel" "firstThing" "[I") ∈ lw_all := lw_g (lw_at lw_m5 171 rfl) rfl
theorem q1218 : (Jvm.Cond.fieldLink "TwoWorldsModel" (110 : Nat) "TwoWorldsModel" "secondThing" "[I") ∈ lw_all := lw_g (lw_at lw_m5 172 rfl) rfl
theorem q1219 : (Jvm.Cond.fieldLink "TwoWorldsModel" (113 : Nat) "TwoWorldsModel" "secondLow" "[J") ∈ lw_all := lw_g (lw_at lw_m5 173 rfl) rfl
theorem q1220 : (Jvm.Cond.fieldLink "TwoWorldsModel" (117 : Nat) "TwoWorldsModel" "secondHigh" "[J") ∈ lw_all := lw_g (lw_at lw_m5 174 rfl) rfl
theorem q1221 : (Jvm.Cond.fieldLink "TwoWorldsModel" (120 : Nat) "TwoWorldsModel" "firstLow" "[J") ∈ lw_all := lw_g (lw_at lw_m5 175 rfl) rfl
theorem q1222 : (Jvm.Cond.fieldLink "TwoWorldsModel" (123 : Nat) "TwoWorldsModel" "firstHigh" "[J") ∈ lw_all := lw_g (lw_at lw_m5 176 rfl) rfl
theorem q1223 : (Jvm.Cond.laysFinal "TwoWorldsModel" "TwoWorldsModel" "things" "[I") ∈ lw_all := lw_g (lw_at lw_m5 177 rfl) rfl
theorem q1224 : (Jvm.Cond.soleField "TwoWorldsModel" "things") ∈ lw_all := lw_g (lw_at lw_m5 178 rfl) rfl
theorem q1225 : (Jvm.Cond.laysFinal "TwoWorldsModel" "TwoWorldsModel" "marks" "[I") ∈ lw_all := lw_g (lw_at lw_m5 179 rfl) rfl
theorem q1226 : (Jvm.Cond.soleField "TwoWorldsModel" "marks") ∈ lw_all := lw_g (lw_at lw_m5 180 rfl) rfl
theorem q1227 : (Jvm.Cond.laysFinal "TwoWorldsModel" "TwoWorldsModel" "ties" "[I") ∈ lw_all := lw_g (lw_at lw_m5 181 rfl) rfl
theorem q1228 : (Jvm.Cond.soleField "TwoWorldsModel" "ties") ∈ lw_all := lw_g (lw_at lw_m5 182 rfl) rfl
theorem q1229 : (Jvm.Cond.laysFinal "TwoWorldsModel" "TwoWorldsModel" "newMarks" "[I") ∈ lw_all := lw_g (lw_at lw_m5 183 rfl) rfl
theorem q1230 : (Jvm.Cond.soleField "TwoWorldsModel" "newMarks") ∈ lw_all := lw_g (lw_at lw_m5 184 rfl) rfl
theorem q1231 : (Jvm.Cond.laysFinal "TwoWorldsModel" "TwoWorldsModel" "newTies" "[I") ∈ lw_all := lw_g (lw_at lw_m5 185 rfl) rfl
theorem q1232 : (Jvm.Cond.soleField "TwoWorldsModel" "newTies") ∈ lw_all := lw_g (lw_at lw_m5 186 rfl) rfl
theorem q1233 : (Jvm.Cond.lays "TwoWorldsModel" "TwoWorldsModel" "one" "I") ∈ lw_all := lw_g (lw_at lw_m5 187 rfl) rfl
theorem q1234 : (Jvm.Cond.soleField "TwoWorldsModel" "one") ∈ lw_all := lw_g (lw_at lw_m5 188 rfl) rfl
theorem q1235 : (Jvm.Cond.lays "TwoWorldsModel" "TwoWorldsModel" "other" "I") ∈ lw_all := lw_g (lw_at lw_m5 189 rfl) rfl
theorem q1236 : (Jvm.Cond.soleField "TwoWorldsModel" "other") ∈ lw_all := lw_g (lw_at lw_m5 190 rfl) rfl
theorem q1237 : (Jvm.Cond.lays "TwoWorldsModel" "TwoWorldsModel" "size" "I") ∈ lw_all := lw_g (lw_at lw_m5 191 rfl) rfl
theorem q1238 : (Jvm.Cond.soleField "TwoWorldsModel" "size") ∈ lw_all := lw_g (lw_at lw_m5 192 rfl) rfl
theorem q1239 : (Jvm.Cond.laysFinal "TwoWorldsModel" "TwoWorldsModel" "row" "[I") ∈ lw_all := lw_g (lw_at lw_m5 193 rfl) rfl
theorem q1240 : (Jvm.Cond.soleField "TwoWorldsModel" "row") ∈ lw_all := lw_g (lw_at lw_m5 194 rfl) rfl
theorem q1241 : (Jvm.Cond.laysFinal "TwoWorldsModel" "TwoWorldsModel" "against" "[I") ∈ lw_all := lw_g (lw_at lw_m5 195 rfl) rfl
theorem q1242 : (Jvm.Cond.soleField "TwoWorldsModel" "against") ∈ lw_all := lw_g (lw_at lw_m5 196 rfl) rfl
theorem q1243 : (Jvm.Cond.lays "TwoWorldsModel" "TwoWorldsModel" "turn" "I") ∈ lw_all := lw_g (lw_at lw_m5 197 rfl) rfl
theorem q1244 : (Jvm.Cond.soleField "TwoWorldsModel" "turn") ∈ lw_all := lw_g (lw_at lw_m5 198 rfl) rfl
theorem q1245 : (Jvm.Cond.lays "TwoWorldsModel" "TwoWorldsModel" "rounds" "I") ∈ lw_all := lw_g (lw_at lw_m5 199 rfl) rfl
theorem q1246 : (Jvm.Cond.soleField "TwoWorldsModel" "rounds") ∈ lw_all := lw_g (lw_at lw_m5 200 rfl) rfl
theorem q1247 : (Jvm.Cond.lays "TwoWorldsModel" "TwoWorldsModel" "played" "I") ∈ lw_all := lw_g (lw_at lw_m5 201 rfl) rfl
theorem q1248 : (Jvm.Cond.soleField "TwoWorldsModel" "played") ∈ lw_all := lw_g (lw_at lw_m5 202 rfl) rfl
theorem q1249 : (Jvm.Cond.laysFinal "TwoWorldsModel" "TwoWorldsModel" "playRow" "[I") ∈ lw_all := lw_g (lw_at lw_m5 203 rfl) rfl
theorem q1250 : (Jvm.Cond.soleField "TwoWorldsModel" "playRow") ∈ lw_all := lw_g (lw_at lw_m5 204 rfl) rfl
theorem q1251 : (Jvm.Cond.laysFinal "TwoWorldsModel" "TwoWorldsModel" "playAgainst" "[I") ∈ lw_all := lw_g (lw_at lw_m5 205 rfl) rfl
theorem q1252 : (Jvm.Cond.soleField "TwoWorldsModel" "playAgainst") ∈ lw_all := lw_g (lw_at lw_m5 206 rfl) rfl
theorem q1253 : (Jvm.Cond.lays "TwoWorldsModel" "TwoWorldsModel" "pickSide" "I") ∈ lw_all := lw_g (lw_at lw_m5 207 rfl) rfl
theorem q1254 : (Jvm.Cond.soleField "TwoWorldsModel" "pickSide") ∈ lw_all := lw_g (lw_at lw_m5 208 rfl) rfl
theorem q1255 : (Jvm.Cond.lays "TwoWorldsModel" "TwoWorldsModel" "pickThing" "I") ∈ lw_all := lw_g (lw_at lw_m5 209 rfl) rfl
theorem q1256 : (Jvm.Cond.soleField "TwoWorldsModel" "pickThing") ∈ lw_all := lw_g (lw_at lw_m5 210 rfl) rfl
theorem q1257 : (Jvm.Cond.lays "TwoWorldsModel" "TwoWorldsModel" "sentences" "I") ∈ lw_all := lw_g (lw_at lw_m5 211 rfl) rfl
theorem q1258 : (Jvm.Cond.soleField "TwoWorldsModel" "sentences") ∈ lw_all := lw_g (lw_at lw_m5 212 rfl) rfl
theorem q1259 : (Jvm.Cond.laysFinal "TwoWorldsModel" "TwoWorldsModel" "many" "[I") ∈ lw_all := lw_g (lw_at lw_m5 213 rfl) rfl
theorem q1260 : (Jvm.Cond.soleField "TwoWorldsModel" "many") ∈ lw_all := lw_g (lw_at lw_m5 214 rfl) rfl
theorem q1261 : (Jvm.Cond.laysFinal "TwoWorldsModel" "TwoWorldsModel" "kind" "[B") ∈ lw_all := lw_g (lw_at lw_m5 215 rfl) rfl
theorem q1262 : (Jvm.Cond.soleField "TwoWorldsModel" "kind") ∈ lw_all := lw_g (lw_at lw_m5 216 rfl) rfl
theorem q1263 : (Jvm.Cond.laysFinal "TwoWorldsModel" "TwoWorldsModel" "varOne" "[I") ∈ lw_all := lw_g (lw_at lw_m5 217 rfl) rfl
theorem q1264 : (Jvm.Cond.soleField "TwoWorldsModel" "varOne") ∈ lw_all := lw_g (lw_at lw_m5 218 rfl) rfl
theorem q1265 : (Jvm.Cond.laysFinal "TwoWorldsModel" "TwoWorldsModel" "varTwo" "[B") ∈ lw_all := lw_g (lw_at lw_m5 219 rfl) rfl
theorem q1266 : (Jvm.Cond.soleField "TwoWorldsModel" "varTwo") ∈ lw_all := lw_g (lw_at lw_m5 220 rfl) rfl
theorem q1267 : (Jvm.Cond.laysFinal "TwoWorldsModel" "TwoWorldsModel" "end" "[I") ∈ lw_all := lw_g (lw_at lw_m5 221 rfl) rfl
theorem q1268 : (Jvm.Cond.soleField "TwoWorldsModel" "end") ∈ lw_all := lw_g (lw_at lw_m5 222 rfl) rfl
theorem q1269 : (Jvm.Cond.lays "TwoWorldsModel" "TwoWorldsModel" "made" "I") ∈ lw_all := lw_g (lw_at lw_m5 223 rfl) rfl
theorem q1270 : (Jvm.Cond.soleField "TwoWorldsModel" "made") ∈ lw_all := lw_g (lw_at lw_m5 224 rfl) rfl
theorem q1271 : (Jvm.Cond.laysFinal "TwoWorldsModel" "TwoWorldsModel" "newKind" "[B") ∈ lw_all := lw_g (lw_at lw_m5 225 rfl) rfl
theorem q1272 : (Jvm.Cond.soleField "TwoWorldsModel" "newKind") ∈ lw_all := lw_g (lw_at lw_m5 226 rfl) rfl
theorem q1273 : (Jvm.Cond.laysFinal "TwoWorldsModel" "TwoWorldsModel" "newOne" "[I") ∈ lw_all := lw_g (lw_at lw_m5 227 rfl) rfl
theorem q1274 : (Jvm.Cond.soleField "TwoWorldsModel" "newOne") ∈ lw_all := lw_g (lw_at lw_m5 228 rfl) rfl
theorem q1275 : (Jvm.Cond.laysFinal "TwoWorldsModel" "TwoWorldsModel" "newTwo" "[B") ∈ lw_all := lw_g (lw_at lw_m5 229 rfl) rfl
theorem q1276 : (Jvm.Cond.soleField "TwoWorldsModel" "newTwo") ∈ lw_all := lw_g (lw_at lw_m5 230 rfl) rfl
theorem q1277 : (Jvm.Cond.laysFinal "TwoWorldsModel" "TwoWorldsModel" "tape" "[B") ∈ lw_all := lw_g (lw_at lw_m5 231 rfl) rfl
theorem q1278 : (Jvm.Cond.soleField "TwoWorldsModel" "tape") ∈ lw_all := lw_g (lw_at lw_m5 232 rfl) rfl
theorem q1279 : (Jvm.Cond.lays "TwoWorldsModel" "TwoWorldsModel" "taped" "I") ∈ lw_all := lw_g (lw_at lw_m5 233 rfl) rfl
theorem q1280 : (Jvm.Cond.soleField "TwoWorldsModel" "taped") ∈ lw_all := lw_g (lw_at lw_m5 234 rfl) rfl
theorem q1281 : (Jvm.Cond.lays "TwoWorldsModel" "TwoWorldsModel" "open" "I") ∈ lw_all := lw_g (lw_at lw_m5 235 rfl) rfl
theorem q1282 : (Jvm.Cond.soleField "TwoWorldsModel" "open") ∈ lw_all := lw_g (lw_at lw_m5 236 rfl) rfl
theorem q1283 : (Jvm.Cond.laysFinal "TwoWorldsModel" "TwoWorldsModel" "openSort" "[I") ∈ lw_all := lw_g (lw_at lw_m5 237 rfl) rfl
theorem q1284 : (Jvm.Cond.soleField "TwoWorldsModel" "openSort") ∈ lw_all := lw_g (lw_at lw_m5 238 rfl) rfl
theorem q1285 : (Jvm.Cond.laysFinal "TwoWorldsModel" "TwoWorldsModel" "openAt" "[I") ∈ lw_all := lw_g (lw_at lw_m5 239 rfl) rfl
theorem q1286 : (Jvm.Cond.soleField "TwoWorldsModel" "openAt") ∈ lw_all := lw_g (lw_at lw_m6 0 rfl) rfl
theorem q1287 : (Jvm.Cond.laysFinal "TwoWorldsModel" "TwoWorldsModel" "openSign" "[I") ∈ lw_all := lw_g (lw_at lw_m6 1 rfl) rfl
theorem q1288 : (Jvm.Cond.soleField "TwoWorldsModel" "openSign") ∈ lw_all := lw_g (lw_at lw_m6 2 rfl) rfl
theorem q1289 : (Jvm.Cond.lays "TwoWorldsModel" "TwoWorldsModel" "nested" "I") ∈ lw_all := lw_g (lw_at lw_m6 3 rfl) rfl
theorem q1290 : (Jvm.Cond.soleField "TwoWorldsModel" "nested") ∈ lw_all := lw_g (lw_at lw_m6 4 rfl) rfl
theorem q1291 : (Jvm.Cond.lays "TwoWorldsModel" "TwoWorldsModel" "quantified" "I") ∈ lw_all := lw_g (lw_at lw_m6 5 rfl) rfl
theorem q1292 : (Jvm.Cond.soleField "TwoWorldsModel" "quantified") ∈ lw_all := lw_g (lw_at lw_m6 6 rfl) rfl
theorem q1293 : (Jvm.Cond.laysFinal "TwoWorldsModel" "TwoWorldsModel" "letter" "[I") ∈ lw_all := lw_g (lw_at lw_m6 7 rfl) rfl
theorem q1294 : (Jvm.Cond.soleField "TwoWorldsModel" "letter") ∈ lw_all := lw_g (lw_at lw_m6 8 rfl) rfl
theorem q1295 : (Jvm.Cond.lays "TwoWorldsModel" "TwoWorldsModel" "at" "I") ∈ lw_all := lw_g (lw_at lw_m6 9 rfl) rfl
theorem q1296 : (Jvm.Cond.soleField "TwoWorldsModel" "at") ∈ lw_all := lw_g (lw_at lw_m6 10 rfl) rfl
theorem q1297 : (Jvm.Cond.lays "TwoWorldsModel" "TwoWorldsModel" "wrong" "I") ∈ lw_all := lw_g (lw_at lw_m6 11 rfl) rfl
theorem q1298 : (Jvm.Cond.soleField "TwoWorldsModel" "wrong") ∈ lw_all := lw_g (lw_at lw_m6 12 rfl) rfl
theorem q1299 : (Jvm.Cond.lays "TwoWorldsModel" "TwoWorldsModel" "deep" "I") ∈ lw_all := lw_g (lw_at lw_m6 13 rfl) rfl
theorem q1300 : (Jvm.Cond.soleField "TwoWorldsModel" "deep") ∈ lw_all := lw_g (lw_at lw_m6 14 rfl) rfl
theorem q1301 : (Jvm.Cond.laysFinal "TwoWorldsModel" "TwoWorldsModel" "wayNode" "[I") ∈ lw_all := lw_g (lw_at lw_m6 15 rfl) rfl
theorem q1302 : (Jvm.Cond.soleField "TwoWorldsModel" "wayNode") ∈ lw_all := lw_g (lw_at lw_m6 16 rfl) rfl
theorem q1303 : (Jvm.Cond.laysFinal "TwoWorldsModel" "TwoWorldsModel" "wayPart" "[I") ∈ lw_all := lw_g (lw_at lw_m6 17 rfl) rfl
theorem q1304 : (Jvm.Cond.soleField "TwoWorldsModel" "wayPart") ∈ lw_all := lw_g (lw_at lw_m6 18 rfl) rfl
theorem q1305 : (Jvm.Cond.laysFinal "TwoWorldsModel" "TwoWorldsModel" "wayNext" "[I") ∈ lw_all := lw_g (lw_at lw_m6 19 rfl) rfl
theorem q1306 : (Jvm.Cond.soleField "TwoWorldsModel" "wayNext") ∈ lw_all := lw_g (lw_at lw_m6 20 rfl) rfl
theorem q1307 : (Jvm.Cond.lays "TwoWorldsModel" "TwoWorldsModel" "signs" "I") ∈ lw_all := lw_g (lw_at lw_m6 21 rfl) rfl
theorem q1308 : (Jvm.Cond.soleField "TwoWorldsModel" "signs") ∈ lw_all := lw_g (lw_at lw_m6 22 rfl) rfl
theorem q1309 : (Jvm.Cond.laysFinal "TwoWorldsModel" "TwoWorldsModel" "sign" "[B") ∈ lw_all := lw_g (lw_at lw_m6 23 rfl) rfl
theorem q1310 : (Jvm.Cond.soleField "TwoWorldsModel" "sign") ∈ lw_all := lw_g (lw_at lw_m6 24 rfl) rfl
theorem q1311 : (Jvm.Cond.lays "TwoWorldsModel" "TwoWorldsModel" "asked" "I") ∈ lw_all := lw_g (lw_at lw_m6 25 rfl) rfl
theorem q1312 : (Jvm.Cond.soleField "TwoWorldsModel" "asked") ∈ lw_all := lw_g (lw_at lw_m6 26 rfl) rfl
theorem q1313 : (Jvm.Cond.lays "TwoWorldsModel" "TwoWorldsModel" "nowAsked" "I") ∈ lw_all := lw_g (lw_at lw_m6 27 rfl) rfl
theorem q1314 : (Jvm.Cond.soleField "TwoWorldsModel" "nowAsked") ∈ lw_all := lw_g (lw_at lw_m6 28 rfl) rfl
theorem q1315 : (Jvm.Cond.laysFinal "TwoWorldsModel" "TwoWorldsModel" "thingOf" "[I") ∈ lw_all := lw_g (lw_at lw_m6 29 rfl) rfl
theorem q1316 : (Jvm.Cond.soleField "TwoWorldsModel" "thingOf") ∈ lw_all := lw_g (lw_at lw_m6 30 rfl) rfl
theorem q1317 : (Jvm.Cond.lays "TwoWorldsModel" "TwoWorldsModel" "answered" "Z") ∈ lw_all := lw_g (lw_at lw_m6 31 rfl) rfl
theorem q1318 : (Jvm.Cond.soleField "TwoWorldsModel" "answered") ∈ lw_all := lw_g (lw_at lw_m6 32 rfl) rfl
theorem q1319 : (Jvm.Cond.lays "TwoWorldsModel" "TwoWorldsModel" "kindThings" "I") ∈ lw_all := lw_g (lw_at lw_m6 33 rfl) rfl
theorem q1320 : (Jvm.Cond.soleField "TwoWorldsModel" "kindThings") ∈ lw_all := lw_g (lw_at lw_m6 34 rfl) rfl
theorem q1321 : (Jvm.Cond.laysFinal "TwoWorldsModel" "TwoWorldsModel" "kindOf" "[I") ∈ lw_all := lw_g (lw_at lw_m6 35 rfl) rfl
theorem q1322 : (Jvm.Cond.soleField "TwoWorldsModel" "kindOf") ∈ lw_all := lw_g (lw_at lw_m6 36 rfl) rfl
theorem q1323 : (Jvm.Cond.laysFinal "TwoWorldsModel" "TwoWorldsModel" "firstOf" "[I") ∈ lw_all := lw_g (lw_at lw_m6 37 rfl) rfl
theorem q1324 : (Jvm.Cond.soleField "TwoWorldsModel" "firstOf") ∈ lw_all := lw_g (lw_at lw_m6 38 rfl) rfl
theorem q1325 : (Jvm.Cond.lays "TwoWorldsModel" "TwoWorldsModel" "colours" "I") ∈ lw_all := lw_g (lw_at lw_m6 39 rfl) rfl
theorem q1326 : (Jvm.Cond.soleField "TwoWorldsModel" "colours") ∈ lw_all := lw_g (lw_at lw_m6 40 rfl) rfl
theorem q1327 : (Jvm.Cond.lays "TwoWorldsModel" "TwoWorldsModel" "coloured" "I") ∈ lw_all := lw_g (lw_at lw_m6 41 rfl) rfl
theorem q1328 : (Jvm.Cond.soleField "TwoWorldsModel" "coloured") ∈ lw_all := lw_g (lw_at lw_m6 42 rfl) rfl
theorem q1329 : (Jvm.Cond.lays "TwoWorldsModel" "TwoWorldsModel" "steps" "I") ∈ lw_all := lw_g (lw_at lw_m6 43 rfl) rfl
theorem q1330 : (Jvm.Cond.soleField "TwoWorldsModel" "steps") ∈ lw_all := lw_g (lw_at lw_m6 44 rfl) rfl
theorem q1331 : (Jvm.Cond.lays "TwoWorldsModel" "TwoWorldsModel" "balance" "Z") ∈ lw_all := lw_g (lw_at lw_m6 45 rfl) rfl
theorem q1332 : (Jvm.Cond.soleField "TwoWorldsModel" "balance") ∈ lw_all := lw_g (lw_at lw_m6 46 rfl) rfl
theorem q1333 : (Jvm.Cond.laysFinal "TwoWorldsModel" "TwoWorldsModel" "colour" "[I") ∈ lw_all := lw_g (lw_at lw_m6 47 rfl) rfl
theorem q1334 : (Jvm.Cond.soleField "TwoWorldsModel" "colour") ∈ lw_all := lw_g (lw_at lw_m6 48 rfl) rfl
theorem q1335 : (Jvm.Cond.laysFinal "TwoWorldsModel" "TwoWorldsModel" "newColour" "[I") ∈ lw_all := lw_g (lw_at lw_m6 49 rfl) rfl
theorem q1336 : (Jvm.Cond.soleField "TwoWorldsModel" "newColour") ∈ lw_all := lw_g (lw_at lw_m6 50 rfl) rfl
theorem q1337 : (Jvm.Cond.laysFinal "TwoWorldsModel" "TwoWorldsModel" "inWorld" "[I") ∈ lw_all := lw_g (lw_at lw_m6 51 rfl) rfl
theorem q1338 : (Jvm.Cond.soleField "TwoWorldsModel" "inWorld") ∈ lw_all := lw_g (lw_at lw_m6 52 rfl) rfl
theorem q1339 : (Jvm.Cond.laysFinal "TwoWorldsModel" "TwoWorldsModel" "firstThing" "[I") ∈ lw_all := lw_g (lw_at lw_m6 53 rfl) rfl
theorem q1340 : (Jvm.Cond.soleField "TwoWorldsModel" "firstThing") ∈ lw_all := lw_g (lw_at lw_m6 54 rfl) rfl
theorem q1341 : (Jvm.Cond.laysFinal "TwoWorldsModel" "TwoWorldsModel" "secondThing" "[I") ∈ lw_all := lw_g (lw_at lw_m6 55 rfl) rfl
theorem q1342 : (Jvm.Cond.soleField "TwoWorldsModel" "secondThing") ∈ lw_all := lw_g (lw_at lw_m6 56 rfl) rfl
theorem q1343 : (Jvm.Cond.laysFinal "TwoWorldsModel" "TwoWorldsModel" "secondLow" "[J") ∈ lw_all := lw_g (lw_at lw_m6 57 rfl) rfl
theorem q1344 : (Jvm.Cond.soleField "TwoWorldsModel" "secondLow") ∈ lw_all := lw_g (lw_at lw_m6 58 rfl) rfl
theorem q1345 : (Jvm.Cond.laysFinal "TwoWorldsModel" "TwoWorldsModel" "secondHigh" "[J") ∈ lw_all := lw_g (lw_at lw_m6 59 rfl) rfl
theorem q1346 : (Jvm.Cond.soleField "TwoWorldsModel" "secondHigh") ∈ lw_all := lw_g (lw_at lw_m6 60 rfl) rfl
theorem q1347 : (Jvm.Cond.laysFinal "TwoWorldsModel" "TwoWorldsModel" "firstLow" "[J") ∈ lw_all := lw_g (lw_at lw_m6 61 rfl) rfl
theorem q1348 : (Jvm.Cond.soleField "TwoWorldsModel" "firstLow") ∈ lw_all := lw_g (lw_at lw_m6 62 rfl) rfl
theorem q1349 : (Jvm.Cond.laysFinal "TwoWorldsModel" "TwoWorldsModel" "firstHigh" "[J") ∈ lw_all := lw_g (lw_at lw_m6 63 rfl) rfl
theorem q1350 : (Jvm.Cond.soleField "TwoWorldsModel" "firstHigh") ∈ lw_all := lw_g (lw_at lw_m6 64 rfl) rfl
theorem q1351 : (Jvm.Cond.superclass "TwoWorldsModel" "java/lang/Object") ∈ lw_all := lw_g (lw_at lw_m6 65 rfl) rfl
theorem q1353 : (Jvm.Cond.instanceMethod ({ cls := "TwoWorldsModel", name := "world", desc := "(II)I" } : Jvm.MethodName)) ∈ lw_all := lw_g (lw_at lw_m6 67 rfl) rfl
theorem q1354 : (Jvm.Cond.selects "TwoWorldsModel" ({ cls := "TwoWorldsModel", name := "world", desc := "(II)I" } : Jvm.MethodName) ({ cls := "TwoWorldsModel", name := "world", desc := "(II)I" } : Jvm.MethodName)) ∈ lw_all := lw_g (lw_at lw_m6 68 rfl) rfl
theorem q1355 : (Jvm.Cond.code ({ cls := "TwoWorldsModel", name := "world", desc := "(II)I" } : Jvm.MethodName) prog_19_method_6_code (4 : Nat) (Option.some Jvm.ClassFile.FieldType.int)) ∈ lw_all := lw_g (lw_at lw_m6 69 rfl) rfl
theorem q1356 : (Jvm.Cond.methodLink "TwoWorldsModel" (137 : Nat) ({ cls := "TwoWorldsModel", name := "noPlace", desc := "(I)Z" } : Jvm.MethodName)) ∈ lw_all := lw_g (lw_at lw_m6 70 rfl) rfl
theorem q1357 : (Jvm.Cond.static ({ cls := "TwoWorldsModel", name := "noPlace", desc := "(I)Z" } : Jvm.MethodName)) ∈ lw_all := lw_g (lw_at lw_m6 71 rfl) rfl
theorem q1358 : (Jvm.Cond.code ({ cls := "TwoWorldsModel", name := "noPlace", desc := "(I)Z" } : Jvm.MethodName) prog_19_method_3_code (1 : Nat) (Option.some Jvm.ClassFile.FieldType.boolean)) ∈ lw_all := lw_g (lw_at lw_m6 72 rfl) rfl
theorem q1359 : (Jvm.Cond.methodLink "TwoWorldsModel" (133 : Nat) ({ cls := "TwoWorldsModel", name := "in", desc := "(III)Z" } : Jvm.MethodName)) ∈ lw_all := lw_g (lw_at lw_m6 73 rfl) rfl
theorem q1360 : (Jvm.Cond.static ({ cls := "TwoWorldsModel", name := "in", desc := "(III)Z" } : Jvm.MethodName)) ∈ lw_all := lw_g (lw_at lw_m6 74 rfl) rfl
theorem q1361 : (Jvm.Cond.code ({ cls := "TwoWorldsModel", name := "in", desc := "(III)Z" } : Jvm.MethodName) prog_19_method_2_code (3 : Nat) (Option.some Jvm.ClassFile.FieldType.boolean)) ∈ lw_all := lw_g (lw_at lw_m6 75 rfl) rfl
theorem q1363 : (Jvm.Cond.instanceMethod ({ cls := "TwoWorldsModel", name := "mark", desc := "(IIIZ)I" } : Jvm.MethodName)) ∈ lw_all := lw_g (lw_at lw_m6 77 rfl) rfl
theorem q1364 : (Jvm.Cond.selects "TwoWorldsModel" ({ cls := "TwoWorldsModel", name := "mark", desc := "(IIIZ)I" } : Jvm.MethodName) ({ cls := "TwoWorldsModel", name := "mark", desc := "(IIIZ)I" } : Jvm.MethodName)) ∈ lw_all := lw_g (lw_at lw_m6 78 rfl) rfl
theorem q1365 : (Jvm.Cond.code ({ cls := "TwoWorldsModel", name := "mark", desc := "(IIIZ)I" } : Jvm.MethodName) prog_19_method_7_code (6 : Nat) (Option.some Jvm.ClassFile.FieldType.int)) ∈ lw_all := lw_g (lw_at lw_m6 79 rfl) rfl
theorem q1366 : (Jvm.Cond.methodLink "TwoWorldsModel" (144 : Nat) ({ cls := "TwoWorldsModel", name := "noThing", desc := "(II)Z" } : Jvm.MethodName)) ∈ lw_all := lw_g (lw_at lw_m6 80 rfl) rfl
theorem q1367 : (Jvm.Cond.privateMethod ({ cls := "TwoWorldsModel", name := "noThing", desc := "(II)Z" } : Jvm.MethodName)) ∈ lw_tbl := lw_at lw_m6 81 rfl
theorem q1368 : (Jvm.Cond.instanceMethod ({ cls := "TwoWorldsModel", name := "noThing", desc := "(II)Z" } : Jvm.MethodName)) ∈ lw_all := lw_g (lw_at lw_m6 82 rfl) rfl
theorem q1369 : (Jvm.Cond.code ({ cls := "TwoWorldsModel", name := "noThing", desc := "(II)Z" } : Jvm.MethodName) prog_19_method_5_code (3 : Nat) (Option.some Jvm.ClassFile.FieldType.boolean)) ∈ lw_all := lw_g (lw_at lw_m6 83 rfl) rfl
theorem q1370 : (Jvm.Cond.methodLink "TwoWorldsModel" (141 : Nat) ({ cls := "TwoWorldsModel", name := "noWorld", desc := "(I)Z" } : Jvm.MethodName)) ∈ lw_all := lw_g (lw_at lw_m6 84 rfl) rfl
theorem q1371 : (Jvm.Cond.privateMethod ({ cls := "TwoWorldsModel", name := "noWorld", desc := "(I)Z" } : Jvm.MethodName)) ∈ lw_tbl := lw_at lw_m6 85 rfl
theorem q1372 : (Jvm.Cond.instanceMethod ({ cls := "TwoWorldsModel", name := "noWorld", desc := "(I)Z" } : Jvm.MethodName)) ∈ lw_all := lw_g (lw_at lw_m6 86 rfl) rfl
theorem q1373 : (Jvm.Cond.code ({ cls := "TwoWorldsModel", name := "noWorld", desc := "(I)Z" } : Jvm.MethodName) prog_19_method_4_code (2 : Nat) (Option.some Jvm.ClassFile.FieldType.boolean)) ∈ lw_all := lw_g (lw_at lw_m6 87 rfl) rfl
theorem q1375 : (Jvm.Cond.instanceMethod ({ cls := "TwoWorldsModel", name := "tie", desc := "(IIIZ)I" } : Jvm.MethodName)) ∈ lw_all := lw_g (lw_at lw_m6 89 rfl) rfl
theorem q1376 : (Jvm.Cond.selects "TwoWorldsModel" ({ cls := "TwoWorldsModel", name := "tie", desc := "(IIIZ)I" } : Jvm.MethodName) ({ cls := "TwoWorldsModel", name := "tie", desc := "(IIIZ)I" } : Jvm.MethodName)) ∈ lw_all := lw_g (lw_at lw_m6 90 rfl) rfl
theorem q1377 : (Jvm.Cond.code ({ cls := "TwoWorldsModel", name := "tie", desc := "(IIIZ)I" } : Jvm.MethodName) prog_19_method_8_code (6 : Nat) (Option.some Jvm.ClassFile.FieldType.int)) ∈ lw_all := lw_g (lw_at lw_m6 91 rfl) rfl
theorem q1379 : (Jvm.Cond.instanceMethod ({ cls := "TwoWorldsModel", name := "turn", desc := "(IIII)I" } : Jvm.MethodName)) ∈ lw_all := lw_g (lw_at lw_m6 93 rfl) rfl
theorem q1380 : (Jvm.Cond.selects "TwoWorldsModel" ({ cls := "TwoWorldsModel", name := "turn", desc := "(IIII)I" } : Jvm.MethodName) ({ cls := "TwoWorldsModel", name := "turn", desc := "(IIII)I" } : Jvm.MethodName)) ∈ lw_all := lw_g (lw_at lw_m6 94 rfl) rfl
theorem q1381 : (Jvm.Cond.code ({ cls := "TwoWorldsModel", name := "turn", desc := "(IIII)I" } : Jvm.MethodName) prog_19_method_12_code (8 : Nat) (Option.some Jvm.ClassFile.FieldType.int)) ∈ lw_all := lw_g (lw_at lw_m6 95 rfl) rfl
theorem q1382 : (Jvm.Cond.methodLink "TwoWorldsModel" (148 : Nat) ({ cls := "TwoWorldsModel", name := "turned", desc := "(III)I" } : Jvm.MethodName)) ∈ lw_all := lw_g (lw_at lw_m6 96 rfl) rfl
theorem q1383 : (Jvm.Cond.static ({ cls := "TwoWorldsModel", name := "turned", desc := "(III)I" } : Jvm.MethodName)) ∈ lw_all := lw_g (lw_at lw_m6 97 rfl) rfl
theorem q1384 : (Jvm.Cond.code ({ cls := "TwoWorldsModel", name := "turned", desc := "(III)I" } : Jvm.MethodName) prog_19_method_11_code (3 : Nat) (Option.some Jvm.ClassFile.FieldType.int)) ∈ lw_all := lw_g (lw_at lw_m6 98 rfl) rfl
theorem q1385 : (Jvm.Cond.methodLink "TwoWorldsModel" (152 : Nat) ({ cls := "TwoWorldsModel", name := "isTied", desc := "(III)Z" } : Jvm.MethodName)) ∈ lw_all := lw_g (lw_at lw_m6 99 rfl) rfl
theorem q1386 : (Jvm.Cond.privateMethod ({ cls := "TwoWorldsModel", name := "isTied", desc := "(III)Z" } : Jvm.MethodName)) ∈ lw_tbl := lw_at lw_m6 100 rfl
theorem q1387 : (Jvm.Cond.instanceMethod ({ cls := "TwoWorldsModel", name := "isTied", desc := "(III)Z" } : Jvm.MethodName)) ∈ lw_all := lw_g (lw_at lw_m6 101 rfl) rfl
theorem q1388 : (Jvm.Cond.code ({ cls := "TwoWorldsModel", name := "isTied", desc := "(III)Z" } : Jvm.MethodName) prog_19_method_9_code (4 : Nat) (Option.some Jvm.ClassFile.FieldType.boolean)) ∈ lw_all := lw_g (lw_at lw_m6 102 rfl) rfl
theorem q1389 : (Jvm.Cond.methodLink "TwoWorldsModel" (155 : Nat) ({ cls := "TwoWorldsModel", name := "lay", desc := "(II)V" } : Jvm.MethodName)) ∈ lw_all := lw_g (lw_at lw_m6 103 rfl) rfl
theorem q1390 : (Jvm.Cond.privateMethod ({ cls := "TwoWorldsModel", name := "lay", desc := "(II)V" } : Jvm.MethodName)) ∈ lw_tbl := lw_at lw_m6 104 rfl
theorem q1391 : (Jvm.Cond.instanceMethod ({ cls := "TwoWorldsModel", name := "lay", desc := "(II)V" } : Jvm.MethodName)) ∈ lw_all := lw_g (lw_at lw_m6 105 rfl) rfl
theorem q1392 : (Jvm.Cond.code ({ cls := "TwoWorldsModel", name := "lay", desc := "(II)V" } : Jvm.MethodName) prog_19_method_10_code (4 : Nat) (Option.none : Option Jvm.ClassFile.FieldType)) ∈ lw_all := lw_g (lw_at lw_m6 106 rfl) rfl
theorem q1394 : (Jvm.Cond.instanceMethod ({ cls := "TwoWorldsModel", name := "join", desc := "(III)I" } : Jvm.MethodName)) ∈ lw_all := lw_g (lw_at lw_m6 108 rfl) rfl
theorem q1395 : (Jvm.Cond.selects "TwoWorldsModel" ({ cls := "TwoWorldsModel", name := "join", desc := "(III)I" } : Jvm.MethodName) ({ cls := "TwoWorldsModel", name := "join", desc := "(III)I" } : Jvm.MethodName)) ∈ lw_all := lw_g (lw_at lw_m6 109 rfl) rfl
theorem q1396 : (Jvm.Cond.code ({ cls := "TwoWorldsModel", name := "join", desc := "(III)I" } : Jvm.MethodName) prog_19_method_13_code (7 : Nat) (Option.some Jvm.ClassFile.FieldType.int)) ∈ lw_all := lw_g (lw_at lw_m6 110 rfl) rfl
theorem q1398 : (Jvm.Cond.instanceMethod ({ cls := "TwoWorldsModel", name := "about", desc := "(II)I" } : Jvm.MethodName)) ∈ lw_all := lw_g (lw_at lw_m6 112 rfl) rfl
theorem q1399 : (Jvm.Cond.selects "TwoWorldsModel" ({ cls := "TwoWorldsModel", name := "about", desc := "(II)I" } : Jvm.MethodName) ({ cls := "TwoWorldsModel", name := "about", desc := "(II)I" } : Jvm.MethodName)) ∈ lw_all := lw_g (lw_at lw_m6 113 rfl) rfl
theorem q1400 : (Jvm.Cond.code ({ cls := "TwoWorldsModel", name := "about", desc := "(II)I" } : Jvm.MethodName) prog_19_method_15_code (5 : Nat) (Option.some Jvm.ClassFile.FieldType.int)) ∈ lw_all := lw_g (lw_at lw_m6 114 rfl) rfl
theorem q1401 : (Jvm.Cond.methodLink "TwoWorldsModel" (159 : Nat) ({ cls := "TwoWorldsModel", name := "bits", desc := "(I)I" } : Jvm.MethodName)) ∈ lw_all := lw_g (lw_at lw_m6 115 rfl) rfl
theorem q1402 : (Jvm.Cond.static ({ cls := "TwoWorldsModel", name := "bits", desc := "(I)I" } : Jvm.MethodName)) ∈ lw_all := lw_g (lw_at lw_m6 116 rfl) rfl
theorem q1403 : (Jvm.Cond.code ({ cls := "TwoWorldsModel", name := "bits", desc := "(I)I" } : Jvm.MethodName) prog_19_method_14_code (3 : Nat) (Option.some Jvm.ClassFile.FieldType.int)) ∈ lw_all := lw_g (lw_at lw_m6 117 rfl) rfl
theorem q1405 : (Jvm.Cond.instanceMethod ({ cls := "TwoWorldsModel", name := "tied", desc := "(III)I" } : Jvm.MethodName)) ∈ lw_all := lw_g (lw_at lw_m6 119 rfl) rfl
theorem q1406 : (Jvm.Cond.selects "TwoWorldsModel" ({ cls := "TwoWorldsModel", name := "tied", desc := "(III)I" } : Jvm.MethodName) ({ cls := "TwoWorldsModel", name := "tied", desc := "(III)I" } : Jvm.MethodName)) ∈ lw_all := lw_g (lw_at lw_m6 120 rfl) rfl
theorem q1407 : (Jvm.Cond.code ({ cls := "TwoWorldsModel", name := "tied", desc := "(III)I" } : Jvm.MethodName) prog_19_method_16_code (4 : Nat) (Option.some Jvm.ClassFile.FieldType.int)) ∈ lw_all := lw_g (lw_at lw_m6 121 rfl) rfl
theorem q1409 : (Jvm.Cond.instanceMethod ({ cls := "TwoWorldsModel", name := "game", desc := "(III)I" } : Jvm.MethodName)) ∈ lw_all := lw_g (lw_at lw_m6 123 rfl) rfl
theorem q1410 : (Jvm.Cond.selects "TwoWorldsModel" ({ cls := "TwoWorldsModel", name := "game", desc := "(III)I" } : Jvm.MethodName) ({ cls := "TwoWorldsModel", name := "game", desc := "(III)I" } : Jvm.MethodName)) ∈ lw_all := lw_g (lw_at lw_m6 124 rfl) rfl
theorem q1411 : (Jvm.Cond.code ({ cls := "TwoWorldsModel", name := "game", desc := "(III)I" } : Jvm.MethodName) prog_19_method_27_code (4 : Nat) (Option.some Jvm.ClassFile.FieldType.int)) ∈ lw_all := lw_g (lw_at lw_m6 125 rfl) rfl
theorem q1412 : (Jvm.Cond.methodLink "TwoWorldsModel" (198 : Nat) ({ cls := "TwoWorldsModel", name := "begin", desc := "(II)V" } : Jvm.MethodName)) ∈ lw_all := lw_g (lw_at lw_m6 126 rfl) rfl
theorem q1413 : (Jvm.Cond.privateMethod ({ cls := "TwoWorldsModel", name := "begin", desc := "(II)V" } : Jvm.MethodName)) ∈ lw_tbl := lw_at lw_m6 127 rfl
theorem q1414 : (Jvm.Cond.instanceMethod ({ cls := "TwoWorldsModel", name := "begin", desc := "(II)V" } : Jvm.MethodName)) ∈ lw_all := lw_g (lw_at lw_m6 128 rfl) rfl
theorem q1415 : (Jvm.Cond.code ({ cls := "TwoWorldsModel", name := "begin", desc := "(II)V" } : Jvm.MethodName) prog_19_method_17_code (3 : Nat) (Option.none : Option Jvm.ClassFile.FieldType)) ∈ lw_all := lw_g (lw_at lw_m6 129 rfl) rfl
theorem q1416 : (Jvm.Cond.methodLink "TwoWorldsModel" (201 : Nat) ({ cls := "TwoWorldsModel", name := "keeps", desc := "(I)Z" } : Jvm.MethodName)) ∈ lw_all := lw_g (lw_at lw_m6 130 rfl) rfl
theorem q1417 : (Jvm.Cond.privateMethod ({ cls := "TwoWorldsModel", name := "keeps", desc := "(I)Z" } : Jvm.MethodName)) ∈ lw_tbl := lw_at lw_m6 131 rfl
theorem q1418 : (Jvm.Cond.instanceMethod ({ cls := "TwoWorldsModel", name := "keeps", desc := "(I)Z" } : Jvm.MethodName)) ∈ lw_all := lw_g (lw_at lw_m6 132 rfl) rfl
theorem q1419 : (Jvm.Cond.code ({ cls := "TwoWorldsModel", name := "keeps", desc := "(I)Z" } : Jvm.MethodName) prog_19_method_26_code (2 : Nat) (Option.some Jvm.ClassFile.FieldType.boolean)) ∈ lw_all := lw_g (lw_at lw_m6 133 rfl) rfl
theorem q1420 : (Jvm.Cond.methodLink "TwoWorldsModel" (178 : Nat) ({ cls := "TwoWorldsModel", name := "areAlike", desc := "()Z" } : Jvm.MethodName)) ∈ lw_all := lw_g (lw_at lw_m6 134 rfl) rfl
theorem q1421 : (Jvm.Cond.privateMethod ({ cls := "TwoWorldsModel", name := "areAlike", desc := "()Z" } : Jvm.MethodName)) ∈ lw_tbl := lw_at lw_m6 135 rfl
theorem q1422 : (Jvm.Cond.instanceMethod ({ cls := "TwoWorldsModel", name := "areAlike", desc := "()Z" } : Jvm.MethodName)) ∈ lw_all := lw_g (lw_at lw_m6 136 rfl) rfl
theorem q1423 : (Jvm.Cond.code ({ cls := "TwoWorldsModel", name := "areAlike", desc := "()Z" } : Jvm.MethodName) prog_19_method_20_code (3 : Nat) (Option.some Jvm.ClassFile.FieldType.boolean)) ∈ lw_all := lw_g (lw_at lw_m6 137 rfl) rfl
theorem q1424 : (Jvm.Cond.methodLink "TwoWorldsModel" (172 : Nat) ({ cls := "TwoWorldsModel", name := "isPlaceAlike", desc := "(I)Z" } : Jvm.MethodName)) ∈ lw_all := lw_g (lw_at lw_m6 138 rfl) rfl
theorem q1425 : (Jvm.Cond.privateMethod ({ cls := "TwoWorldsModel", name := "isPlaceAlike", desc := "(I)Z" } : Jvm.MethodName)) ∈ lw_tbl := lw_at lw_m6 139 rfl
theorem q1426 : (Jvm.Cond.instanceMethod ({ cls := "TwoWorldsModel", name := "isPlaceAlike", desc := "(I)Z" } : Jvm.MethodName)) ∈ lw_all := lw_g (lw_at lw_m6 140 rfl) rfl
theorem q1427 : (Jvm.Cond.code ({ cls := "TwoWorldsModel", name := "isPlaceAlike", desc := "(I)Z" } : Jvm.MethodName) prog_19_method_19_code (4 : Nat) (Option.some Jvm.ClassFile.FieldType.boolean)) ∈ lw_all := lw_g (lw_at lw_m6 141 rfl) rfl
theorem q1428 : (Jvm.Cond.methodLink "TwoWorldsModel" (189 : Nat) ({ cls := "TwoWorldsModel", name := "keeps1", desc := "()Z" } : Jvm.MethodName)) ∈ lw_all := lw_g (lw_at lw_m6 142 rfl) rfl
theorem q1429 : (Jvm.Cond.privateMethod ({ cls := "TwoWorldsModel", name := "keeps1", desc := "()Z" } : Jvm.MethodName)) ∈ lw_tbl := lw_at lw_m6 143 rfl
theorem q1430 : (Jvm.Cond.instanceMethod ({ cls := "TwoWorldsModel", name := "keeps1", desc := "()Z" } : Jvm.MethodName)) ∈ lw_all := lw_g (lw_at lw_m6 144 rfl) rfl
theorem q1431 : (Jvm.Cond.code ({ cls := "TwoWorldsModel", name := "keeps1", desc := "()Z" } : Jvm.MethodName) prog_19_method_23_code (5 : Nat) (Option.some Jvm.ClassFile.FieldType.boolean)) ∈ lw_all := lw_g (lw_at lw_m6 145 rfl) rfl
theorem q1432 : (Jvm.Cond.methodLink "TwoWorldsModel" (182 : Nat) ({ cls := "TwoWorldsModel", name := "manyOf", desc := "(I)I" } : Jvm.MethodName)) ∈ lw_all := lw_g (lw_at lw_m6 146 rfl) rfl
theorem q1433 : (Jvm.Cond.privateMethod ({ cls := "TwoWorldsModel", name := "manyOf", desc := "(I)I" } : Jvm.MethodName)) ∈ lw_tbl := lw_at lw_m6 147 rfl
theorem q1434 : (Jvm.Cond.instanceMethod ({ cls := "TwoWorldsModel", name := "manyOf", desc := "(I)I" } : Jvm.MethodName)) ∈ lw_all := lw_g (lw_at lw_m6 148 rfl) rfl
theorem q1435 : (Jvm.Cond.code ({ cls := "TwoWorldsModel", name := "manyOf", desc := "(I)I" } : Jvm.MethodName) prog_19_method_22_code (2 : Nat) (Option.some Jvm.ClassFile.FieldType.int)) ∈ lw_all := lw_g (lw_at lw_m6 149 rfl) rfl
theorem q1436 : (Jvm.Cond.methodLink "TwoWorldsModel" (185 : Nat) ({ cls := "TwoWorldsModel", name := "addPick", desc := "(III)V" } : Jvm.MethodName)) ∈ lw_all := lw_g (lw_at lw_m6 150 rfl) rfl
theorem q1437 : (Jvm.Cond.privateMethod ({ cls := "TwoWorldsModel", name := "addPick", desc := "(III)V" } : Jvm.MethodName)) ∈ lw_tbl := lw_at lw_m6 151 rfl
theorem q1438 : (Jvm.Cond.instanceMethod ({ cls := "TwoWorldsModel", name := "addPick", desc := "(III)V" } : Jvm.MethodName)) ∈ lw_all := lw_g (lw_at lw_m6 152 rfl) rfl
theorem q1439 : (Jvm.Cond.code ({ cls := "TwoWorldsModel", name := "addPick", desc := "(III)V" } : Jvm.MethodName) prog_19_method_21_code (4 : Nat) (Option.none : Option Jvm.ClassFile.FieldType)) ∈ lw_all := lw_g (lw_at lw_m6 153 rfl) rfl
theorem q1440 : (Jvm.Cond.methodLink "TwoWorldsModel" (175 : Nat) ({ cls := "TwoWorldsModel", name := "add", desc := "(II)V" } : Jvm.MethodName)) ∈ lw_all := lw_g (lw_at lw_m6 154 rfl) rfl
theorem q1441 : (Jvm.Cond.privateMethod ({ cls := "TwoWorldsModel", name := "add", desc := "(II)V" } : Jvm.MethodName)) ∈ lw_tbl := lw_at lw_m6 155 rfl
theorem q1442 : (Jvm.Cond.instanceMethod ({ cls := "TwoWorldsModel", name := "add", desc := "(II)V" } : Jvm.MethodName)) ∈ lw_all := lw_g (lw_at lw_m6 156 rfl) rfl
theorem q1443 : (Jvm.Cond.code ({ cls := "TwoWorldsModel", name := "add", desc := "(II)V" } : Jvm.MethodName) prog_19_method_18_code (3 : Nat) (Option.none : Option Jvm.ClassFile.FieldType)) ∈ lw_all := lw_g (lw_at lw_m6 157 rfl) rfl
theorem q1444 : (Jvm.Cond.methodLink "TwoWorldsModel" (192 : Nat) ({ cls := "TwoWorldsModel", name := "keeps2", desc := "()Z" } : Jvm.MethodName)) ∈ lw_all := lw_g (lw_at lw_m6 158 rfl) rfl
theorem q1445 : (Jvm.Cond.privateMethod ({ cls := "TwoWorldsModel", name := "keeps2", desc := "()Z" } : Jvm.MethodName)) ∈ lw_tbl := lw_at lw_m6 159 rfl
theorem q1446 : (Jvm.Cond.instanceMethod ({ cls := "TwoWorldsModel", name := "keeps2", desc := "()Z" } : Jvm.MethodName)) ∈ lw_all := lw_g (lw_at lw_m6 160 rfl) rfl
theorem q1447 : (Jvm.Cond.code ({ cls := "TwoWorldsModel", name := "keeps2", desc := "()Z" } : Jvm.MethodName) prog_19_method_24_code (5 : Nat) (Option.some Jvm.ClassFile.FieldType.boolean)) ∈ lw_all := lw_g (lw_at lw_m6 161 rfl) rfl
theorem q1448 : (Jvm.Cond.methodLink "TwoWorldsModel" (195 : Nat) ({ cls := "TwoWorldsModel", name := "keeps3", desc := "()Z" } : Jvm.MethodName)) ∈ lw_all := lw_g (lw_at lw_m6 162 rfl) rfl
theorem q1449 : (Jvm.Cond.privateMethod ({ cls := "TwoWorldsModel", name := "keeps3", desc := "()Z" } : Jvm.MethodName)) ∈ lw_tbl := lw_at lw_m6 163 rfl
theorem q1450 : (Jvm.Cond.instanceMethod ({ cls := "TwoWorldsModel", name := "keeps3", desc := "()Z" } : Jvm.MethodName)) ∈ lw_all := lw_g (lw_at lw_m6 164 rfl) rfl
theorem q1451 : (Jvm.Cond.code ({ cls := "TwoWorldsModel", name := "keeps3", desc := "()Z" } : Jvm.MethodName) prog_19_method_25_code (5 : Nat) (Option.some Jvm.ClassFile.FieldType.boolean)) ∈ lw_all := lw_g (lw_at lw_m6 165 rfl) rfl
theorem q1453 : (Jvm.Cond.instanceMethod ({ cls := "TwoWorldsModel", name := "rank", desc := "(II)I" } : Jvm.MethodName)) ∈ lw_all := lw_g (lw_at lw_m6 167 rfl) rfl
theorem q1454 : (Jvm.Cond.selects "TwoWorldsModel" ({ cls := "TwoWorldsModel", name := "rank", desc := "(II)I" } : Jvm.MethodName) ({ cls := "TwoWorldsModel", name := "rank", desc := "(II)I" } : Jvm.MethodName)) ∈ lw_all := lw_g (lw_at lw_m6 168 rfl) rfl
theorem q1455 : (Jvm.Cond.code ({ cls := "TwoWorldsModel", name := "rank", desc := "(II)I" } : Jvm.MethodName) prog_19_method_29_code (4 : Nat) (Option.some Jvm.ClassFile.FieldType.int)) ∈ lw_all := lw_g (lw_at lw_m6 169 rfl) rfl
theorem q1456 : (Jvm.Cond.methodLink "TwoWorldsModel" (204 : Nat) ({ cls := "TwoWorldsModel", name := "least", desc := "(I)I" } : Jvm.MethodName)) ∈ lw_all := lw_g (lw_at lw_m6 170 rfl) rfl
theorem q1457 : (Jvm.Cond.privateMethod ({ cls := "TwoWorldsModel", name := "least", desc := "(I)I" } : Jvm.MethodName)) ∈ lw_tbl := lw_at lw_m6 171 rfl
theorem q1458 : (Jvm.Cond.instanceMethod ({ cls := "TwoWorldsModel", name := "least", desc := "(I)I" } : Jvm.MethodName)) ∈ lw_all := lw_g (lw_at lw_m6 172 rfl) rfl
theorem q1459 : (Jvm.Cond.code ({ cls := "TwoWorldsModel", name := "least", desc := "(I)I" } : Jvm.MethodName) prog_19_method_28_code (3 : Nat) (Option.some Jvm.ClassFile.FieldType.int)) ∈ lw_all := lw_g (lw_at lw_m6 173 rfl) rfl
theorem q1461 : (Jvm.Cond.instanceMethod ({ cls := "TwoWorldsModel", name := "play", desc := "(III)I" } : Jvm.MethodName)) ∈ lw_all := lw_g (lw_at lw_m6 175 rfl) rfl
theorem q1462 : (Jvm.Cond.selects "TwoWorldsModel" ({ cls := "TwoWorldsModel", name := "play", desc := "(III)I" } : Jvm.MethodName) ({ cls := "TwoWorldsModel", name := "play", desc := "(III)I" } : Jvm.MethodName)) ∈ lw_all := lw_g (lw_at lw_m6 176 rfl) rfl
theorem q1463 : (Jvm.Cond.code ({ cls := "TwoWorldsModel", name := "play", desc := "(III)I" } : Jvm.MethodName) prog_19_method_33_code (4 : Nat) (Option.some Jvm.ClassFile.FieldType.int)) ∈ lw_all := lw_g (lw_at lw_m6 177 rfl) rfl
theorem q1464 : (Jvm.Cond.methodLink "TwoWorldsModel" (216 : Nat) ({ cls := "TwoWorldsModel", name := "copyWorld", desc := "(II)V" } : Jvm.MethodName)) ∈ lw_all := lw_g (lw_at lw_m6 178 rfl) rfl
theorem q1465 : (Jvm.Cond.privateMethod ({ cls := "TwoWorldsModel", name := "copyWorld", desc := "(II)V" } : Jvm.MethodName)) ∈ lw_tbl := lw_at lw_m6 179 rfl
theorem q1466 : (Jvm.Cond.instanceMethod ({ cls := "TwoWorldsModel", name := "copyWorld", desc := "(II)V" } : Jvm.MethodName)) ∈ lw_all := lw_g (lw_at lw_m6 180 rfl) rfl
theorem q1467 : (Jvm.Cond.code ({ cls := "TwoWorldsModel", name := "copyWorld", desc := "(II)V" } : Jvm.MethodName) prog_19_method_30_code (4 : Nat) (Option.none : Option Jvm.ClassFile.FieldType)) ∈ lw_all := lw_g (lw_at lw_m6 181 rfl) rfl
theorem q1468 : (Jvm.Cond.methodLink "TwoWorldsModel" (219 : Nat) ({ cls := "TwoWorldsModel", name := "judge", desc := "()V" } : Jvm.MethodName)) ∈ lw_all := lw_g (lw_at lw_m6 182 rfl) rfl
theorem q1469 : (Jvm.Cond.privateMethod ({ cls := "TwoWorldsModel", name := "judge", desc := "()V" } : Jvm.MethodName)) ∈ lw_tbl := lw_at lw_m6 183 rfl
theorem q1470 : (Jvm.Cond.instanceMethod ({ cls := "TwoWorldsModel", name := "judge", desc := "()V" } : Jvm.MethodName)) ∈ lw_all := lw_g (lw_at lw_m6 184 rfl) rfl
theorem q1471 : (Jvm.Cond.code ({ cls := "TwoWorldsModel", name := "judge", desc := "()V" } : Jvm.MethodName) prog_19_method_32_code (1 : Nat) (Option.none : Option Jvm.ClassFile.FieldType)) ∈ lw_all := lw_g (lw_at lw_m6 185 rfl) rfl
theorem q1472 : (Jvm.Cond.methodLink "TwoWorldsModel" (210 : Nat) ({ cls := "TwoWorldsModel", name := "layPlay", desc := "()V" } : Jvm.MethodName)) ∈ lw_all := lw_g (lw_at lw_m6 186 rfl) rfl
theorem q1473 : (Jvm.Cond.privateMethod ({ cls := "TwoWorldsModel", name := "layPlay", desc := "()V" } : Jvm.MethodName)) ∈ lw_tbl := lw_at lw_m6 187 rfl
theorem q1474 : (Jvm.Cond.instanceMethod ({ cls := "TwoWorldsModel", name := "layPlay", desc := "()V" } : Jvm.MethodName)) ∈ lw_all := lw_g (lw_at lw_m6 188 rfl) rfl
theorem q1475 : (Jvm.Cond.code ({ cls := "TwoWorldsModel", name := "layPlay", desc := "()V" } : Jvm.MethodName) prog_19_method_31_code (2 : Nat) (Option.none : Option Jvm.ClassFile.FieldType)) ∈ lw_all := lw_g (lw_at lw_m6 189 rfl) rfl
theorem q1477 : (Jvm.Cond.instanceMethod ({ cls := "TwoWorldsModel", name := "pick", desc := "(II)I" } : Jvm.MethodName)) ∈ lw_all := lw_g (lw_at lw_m6 191 rfl) rfl
theorem q1478 : (Jvm.Cond.selects "TwoWorldsModel" ({ cls := "TwoWorldsModel", name := "pick", desc := "(II)I" } : Jvm.MethodName) ({ cls := "TwoWorldsModel", name := "pick", desc := "(II)I" } : Jvm.MethodName)) ∈ lw_all := lw_g (lw_at lw_m6 192 rfl) rfl
theorem q1479 : (Jvm.Cond.code ({ cls := "TwoWorldsModel", name := "pick", desc := "(II)I" } : Jvm.MethodName) prog_19_method_34_code (3 : Nat) (Option.some Jvm.ClassFile.FieldType.int)) ∈ lw_all := lw_g (lw_at lw_m6 193 rfl) rfl
theorem q1481 : (Jvm.Cond.instanceMethod ({ cls := "TwoWorldsModel", name := "answer", desc := "(I)I" } : Jvm.MethodName)) ∈ lw_all := lw_g (lw_at lw_m6 195 rfl) rfl
theorem q1482 : (Jvm.Cond.selects "TwoWorldsModel" ({ cls := "TwoWorldsModel", name := "answer", desc := "(I)I" } : Jvm.MethodName) ({ cls := "TwoWorldsModel", name := "answer", desc := "(I)I" } : Jvm.MethodName)) ∈ lw_all := lw_g (lw_at lw_m6 196 rfl) rfl
theorem q1483 : (Jvm.Cond.code ({ cls := "TwoWorldsModel", name := "answer", desc := "(I)I" } : Jvm.MethodName) prog_19_method_35_code (2 : Nat) (Option.some Jvm.ClassFile.FieldType.int)) ∈ lw_all := lw_g (lw_at lw_m6 197 rfl) rfl
theorem q1485 : (Jvm.Cond.instanceMethod ({ cls := "TwoWorldsModel", name := "best", desc := "()I" } : Jvm.MethodName)) ∈ lw_all := lw_g (lw_at lw_m6 199 rfl) rfl
theorem q1486 : (Jvm.Cond.selects "TwoWorldsModel" ({ cls := "TwoWorldsModel", name := "best", desc := "()I" } : Jvm.MethodName) ({ cls := "TwoWorldsModel", name := "best", desc := "()I" } : Jvm.MethodName)) ∈ lw_all := lw_g (lw_at lw_m6 200 rfl) rfl
theorem q1487 : (Jvm.Cond.code ({ cls := "TwoWorldsModel", name := "best", desc := "()I" } : Jvm.MethodName) prog_19_method_37_code (3 : Nat) (Option.some Jvm.ClassFile.FieldType.int)) ∈ lw_all := lw_g (lw_at lw_m6 201 rfl) rfl
theorem q1488 : (Jvm.Cond.methodLink "TwoWorldsModel" (228 : Nat) ({ cls := "TwoWorldsModel", name := "answerTo", desc := "(III)I" } : Jvm.MethodName)) ∈ lw_all := lw_g (lw_at lw_m6 202 rfl) rfl
theorem q1489 : (Jvm.Cond.privateMethod ({ cls := "TwoWorldsModel", name := "answerTo", desc := "(III)I" } : Jvm.MethodName)) ∈ lw_tbl := lw_at lw_m6 203 rfl
theorem q1490 : (Jvm.Cond.instanceMethod ({ cls := "TwoWorldsModel", name := "answerTo", desc := "(III)I" } : Jvm.MethodName)) ∈ lw_all := lw_g (lw_at lw_m6 204 rfl) rfl
theorem q1491 : (Jvm.Cond.code ({ cls := "TwoWorldsModel", name := "answerTo", desc := "(III)I" } : Jvm.MethodName) prog_19_method_36_code (6 : Nat) (Option.some Jvm.ClassFile.FieldType.int)) ∈ lw_all := lw_g (lw_at lw_m6 205 rfl) rfl
theorem q1493 : (Jvm.Cond.instanceMethod ({ cls := "TwoWorldsModel", name := "state", desc := "()I" } : Jvm.MethodName)) ∈ lw_all := lw_g (lw_at lw_m6 207 rfl) rfl
theorem q1494 : (Jvm.Cond.selects "TwoWorldsModel" ({ cls := "TwoWorldsModel", name := "state", desc := "()I" } : Jvm.MethodName) ({ cls := "TwoWorldsModel", name := "state", desc := "()I" } : Jvm.MethodName)) ∈ lw_all := lw_g (lw_at lw_m6 208 rfl) rfl
theorem q1495 : (Jvm.Cond.code ({ cls := "TwoWorldsModel", name := "state", desc := "()I" } : Jvm.MethodName) prog_19_method_38_code (1 : Nat) (Option.some Jvm.ClassFile.FieldType.int)) ∈ lw_all := lw_g (lw_at lw_m6 209 rfl) rfl
theorem q1497 : (Jvm.Cond.instanceMethod ({ cls := "TwoWorldsModel", name := "left", desc := "()I" } : Jvm.MethodName)) ∈ lw_all := lw_g (lw_at lw_m6 211 rfl) rfl
theorem q1498 : (Jvm.Cond.selects "TwoWorldsModel" ({ cls := "TwoWorldsModel", name := "left", desc := "()I" } : Jvm.MethodName) ({ cls := "TwoWorldsModel", name := "left", desc := "()I" } : Jvm.MethodName)) ∈ lw_all := lw_g (lw_at lw_m6 212 rfl) rfl
theorem q1499 : (Jvm.Cond.code ({ cls := "TwoWorldsModel", name := "left", desc := "()I" } : Jvm.MethodName) prog_19_method_39_code (1 : Nat) (Option.some Jvm.ClassFile.FieldType.int)) ∈ lw_all := lw_g (lw_at lw_m6 213 rfl) rfl
theorem q1501 : (Jvm.Cond.instanceMethod ({ cls := "TwoWorldsModel", name := "feed", desc := "(IIIII)I" } : Jvm.MethodName)) ∈ lw_all := lw_g (lw_at lw_m6 215 rfl) rfl
theorem q1502 : (Jvm.Cond.selects "TwoWorldsModel" ({ cls := "TwoWorldsModel", name := "feed", desc := "(IIIII)I" } : Jvm.MethodName) ({ cls := "TwoWorldsModel", name := "feed", desc := "(IIIII)I" } : Jvm.MethodName)) ∈ lw_all := lw_g (lw_at lw_m6 216 rfl) rfl
theorem q1503 : (Jvm.Cond.code ({ cls := "TwoWorldsModel", name := "feed", desc := "(IIIII)I" } : Jvm.MethodName) prog_19_method_40_code (8 : Nat) (Option.some Jvm.ClassFile.FieldType.int)) ∈ lw_all := lw_g (lw_at lw_m6 217 rfl) rfl
theorem q1505 : (Jvm.Cond.instanceMethod ({ cls := "TwoWorldsModel", name := "trim", desc := "(I)I" } : Jvm.MethodName)) ∈ lw_all := lw_g (lw_at lw_m6 219 rfl) rfl
theorem q1506 : (Jvm.Cond.selects "TwoWorldsModel" ({ cls := "TwoWorldsModel", name := "trim", desc := "(I)I" } : Jvm.MethodName) ({ cls := "TwoWorldsModel", name := "trim", desc := "(I)I" } : Jvm.MethodName)) ∈ lw_all := lw_g (lw_at lw_m6 220 rfl) rfl
theorem q1507 : (Jvm.Cond.code ({ cls := "TwoWorldsModel", name := "trim", desc := "(I)I" } : Jvm.MethodName) prog_19_method_41_code (2 : Nat) (Option.some Jvm.ClassFile.FieldType.int)) ∈ lw_all := lw_g (lw_at lw_m6 221 rfl) rfl
theorem q1509 : (Jvm.Cond.instanceMethod ({ cls := "TwoWorldsModel", name := "read", desc := "()I" } : Jvm.MethodName)) ∈ lw_all := lw_g (lw_at lw_m6 223 rfl) rfl
theorem q1510 : (Jvm.Cond.selects "TwoWorldsModel" ({ cls := "TwoWorldsModel", name := "read", desc := "()I" } : Jvm.MethodName) ({ cls := "TwoWorldsModel", name := "read", desc := "()I" } : Jvm.MethodName)) ∈ lw_all := lw_g (lw_at lw_m6 224 rfl) rfl
theorem q1511 : (Jvm.Cond.code ({ cls := "TwoWorldsModel", name := "read", desc := "()I" } : Jvm.MethodName) prog_19_method_57_code (1 : Nat) (Option.some Jvm.ClassFile.FieldType.int)) ∈ lw_all := lw_g (lw_at lw_m6 225 rfl) rfl
theorem q1512 : (Jvm.Cond.methodLink "TwoWorldsModel" (296 : Nat) ({ cls := "TwoWorldsModel", name := "parse", desc := "()V" } : Jvm.MethodName)) ∈ lw_all := lw_g (lw_at lw_m6 226 rfl) rfl
theorem q1513 : (Jvm.Cond.privateMethod ({ cls := "TwoWorldsModel", name := "parse", desc := "()V" } : Jvm.MethodName)) ∈ lw_tbl := lw_at lw_m6 227 rfl
theorem q1514 : (Jvm.Cond.instanceMethod ({ cls := "TwoWorldsModel", name := "parse", desc := "()V" } : Jvm.MethodName)) ∈ lw_all := lw_g (lw_at lw_m6 228 rfl) rfl
theorem q1515 : (Jvm.Cond.code ({ cls := "TwoWorldsModel", name := "parse", desc := "()V" } : Jvm.MethodName) prog_19_method_54_code (2 : Nat) (Option.none : Option Jvm.ClassFile.FieldType)) ∈ lw_all := lw_g (lw_at lw_m6 229 rfl) rfl
theorem q1516 : (Jvm.Cond.methodLink "TwoWorldsModel" (272 : Nat) ({ cls := "TwoWorldsModel", name := "openFormula", desc := "()V" } : Jvm.MethodName)) ∈ lw_all := lw_g (lw_at lw_m6 230 rfl) rfl
theorem q1517 : (Jvm.Cond.privateMethod ({ cls := "TwoWorldsModel", name := "openFormula", desc := "()V" } : Jvm.MethodName)) ∈ lw_tbl := lw_at lw_m6 231 rfl
theorem q1518 : (Jvm.Cond.instanceMethod ({ cls := "TwoWorldsModel", name := "openFormula", desc := "()V" } : Jvm.MethodName)) ∈ lw_all := lw_g (lw_at lw_m6 232 rfl) rfl
theorem q1519 : (Jvm.Cond.code ({ cls := "TwoWorldsModel", name := "openFormula", desc := "()V" } : Jvm.MethodName) prog_19_method_46_code (1 : Nat) (Option.none : Option Jvm.ClassFile.FieldType)) ∈ lw_all := lw_g (lw_at lw_m6 233 rfl) rfl
theorem q1520 : (Jvm.Cond.methodLink "TwoWorldsModel" (246 : Nat) ({ cls := "TwoWorldsModel", name := "skip", desc := "()V" } : Jvm.MethodName)) ∈ lw_all := lw_g (lw_at lw_m6 234 rfl) rfl
theorem q1521 : (Jvm.Cond.privateMethod ({ cls := "TwoWorldsModel", name := "skip", desc := "()V" } : Jvm.MethodName)) ∈ lw_tbl := lw_at lw_m6 235 rfl
theorem q1522 : (Jvm.Cond.instanceMethod ({ cls := "TwoWorldsModel", name := "skip", desc := "()V" } : Jvm.MethodName)) ∈ lw_all := lw_g (lw_at lw_m6 236 rfl) rfl
theorem q1523 : (Jvm.Cond.code ({ cls := "TwoWorldsModel", name := "skip", desc := "()V" } : Jvm.MethodName) prog_19_method_44_code (1 : Nat) (Option.none : Option Jvm.ClassFile.FieldType)) ∈ lw_all := lw_g (lw_at lw_m6 237 rfl) rfl
theorem q1524 : (Jvm.Cond.methodLink "TwoWorldsModel" (284 : Nat) ({ cls := "TwoWorldsModel", name := "beginPart", desc := "()Z" } : Jvm.MethodName)) ∈ lw_all := lw_g (lw_at lw_m6 238 rfl) rfl
theorem q1525 : (Jvm.Cond.privateMethod ({ cls := "TwoWorldsModel", name := "beginPart", desc := "()Z" } : Jvm.MethodName)) ∈ lw_tbl := lw_at lw_m6 239 rfl
theorem q1526 : (Jvm.Cond.instanceMethod ({ cls := "TwoWorldsModel", name := "beginPart", desc := "()Z" } : Jvm.MethodName)) ∈ lw_all := lw_g (lw_at lw_m7 0 rfl) rfl
theorem q1527 : (Jvm.Cond.code ({ cls := "TwoWorldsModel", name := "beginPart", desc := "()Z" } : Jvm.MethodName) prog_19_method_52_code (1 : Nat) (Option.some Jvm.ClassFile.FieldType.boolean)) ∈ lw_all := lw_g (lw_at lw_m7 1 rfl) rfl
theorem q1528 : (Jvm.Cond.methodLink "TwoWorldsModel" (249 : Nat) ({ cls := "TwoWorldsModel", name := "here", desc := "()I" } : Jvm.MethodName)) ∈ lw_all := lw_g (lw_at lw_m7 2 rfl) rfl
theorem q1529 : (Jvm.Cond.privateMethod ({ cls := "TwoWorldsModel", name := "here", desc := "()I" } : Jvm.MethodName)) ∈ lw_tbl := lw_at lw_m7 3 rfl
theorem q1530 : (Jvm.Cond.instanceMethod ({ cls := "TwoWorldsModel", name := "here", desc := "()I" } : Jvm.MethodName)) ∈ lw_all := lw_g (lw_at lw_m7 4 rfl) rfl
theorem q1531 : (Jvm.Cond.code ({ cls := "TwoWorldsModel", name := "here", desc := "()I" } : Jvm.MethodName) prog_19_method_45_code (1 : Nat) (Option.some Jvm.ClassFile.FieldType.int)) ∈ lw_all := lw_g (lw_at lw_m7 5 rfl) rfl
theorem q1532 : (Jvm.Cond.methodLink "TwoWorldsModel" (262 : Nat) ({ cls := "TwoWorldsModel", name := "emit", desc := "(III)V" } : Jvm.MethodName)) ∈ lw_all := lw_g (lw_at lw_m7 6 rfl) rfl
theorem q1533 : (Jvm.Cond.privateMethod ({ cls := "TwoWorldsModel", name := "emit", desc := "(III)V" } : Jvm.MethodName)) ∈ lw_tbl := lw_at lw_m7 7 rfl
theorem q1534 : (Jvm.Cond.instanceMethod ({ cls := "TwoWorldsModel", name := "emit", desc := "(III)V" } : Jvm.MethodName)) ∈ lw_all := lw_g (lw_at lw_m7 8 rfl) rfl
theorem q1535 : (Jvm.Cond.code ({ cls := "TwoWorldsModel", name := "emit", desc := "(III)V" } : Jvm.MethodName) prog_19_method_42_code (4 : Nat) (Option.none : Option Jvm.ClassFile.FieldType)) ∈ lw_all := lw_g (lw_at lw_m7 9 rfl) rfl
theorem q1536 : (Jvm.Cond.methodLink "TwoWorldsModel" (268 : Nat) ({ cls := "TwoWorldsModel", name := "openNode", desc := "(I)V" } : Jvm.MethodName)) ∈ lw_all := lw_g (lw_at lw_m7 10 rfl) rfl
theorem q1537 : (Jvm.Cond.privateMethod ({ cls := "TwoWorldsModel", name := "openNode", desc := "(I)V" } : Jvm.MethodName)) ∈ lw_tbl := lw_at lw_m7 11 rfl
theorem q1538 : (Jvm.Cond.instanceMethod ({ cls := "TwoWorldsModel", name := "openNode", desc := "(I)V" } : Jvm.MethodName)) ∈ lw_all := lw_g (lw_at lw_m7 12 rfl) rfl
theorem q1539 : (Jvm.Cond.code ({ cls := "TwoWorldsModel", name := "openNode", desc := "(I)V" } : Jvm.MethodName) prog_19_method_47_code (2 : Nat) (Option.none : Option Jvm.ClassFile.FieldType)) ∈ lw_all := lw_g (lw_at lw_m7 13 rfl) rfl
theorem q1540 : (Jvm.Cond.methodLink "TwoWorldsModel" (275 : Nat) ({ cls := "TwoWorldsModel", name := "quantifier", desc := "(I)V" } : Jvm.MethodName)) ∈ lw_all := lw_g (lw_at lw_m7 14 rfl) rfl
theorem q1541 : (Jvm.Cond.privateMethod ({ cls := "TwoWorldsModel", name := "quantifier", desc := "(I)V" } : Jvm.MethodName)) ∈ lw_tbl := lw_at lw_m7 15 rfl
theorem q1542 : (Jvm.Cond.instanceMethod ({ cls := "TwoWorldsModel", name := "quantifier", desc := "(I)V" } : Jvm.MethodName)) ∈ lw_all := lw_g (lw_at lw_m7 16 rfl) rfl
theorem q1543 : (Jvm.Cond.code ({ cls := "TwoWorldsModel", name := "quantifier", desc := "(I)V" } : Jvm.MethodName) prog_19_method_51_code (2 : Nat) (Option.none : Option Jvm.ClassFile.FieldType)) ∈ lw_all := lw_g (lw_at lw_m7 17 rfl) rfl
theorem q1544 : (Jvm.Cond.methodLink "TwoWorldsModel" (278 : Nat) ({ cls := "TwoWorldsModel", name := "atom", desc := "(II)V" } : Jvm.MethodName)) ∈ lw_all := lw_g (lw_at lw_m7 18 rfl) rfl
theorem q1545 : (Jvm.Cond.privateMethod ({ cls := "TwoWorldsModel", name := "atom", desc := "(II)V" } : Jvm.MethodName)) ∈ lw_tbl := lw_at lw_m7 19 rfl
theorem q1546 : (Jvm.Cond.instanceMethod ({ cls := "TwoWorldsModel", name := "atom", desc := "(II)V" } : Jvm.MethodName)) ∈ lw_all := lw_g (lw_at lw_m7 20 rfl) rfl
theorem q1547 : (Jvm.Cond.code ({ cls := "TwoWorldsModel", name := "atom", desc := "(II)V" } : Jvm.MethodName) prog_19_method_50_code (5 : Nat) (Option.none : Option Jvm.ClassFile.FieldType)) ∈ lw_all := lw_g (lw_at lw_m7 21 rfl) rfl
theorem q1548 : (Jvm.Cond.methodLink "TwoWorldsModel" (259 : Nat) ({ cls := "TwoWorldsModel", name := "variable", desc := "()I" } : Jvm.MethodName)) ∈ lw_all := lw_g (lw_at lw_m7 22 rfl) rfl
theorem q1549 : (Jvm.Cond.privateMethod ({ cls := "TwoWorldsModel", name := "variable", desc := "()I" } : Jvm.MethodName)) ∈ lw_tbl := lw_at lw_m7 23 rfl
theorem q1550 : (Jvm.Cond.instanceMethod ({ cls := "TwoWorldsModel", name := "variable", desc := "()I" } : Jvm.MethodName)) ∈ lw_all := lw_g (lw_at lw_m7 24 rfl) rfl
theorem q1551 : (Jvm.Cond.code ({ cls := "TwoWorldsModel", name := "variable", desc := "()I" } : Jvm.MethodName) prog_19_method_48_code (4 : Nat) (Option.some Jvm.ClassFile.FieldType.int)) ∈ lw_all := lw_g (lw_at lw_m7 25 rfl) rfl
theorem q1552 : (Jvm.Cond.methodLink "TwoWorldsModel" (265 : Nat) ({ cls := "TwoWorldsModel", name := "partDone", desc := "()V" } : Jvm.MethodName)) ∈ lw_all := lw_g (lw_at lw_m7 26 rfl) rfl
theorem q1553 : (Jvm.Cond.privateMethod ({ cls := "TwoWorldsModel", name := "partDone", desc := "()V" } : Jvm.MethodName)) ∈ lw_tbl := lw_at lw_m7 27 rfl
theorem q1554 : (Jvm.Cond.instanceMethod ({ cls := "TwoWorldsModel", name := "partDone", desc := "()V" } : Jvm.MethodName)) ∈ lw_all := lw_g (lw_at lw_m7 28 rfl) rfl
theorem q1555 : (Jvm.Cond.code ({ cls := "TwoWorldsModel", name := "partDone", desc := "()V" } : Jvm.MethodName) prog_19_method_49_code (1 : Nat) (Option.none : Option Jvm.ClassFile.FieldType)) ∈ lw_all := lw_g (lw_at lw_m7 29 rfl) rfl
theorem q1556 : (Jvm.Cond.methodLink "TwoWorldsModel" (287 : Nat) ({ cls := "TwoWorldsModel", name := "goOn", desc := "()Z" } : Jvm.MethodName)) ∈ lw_all := lw_g (lw_at lw_m7 30 rfl) rfl
theorem q1557 : (Jvm.Cond.privateMethod ({ cls := "TwoWorldsModel", name := "goOn", desc := "()Z" } : Jvm.MethodName)) ∈ lw_tbl := lw_at lw_m7 31 rfl
theorem q1558 : (Jvm.Cond.instanceMethod ({ cls := "TwoWorldsModel", name := "goOn", desc := "()Z" } : Jvm.MethodName)) ∈ lw_all := lw_g (lw_at lw_m7 32 rfl) rfl
theorem q1559 : (Jvm.Cond.code ({ cls := "TwoWorldsModel", name := "goOn", desc := "()Z" } : Jvm.MethodName) prog_19_method_53_code (4 : Nat) (Option.some Jvm.ClassFile.FieldType.boolean)) ∈ lw_all := lw_g (lw_at lw_m7 33 rfl) rfl
theorem q1560 : (Jvm.Cond.methodLink "TwoWorldsModel" (281 : Nat) ({ cls := "TwoWorldsModel", name := "insert", desc := "(II)V" } : Jvm.MethodName)) ∈ lw_all := lw_g (lw_at lw_m7 34 rfl) rfl
theorem q1561 : (Jvm.Cond.privateMethod ({ cls := "TwoWorldsModel", name := "insert", desc := "(II)V" } : Jvm.MethodName)) ∈ lw_tbl := lw_at lw_m7 35 rfl
theorem q1562 : (Jvm.Cond.instanceMethod ({ cls := "TwoWorldsModel", name := "insert", desc := "(II)V" } : Jvm.MethodName)) ∈ lw_all := lw_g (lw_at lw_m7 36 rfl) rfl
theorem q1563 : (Jvm.Cond.code ({ cls := "TwoWorldsModel", name := "insert", desc := "(II)V" } : Jvm.MethodName) prog_19_method_43_code (4 : Nat) (Option.none : Option Jvm.ClassFile.FieldType)) ∈ lw_all := lw_g (lw_at lw_m7 37 rfl) rfl
theorem q1564 : (Jvm.Cond.methodLink "TwoWorldsModel" (299 : Nat) ({ cls := "TwoWorldsModel", name := "keep", desc := "()I" } : Jvm.MethodName)) ∈ lw_all := lw_g (lw_at lw_m7 38 rfl) rfl
theorem q1565 : (Jvm.Cond.privateMethod ({ cls := "TwoWorldsModel", name := "keep", desc := "()I" } : Jvm.MethodName)) ∈ lw_tbl := lw_at lw_m7 39 rfl
theorem q1566 : (Jvm.Cond.instanceMethod ({ cls := "TwoWorldsModel", name := "keep", desc := "()I" } : Jvm.MethodName)) ∈ lw_all := lw_g (lw_at lw_m7 40 rfl) rfl
theorem q1567 : (Jvm.Cond.code ({ cls := "TwoWorldsModel", name := "keep", desc := "()I" } : Jvm.MethodName) prog_19_method_56_code (3 : Nat) (Option.some Jvm.ClassFile.FieldType.int)) ∈ lw_all := lw_g (lw_at lw_m7 41 rfl) rfl
theorem q1568 : (Jvm.Cond.methodLink "TwoWorldsModel" (293 : Nat) ({ cls := "TwoWorldsModel", name := "findEnds", desc := "(I)V" } : Jvm.MethodName)) ∈ lw_all := lw_g (lw_at lw_m7 42 rfl) rfl
theorem q1569 : (Jvm.Cond.privateMethod ({ cls := "TwoWorldsModel", name := "findEnds", desc := "(I)V" } : Jvm.MethodName)) ∈ lw_tbl := lw_at lw_m7 43 rfl
theorem q1570 : (Jvm.Cond.instanceMethod ({ cls := "TwoWorldsModel", name := "findEnds", desc := "(I)V" } : Jvm.MethodName)) ∈ lw_all := lw_g (lw_at lw_m7 44 rfl) rfl
theorem q1571 : (Jvm.Cond.code ({ cls := "TwoWorldsModel", name := "findEnds", desc := "(I)V" } : Jvm.MethodName) prog_19_method_55_code (7 : Nat) (Option.none : Option Jvm.ClassFile.FieldType)) ∈ lw_all := lw_g (lw_at lw_m7 45 rfl) rfl
theorem q1573 : (Jvm.Cond.instanceMethod ({ cls := "TwoWorldsModel", name := "sentence", desc := "(II)I" } : Jvm.MethodName)) ∈ lw_all := lw_g (lw_at lw_m7 47 rfl) rfl
theorem q1574 : (Jvm.Cond.selects "TwoWorldsModel" ({ cls := "TwoWorldsModel", name := "sentence", desc := "(II)I" } : Jvm.MethodName) ({ cls := "TwoWorldsModel", name := "sentence", desc := "(II)I" } : Jvm.MethodName)) ∈ lw_all := lw_g (lw_at lw_m7 48 rfl) rfl
theorem q1575 : (Jvm.Cond.code ({ cls := "TwoWorldsModel", name := "sentence", desc := "(II)I" } : Jvm.MethodName) prog_19_method_64_code (3 : Nat) (Option.some Jvm.ClassFile.FieldType.int)) ∈ lw_all := lw_g (lw_at lw_m7 49 rfl) rfl
theorem q1576 : (Jvm.Cond.methodLink "TwoWorldsModel" (317 : Nat) ({ cls := "TwoWorldsModel", name := "noSentence", desc := "(I)Z" } : Jvm.MethodName)) ∈ lw_all := lw_g (lw_at lw_m7 50 rfl) rfl
theorem q1577 : (Jvm.Cond.privateMethod ({ cls := "TwoWorldsModel", name := "noSentence", desc := "(I)Z" } : Jvm.MethodName)) ∈ lw_tbl := lw_at lw_m7 51 rfl
theorem q1578 : (Jvm.Cond.instanceMethod ({ cls := "TwoWorldsModel", name := "noSentence", desc := "(I)Z" } : Jvm.MethodName)) ∈ lw_all := lw_g (lw_at lw_m7 52 rfl) rfl
theorem q1579 : (Jvm.Cond.code ({ cls := "TwoWorldsModel", name := "noSentence", desc := "(I)Z" } : Jvm.MethodName) prog_19_method_58_code (2 : Nat) (Option.some Jvm.ClassFile.FieldType.boolean)) ∈ lw_all := lw_g (lw_at lw_m7 53 rfl) rfl
theorem q1580 : (Jvm.Cond.methodLink "TwoWorldsModel" (320 : Nat) ({ cls := "TwoWorldsModel", name := "writeAll", desc := "(I)V" } : Jvm.MethodName)) ∈ lw_all := lw_g (lw_at lw_m7 54 rfl) rfl
theorem q1581 : (Jvm.Cond.privateMethod ({ cls := "TwoWorldsModel", name := "writeAll", desc := "(I)V" } : Jvm.MethodName)) ∈ lw_tbl := lw_at lw_m7 55 rfl
theorem q1582 : (Jvm.Cond.instanceMethod ({ cls := "TwoWorldsModel", name := "writeAll", desc := "(I)V" } : Jvm.MethodName)) ∈ lw_all := lw_g (lw_at lw_m7 56 rfl) rfl
theorem q1583 : (Jvm.Cond.code ({ cls := "TwoWorldsModel", name := "writeAll", desc := "(I)V" } : Jvm.MethodName) prog_19_method_63_code (5 : Nat) (Option.none : Option Jvm.ClassFile.FieldType)) ∈ lw_all := lw_g (lw_at lw_m7 57 rfl) rfl
theorem q1584 : (Jvm.Cond.methodLink "TwoWorldsModel" (305 : Nat) ({ cls := "TwoWorldsModel", name := "write", desc := "(I)V" } : Jvm.MethodName)) ∈ lw_all := lw_g (lw_at lw_m7 58 rfl) rfl
theorem q1585 : (Jvm.Cond.privateMethod ({ cls := "TwoWorldsModel", name := "write", desc := "(I)V" } : Jvm.MethodName)) ∈ lw_tbl := lw_at lw_m7 59 rfl
theorem q1586 : (Jvm.Cond.instanceMethod ({ cls := "TwoWorldsModel", name := "write", desc := "(I)V" } : Jvm.MethodName)) ∈ lw_all := lw_g (lw_at lw_m7 60 rfl) rfl
theorem q1587 : (Jvm.Cond.code ({ cls := "TwoWorldsModel", name := "write", desc := "(I)V" } : Jvm.MethodName) prog_19_method_60_code (2 : Nat) (Option.none : Option Jvm.ClassFile.FieldType)) ∈ lw_all := lw_g (lw_at lw_m7 61 rfl) rfl
theorem q1588 : (Jvm.Cond.methodLink "TwoWorldsModel" (311 : Nat) ({ cls := "TwoWorldsModel", name := "writeAtom", desc := "(I)V" } : Jvm.MethodName)) ∈ lw_all := lw_g (lw_at lw_m7 62 rfl) rfl
theorem q1589 : (Jvm.Cond.privateMethod ({ cls := "TwoWorldsModel", name := "writeAtom", desc := "(I)V" } : Jvm.MethodName)) ∈ lw_tbl := lw_at lw_m7 63 rfl
theorem q1590 : (Jvm.Cond.instanceMethod ({ cls := "TwoWorldsModel", name := "writeAtom", desc := "(I)V" } : Jvm.MethodName)) ∈ lw_all := lw_g (lw_at lw_m7 64 rfl) rfl
theorem q1591 : (Jvm.Cond.code ({ cls := "TwoWorldsModel", name := "writeAtom", desc := "(I)V" } : Jvm.MethodName) prog_19_method_61_code (3 : Nat) (Option.none : Option Jvm.ClassFile.FieldType)) ∈ lw_all := lw_g (lw_at lw_m7 65 rfl) rfl
theorem q1592 : (Jvm.Cond.methodLink "TwoWorldsModel" (314 : Nat) ({ cls := "TwoWorldsModel", name := "writeBehind", desc := "(II)V" } : Jvm.MethodName)) ∈ lw_all := lw_g (lw_at lw_m7 66 rfl) rfl
theorem q1593 : (Jvm.Cond.privateMethod ({ cls := "TwoWorldsModel", name := "writeBehind", desc := "(II)V" } : Jvm.MethodName)) ∈ lw_tbl := lw_at lw_m7 67 rfl
theorem q1594 : (Jvm.Cond.instanceMethod ({ cls := "TwoWorldsModel", name := "writeBehind", desc := "(II)V" } : Jvm.MethodName)) ∈ lw_all := lw_g (lw_at lw_m7 68 rfl) rfl
theorem q1595 : (Jvm.Cond.code ({ cls := "TwoWorldsModel", name := "writeBehind", desc := "(II)V" } : Jvm.MethodName) prog_19_method_62_code (4 : Nat) (Option.none : Option Jvm.ClassFile.FieldType)) ∈ lw_all := lw_g (lw_at lw_m7 69 rfl) rfl
theorem q1596 : (Jvm.Cond.methodLink "TwoWorldsModel" (323 : Nat) ({ cls := "TwoWorldsModel", name := "depthOf", desc := "(I)I" } : Jvm.MethodName)) ∈ lw_all := lw_g (lw_at lw_m7 70 rfl) rfl
theorem q1597 : (Jvm.Cond.privateMethod ({ cls := "TwoWorldsModel", name := "depthOf", desc := "(I)I" } : Jvm.MethodName)) ∈ lw_tbl := lw_at lw_m7 71 rfl
theorem q1598 : (Jvm.Cond.instanceMethod ({ cls := "TwoWorldsModel", name := "depthOf", desc := "(I)I" } : Jvm.MethodName)) ∈ lw_all := lw_g (lw_at lw_m7 72 rfl) rfl
theorem q1599 : (Jvm.Cond.code ({ cls := "TwoWorldsModel", name := "depthOf", desc := "(I)I" } : Jvm.MethodName) prog_19_method_59_code (7 : Nat) (Option.some Jvm.ClassFile.FieldType.int)) ∈ lw_all := lw_g (lw_at lw_m7 73 rfl) rfl
theorem q1601 : (Jvm.Cond.instanceMethod ({ cls := "TwoWorldsModel", name := "written", desc := "(II)I" } : Jvm.MethodName)) ∈ lw_all := lw_g (lw_at lw_m7 75 rfl) rfl
theorem q1602 : (Jvm.Cond.selects "TwoWorldsModel" ({ cls := "TwoWorldsModel", name := "written", desc := "(II)I" } : Jvm.MethodName) ({ cls := "TwoWorldsModel", name := "written", desc := "(II)I" } : Jvm.MethodName)) ∈ lw_all := lw_g (lw_at lw_m7 76 rfl) rfl
theorem q1603 : (Jvm.Cond.code ({ cls := "TwoWorldsModel", name := "written", desc := "(II)I" } : Jvm.MethodName) prog_19_method_65_code (3 : Nat) (Option.some Jvm.ClassFile.FieldType.int)) ∈ lw_all := lw_g (lw_at lw_m7 77 rfl) rfl
theorem q1605 : (Jvm.Cond.instanceMethod ({ cls := "TwoWorldsModel", name := "same", desc := "(II)I" } : Jvm.MethodName)) ∈ lw_all := lw_g (lw_at lw_m7 79 rfl) rfl
theorem q1606 : (Jvm.Cond.selects "TwoWorldsModel" ({ cls := "TwoWorldsModel", name := "same", desc := "(II)I" } : Jvm.MethodName) ({ cls := "TwoWorldsModel", name := "same", desc := "(II)I" } : Jvm.MethodName)) ∈ lw_all := lw_g (lw_at lw_m7 80 rfl) rfl
theorem q1607 : (Jvm.Cond.code ({ cls := "TwoWorldsModel", name := "same", desc := "(II)I" } : Jvm.MethodName) prog_19_method_66_code (7 : Nat) (Option.some Jvm.ClassFile.FieldType.int)) ∈ lw_all := lw_g (lw_at lw_m7 81 rfl) rfl
theorem q1609 : (Jvm.Cond.instanceMethod ({ cls := "TwoWorldsModel", name := "holds", desc := "(II)I" } : Jvm.MethodName)) ∈ lw_all := lw_g (lw_at lw_m7 83 rfl) rfl
theorem q1610 : (Jvm.Cond.selects "TwoWorldsModel" ({ cls := "TwoWorldsModel", name := "holds", desc := "(II)I" } : Jvm.MethodName) ({ cls := "TwoWorldsModel", name := "holds", desc := "(II)I" } : Jvm.MethodName)) ∈ lw_all := lw_g (lw_at lw_m7 84 rfl) rfl
theorem q1611 : (Jvm.Cond.code ({ cls := "TwoWorldsModel", name := "holds", desc := "(II)I" } : Jvm.MethodName) prog_19_method_69_code (6 : Nat) (Option.some Jvm.ClassFile.FieldType.int)) ∈ lw_all := lw_g (lw_at lw_m7 85 rfl) rfl
theorem q1612 : (Jvm.Cond.constant "TwoWorldsModel" (333 : Nat) (100000 : Int32)) ∈ lw_all := lw_g (lw_at lw_m7 86 rfl) rfl
theorem q1613 : (Jvm.Cond.methodLink "TwoWorldsModel" (334 : Nat) ({ cls := "TwoWorldsModel", name := "isAtom", desc := "(II)Z" } : Jvm.MethodName)) ∈ lw_all := lw_g (lw_at lw_m7 87 rfl) rfl
theorem q1614 : (Jvm.Cond.privateMethod ({ cls := "TwoWorldsModel", name := "isAtom", desc := "(II)Z" } : Jvm.MethodName)) ∈ lw_tbl := lw_at lw_m7 88 rfl
theorem q1615 : (Jvm.Cond.instanceMethod ({ cls := "TwoWorldsModel", name := "isAtom", desc := "(II)Z" } : Jvm.MethodName)) ∈ lw_all := lw_g (lw_at lw_m7 89 rfl) rfl
theorem q1616 : (Jvm.Cond.code ({ cls := "TwoWorldsModel", name := "isAtom", desc := "(II)Z" } : Jvm.MethodName) prog_19_method_67_code (4 : Nat) (Option.some Jvm.ClassFile.FieldType.boolean)) ∈ lw_all := lw_g (lw_at lw_m7 90 rfl) rfl
theorem q1617 : (Jvm.Cond.methodLink "TwoWorldsModel" (337 : Nat) ({ cls := "TwoWorldsModel", name := "nextAsked", desc := "(IIZ)I" } : Jvm.MethodName)) ∈ lw_all := lw_g (lw_at lw_m7 91 rfl) rfl
theorem q1618 : (Jvm.Cond.privateMethod ({ cls := "TwoWorldsModel", name := "nextAsked", desc := "(IIZ)I" } : Jvm.MethodName)) ∈ lw_tbl := lw_at lw_m7 92 rfl
theorem q1619 : (Jvm.Cond.instanceMethod ({ cls := "TwoWorldsModel", name := "nextAsked", desc := "(IIZ)I" } : Jvm.MethodName)) ∈ lw_all := lw_g (lw_at lw_m7 93 rfl) rfl
theorem q1620 : (Jvm.Cond.code ({ cls := "TwoWorldsModel", name := "nextAsked", desc := "(IIZ)I" } : Jvm.MethodName) prog_19_method_68_code (9 : Nat) (Option.some Jvm.ClassFile.FieldType.int)) ∈ lw_all := lw_g (lw_at lw_m7 94 rfl) rfl
theorem q1622 : (Jvm.Cond.instanceMethod ({ cls := "TwoWorldsModel", name := "asked", desc := "()I" } : Jvm.MethodName)) ∈ lw_all := lw_g (lw_at lw_m7 96 rfl) rfl
theorem q1623 : (Jvm.Cond.selects "TwoWorldsModel" ({ cls := "TwoWorldsModel", name := "asked", desc := "()I" } : Jvm.MethodName) ({ cls := "TwoWorldsModel", name := "asked", desc := "()I" } : Jvm.MethodName)) ∈ lw_all := lw_g (lw_at lw_m7 97 rfl) rfl
theorem q1624 : (Jvm.Cond.code ({ cls := "TwoWorldsModel", name := "asked", desc := "()I" } : Jvm.MethodName) prog_19_method_70_code (1 : Nat) (Option.some Jvm.ClassFile.FieldType.int)) ∈ lw_all := lw_g (lw_at lw_m7 98 rfl) rfl
theorem q1626 : (Jvm.Cond.instanceMethod ({ cls := "TwoWorldsModel", name := "part", desc := "(II)I" } : Jvm.MethodName)) ∈ lw_all := lw_g (lw_at lw_m7 100 rfl) rfl
theorem q1627 : (Jvm.Cond.selects "TwoWorldsModel" ({ cls := "TwoWorldsModel", name := "part", desc := "(II)I" } : Jvm.MethodName) ({ cls := "TwoWorldsModel", name := "part", desc := "(II)I" } : Jvm.MethodName)) ∈ lw_all := lw_g (lw_at lw_m7 101 rfl) rfl
theorem q1628 : (Jvm.Cond.code ({ cls := "TwoWorldsModel", name := "part", desc := "(II)I" } : Jvm.MethodName) prog_19_method_83_code (3 : Nat) (Option.some Jvm.ClassFile.FieldType.int)) ∈ lw_all := lw_g (lw_at lw_m7 102 rfl) rfl
theorem q1629 : (Jvm.Cond.methodLink "TwoWorldsModel" (377 : Nat) ({ cls := "TwoWorldsModel", name := "part3", desc := "()V" } : Jvm.MethodName)) ∈ lw_all := lw_g (lw_at lw_m7 103 rfl) rfl
theorem q1630 : (Jvm.Cond.privateMethod ({ cls := "TwoWorldsModel", name := "part3", desc := "()V" } : Jvm.MethodName)) ∈ lw_tbl := lw_at lw_m7 104 rfl
theorem q1631 : (Jvm.Cond.instanceMethod ({ cls := "TwoWorldsModel", name := "part3", desc := "()V" } : Jvm.MethodName)) ∈ lw_all := lw_g (lw_at lw_m7 105 rfl) rfl
theorem q1632 : (Jvm.Cond.code ({ cls := "TwoWorldsModel", name := "part3", desc := "()V" } : Jvm.MethodName) prog_19_method_82_code (7 : Nat) (Option.none : Option Jvm.ClassFile.FieldType)) ∈ lw_all := lw_g (lw_at lw_m7 106 rfl) rfl
theorem q1633 : (Jvm.Cond.methodLink "TwoWorldsModel" (374 : Nat) ({ cls := "TwoWorldsModel", name := "part2", desc := "()V" } : Jvm.MethodName)) ∈ lw_all := lw_g (lw_at lw_m7 107 rfl) rfl
theorem q1634 : (Jvm.Cond.privateMethod ({ cls := "TwoWorldsModel", name := "part2", desc := "()V" } : Jvm.MethodName)) ∈ lw_tbl := lw_at lw_m7 108 rfl
theorem q1635 : (Jvm.Cond.instanceMethod ({ cls := "TwoWorldsModel", name := "part2", desc := "()V" } : Jvm.MethodName)) ∈ lw_all := lw_g (lw_at lw_m7 109 rfl) rfl
theorem q1636 : (Jvm.Cond.code ({ cls := "TwoWorldsModel", name := "part2", desc := "()V" } : Jvm.MethodName) prog_19_method_81_code (7 : Nat) (Option.none : Option Jvm.ClassFile.FieldType)) ∈ lw_all := lw_g (lw_at lw_m7 110 rfl) rfl
theorem q1637 : (Jvm.Cond.methodLink "TwoWorldsModel" (371 : Nat) ({ cls := "TwoWorldsModel", name := "part1", desc := "()V" } : Jvm.MethodName)) ∈ lw_all := lw_g (lw_at lw_m7 111 rfl) rfl
theorem q1638 : (Jvm.Cond.privateMethod ({ cls := "TwoWorldsModel", name := "part1", desc := "()V" } : Jvm.MethodName)) ∈ lw_tbl := lw_at lw_m7 112 rfl
theorem q1639 : (Jvm.Cond.instanceMethod ({ cls := "TwoWorldsModel", name := "part1", desc := "()V" } : Jvm.MethodName)) ∈ lw_all := lw_g (lw_at lw_m7 113 rfl) rfl
theorem q1640 : (Jvm.Cond.code ({ cls := "TwoWorldsModel", name := "part1", desc := "()V" } : Jvm.MethodName) prog_19_method_80_code (6 : Nat) (Option.none : Option Jvm.ClassFile.FieldType)) ∈ lw_all := lw_g (lw_at lw_m7 114 rfl) rfl
theorem q1641 : (Jvm.Cond.methodLink "TwoWorldsModel" (353 : Nat) ({ cls := "TwoWorldsModel", name := "partAtom", desc := "()V" } : Jvm.MethodName)) ∈ lw_all := lw_g (lw_at lw_m7 115 rfl) rfl
theorem q1642 : (Jvm.Cond.privateMethod ({ cls := "TwoWorldsModel", name := "partAtom", desc := "()V" } : Jvm.MethodName)) ∈ lw_tbl := lw_at lw_m7 116 rfl
theorem q1643 : (Jvm.Cond.instanceMethod ({ cls := "TwoWorldsModel", name := "partAtom", desc := "()V" } : Jvm.MethodName)) ∈ lw_all := lw_g (lw_at lw_m7 117 rfl) rfl
theorem q1644 : (Jvm.Cond.code ({ cls := "TwoWorldsModel", name := "partAtom", desc := "()V" } : Jvm.MethodName) prog_19_method_72_code (3 : Nat) (Option.none : Option Jvm.ClassFile.FieldType)) ∈ lw_all := lw_g (lw_at lw_m7 118 rfl) rfl
theorem q1645 : (Jvm.Cond.methodLink "TwoWorldsModel" (344 : Nat) ({ cls := "TwoWorldsModel", name := "parts", desc := "(III)Z" } : Jvm.MethodName)) ∈ lw_all := lw_g (lw_at lw_m7 119 rfl) rfl
theorem q1646 : (Jvm.Cond.privateMethod ({ cls := "TwoWorldsModel", name := "parts", desc := "(III)Z" } : Jvm.MethodName)) ∈ lw_tbl := lw_at lw_m7 120 rfl
theorem q1647 : (Jvm.Cond.instanceMethod ({ cls := "TwoWorldsModel", name := "parts", desc := "(III)Z" } : Jvm.MethodName)) ∈ lw_all := lw_g (lw_at lw_m7 121 rfl) rfl
theorem q1648 : (Jvm.Cond.code ({ cls := "TwoWorldsModel", name := "parts", desc := "(III)Z" } : Jvm.MethodName) prog_19_method_71_code (6 : Nat) (Option.some Jvm.ClassFile.FieldType.boolean)) ∈ lw_all := lw_g (lw_at lw_m7 122 rfl) rfl
theorem q1649 : (Jvm.Cond.methodLink "TwoWorldsModel" (356 : Nat) ({ cls := "TwoWorldsModel", name := "winning", desc := "(I)I" } : Jvm.MethodName)) ∈ lw_all := lw_g (lw_at lw_m7 123 rfl) rfl
theorem q1650 : (Jvm.Cond.privateMethod ({ cls := "TwoWorldsModel", name := "winning", desc := "(I)I" } : Jvm.MethodName)) ∈ lw_tbl := lw_at lw_m7 124 rfl
theorem q1651 : (Jvm.Cond.instanceMethod ({ cls := "TwoWorldsModel", name := "winning", desc := "(I)I" } : Jvm.MethodName)) ∈ lw_all := lw_g (lw_at lw_m7 125 rfl) rfl
theorem q1652 : (Jvm.Cond.code ({ cls := "TwoWorldsModel", name := "winning", desc := "(I)I" } : Jvm.MethodName) prog_19_method_74_code (4 : Nat) (Option.some Jvm.ClassFile.FieldType.int)) ∈ lw_all := lw_g (lw_at lw_m7 126 rfl) rfl
theorem q1653 : (Jvm.Cond.methodLink "TwoWorldsModel" (359 : Nat) ({ cls := "TwoWorldsModel", name := "beginPick", desc := "(I)I" } : Jvm.MethodName)) ∈ lw_all := lw_g (lw_at lw_m7 127 rfl) rfl
theorem q1654 : (Jvm.Cond.privateMethod ({ cls := "TwoWorldsModel", name := "beginPick", desc := "(I)I" } : Jvm.MethodName)) ∈ lw_tbl := lw_at lw_m7 128 rfl
theorem q1655 : (Jvm.Cond.instanceMethod ({ cls := "TwoWorldsModel", name := "beginPick", desc := "(I)I" } : Jvm.MethodName)) ∈ lw_all := lw_g (lw_at lw_m7 129 rfl) rfl
theorem q1656 : (Jvm.Cond.code ({ cls := "TwoWorldsModel", name := "beginPick", desc := "(I)I" } : Jvm.MethodName) prog_19_method_78_code (2 : Nat) (Option.some Jvm.ClassFile.FieldType.int)) ∈ lw_all := lw_g (lw_at lw_m7 130 rfl) rfl
theorem q1657 : (Jvm.Cond.methodLink "TwoWorldsModel" (350 : Nat) ({ cls := "TwoWorldsModel", name := "swapRows", desc := "()V" } : Jvm.MethodName)) ∈ lw_all := lw_g (lw_at lw_m7 131 rfl) rfl
theorem q1658 : (Jvm.Cond.privateMethod ({ cls := "TwoWorldsModel", name := "swapRows", desc := "()V" } : Jvm.MethodName)) ∈ lw_tbl := lw_at lw_m7 132 rfl
theorem q1659 : (Jvm.Cond.instanceMethod ({ cls := "TwoWorldsModel", name := "swapRows", desc := "()V" } : Jvm.MethodName)) ∈ lw_all := lw_g (lw_at lw_m7 133 rfl) rfl
theorem q1660 : (Jvm.Cond.code ({ cls := "TwoWorldsModel", name := "swapRows", desc := "()V" } : Jvm.MethodName) prog_19_method_73_code (4 : Nat) (Option.none : Option Jvm.ClassFile.FieldType)) ∈ lw_all := lw_g (lw_at lw_m7 134 rfl) rfl
theorem q1661 : (Jvm.Cond.methodLink "TwoWorldsModel" (362 : Nat) ({ cls := "TwoWorldsModel", name := "keepUnlike", desc := "(III)I" } : Jvm.MethodName)) ∈ lw_all := lw_g (lw_at lw_m7 135 rfl) rfl
theorem q1662 : (Jvm.Cond.privateMethod ({ cls := "TwoWorldsModel", name := "keepUnlike", desc := "(III)I" } : Jvm.MethodName)) ∈ lw_tbl := lw_at lw_m7 136 rfl
theorem q1663 : (Jvm.Cond.instanceMethod ({ cls := "TwoWorldsModel", name := "keepUnlike", desc := "(III)I" } : Jvm.MethodName)) ∈ lw_all := lw_g (lw_at lw_m7 137 rfl) rfl
theorem q1664 : (Jvm.Cond.code ({ cls := "TwoWorldsModel", name := "keepUnlike", desc := "(III)I" } : Jvm.MethodName) prog_19_method_75_code (9 : Nat) (Option.some Jvm.ClassFile.FieldType.int)) ∈ lw_all := lw_g (lw_at lw_m7 138 rfl) rfl
theorem q1665 : (Jvm.Cond.methodLink "TwoWorldsModel" (347 : Nat) ({ cls := "TwoWorldsModel", name := "stops", desc := "(I)I" } : Jvm.MethodName)) ∈ lw_all := lw_g (lw_at lw_m7 139 rfl) rfl
theorem q1666 : (Jvm.Cond.privateMethod ({ cls := "TwoWorldsModel", name := "stops", desc := "(I)I" } : Jvm.MethodName)) ∈ lw_tbl := lw_at lw_m7 140 rfl
theorem q1667 : (Jvm.Cond.instanceMethod ({ cls := "TwoWorldsModel", name := "stops", desc := "(I)I" } : Jvm.MethodName)) ∈ lw_all := lw_g (lw_at lw_m7 141 rfl) rfl
theorem q1668 : (Jvm.Cond.code ({ cls := "TwoWorldsModel", name := "stops", desc := "(I)I" } : Jvm.MethodName) prog_19_method_76_code (5 : Nat) (Option.some Jvm.ClassFile.FieldType.int)) ∈ lw_all := lw_g (lw_at lw_m7 142 rfl) rfl
theorem q1669 : (Jvm.Cond.methodLink "TwoWorldsModel" (365 : Nat) ({ cls := "TwoWorldsModel", name := "closeParts", desc := "(II)V" } : Jvm.MethodName)) ∈ lw_all := lw_g (lw_at lw_m7 143 rfl) rfl
theorem q1670 : (Jvm.Cond.privateMethod ({ cls := "TwoWorldsModel", name := "closeParts", desc := "(II)V" } : Jvm.MethodName)) ∈ lw_tbl := lw_at lw_m7 144 rfl
theorem q1671 : (Jvm.Cond.instanceMethod ({ cls := "TwoWorldsModel", name := "closeParts", desc := "(II)V" } : Jvm.MethodName)) ∈ lw_all := lw_g (lw_at lw_m7 145 rfl) rfl
theorem q1672 : (Jvm.Cond.code ({ cls := "TwoWorldsModel", name := "closeParts", desc := "(II)V" } : Jvm.MethodName) prog_19_method_77_code (4 : Nat) (Option.none : Option Jvm.ClassFile.FieldType)) ∈ lw_all := lw_g (lw_at lw_m7 146 rfl) rfl
theorem q1673 : (Jvm.Cond.methodLink "TwoWorldsModel" (368 : Nat) ({ cls := "TwoWorldsModel", name := "endPick", desc := "(I)V" } : Jvm.MethodName)) ∈ lw_all := lw_g (lw_at lw_m7 147 rfl) rfl
theorem q1674 : (Jvm.Cond.privateMethod ({ cls := "TwoWorldsModel", name := "endPick", desc := "(I)V" } : Jvm.MethodName)) ∈ lw_tbl := lw_at lw_m7 148 rfl
theorem q1675 : (Jvm.Cond.instanceMethod ({ cls := "TwoWorldsModel", name := "endPick", desc := "(I)V" } : Jvm.MethodName)) ∈ lw_all := lw_g (lw_at lw_m7 149 rfl) rfl
theorem q1676 : (Jvm.Cond.code ({ cls := "TwoWorldsModel", name := "endPick", desc := "(I)V" } : Jvm.MethodName) prog_19_method_79_code (2 : Nat) (Option.none : Option Jvm.ClassFile.FieldType)) ∈ lw_all := lw_g (lw_at lw_m7 150 rfl) rfl
theorem q1678 : (Jvm.Cond.instanceMethod ({ cls := "TwoWorldsModel", name := "kinds", desc := "(III)I" } : Jvm.MethodName)) ∈ lw_all := lw_g (lw_at lw_m7 152 rfl) rfl
theorem q1679 : (Jvm.Cond.selects "TwoWorldsModel" ({ cls := "TwoWorldsModel", name := "kinds", desc := "(III)I" } : Jvm.MethodName) ({ cls := "TwoWorldsModel", name := "kinds", desc := "(III)I" } : Jvm.MethodName)) ∈ lw_all := lw_g (lw_at lw_m7 153 rfl) rfl
theorem q1680 : (Jvm.Cond.code ({ cls := "TwoWorldsModel", name := "kinds", desc := "(III)I" } : Jvm.MethodName) prog_19_method_84_code (9 : Nat) (Option.some Jvm.ClassFile.FieldType.int)) ∈ lw_all := lw_g (lw_at lw_m7 154 rfl) rfl
theorem q1682 : (Jvm.Cond.instanceMethod ({ cls := "TwoWorldsModel", name := "kind", desc := "(I)I" } : Jvm.MethodName)) ∈ lw_all := lw_g (lw_at lw_m7 156 rfl) rfl
theorem q1683 : (Jvm.Cond.selects "TwoWorldsModel" ({ cls := "TwoWorldsModel", name := "kind", desc := "(I)I" } : Jvm.MethodName) ({ cls := "TwoWorldsModel", name := "kind", desc := "(I)I" } : Jvm.MethodName)) ∈ lw_all := lw_g (lw_at lw_m7 157 rfl) rfl
theorem q1684 : (Jvm.Cond.code ({ cls := "TwoWorldsModel", name := "kind", desc := "(I)I" } : Jvm.MethodName) prog_19_method_85_code (2 : Nat) (Option.some Jvm.ClassFile.FieldType.int)) ∈ lw_all := lw_g (lw_at lw_m7 158 rfl) rfl
theorem q1686 : (Jvm.Cond.instanceMethod ({ cls := "TwoWorldsModel", name := "colour", desc := "(III)I" } : Jvm.MethodName)) ∈ lw_all := lw_g (lw_at lw_m7 160 rfl) rfl
theorem q1687 : (Jvm.Cond.selects "TwoWorldsModel" ({ cls := "TwoWorldsModel", name := "colour", desc := "(III)I" } : Jvm.MethodName) ({ cls := "TwoWorldsModel", name := "colour", desc := "(III)I" } : Jvm.MethodName)) ∈ lw_all := lw_g (lw_at lw_m7 161 rfl) rfl
theorem q1688 : (Jvm.Cond.code ({ cls := "TwoWorldsModel", name := "colour", desc := "(III)I" } : Jvm.MethodName) prog_19_method_93_code (6 : Nat) (Option.some Jvm.ClassFile.FieldType.int)) ∈ lw_all := lw_g (lw_at lw_m7 162 rfl) rfl
theorem q1689 : (Jvm.Cond.methodLink "TwoWorldsModel" (400 : Nat) ({ cls := "TwoWorldsModel", name := "layThings", desc := "(III)V" } : Jvm.MethodName)) ∈ lw_all := lw_g (lw_at lw_m7 163 rfl) rfl
theorem q1690 : (Jvm.Cond.privateMethod ({ cls := "TwoWorldsModel", name := "layThings", desc := "(III)V" } : Jvm.MethodName)) ∈ lw_tbl := lw_at lw_m7 164 rfl
theorem q1691 : (Jvm.Cond.instanceMethod ({ cls := "TwoWorldsModel", name := "layThings", desc := "(III)V" } : Jvm.MethodName)) ∈ lw_all := lw_g (lw_at lw_m7 165 rfl) rfl
theorem q1692 : (Jvm.Cond.code ({ cls := "TwoWorldsModel", name := "layThings", desc := "(III)V" } : Jvm.MethodName) prog_19_method_86_code (8 : Nat) (Option.none : Option Jvm.ClassFile.FieldType)) ∈ lw_all := lw_g (lw_at lw_m7 166 rfl) rfl
theorem q1693 : (Jvm.Cond.methodLink "TwoWorldsModel" (403 : Nat) ({ cls := "TwoWorldsModel", name := "step", desc := "(IIIZ)I" } : Jvm.MethodName)) ∈ lw_all := lw_g (lw_at lw_m7 167 rfl) rfl
theorem q1694 : (Jvm.Cond.privateMethod ({ cls := "TwoWorldsModel", name := "step", desc := "(IIIZ)I" } : Jvm.MethodName)) ∈ lw_tbl := lw_at lw_m7 168 rfl
theorem q1695 : (Jvm.Cond.instanceMethod ({ cls := "TwoWorldsModel", name := "step", desc := "(IIIZ)I" } : Jvm.MethodName)) ∈ lw_all := lw_g (lw_at lw_m7 169 rfl) rfl
theorem q1696 : (Jvm.Cond.code ({ cls := "TwoWorldsModel", name := "step", desc := "(IIIZ)I" } : Jvm.MethodName) prog_19_method_91_code (9 : Nat) (Option.some Jvm.ClassFile.FieldType.int)) ∈ lw_all := lw_g (lw_at lw_m7 170 rfl) rfl
theorem q1697 : (Jvm.Cond.methodLink "TwoWorldsModel" (389 : Nat) ({ cls := "TwoWorldsModel", name := "gather", desc := "(I)V" } : Jvm.MethodName)) ∈ lw_all := lw_g (lw_at lw_m7 171 rfl) rfl
theorem q1698 : (Jvm.Cond.privateMethod ({ cls := "TwoWorldsModel", name := "gather", desc := "(I)V" } : Jvm.MethodName)) ∈ lw_tbl := lw_at lw_m7 172 rfl
theorem q1699 : (Jvm.Cond.instanceMethod ({ cls := "TwoWorldsModel", name := "gather", desc := "(I)V" } : Jvm.MethodName)) ∈ lw_all := lw_g (lw_at lw_m7 173 rfl) rfl
theorem q1700 : (Jvm.Cond.code ({ cls := "TwoWorldsModel", name := "gather", desc := "(I)V" } : Jvm.MethodName) prog_19_method_89_code (7 : Nat) (Option.none : Option Jvm.ClassFile.FieldType)) ∈ lw_all := lw_g (lw_at lw_m7 174 rfl) rfl
theorem q1701 : (Jvm.Cond.methodLink "TwoWorldsModel" (392 : Nat) ({ cls := "TwoWorldsModel", name := "startsAlike", desc := "(IIII)Z" } : Jvm.MethodName)) ∈ lw_all := lw_g (lw_at lw_m7 175 rfl) rfl
theorem q1702 : (Jvm.Cond.privateMethod ({ cls := "TwoWorldsModel", name := "startsAlike", desc := "(IIII)Z" } : Jvm.MethodName)) ∈ lw_tbl := lw_at lw_m7 176 rfl
theorem q1703 : (Jvm.Cond.instanceMethod ({ cls := "TwoWorldsModel", name := "startsAlike", desc := "(IIII)Z" } : Jvm.MethodName)) ∈ lw_all := lw_g (lw_at lw_m7 177 rfl) rfl
theorem q1704 : (Jvm.Cond.code ({ cls := "TwoWorldsModel", name := "startsAlike", desc := "(IIII)Z" } : Jvm.MethodName) prog_19_method_87_code (5 : Nat) (Option.some Jvm.ClassFile.FieldType.boolean)) ∈ lw_all := lw_g (lw_at lw_m7 178 rfl) rfl
theorem q1705 : (Jvm.Cond.methodLink "TwoWorldsModel" (396 : Nat) ({ cls := "TwoWorldsModel", name := "staysWith", desc := "(IIIII)Z" } : Jvm.MethodName)) ∈ lw_all := lw_g (lw_at lw_m7 179 rfl) rfl
theorem q1706 : (Jvm.Cond.privateMethod ({ cls := "TwoWorldsModel", name := "staysWith", desc := "(IIIII)Z" } : Jvm.MethodName)) ∈ lw_tbl := lw_at lw_m7 180 rfl
theorem q1707 : (Jvm.Cond.instanceMethod ({ cls := "TwoWorldsModel", name := "staysWith", desc := "(IIIII)Z" } : Jvm.MethodName)) ∈ lw_all := lw_g (lw_at lw_m7 181 rfl) rfl
theorem q1708 : (Jvm.Cond.code ({ cls := "TwoWorldsModel", name := "staysWith", desc := "(IIIII)Z" } : Jvm.MethodName) prog_19_method_90_code (8 : Nat) (Option.some Jvm.ClassFile.FieldType.boolean)) ∈ lw_all := lw_g (lw_at lw_m7 182 rfl) rfl
theorem q1709 : (Jvm.Cond.methodLink "TwoWorldsModel" (386 : Nat) ({ cls := "TwoWorldsModel", name := "tiedOf", desc := "(III)I" } : Jvm.MethodName)) ∈ lw_all := lw_g (lw_at lw_m7 183 rfl) rfl
theorem q1710 : (Jvm.Cond.privateMethod ({ cls := "TwoWorldsModel", name := "tiedOf", desc := "(III)I" } : Jvm.MethodName)) ∈ lw_tbl := lw_at lw_m7 184 rfl
theorem q1711 : (Jvm.Cond.instanceMethod ({ cls := "TwoWorldsModel", name := "tiedOf", desc := "(III)I" } : Jvm.MethodName)) ∈ lw_all := lw_g (lw_at lw_m7 185 rfl) rfl
theorem q1712 : (Jvm.Cond.code ({ cls := "TwoWorldsModel", name := "tiedOf", desc := "(III)I" } : Jvm.MethodName) prog_19_method_88_code (6 : Nat) (Option.some Jvm.ClassFile.FieldType.int)) ∈ lw_all := lw_g (lw_at lw_m7 186 rfl) rfl
theorem q1713 : (Jvm.Cond.methodLink "TwoWorldsModel" (410 : Nat) ({ cls := "TwoWorldsModel", name := "areBalanced", desc := "()Z" } : Jvm.MethodName)) ∈ lw_all := lw_g (lw_at lw_m7 187 rfl) rfl
theorem q1714 : (Jvm.Cond.privateMethod ({ cls := "TwoWorldsModel", name := "areBalanced", desc := "()Z" } : Jvm.MethodName)) ∈ lw_tbl := lw_at lw_m7 188 rfl
theorem q1715 : (Jvm.Cond.instanceMethod ({ cls := "TwoWorldsModel", name := "areBalanced", desc := "()Z" } : Jvm.MethodName)) ∈ lw_all := lw_g (lw_at lw_m7 189 rfl) rfl
theorem q1716 : (Jvm.Cond.code ({ cls := "TwoWorldsModel", name := "areBalanced", desc := "()Z" } : Jvm.MethodName) prog_19_method_92_code (5 : Nat) (Option.some Jvm.ClassFile.FieldType.boolean)) ∈ lw_all := lw_g (lw_at lw_m7 190 rfl) rfl
theorem q1718 : (Jvm.Cond.instanceMethod ({ cls := "TwoWorldsModel", name := "coloured", desc := "(I)I" } : Jvm.MethodName)) ∈ lw_all := lw_g (lw_at lw_m7 192 rfl) rfl
theorem q1719 : (Jvm.Cond.selects "TwoWorldsModel" ({ cls := "TwoWorldsModel", name := "coloured", desc := "(I)I" } : Jvm.MethodName) ({ cls := "TwoWorldsModel", name := "coloured", desc := "(I)I" } : Jvm.MethodName)) ∈ lw_all := lw_g (lw_at lw_m7 193 rfl) rfl
theorem q1720 : (Jvm.Cond.code ({ cls := "TwoWorldsModel", name := "coloured", desc := "(I)I" } : Jvm.MethodName) prog_19_method_94_code (2 : Nat) (Option.some Jvm.ClassFile.FieldType.int)) ∈ lw_all := lw_g (lw_at lw_m7 194 rfl) rfl
theorem q1722 : (Jvm.Cond.instanceMethod ({ cls := "TwoWorldsModel", name := "still", desc := "(I)I" } : Jvm.MethodName)) ∈ lw_all := lw_g (lw_at lw_m7 196 rfl) rfl
theorem q1723 : (Jvm.Cond.selects "TwoWorldsModel" ({ cls := "TwoWorldsModel", name := "still", desc := "(I)I" } : Jvm.MethodName) ({ cls := "TwoWorldsModel", name := "still", desc := "(I)I" } : Jvm.MethodName)) ∈ lw_all := lw_g (lw_at lw_m7 197 rfl) rfl
theorem q1724 : (Jvm.Cond.code ({ cls := "TwoWorldsModel", name := "still", desc := "(I)I" } : Jvm.MethodName) prog_19_method_95_code (2 : Nat) (Option.some Jvm.ClassFile.FieldType.int)) ∈ lw_all := lw_g (lw_at lw_m7 198 rfl) rfl
theorem q1726 : (Jvm.Cond.instanceMethod ({ cls := "TwoWorldsModel", name := "told", desc := "(I)I" } : Jvm.MethodName)) ∈ lw_all := lw_g (lw_at lw_m7 200 rfl) rfl
theorem q1727 : (Jvm.Cond.selects "TwoWorldsModel" ({ cls := "TwoWorldsModel", name := "told", desc := "(I)I" } : Jvm.MethodName) ({ cls := "TwoWorldsModel", name := "told", desc := "(I)I" } : Jvm.MethodName)) ∈ lw_all := lw_g (lw_at lw_m7 201 rfl) rfl
theorem q1728 : (Jvm.Cond.code ({ cls := "TwoWorldsModel", name := "told", desc := "(I)I" } : Jvm.MethodName) prog_19_method_96_code (4 : Nat) (Option.some Jvm.ClassFile.FieldType.int)) ∈ lw_all := lw_g (lw_at lw_m7 202 rfl) rfl
theorem q1740 : (Jvm.Cond.castable "TwoWorldsModel" "java/lang/Object") ∈ lw_tbl := lw_at lw_m7 214 rfl
theorem in_X1 : ∀ w ∈ wsX10, w ∈ lw_all := lw_in wsX10 [1223, 1225, 1227, 1229, 1231, 1233, 1235, 1237, 1239, 1241, 1243, 1245, 1247, 1249, 1251, 1253, 1255, 1257, 1259, 1261, 1263, 1265, 1267, 1269, 1271, 1273, 1275, 1277, 1279, 1281, 1283, 1285, 1287, 1289, 1291, 1293, 1295, 1297, 1299, 1301, 1303, 1305, 1307, 1309, 1311, 1313, 1315, 1317, 1319, 1321, 1323, 1325, 1327, 1329, 1331, 1333, 1335, 1337, 1339, 1341, 1343, 1345, 1347, 1349] (by decide +kernel) (by decide +kernel)
def RX2 : String := "TwoWorlds$World"
def TX2 : u_T := fun k => match k with
  | 0 => ("TwoWorlds$World", "n", "I", true)
  | 1 => ("TwoWorlds$World", "marks", "[I", true)
  | _ => ("TwoWorlds$World", "ties", "[Z", true)
def tyX2 : Nat → FieldType := fun k => match k with
  | 0 => .int
  | 1 => .array .int
  | _ => .array .boolean
abbrev wsX20 : List Cond := u_ws RX2 TX2 3
theorem nmX2 : ∀ a, a < 3 → ∀ b, b < 3 → a ≠ b → (TX2 a).2.1 ≠ (TX2 b).2.1 := by decide +kernel
theorem tyX2_ok : ∀ k, k < 3 → parseFieldDescriptor (TX2 k).2.2.1 = some (tyX2 k) := by decide +kernel
abbrev cX2_init : ByteArray := prog_16_method_1_code
abbrev yX2_init : MethodName := ⟨RX2, "<init>", "(I)V"⟩
abbrev cX2_isThing : ByteArray := prog_16_method_2_code
abbrev yX2_isThing : MethodName := ⟨RX2, "isThing", "(I)Z"⟩
abbrev cX2_isTied : ByteArray := prog_16_method_3_code
abbrev yX2_isTied : MethodName := ⟨RX2, "isTied", "(II)Z"⟩
abbrev cX2_take : ByteArray := prog_16_method_4_code
abbrev yX2_take : MethodName := ⟨RX2, "take", "(LTwoWorlds$World;[I)V"⟩
theorem q92 : (Jvm.Cond.initialized "TwoWorlds$World") ∈ lw_all := lw_g (lw_at lw_m1 6 rfl) rfl
theorem q206 : (Jvm.Cond.instantiable "TwoWorlds$World" (3 : Nat)) ∈ lw_all := lw_g (lw_at lw_m1 120 rfl) rfl
theorem q208 : (Jvm.Cond.instanceMethod ({ cls := "TwoWorlds$World", name := "<init>", desc := "(I)V" } : Jvm.MethodName)) ∈ lw_all := lw_g (lw_at lw_m1 122 rfl) rfl
theorem q209 : (Jvm.Cond.code ({ cls := "TwoWorlds$World", name := "<init>", desc := "(I)V" } : Jvm.MethodName) prog_16_method_1_code (2 : Nat) (Option.none : Option Jvm.ClassFile.FieldType)) ∈ lw_all := lw_g (lw_at lw_m1 123 rfl) rfl
theorem q210 : (Jvm.Cond.methodLink "TwoWorlds$World" (3 : Nat) ({ cls := "java/lang/Object", name := "<init>", desc := "()V" } : Jvm.MethodName)) ∈ lw_all := lw_g (lw_at lw_m1 124 rfl) rfl
theorem q213 : (Jvm.Cond.fieldLink "TwoWorlds$World" (19 : Nat) "TwoWorlds$World" "n" "I") ∈ lw_all := lw_g (lw_at lw_m1 127 rfl) rfl
theorem q217 : (Jvm.Cond.fieldLink "TwoWorlds$World" (9 : Nat) "TwoWorlds$World" "marks" "[I") ∈ lw_all := lw_g (lw_at lw_m1 131 rfl) rfl
theorem q222 : (Jvm.Cond.fieldLink "TwoWorlds$World" (15 : Nat) "TwoWorlds$World" "ties" "[Z") ∈ lw_all := lw_g (lw_at lw_m1 136 rfl) rfl
theorem q224 : (Jvm.Cond.laysFinal "TwoWorlds$World" "TwoWorlds$World" "n" "I") ∈ lw_all := lw_g (lw_at lw_m1 138 rfl) rfl
theorem q225 : (Jvm.Cond.soleField "TwoWorlds$World" "n") ∈ lw_all := lw_g (lw_at lw_m1 139 rfl) rfl
theorem q226 : (Jvm.Cond.laysFinal "TwoWorlds$World" "TwoWorlds$World" "marks" "[I") ∈ lw_all := lw_g (lw_at lw_m1 140 rfl) rfl
theorem q227 : (Jvm.Cond.soleField "TwoWorlds$World" "marks") ∈ lw_all := lw_g (lw_at lw_m1 141 rfl) rfl
theorem q228 : (Jvm.Cond.laysFinal "TwoWorlds$World" "TwoWorlds$World" "ties" "[Z") ∈ lw_all := lw_g (lw_at lw_m1 142 rfl) rfl
theorem q229 : (Jvm.Cond.soleField "TwoWorlds$World" "ties") ∈ lw_all := lw_g (lw_at lw_m1 143 rfl) rfl
theorem q230 : (Jvm.Cond.superclass "TwoWorlds$World" "java/lang/Object") ∈ lw_all := lw_g (lw_at lw_m1 144 rfl) rfl
theorem q245 : (Jvm.Cond.instanceMethod ({ cls := "TwoWorlds$World", name := "isThing", desc := "(I)Z" } : Jvm.MethodName)) ∈ lw_all := lw_g (lw_at lw_m1 159 rfl) rfl
theorem q246 : (Jvm.Cond.selects "TwoWorlds$World" ({ cls := "TwoWorlds$World", name := "isThing", desc := "(I)Z" } : Jvm.MethodName) ({ cls := "TwoWorlds$World", name := "isThing", desc := "(I)Z" } : Jvm.MethodName)) ∈ lw_all := lw_g (lw_at lw_m1 160 rfl) rfl
theorem q247 : (Jvm.Cond.code ({ cls := "TwoWorlds$World", name := "isThing", desc := "(I)Z" } : Jvm.MethodName) prog_16_method_2_code (2 : Nat) (Option.some Jvm.ClassFile.FieldType.boolean)) ∈ lw_all := lw_g (lw_at lw_m1 161 rfl) rfl
theorem q248 : (Jvm.Cond.methodLinkNest "TwoWorlds$World" (23 : Nat) ({ cls := "TwoWorlds", name := "isIn", desc := "(JJJ)Z" } : Jvm.MethodName) "TwoWorlds") ∈ lw_tbl := lw_at lw_m1 162 rfl
theorem q254 : (Jvm.Cond.instanceMethod ({ cls := "TwoWorlds$World", name := "isTied", desc := "(II)Z" } : Jvm.MethodName)) ∈ lw_all := lw_g (lw_at lw_m1 168 rfl) rfl
theorem q255 : (Jvm.Cond.selects "TwoWorlds$World" ({ cls := "TwoWorlds$World", name := "isTied", desc := "(II)Z" } : Jvm.MethodName) ({ cls := "TwoWorlds$World", name := "isTied", desc := "(II)Z" } : Jvm.MethodName)) ∈ lw_all := lw_g (lw_at lw_m1 169 rfl) rfl
theorem q256 : (Jvm.Cond.code ({ cls := "TwoWorlds$World", name := "isTied", desc := "(II)Z" } : Jvm.MethodName) prog_16_method_3_code (3 : Nat) (Option.some Jvm.ClassFile.FieldType.boolean)) ∈ lw_all := lw_g (lw_at lw_m1 170 rfl) rfl
theorem q262 : (Jvm.Cond.instanceMethod ({ cls := "TwoWorlds$World", name := "take", desc := "(LTwoWorlds$World;[I)V" } : Jvm.MethodName)) ∈ lw_all := lw_g (lw_at lw_m1 176 rfl) rfl
theorem q263 : (Jvm.Cond.selects "TwoWorlds$World" ({ cls := "TwoWorlds$World", name := "take", desc := "(LTwoWorlds$World;[I)V" } : Jvm.MethodName) ({ cls := "TwoWorlds$World", name := "take", desc := "(LTwoWorlds$World;[I)V" } : Jvm.MethodName)) ∈ lw_all := lw_g (lw_at lw_m1 177 rfl) rfl
theorem q264 : (Jvm.Cond.code ({ cls := "TwoWorlds$World", name := "take", desc := "(LTwoWorlds$World;[I)V" } : Jvm.MethodName) prog_16_method_4_code (5 : Nat) (Option.none : Option Jvm.ClassFile.FieldType)) ∈ lw_all := lw_g (lw_at lw_m1 178 rfl) rfl
theorem q265 : (Jvm.Cond.methodLink "TwoWorlds$World" (27 : Nat) ({ cls := "TwoWorlds$World", name := "isTied", desc := "(II)Z" } : Jvm.MethodName)) ∈ lw_all := lw_g (lw_at lw_m1 179 rfl) rfl
theorem q635 : (Jvm.Cond.selects "TwoWorlds$World" ({ cls := "java/lang/Object", name := "getClass", desc := "()Ljava/lang/Class;" } : Jvm.MethodName) ({ cls := "java/lang/Object", name := "getClass", desc := "()Ljava/lang/Class;" } : Jvm.MethodName)) ∈ lw_all := lw_g (lw_at lw_m3 69 rfl) rfl
theorem q1737 : (Jvm.Cond.castable "TwoWorlds$World" "java/lang/Object") ∈ lw_tbl := lw_at lw_m7 211 rfl
theorem in_X2 : ∀ w ∈ wsX20, w ∈ lw_all := lw_in wsX20 [224, 226, 228] (by decide +kernel) (by decide +kernel)
def RX3 : String := "TwoWorlds$Match"
def TX3 : u_T := fun k => match k with
  | 0 => ("TwoWorlds$Match", "sides", "[LTwoWorlds$World;", true)
  | 1 => ("TwoWorlds$Match", "rows", "[I", true)
  | _ => ("TwoWorlds$Match", "size", "I", false)
def tyX3 : Nat → FieldType := fun k => match k with
  | 0 => .array (.object "TwoWorlds$World")
  | 1 => .array .int
  | _ => .int
abbrev wsX30 : List Cond := u_ws RX3 TX3 3
theorem nmX3 : ∀ a, a < 3 → ∀ b, b < 3 → a ≠ b → (TX3 a).2.1 ≠ (TX3 b).2.1 := by decide +kernel
theorem tyX3_ok : ∀ k, k < 3 → parseFieldDescriptor (TX3 k).2.2.1 = some (tyX3 k) := by decide +kernel
abbrev cX3_init : ByteArray := prog_9_method_1_code
abbrev yX3_init : MethodName := ⟨RX3, "<init>", "(LTwoWorlds$World;LTwoWorlds$World;)V"⟩
abbrev cX3_isKept : ByteArray := prog_9_method_9_code
abbrev yX3_isKept : MethodName := ⟨RX3, "isKept", "(I)Z"⟩
abbrev cX3_wins : ByteArray := prog_9_method_12_code
abbrev yX3_wins : MethodName := ⟨RX3, "wins", "(II)Z"⟩
abbrev cX3_sideOf : ByteArray := prog_9_method_10_code
abbrev yX3_sideOf : MethodName := ⟨RX3, "sideOf", "(I)I"⟩
abbrev cX3_thingOf : ByteArray := prog_9_method_11_code
abbrev yX3_thingOf : MethodName := ⟨RX3, "thingOf", "(I)I"⟩
abbrev cX3_isGood : ByteArray := prog_9_method_13_code
abbrev yX3_isGood : MethodName := ⟨RX3, "isGood", "(IIII)Z"⟩
abbrev cX3_push : ByteArray := prog_9_method_3_code
abbrev yX3_push : MethodName := ⟨RX3, "push", "(III)V"⟩
abbrev cX3_isLastAlike : ByteArray := prog_9_method_8_code
abbrev yX3_isLastAlike : MethodName := ⟨RX3, "isLastAlike", "()Z"⟩
abbrev cX3_marks : ByteArray := prog_9_method_7_code
abbrev yX3_marks : MethodName := ⟨RX3, "marks", "(II)I"⟩
abbrev cX3_at : ByteArray := prog_9_method_2_code
abbrev yX3_at : MethodName := ⟨RX3, "at", "(II)I"⟩
abbrev cX3_isOne : ByteArray := prog_9_method_5_code
abbrev yX3_isOne : MethodName := ⟨RX3, "isOne", "(III)Z"⟩
abbrev cX3_isTied : ByteArray := prog_9_method_6_code
abbrev yX3_isTied : MethodName := ⟨RX3, "isTied", "(III)Z"⟩
abbrev cX3_pop : ByteArray := prog_9_method_4_code
abbrev yX3_pop : MethodName := ⟨RX3, "pop", "()V"⟩
theorem q93 : (Jvm.Cond.initialized "TwoWorlds$Match") ∈ lw_all := lw_g (lw_at lw_m1 7 rfl) rfl
theorem q215 : (Jvm.Cond.fieldLinkNest "TwoWorlds$Match" (42 : Nat) "TwoWorlds$World" "n" "I" "TwoWorlds") ∈ lw_tbl := lw_at lw_m1 129 rfl
theorem q220 : (Jvm.Cond.fieldLinkNest "TwoWorlds$Match" (31 : Nat) "TwoWorlds$World" "marks" "[I" "TwoWorlds") ∈ lw_tbl := lw_at lw_m1 134 rfl
theorem q290 : (Jvm.Cond.instantiable "TwoWorlds$Match" (3 : Nat)) ∈ lw_all := lw_g (lw_at lw_m1 204 rfl) rfl
theorem q292 : (Jvm.Cond.instanceMethod ({ cls := "TwoWorlds$Match", name := "<init>", desc := "(LTwoWorlds$World;LTwoWorlds$World;)V" } : Jvm.MethodName)) ∈ lw_all := lw_g (lw_at lw_m1 206 rfl) rfl
theorem q293 : (Jvm.Cond.code ({ cls := "TwoWorlds$Match", name := "<init>", desc := "(LTwoWorlds$World;LTwoWorlds$World;)V" } : Jvm.MethodName) prog_9_method_1_code (3 : Nat) (Option.none : Option Jvm.ClassFile.FieldType)) ∈ lw_all := lw_g (lw_at lw_m1 207 rfl) rfl
theorem q294 : (Jvm.Cond.methodLink "TwoWorlds$Match" (1 : Nat) ({ cls := "java/lang/Object", name := "<init>", desc := "()V" } : Jvm.MethodName)) ∈ lw_all := lw_g (lw_at lw_m1 208 rfl) rfl
theorem q295 : (Jvm.Cond.classLink "TwoWorlds$Match" (13 : Nat) "TwoWorlds$World") ∈ lw_all := lw_g (lw_at lw_m1 209 rfl) rfl
theorem q296 : (Jvm.Cond.fieldLink "TwoWorlds$Match" (15 : Nat) "TwoWorlds$Match" "sides" "[LTwoWorlds$World;") ∈ lw_all := lw_g (lw_at lw_m1 210 rfl) rfl
theorem q298 : (Jvm.Cond.fieldLink "TwoWorlds$Match" (7 : Nat) "TwoWorlds$Match" "rows" "[I") ∈ lw_all := lw_g (lw_at lw_m1 212 rfl) rfl
theorem q299 : (Jvm.Cond.fieldLink "TwoWorlds$Match" (19 : Nat) "TwoWorlds$Match" "size" "I") ∈ lw_all := lw_g (lw_at lw_m1 213 rfl) rfl
theorem q301 : (Jvm.Cond.laysFinal "TwoWorlds$Match" "TwoWorlds$Match" "sides" "[LTwoWorlds$World;") ∈ lw_all := lw_g (lw_at lw_m1 215 rfl) rfl
theorem q302 : (Jvm.Cond.soleField "TwoWorlds$Match" "sides") ∈ lw_all := lw_g (lw_at lw_m1 216 rfl) rfl
theorem q303 : (Jvm.Cond.laysFinal "TwoWorlds$Match" "TwoWorlds$Match" "rows" "[I") ∈ lw_all := lw_g (lw_at lw_m1 217 rfl) rfl
theorem q304 : (Jvm.Cond.soleField "TwoWorlds$Match" "rows") ∈ lw_all := lw_g (lw_at lw_m1 218 rfl) rfl
theorem q305 : (Jvm.Cond.lays "TwoWorlds$Match" "TwoWorlds$Match" "size" "I") ∈ lw_all := lw_g (lw_at lw_m1 219 rfl) rfl
theorem q306 : (Jvm.Cond.soleField "TwoWorlds$Match" "size") ∈ lw_all := lw_g (lw_at lw_m1 220 rfl) rfl
theorem q307 : (Jvm.Cond.superclass "TwoWorlds$Match" "java/lang/Object") ∈ lw_all := lw_g (lw_at lw_m1 221 rfl) rfl
theorem q309 : (Jvm.Cond.instanceMethod ({ cls := "TwoWorlds$Match", name := "isKept", desc := "(I)Z" } : Jvm.MethodName)) ∈ lw_all := lw_g (lw_at lw_m1 223 rfl) rfl
theorem q310 : (Jvm.Cond.selects "TwoWorlds$Match" ({ cls := "TwoWorlds$Match", name := "isKept", desc := "(I)Z" } : Jvm.MethodName) ({ cls := "TwoWorlds$Match", name := "isKept", desc := "(I)Z" } : Jvm.MethodName)) ∈ lw_all := lw_g (lw_at lw_m1 224 rfl) rfl
theorem q311 : (Jvm.Cond.code ({ cls := "TwoWorlds$Match", name := "isKept", desc := "(I)Z" } : Jvm.MethodName) prog_9_method_9_code (4 : Nat) (Option.some Jvm.ClassFile.FieldType.boolean)) ∈ lw_all := lw_g (lw_at lw_m1 225 rfl) rfl
theorem q312 : (Jvm.Cond.methodLink "TwoWorlds$Match" (45 : Nat) ({ cls := "TwoWorlds$Match", name := "wins", desc := "(II)Z" } : Jvm.MethodName)) ∈ lw_all := lw_g (lw_at lw_m1 226 rfl) rfl
theorem q313 : (Jvm.Cond.instanceMethod ({ cls := "TwoWorlds$Match", name := "wins", desc := "(II)Z" } : Jvm.MethodName)) ∈ lw_all := lw_g (lw_at lw_m1 227 rfl) rfl
theorem q314 : (Jvm.Cond.selects "TwoWorlds$Match" ({ cls := "TwoWorlds$Match", name := "wins", desc := "(II)Z" } : Jvm.MethodName) ({ cls := "TwoWorlds$Match", name := "wins", desc := "(II)Z" } : Jvm.MethodName)) ∈ lw_all := lw_g (lw_at lw_m1 228 rfl) rfl
theorem q315 : (Jvm.Cond.code ({ cls := "TwoWorlds$Match", name := "wins", desc := "(II)Z" } : Jvm.MethodName) prog_9_method_12_code (6 : Nat) (Option.some Jvm.ClassFile.FieldType.boolean)) ∈ lw_all := lw_g (lw_at lw_m1 229 rfl) rfl
theorem q316 : (Jvm.Cond.methodLink "TwoWorlds$Match" (48 : Nat) ({ cls := "TwoWorlds$Match", name := "sideOf", desc := "(I)I" } : Jvm.MethodName)) ∈ lw_all := lw_g (lw_at lw_m1 230 rfl) rfl
theorem q317 : (Jvm.Cond.instanceMethod ({ cls := "TwoWorlds$Match", name := "sideOf", desc := "(I)I" } : Jvm.MethodName)) ∈ lw_all := lw_g (lw_at lw_m1 231 rfl) rfl
theorem q318 : (Jvm.Cond.selects "TwoWorlds$Match" ({ cls := "TwoWorlds$Match", name := "sideOf", desc := "(I)I" } : Jvm.MethodName) ({ cls := "TwoWorlds$Match", name := "sideOf", desc := "(I)I" } : Jvm.MethodName)) ∈ lw_all := lw_g (lw_at lw_m1 232 rfl) rfl
theorem q319 : (Jvm.Cond.code ({ cls := "TwoWorlds$Match", name := "sideOf", desc := "(I)I" } : Jvm.MethodName) prog_9_method_10_code (2 : Nat) (Option.some Jvm.ClassFile.FieldType.int)) ∈ lw_all := lw_g (lw_at lw_m1 233 rfl) rfl
theorem q320 : (Jvm.Cond.methodLink "TwoWorlds$Match" (52 : Nat) ({ cls := "TwoWorlds$Match", name := "thingOf", desc := "(I)I" } : Jvm.MethodName)) ∈ lw_all := lw_g (lw_at lw_m1 234 rfl) rfl
theorem q321 : (Jvm.Cond.instanceMethod ({ cls := "TwoWorlds$Match", name := "thingOf", desc := "(I)I" } : Jvm.MethodName)) ∈ lw_all := lw_g (lw_at lw_m1 235 rfl) rfl
theorem q322 : (Jvm.Cond.selects "TwoWorlds$Match" ({ cls := "TwoWorlds$Match", name := "thingOf", desc := "(I)I" } : Jvm.MethodName) ({ cls := "TwoWorlds$Match", name := "thingOf", desc := "(I)I" } : Jvm.MethodName)) ∈ lw_all := lw_g (lw_at lw_m1 236 rfl) rfl
theorem q323 : (Jvm.Cond.code ({ cls := "TwoWorlds$Match", name := "thingOf", desc := "(I)I" } : Jvm.MethodName) prog_9_method_11_code (2 : Nat) (Option.some Jvm.ClassFile.FieldType.int)) ∈ lw_all := lw_g (lw_at lw_m1 237 rfl) rfl
theorem q324 : (Jvm.Cond.methodLink "TwoWorlds$Match" (55 : Nat) ({ cls := "TwoWorlds$Match", name := "isGood", desc := "(IIII)Z" } : Jvm.MethodName)) ∈ lw_all := lw_g (lw_at lw_m1 238 rfl) rfl
theorem q325 : (Jvm.Cond.instanceMethod ({ cls := "TwoWorlds$Match", name := "isGood", desc := "(IIII)Z" } : Jvm.MethodName)) ∈ lw_all := lw_g (lw_at lw_m1 239 rfl) rfl
theorem q326 : (Jvm.Cond.selects "TwoWorlds$Match" ({ cls := "TwoWorlds$Match", name := "isGood", desc := "(IIII)Z" } : Jvm.MethodName) ({ cls := "TwoWorlds$Match", name := "isGood", desc := "(IIII)Z" } : Jvm.MethodName)) ∈ lw_all := lw_g (lw_at lw_m2 0 rfl) rfl
theorem q327 : (Jvm.Cond.code ({ cls := "TwoWorlds$Match", name := "isGood", desc := "(IIII)Z" } : Jvm.MethodName) prog_9_method_13_code (6 : Nat) (Option.some Jvm.ClassFile.FieldType.boolean)) ∈ lw_all := lw_g (lw_at lw_m2 1 rfl) rfl
theorem q328 : (Jvm.Cond.methodLink "TwoWorlds$Match" (59 : Nat) ({ cls := "TwoWorlds$Match", name := "push", desc := "(III)V" } : Jvm.MethodName)) ∈ lw_all := lw_g (lw_at lw_m2 2 rfl) rfl
theorem q329 : (Jvm.Cond.instanceMethod ({ cls := "TwoWorlds$Match", name := "push", desc := "(III)V" } : Jvm.MethodName)) ∈ lw_all := lw_g (lw_at lw_m2 3 rfl) rfl
theorem q330 : (Jvm.Cond.selects "TwoWorlds$Match" ({ cls := "TwoWorlds$Match", name := "push", desc := "(III)V" } : Jvm.MethodName) ({ cls := "TwoWorlds$Match", name := "push", desc := "(III)V" } : Jvm.MethodName)) ∈ lw_all := lw_g (lw_at lw_m2 4 rfl) rfl
theorem q331 : (Jvm.Cond.code ({ cls := "TwoWorlds$Match", name := "push", desc := "(III)V" } : Jvm.MethodName) prog_9_method_3_code (4 : Nat) (Option.none : Option Jvm.ClassFile.FieldType)) ∈ lw_all := lw_g (lw_at lw_m2 5 rfl) rfl
theorem q332 : (Jvm.Cond.methodLink "TwoWorlds$Match" (63 : Nat) ({ cls := "TwoWorlds$Match", name := "isLastAlike", desc := "()Z" } : Jvm.MethodName)) ∈ lw_all := lw_g (lw_at lw_m2 6 rfl) rfl
theorem q333 : (Jvm.Cond.instanceMethod ({ cls := "TwoWorlds$Match", name := "isLastAlike", desc := "()Z" } : Jvm.MethodName)) ∈ lw_all := lw_g (lw_at lw_m2 7 rfl) rfl
theorem q334 : (Jvm.Cond.selects "TwoWorlds$Match" ({ cls := "TwoWorlds$Match", name := "isLastAlike", desc := "()Z" } : Jvm.MethodName) ({ cls := "TwoWorlds$Match", name := "isLastAlike", desc := "()Z" } : Jvm.MethodName)) ∈ lw_all := lw_g (lw_at lw_m2 8 rfl) rfl
theorem q335 : (Jvm.Cond.code ({ cls := "TwoWorlds$Match", name := "isLastAlike", desc := "()Z" } : Jvm.MethodName) prog_9_method_8_code (4 : Nat) (Option.some Jvm.ClassFile.FieldType.boolean)) ∈ lw_all := lw_g (lw_at lw_m2 9 rfl) rfl
theorem q336 : (Jvm.Cond.methodLink "TwoWorlds$Match" (34 : Nat) ({ cls := "TwoWorlds$Match", name := "marks", desc := "(II)I" } : Jvm.MethodName)) ∈ lw_all := lw_g (lw_at lw_m2 10 rfl) rfl
theorem q337 : (Jvm.Cond.privateMethod ({ cls := "TwoWorlds$Match", name := "marks", desc := "(II)I" } : Jvm.MethodName)) ∈ lw_tbl := lw_at lw_m2 11 rfl
theorem q338 : (Jvm.Cond.instanceMethod ({ cls := "TwoWorlds$Match", name := "marks", desc := "(II)I" } : Jvm.MethodName)) ∈ lw_all := lw_g (lw_at lw_m2 12 rfl) rfl
theorem q339 : (Jvm.Cond.code ({ cls := "TwoWorlds$Match", name := "marks", desc := "(II)I" } : Jvm.MethodName) prog_9_method_7_code (3 : Nat) (Option.some Jvm.ClassFile.FieldType.int)) ∈ lw_all := lw_g (lw_at lw_m2 13 rfl) rfl
theorem q340 : (Jvm.Cond.methodLink "TwoWorlds$Match" (23 : Nat) ({ cls := "TwoWorlds$Match", name := "at", desc := "(II)I" } : Jvm.MethodName)) ∈ lw_all := lw_g (lw_at lw_m2 14 rfl) rfl
theorem q341 : (Jvm.Cond.instanceMethod ({ cls := "TwoWorlds$Match", name := "at", desc := "(II)I" } : Jvm.MethodName)) ∈ lw_all := lw_g (lw_at lw_m2 15 rfl) rfl
theorem q342 : (Jvm.Cond.selects "TwoWorlds$Match" ({ cls := "TwoWorlds$Match", name := "at", desc := "(II)I" } : Jvm.MethodName) ({ cls := "TwoWorlds$Match", name := "at", desc := "(II)I" } : Jvm.MethodName)) ∈ lw_all := lw_g (lw_at lw_m2 16 rfl) rfl
theorem q343 : (Jvm.Cond.code ({ cls := "TwoWorlds$Match", name := "at", desc := "(II)I" } : Jvm.MethodName) prog_9_method_2_code (3 : Nat) (Option.some Jvm.ClassFile.FieldType.int)) ∈ lw_all := lw_g (lw_at lw_m2 17 rfl) rfl
theorem q344 : (Jvm.Cond.methodLink "TwoWorlds$Match" (36 : Nat) ({ cls := "TwoWorlds$Match", name := "isOne", desc := "(III)Z" } : Jvm.MethodName)) ∈ lw_all := lw_g (lw_at lw_m2 18 rfl) rfl
theorem q345 : (Jvm.Cond.privateMethod ({ cls := "TwoWorlds$Match", name := "isOne", desc := "(III)Z" } : Jvm.MethodName)) ∈ lw_tbl := lw_at lw_m2 19 rfl
theorem q346 : (Jvm.Cond.instanceMethod ({ cls := "TwoWorlds$Match", name := "isOne", desc := "(III)Z" } : Jvm.MethodName)) ∈ lw_all := lw_g (lw_at lw_m2 20 rfl) rfl
theorem q347 : (Jvm.Cond.code ({ cls := "TwoWorlds$Match", name := "isOne", desc := "(III)Z" } : Jvm.MethodName) prog_9_method_5_code (4 : Nat) (Option.some Jvm.ClassFile.FieldType.boolean)) ∈ lw_all := lw_g (lw_at lw_m2 21 rfl) rfl
theorem q348 : (Jvm.Cond.methodLink "TwoWorlds$Match" (40 : Nat) ({ cls := "TwoWorlds$Match", name := "isTied", desc := "(III)Z" } : Jvm.MethodName)) ∈ lw_all := lw_g (lw_at lw_m2 22 rfl) rfl
theorem q349 : (Jvm.Cond.privateMethod ({ cls := "TwoWorlds$Match", name := "isTied", desc := "(III)Z" } : Jvm.MethodName)) ∈ lw_tbl := lw_at lw_m2 23 rfl
theorem q350 : (Jvm.Cond.instanceMethod ({ cls := "TwoWorlds$Match", name := "isTied", desc := "(III)Z" } : Jvm.MethodName)) ∈ lw_all := lw_g (lw_at lw_m2 24 rfl) rfl
theorem q351 : (Jvm.Cond.code ({ cls := "TwoWorlds$Match", name := "isTied", desc := "(III)Z" } : Jvm.MethodName) prog_9_method_6_code (4 : Nat) (Option.some Jvm.ClassFile.FieldType.boolean)) ∈ lw_all := lw_g (lw_at lw_m2 25 rfl) rfl
theorem q352 : (Jvm.Cond.methodLink "TwoWorlds$Match" (27 : Nat) ({ cls := "TwoWorlds$World", name := "isTied", desc := "(II)Z" } : Jvm.MethodName)) ∈ lw_all := lw_g (lw_at lw_m2 26 rfl) rfl
theorem q353 : (Jvm.Cond.methodLink "TwoWorlds$Match" (67 : Nat) ({ cls := "TwoWorlds$Match", name := "isKept", desc := "(I)Z" } : Jvm.MethodName)) ∈ lw_all := lw_g (lw_at lw_m2 27 rfl) rfl
theorem q354 : (Jvm.Cond.methodLink "TwoWorlds$Match" (71 : Nat) ({ cls := "TwoWorlds$Match", name := "pop", desc := "()V" } : Jvm.MethodName)) ∈ lw_all := lw_g (lw_at lw_m2 28 rfl) rfl
theorem q355 : (Jvm.Cond.instanceMethod ({ cls := "TwoWorlds$Match", name := "pop", desc := "()V" } : Jvm.MethodName)) ∈ lw_all := lw_g (lw_at lw_m2 29 rfl) rfl
theorem q356 : (Jvm.Cond.selects "TwoWorlds$Match" ({ cls := "TwoWorlds$Match", name := "pop", desc := "()V" } : Jvm.MethodName) ({ cls := "TwoWorlds$Match", name := "pop", desc := "()V" } : Jvm.MethodName)) ∈ lw_all := lw_g (lw_at lw_m2 30 rfl) rfl
theorem q357 : (Jvm.Cond.code ({ cls := "TwoWorlds$Match", name := "pop", desc := "()V" } : Jvm.MethodName) prog_9_method_4_code (1 : Nat) (Option.none : Option Jvm.ClassFile.FieldType)) ∈ lw_all := lw_g (lw_at lw_m2 31 rfl) rfl
theorem q628 : (Jvm.Cond.selects "TwoWorlds$Match" ({ cls := "java/lang/Object", name := "getClass", desc := "()Ljava/lang/Class;" } : Jvm.MethodName) ({ cls := "java/lang/Object", name := "getClass", desc := "()Ljava/lang/Class;" } : Jvm.MethodName)) ∈ lw_all := lw_g (lw_at lw_m3 62 rfl) rfl
theorem q1741 : (Jvm.Cond.castable "TwoWorlds$Match" "java/lang/Object") ∈ lw_tbl := lw_at lw_m7 215 rfl
theorem in_X3 : ∀ w ∈ wsX30, w ∈ lw_all := lw_in wsX30 [301, 303, 305] (by decide +kernel) (by decide +kernel)
def RX4 : String := "TwoWorlds$Reader"
def TX4 : u_T := fun k => match k with
  | 0 => ("TwoWorlds$Reader", "bytes", "[B", true)
  | 1 => ("TwoWorlds$Reader", "size", "I", true)
  | 2 => ("TwoWorlds$Reader", "at", "I", false)
  | 3 => ("TwoWorlds$Reader", "deep", "I", false)
  | 4 => ("TwoWorlds$Reader", "quantified", "I", false)
  | _ => ("TwoWorlds$Reader", "letters", "[I", true)
def tyX4 : Nat → FieldType := fun k => match k with
  | 0 => .array .byte
  | 1 => .int
  | 2 => .int
  | 3 => .int
  | 4 => .int
  | _ => .array .int
abbrev wsX40 : List Cond := u_ws RX4 TX4 6
theorem nmX4 : ∀ a, a < 6 → ∀ b, b < 6 → a ≠ b → (TX4 a).2.1 ≠ (TX4 b).2.1 := by decide +kernel
theorem tyX4_ok : ∀ k, k < 6 → parseFieldDescriptor (TX4 k).2.2.1 = some (tyX4 k) := by decide +kernel
abbrev cX4_init : ByteArray := prog_13_method_1_code
abbrev yX4_init : MethodName := ⟨RX4, "<init>", "([BI)V"⟩
abbrev cX4_read : ByteArray := prog_13_method_10_code
abbrev yX4_read : MethodName := ⟨RX4, "read", "()LTwoWorlds$Formula;"⟩
abbrev cX4_formula : ByteArray := prog_13_method_9_code
abbrev yX4_formula : MethodName := ⟨RX4, "formula", "()LTwoWorlds$Formula;"⟩
abbrev cX4_part : ByteArray := prog_13_method_7_code
abbrev yX4_part : MethodName := ⟨RX4, "part", "()LTwoWorlds$Formula;"⟩
abbrev cX4_look : ByteArray := prog_13_method_2_code
abbrev yX4_look : MethodName := ⟨RX4, "look", "()I"⟩
abbrev cX4_variable : ByteArray := prog_13_method_5_code
abbrev yX4_variable : MethodName := ⟨RX4, "variable", "()I"⟩
abbrev cX4_letter : ByteArray := prog_13_method_4_code
abbrev yX4_letter : MethodName := ⟨RX4, "letter", "()I"⟩
abbrev cX4_want : ByteArray := prog_13_method_3_code
abbrev yX4_want : MethodName := ⟨RX4, "want", "(Z)V"⟩
abbrev cX4_nest : ByteArray := prog_13_method_6_code
abbrev yX4_nest : MethodName := ⟨RX4, "nest", "()V"⟩
abbrev cX4_each : ByteArray := prog_13_method_8_code
abbrev yX4_each : MethodName := ⟨RX4, "each", "(Z)LTwoWorlds$Formula;"⟩
theorem q94 : (Jvm.Cond.initialized "TwoWorlds$Reader") ∈ lw_all := lw_g (lw_at lw_m1 8 rfl) rfl
theorem q412 : (Jvm.Cond.instantiable "TwoWorlds$Reader" (6 : Nat)) ∈ lw_all := lw_g (lw_at lw_m2 86 rfl) rfl
theorem q414 : (Jvm.Cond.instanceMethod ({ cls := "TwoWorlds$Reader", name := "<init>", desc := "([BI)V" } : Jvm.MethodName)) ∈ lw_all := lw_g (lw_at lw_m2 88 rfl) rfl
theorem q415 : (Jvm.Cond.code ({ cls := "TwoWorlds$Reader", name := "<init>", desc := "([BI)V" } : Jvm.MethodName) prog_13_method_1_code (3 : Nat) (Option.none : Option Jvm.ClassFile.FieldType)) ∈ lw_all := lw_g (lw_at lw_m2 89 rfl) rfl
theorem q416 : (Jvm.Cond.methodLink "TwoWorlds$Reader" (3 : Nat) ({ cls := "java/lang/Object", name := "<init>", desc := "()V" } : Jvm.MethodName)) ∈ lw_all := lw_g (lw_at lw_m2 90 rfl) rfl
theorem q417 : (Jvm.Cond.fieldLink "TwoWorlds$Reader" (15 : Nat) "TwoWorlds$Reader" "bytes" "[B") ∈ lw_all := lw_g (lw_at lw_m2 91 rfl) rfl
theorem q418 : (Jvm.Cond.fieldLink "TwoWorlds$Reader" (19 : Nat) "TwoWorlds$Reader" "size" "I") ∈ lw_all := lw_g (lw_at lw_m2 92 rfl) rfl
theorem q419 : (Jvm.Cond.fieldLink "TwoWorlds$Reader" (23 : Nat) "TwoWorlds$Reader" "at" "I") ∈ lw_all := lw_g (lw_at lw_m2 93 rfl) rfl
theorem q420 : (Jvm.Cond.fieldLink "TwoWorlds$Reader" (45 : Nat) "TwoWorlds$Reader" "deep" "I") ∈ lw_all := lw_g (lw_at lw_m2 94 rfl) rfl
theorem q421 : (Jvm.Cond.fieldLink "TwoWorlds$Reader" (42 : Nat) "TwoWorlds$Reader" "quantified" "I") ∈ lw_all := lw_g (lw_at lw_m2 95 rfl) rfl
theorem q422 : (Jvm.Cond.fieldLink "TwoWorlds$Reader" (9 : Nat) "TwoWorlds$Reader" "letters" "[I") ∈ lw_all := lw_g (lw_at lw_m2 96 rfl) rfl
theorem q423 : (Jvm.Cond.laysFinal "TwoWorlds$Reader" "TwoWorlds$Reader" "bytes" "[B") ∈ lw_all := lw_g (lw_at lw_m2 97 rfl) rfl
theorem q424 : (Jvm.Cond.soleField "TwoWorlds$Reader" "bytes") ∈ lw_all := lw_g (lw_at lw_m2 98 rfl) rfl
theorem q425 : (Jvm.Cond.laysFinal "TwoWorlds$Reader" "TwoWorlds$Reader" "size" "I") ∈ lw_all := lw_g (lw_at lw_m2 99 rfl) rfl
theorem q426 : (Jvm.Cond.soleField "TwoWorlds$Reader" "size") ∈ lw_all := lw_g (lw_at lw_m2 100 rfl) rfl
theorem q427 : (Jvm.Cond.lays "TwoWorlds$Reader" "TwoWorlds$Reader" "at" "I") ∈ lw_all := lw_g (lw_at lw_m2 101 rfl) rfl
theorem q428 : (Jvm.Cond.soleField "TwoWorlds$Reader" "at") ∈ lw_all := lw_g (lw_at lw_m2 102 rfl) rfl
theorem q429 : (Jvm.Cond.lays "TwoWorlds$Reader" "TwoWorlds$Reader" "deep" "I") ∈ lw_all := lw_g (lw_at lw_m2 103 rfl) rfl
theorem q430 : (Jvm.Cond.soleField "TwoWorlds$Reader" "deep") ∈ lw_all := lw_g (lw_at lw_m2 104 rfl) rfl
theorem q431 : (Jvm.Cond.lays "TwoWorlds$Reader" "TwoWorlds$Reader" "quantified" "I") ∈ lw_all := lw_g (lw_at lw_m2 105 rfl) rfl
theorem q432 : (Jvm.Cond.soleField "TwoWorlds$Reader" "quantified") ∈ lw_all := lw_g (lw_at lw_m2 106 rfl) rfl
theorem q433 : (Jvm.Cond.laysFinal "TwoWorlds$Reader" "TwoWorlds$Reader" "letters" "[I") ∈ lw_all := lw_g (lw_at lw_m2 107 rfl) rfl
theorem q434 : (Jvm.Cond.soleField "TwoWorlds$Reader" "letters") ∈ lw_all := lw_g (lw_at lw_m2 108 rfl) rfl
theorem q435 : (Jvm.Cond.superclass "TwoWorlds$Reader" "java/lang/Object") ∈ lw_all := lw_g (lw_at lw_m2 109 rfl) rfl
theorem q437 : (Jvm.Cond.instanceMethod ({ cls := "TwoWorlds$Reader", name := "read", desc := "()LTwoWorlds$Formula;" } : Jvm.MethodName)) ∈ lw_all := lw_g (lw_at lw_m2 111 rfl) rfl
theorem q438 : (Jvm.Cond.selects "TwoWorlds$Reader" ({ cls := "TwoWorlds$Reader", name := "read", desc := "()LTwoWorlds$Formula;" } : Jvm.MethodName) ({ cls := "TwoWorlds$Reader", name := "read", desc := "()LTwoWorlds$Formula;" } : Jvm.MethodName)) ∈ lw_all := lw_g (lw_at lw_m2 112 rfl) rfl
theorem q439 : (Jvm.Cond.code ({ cls := "TwoWorlds$Reader", name := "read", desc := "()LTwoWorlds$Formula;" } : Jvm.MethodName) prog_13_method_10_code (2 : Nat) (Option.some (Jvm.ClassFile.FieldType.object "TwoWorlds$Formula"))) ∈ lw_all := lw_g (lw_at lw_m2 113 rfl) rfl
theorem q440 : (Jvm.Cond.methodLink "TwoWorlds$Reader" (68 : Nat) ({ cls := "TwoWorlds$Reader", name := "formula", desc := "()LTwoWorlds$Formula;" } : Jvm.MethodName)) ∈ lw_all := lw_g (lw_at lw_m2 114 rfl) rfl
theorem q441 : (Jvm.Cond.privateMethod ({ cls := "TwoWorlds$Reader", name := "formula", desc := "()LTwoWorlds$Formula;" } : Jvm.MethodName)) ∈ lw_tbl := lw_at lw_m2 115 rfl
theorem q442 : (Jvm.Cond.instanceMethod ({ cls := "TwoWorlds$Reader", name := "formula", desc := "()LTwoWorlds$Formula;" } : Jvm.MethodName)) ∈ lw_all := lw_g (lw_at lw_m2 116 rfl) rfl
theorem q443 : (Jvm.Cond.code ({ cls := "TwoWorlds$Reader", name := "formula", desc := "()LTwoWorlds$Formula;" } : Jvm.MethodName) prog_13_method_9_code (4 : Nat) (Option.some (Jvm.ClassFile.FieldType.object "TwoWorlds$Formula"))) ∈ lw_all := lw_g (lw_at lw_m2 117 rfl) rfl
theorem q444 : (Jvm.Cond.methodLink "TwoWorlds$Reader" (61 : Nat) ({ cls := "TwoWorlds$Reader", name := "part", desc := "()LTwoWorlds$Formula;" } : Jvm.MethodName)) ∈ lw_all := lw_g (lw_at lw_m2 118 rfl) rfl
theorem q445 : (Jvm.Cond.privateMethod ({ cls := "TwoWorlds$Reader", name := "part", desc := "()LTwoWorlds$Formula;" } : Jvm.MethodName)) ∈ lw_tbl := lw_at lw_m2 119 rfl
theorem q446 : (Jvm.Cond.instanceMethod ({ cls := "TwoWorlds$Reader", name := "part", desc := "()LTwoWorlds$Formula;" } : Jvm.MethodName)) ∈ lw_all := lw_g (lw_at lw_m2 120 rfl) rfl
theorem q447 : (Jvm.Cond.code ({ cls := "TwoWorlds$Reader", name := "part", desc := "()LTwoWorlds$Formula;" } : Jvm.MethodName) prog_13_method_7_code (5 : Nat) (Option.some (Jvm.ClassFile.FieldType.object "TwoWorlds$Formula"))) ∈ lw_all := lw_g (lw_at lw_m2 121 rfl) rfl
theorem q448 : (Jvm.Cond.methodLink "TwoWorlds$Reader" (31 : Nat) ({ cls := "TwoWorlds$Reader", name := "look", desc := "()I" } : Jvm.MethodName)) ∈ lw_all := lw_g (lw_at lw_m2 122 rfl) rfl
theorem q449 : (Jvm.Cond.privateMethod ({ cls := "TwoWorlds$Reader", name := "look", desc := "()I" } : Jvm.MethodName)) ∈ lw_tbl := lw_at lw_m2 123 rfl
theorem q450 : (Jvm.Cond.instanceMethod ({ cls := "TwoWorlds$Reader", name := "look", desc := "()I" } : Jvm.MethodName)) ∈ lw_all := lw_g (lw_at lw_m2 124 rfl) rfl
theorem q451 : (Jvm.Cond.code ({ cls := "TwoWorlds$Reader", name := "look", desc := "()I" } : Jvm.MethodName) prog_13_method_2_code (1 : Nat) (Option.some Jvm.ClassFile.FieldType.int)) ∈ lw_all := lw_g (lw_at lw_m2 125 rfl) rfl
theorem q452 : (Jvm.Cond.classLink "TwoWorlds$Reader" (48 : Nat) "TwoWorlds$Atom") ∈ lw_all := lw_g (lw_at lw_m2 126 rfl) rfl
theorem q454 : (Jvm.Cond.methodLink "TwoWorlds$Reader" (50 : Nat) ({ cls := "TwoWorlds$Atom", name := "<init>", desc := "(CII)V" } : Jvm.MethodName)) ∈ lw_all := lw_g (lw_at lw_m2 128 rfl) rfl
theorem q471 : (Jvm.Cond.methodLink "TwoWorlds$Reader" (53 : Nat) ({ cls := "TwoWorlds$Reader", name := "variable", desc := "()I" } : Jvm.MethodName)) ∈ lw_all := lw_g (lw_at lw_m2 145 rfl) rfl
theorem q472 : (Jvm.Cond.privateMethod ({ cls := "TwoWorlds$Reader", name := "variable", desc := "()I" } : Jvm.MethodName)) ∈ lw_tbl := lw_at lw_m2 146 rfl
theorem q473 : (Jvm.Cond.instanceMethod ({ cls := "TwoWorlds$Reader", name := "variable", desc := "()I" } : Jvm.MethodName)) ∈ lw_all := lw_g (lw_at lw_m2 147 rfl) rfl
theorem q474 : (Jvm.Cond.code ({ cls := "TwoWorlds$Reader", name := "variable", desc := "()I" } : Jvm.MethodName) prog_13_method_5_code (3 : Nat) (Option.some Jvm.ClassFile.FieldType.int)) ∈ lw_all := lw_g (lw_at lw_m2 148 rfl) rfl
theorem q475 : (Jvm.Cond.methodLink "TwoWorlds$Reader" (39 : Nat) ({ cls := "TwoWorlds$Reader", name := "letter", desc := "()I" } : Jvm.MethodName)) ∈ lw_all := lw_g (lw_at lw_m2 149 rfl) rfl
theorem q476 : (Jvm.Cond.privateMethod ({ cls := "TwoWorlds$Reader", name := "letter", desc := "()I" } : Jvm.MethodName)) ∈ lw_tbl := lw_at lw_m2 150 rfl
theorem q477 : (Jvm.Cond.instanceMethod ({ cls := "TwoWorlds$Reader", name := "letter", desc := "()I" } : Jvm.MethodName)) ∈ lw_all := lw_g (lw_at lw_m2 151 rfl) rfl
theorem q478 : (Jvm.Cond.code ({ cls := "TwoWorlds$Reader", name := "letter", desc := "()I" } : Jvm.MethodName) prog_13_method_4_code (2 : Nat) (Option.some Jvm.ClassFile.FieldType.int)) ∈ lw_all := lw_g (lw_at lw_m2 152 rfl) rfl
theorem q479 : (Jvm.Cond.methodLink "TwoWorlds$Reader" (35 : Nat) ({ cls := "TwoWorlds$Reader", name := "want", desc := "(Z)V" } : Jvm.MethodName)) ∈ lw_all := lw_g (lw_at lw_m2 153 rfl) rfl
theorem q480 : (Jvm.Cond.privateMethod ({ cls := "TwoWorlds$Reader", name := "want", desc := "(Z)V" } : Jvm.MethodName)) ∈ lw_tbl := lw_at lw_m2 154 rfl
theorem q481 : (Jvm.Cond.instanceMethod ({ cls := "TwoWorlds$Reader", name := "want", desc := "(Z)V" } : Jvm.MethodName)) ∈ lw_all := lw_g (lw_at lw_m2 155 rfl) rfl
theorem q482 : (Jvm.Cond.code ({ cls := "TwoWorlds$Reader", name := "want", desc := "(Z)V" } : Jvm.MethodName) prog_13_method_3_code (2 : Nat) (Option.none : Option Jvm.ClassFile.FieldType)) ∈ lw_all := lw_g (lw_at lw_m2 156 rfl) rfl
theorem q483 : (Jvm.Cond.classLink "TwoWorlds$Reader" (26 : Nat) "TwoWorlds$Wrong") ∈ lw_all := lw_g (lw_at lw_m2 157 rfl) rfl
theorem q521 : (Jvm.Cond.methodLink "TwoWorlds$Reader" (28 : Nat) ({ cls := "TwoWorlds$Wrong", name := "<init>", desc := "(I)V" } : Jvm.MethodName)) ∈ lw_all := lw_g (lw_at lw_m2 195 rfl) rfl
theorem q548 : (Jvm.Cond.methodLink "TwoWorlds$Reader" (56 : Nat) ({ cls := "TwoWorlds$Reader", name := "nest", desc := "()V" } : Jvm.MethodName)) ∈ lw_all := lw_g (lw_at lw_m2 222 rfl) rfl
theorem q549 : (Jvm.Cond.privateMethod ({ cls := "TwoWorlds$Reader", name := "nest", desc := "()V" } : Jvm.MethodName)) ∈ lw_tbl := lw_at lw_m2 223 rfl
theorem q550 : (Jvm.Cond.instanceMethod ({ cls := "TwoWorlds$Reader", name := "nest", desc := "()V" } : Jvm.MethodName)) ∈ lw_all := lw_g (lw_at lw_m2 224 rfl) rfl
theorem q551 : (Jvm.Cond.code ({ cls := "TwoWorlds$Reader", name := "nest", desc := "()V" } : Jvm.MethodName) prog_13_method_6_code (1 : Nat) (Option.none : Option Jvm.ClassFile.FieldType)) ∈ lw_all := lw_g (lw_at lw_m2 225 rfl) rfl
theorem q552 : (Jvm.Cond.classLink "TwoWorlds$Reader" (59 : Nat) "TwoWorlds$Not") ∈ lw_all := lw_g (lw_at lw_m2 226 rfl) rfl
theorem q554 : (Jvm.Cond.methodLink "TwoWorlds$Reader" (65 : Nat) ({ cls := "TwoWorlds$Not", name := "<init>", desc := "(LTwoWorlds$Formula;)V" } : Jvm.MethodName)) ∈ lw_all := lw_g (lw_at lw_m2 228 rfl) rfl
theorem q564 : (Jvm.Cond.methodLink "TwoWorlds$Reader" (71 : Nat) ({ cls := "TwoWorlds$Reader", name := "each", desc := "(Z)LTwoWorlds$Formula;" } : Jvm.MethodName)) ∈ lw_all := lw_g (lw_at lw_m2 238 rfl) rfl
theorem q565 : (Jvm.Cond.privateMethod ({ cls := "TwoWorlds$Reader", name := "each", desc := "(Z)LTwoWorlds$Formula;" } : Jvm.MethodName)) ∈ lw_tbl := lw_at lw_m2 239 rfl
theorem q566 : (Jvm.Cond.instanceMethod ({ cls := "TwoWorlds$Reader", name := "each", desc := "(Z)LTwoWorlds$Formula;" } : Jvm.MethodName)) ∈ lw_all := lw_g (lw_at lw_m3 0 rfl) rfl
theorem q567 : (Jvm.Cond.code ({ cls := "TwoWorlds$Reader", name := "each", desc := "(Z)LTwoWorlds$Formula;" } : Jvm.MethodName) prog_13_method_8_code (5 : Nat) (Option.some (Jvm.ClassFile.FieldType.object "TwoWorlds$Formula"))) ∈ lw_all := lw_g (lw_at lw_m3 1 rfl) rfl
theorem q568 : (Jvm.Cond.classLink "TwoWorlds$Reader" (75 : Nat) "TwoWorlds$Each") ∈ lw_all := lw_g (lw_at lw_m3 2 rfl) rfl
theorem q570 : (Jvm.Cond.methodLink "TwoWorlds$Reader" (77 : Nat) ({ cls := "TwoWorlds$Each", name := "<init>", desc := "(LTwoWorlds$Formula;IZ)V" } : Jvm.MethodName)) ∈ lw_all := lw_g (lw_at lw_m3 4 rfl) rfl
theorem q582 : (Jvm.Cond.classLink "TwoWorlds$Reader" (80 : Nat) "java/util/ArrayList") ∈ lw_all := lw_g (lw_at lw_m3 16 rfl) rfl
theorem q583 : (Jvm.Cond.methodLink "TwoWorlds$Reader" (82 : Nat) ({ cls := "java/util/ArrayList", name := "<init>", desc := "()V" } : Jvm.MethodName)) ∈ lw_all := lw_g (lw_at lw_m3 17 rfl) rfl
theorem q584 : (Jvm.Cond.interfaceEntry "TwoWorlds$Reader" (83 : Nat)) ∈ lw_tbl := lw_at lw_m3 18 rfl
theorem q585 : (Jvm.Cond.methodLink "TwoWorlds$Reader" (83 : Nat) ({ cls := "java/util/List", name := "add", desc := "(Ljava/lang/Object;)Z" } : Jvm.MethodName)) ∈ lw_all := lw_g (lw_at lw_m3 19 rfl) rfl
theorem q632 : (Jvm.Cond.selects "TwoWorlds$Reader" ({ cls := "java/lang/Object", name := "getClass", desc := "()Ljava/lang/Class;" } : Jvm.MethodName) ({ cls := "java/lang/Object", name := "getClass", desc := "()Ljava/lang/Class;" } : Jvm.MethodName)) ∈ lw_all := lw_g (lw_at lw_m3 66 rfl) rfl
theorem q654 : (Jvm.Cond.classLink "TwoWorlds$Reader" (89 : Nat) "TwoWorlds$Many") ∈ lw_all := lw_g (lw_at lw_m3 88 rfl) rfl
theorem q656 : (Jvm.Cond.methodLink "TwoWorlds$Reader" (91 : Nat) ({ cls := "TwoWorlds$Many", name := "<init>", desc := "(Ljava/util/List;C)V" } : Jvm.MethodName)) ∈ lw_all := lw_g (lw_at lw_m3 90 rfl) rfl
theorem q1742 : (Jvm.Cond.castable "TwoWorlds$Reader" "java/lang/Object") ∈ lw_tbl := lw_at lw_m7 216 rfl
theorem in_X4 : ∀ w ∈ wsX40, w ∈ lw_all := lw_in wsX40 [423, 425, 427, 429, 431, 433] (by decide +kernel) (by decide +kernel)
def RX5 : String := "TwoWorlds$Formula"
abbrev cX5_init : ByteArray := prog_7_method_1_code
abbrev yX5_init : MethodName := ⟨RX5, "<init>", "()V"⟩
abbrev cX5_nodes : ByteArray := prog_7_method_5_code
abbrev yX5_nodes : MethodName := ⟨RX5, "nodes", "()I"⟩
abbrev cX5_writeWithin : ByteArray := prog_7_method_7_code
abbrev yX5_writeWithin : MethodName := ⟨RX5, "writeWithin", "(LTwoWorlds$Paper;)V"⟩
theorem q95 : (Jvm.Cond.initialized "TwoWorlds$Formula") ∈ lw_all := lw_g (lw_at lw_m1 9 rfl) rfl
theorem q458 : (Jvm.Cond.instanceMethod ({ cls := "TwoWorlds$Formula", name := "<init>", desc := "()V" } : Jvm.MethodName)) ∈ lw_all := lw_g (lw_at lw_m2 132 rfl) rfl
theorem q459 : (Jvm.Cond.code ({ cls := "TwoWorlds$Formula", name := "<init>", desc := "()V" } : Jvm.MethodName) prog_7_method_1_code (1 : Nat) (Option.none : Option Jvm.ClassFile.FieldType)) ∈ lw_all := lw_g (lw_at lw_m2 133 rfl) rfl
theorem q460 : (Jvm.Cond.methodLink "TwoWorlds$Formula" (1 : Nat) ({ cls := "java/lang/Object", name := "<init>", desc := "()V" } : Jvm.MethodName)) ∈ lw_all := lw_g (lw_at lw_m2 134 rfl) rfl
theorem q672 : (Jvm.Cond.instanceMethod ({ cls := "TwoWorlds$Formula", name := "nodes", desc := "()I" } : Jvm.MethodName)) ∈ lw_all := lw_g (lw_at lw_m3 106 rfl) rfl
theorem q673 : (Jvm.Cond.sameMethod "TwoWorlds$Formula" "TwoWorlds$Formula" "nodes" "()I") ∈ lw_all := lw_g (lw_at lw_m3 107 rfl) rfl
theorem q713 : (Jvm.Cond.code ({ cls := "TwoWorlds$Formula", name := "nodes", desc := "()I" } : Jvm.MethodName) prog_7_method_5_code (1 : Nat) (Option.some Jvm.ClassFile.FieldType.int)) ∈ lw_all := lw_g (lw_at lw_m3 147 rfl) rfl
theorem q723 : (Jvm.Cond.declares ({ cls := "TwoWorlds$Formula", name := "depth", desc := "()I" } : Jvm.MethodName)) ∈ lw_tbl := lw_at lw_m3 157 rfl
theorem q724 : (Jvm.Cond.sameMethod "TwoWorlds$Formula" "TwoWorlds$Formula" "depth" "()I") ∈ lw_all := lw_g (lw_at lw_m3 158 rfl) rfl
theorem q761 : (Jvm.Cond.declares ({ cls := "TwoWorlds$Formula", name := "write", desc := "(LTwoWorlds$Paper;)V" } : Jvm.MethodName)) ∈ lw_tbl := lw_at lw_m3 195 rfl
theorem q762 : (Jvm.Cond.sameMethod "TwoWorlds$Formula" "TwoWorlds$Formula" "write" "(LTwoWorlds$Paper;)V") ∈ lw_all := lw_g (lw_at lw_m3 196 rfl) rfl
theorem q790 : (Jvm.Cond.instanceMethod ({ cls := "TwoWorlds$Formula", name := "writeWithin", desc := "(LTwoWorlds$Paper;)V" } : Jvm.MethodName)) ∈ lw_all := lw_g (lw_at lw_m3 224 rfl) rfl
theorem q791 : (Jvm.Cond.sameMethod "TwoWorlds$Formula" "TwoWorlds$Formula" "writeWithin" "(LTwoWorlds$Paper;)V") ∈ lw_all := lw_g (lw_at lw_m3 225 rfl) rfl
theorem q804 : (Jvm.Cond.code ({ cls := "TwoWorlds$Formula", name := "writeWithin", desc := "(LTwoWorlds$Paper;)V" } : Jvm.MethodName) prog_7_method_7_code (2 : Nat) (Option.none : Option Jvm.ClassFile.FieldType)) ∈ lw_all := lw_g (lw_at lw_m3 238 rfl) rfl
theorem q805 : (Jvm.Cond.methodLink "TwoWorlds$Formula" (7 : Nat) ({ cls := "TwoWorlds$Formula", name := "write", desc := "(LTwoWorlds$Paper;)V" } : Jvm.MethodName)) ∈ lw_all := lw_g (lw_at lw_m3 239 rfl) rfl
theorem q890 : (Jvm.Cond.declares ({ cls := "TwoWorlds$Formula", name := "holds", desc := "(LTwoWorlds$Asking;)Z" } : Jvm.MethodName)) ∈ lw_tbl := lw_at lw_m4 84 rfl
theorem q891 : (Jvm.Cond.sameMethod "TwoWorlds$Formula" "TwoWorlds$Formula" "holds" "(LTwoWorlds$Asking;)Z") ∈ lw_all := lw_g (lw_at lw_m4 85 rfl) rfl
theorem q949 : (Jvm.Cond.declares ({ cls := "TwoWorlds$Formula", name := "isLike", desc := "(LTwoWorlds$Formula;)Z" } : Jvm.MethodName)) ∈ lw_tbl := lw_at lw_m4 143 rfl
theorem q950 : (Jvm.Cond.sameMethod "TwoWorlds$Formula" "TwoWorlds$Formula" "isLike" "(LTwoWorlds$Formula;)Z") ∈ lw_all := lw_g (lw_at lw_m4 144 rfl) rfl
def RX6 : String := "TwoWorlds$Atom"
def TX6 : u_T := fun k => match k with
  | 0 => ("TwoWorlds$Atom", "sign", "C", true)
  | 1 => ("TwoWorlds$Atom", "m", "I", true)
  | _ => ("TwoWorlds$Atom", "n", "I", true)
def tyX6 : Nat → FieldType := fun k => match k with
  | 0 => .char
  | 1 => .int
  | _ => .int
abbrev wsX60 : List Cond := u_ws RX6 TX6 3
theorem nmX6 : ∀ a, a < 3 → ∀ b, b < 3 → a ≠ b → (TX6 a).2.1 ≠ (TX6 b).2.1 := by decide +kernel
theorem tyX6_ok : ∀ k, k < 3 → parseFieldDescriptor (TX6 k).2.2.1 = some (tyX6 k) := by decide +kernel
abbrev cX6_init : ByteArray := prog_3_method_1_code
abbrev yX6_init : MethodName := ⟨RX6, "<init>", "(CII)V"⟩
abbrev cX6_depth : ByteArray := prog_3_method_3_code
abbrev yX6_depth : MethodName := ⟨RX6, "depth", "()I"⟩
abbrev cX6_write : ByteArray := prog_3_method_5_code
abbrev yX6_write : MethodName := ⟨RX6, "write", "(LTwoWorlds$Paper;)V"⟩
abbrev cX6_holds : ByteArray := prog_3_method_2_code
abbrev yX6_holds : MethodName := ⟨RX6, "holds", "(LTwoWorlds$Asking;)Z"⟩
abbrev cX6_isLike : ByteArray := prog_3_method_4_code
abbrev yX6_isLike : MethodName := ⟨RX6, "isLike", "(LTwoWorlds$Formula;)Z"⟩
theorem q96 : (Jvm.Cond.initialized "TwoWorlds$Atom") ∈ lw_all := lw_g (lw_at lw_m1 10 rfl) rfl
theorem q218 : (Jvm.Cond.fieldLinkNest "TwoWorlds$Atom" (26 : Nat) "TwoWorlds$World" "marks" "[I" "TwoWorlds") ∈ lw_tbl := lw_at lw_m1 132 rfl
theorem q453 : (Jvm.Cond.instantiable "TwoWorlds$Atom" (3 : Nat)) ∈ lw_all := lw_g (lw_at lw_m2 127 rfl) rfl
theorem q455 : (Jvm.Cond.instanceMethod ({ cls := "TwoWorlds$Atom", name := "<init>", desc := "(CII)V" } : Jvm.MethodName)) ∈ lw_all := lw_g (lw_at lw_m2 129 rfl) rfl
theorem q456 : (Jvm.Cond.code ({ cls := "TwoWorlds$Atom", name := "<init>", desc := "(CII)V" } : Jvm.MethodName) prog_3_method_1_code (4 : Nat) (Option.none : Option Jvm.ClassFile.FieldType)) ∈ lw_all := lw_g (lw_at lw_m2 130 rfl) rfl
theorem q457 : (Jvm.Cond.methodLinkNest "TwoWorlds$Atom" (1 : Nat) ({ cls := "TwoWorlds$Formula", name := "<init>", desc := "()V" } : Jvm.MethodName) "TwoWorlds") ∈ lw_tbl := lw_at lw_m2 131 rfl
theorem q461 : (Jvm.Cond.fieldLink "TwoWorlds$Atom" (7 : Nat) "TwoWorlds$Atom" "sign" "C") ∈ lw_all := lw_g (lw_at lw_m2 135 rfl) rfl
theorem q462 : (Jvm.Cond.fieldLink "TwoWorlds$Atom" (13 : Nat) "TwoWorlds$Atom" "m" "I") ∈ lw_all := lw_g (lw_at lw_m2 136 rfl) rfl
theorem q463 : (Jvm.Cond.fieldLink "TwoWorlds$Atom" (17 : Nat) "TwoWorlds$Atom" "n" "I") ∈ lw_all := lw_g (lw_at lw_m2 137 rfl) rfl
theorem q464 : (Jvm.Cond.laysFinal "TwoWorlds$Atom" "TwoWorlds$Atom" "sign" "C") ∈ lw_all := lw_g (lw_at lw_m2 138 rfl) rfl
theorem q465 : (Jvm.Cond.soleField "TwoWorlds$Atom" "sign") ∈ lw_all := lw_g (lw_at lw_m2 139 rfl) rfl
theorem q466 : (Jvm.Cond.laysFinal "TwoWorlds$Atom" "TwoWorlds$Atom" "m" "I") ∈ lw_all := lw_g (lw_at lw_m2 140 rfl) rfl
theorem q467 : (Jvm.Cond.soleField "TwoWorlds$Atom" "m") ∈ lw_all := lw_g (lw_at lw_m2 141 rfl) rfl
theorem q468 : (Jvm.Cond.laysFinal "TwoWorlds$Atom" "TwoWorlds$Atom" "n" "I") ∈ lw_all := lw_g (lw_at lw_m2 142 rfl) rfl
theorem q469 : (Jvm.Cond.soleField "TwoWorlds$Atom" "n") ∈ lw_all := lw_g (lw_at lw_m2 143 rfl) rfl
theorem q470 : (Jvm.Cond.superclass "TwoWorlds$Atom" "TwoWorlds$Formula") ∈ lw_all := lw_g (lw_at lw_m2 144 rfl) rfl
theorem q624 : (Jvm.Cond.selects "TwoWorlds$Atom" ({ cls := "java/lang/Object", name := "getClass", desc := "()Ljava/lang/Class;" } : Jvm.MethodName) ({ cls := "java/lang/Object", name := "getClass", desc := "()Ljava/lang/Class;" } : Jvm.MethodName)) ∈ lw_all := lw_g (lw_at lw_m3 58 rfl) rfl
theorem q674 : (Jvm.Cond.selects "TwoWorlds$Atom" ({ cls := "TwoWorlds$Formula", name := "nodes", desc := "()I" } : Jvm.MethodName) ({ cls := "TwoWorlds$Formula", name := "nodes", desc := "()I" } : Jvm.MethodName)) ∈ lw_all := lw_g (lw_at lw_m3 108 rfl) rfl
theorem q725 : (Jvm.Cond.selects "TwoWorlds$Atom" ({ cls := "TwoWorlds$Formula", name := "depth", desc := "()I" } : Jvm.MethodName) ({ cls := "TwoWorlds$Atom", name := "depth", desc := "()I" } : Jvm.MethodName)) ∈ lw_all := lw_g (lw_at lw_m3 159 rfl) rfl
theorem q726 : (Jvm.Cond.instanceMethod ({ cls := "TwoWorlds$Atom", name := "depth", desc := "()I" } : Jvm.MethodName)) ∈ lw_all := lw_g (lw_at lw_m3 160 rfl) rfl
theorem q727 : (Jvm.Cond.code ({ cls := "TwoWorlds$Atom", name := "depth", desc := "()I" } : Jvm.MethodName) prog_3_method_3_code (1 : Nat) (Option.some Jvm.ClassFile.FieldType.int)) ∈ lw_all := lw_g (lw_at lw_m3 161 rfl) rfl
theorem q763 : (Jvm.Cond.selects "TwoWorlds$Atom" ({ cls := "TwoWorlds$Formula", name := "write", desc := "(LTwoWorlds$Paper;)V" } : Jvm.MethodName) ({ cls := "TwoWorlds$Atom", name := "write", desc := "(LTwoWorlds$Paper;)V" } : Jvm.MethodName)) ∈ lw_all := lw_g (lw_at lw_m3 197 rfl) rfl
theorem q764 : (Jvm.Cond.instanceMethod ({ cls := "TwoWorlds$Atom", name := "write", desc := "(LTwoWorlds$Paper;)V" } : Jvm.MethodName)) ∈ lw_all := lw_g (lw_at lw_m3 198 rfl) rfl
theorem q765 : (Jvm.Cond.code ({ cls := "TwoWorlds$Atom", name := "write", desc := "(LTwoWorlds$Paper;)V" } : Jvm.MethodName) prog_3_method_5_code (2 : Nat) (Option.none : Option Jvm.ClassFile.FieldType)) ∈ lw_all := lw_g (lw_at lw_m3 199 rfl) rfl
theorem q766 : (Jvm.Cond.methodLink "TwoWorlds$Atom" (39 : Nat) ({ cls := "TwoWorlds$Paper", name := "put", desc := "(I)V" } : Jvm.MethodName)) ∈ lw_all := lw_g (lw_at lw_m3 200 rfl) rfl
theorem q770 : (Jvm.Cond.methodLink "TwoWorlds$Atom" (45 : Nat) ({ cls := "TwoWorlds$Paper", name := "variable", desc := "(I)V" } : Jvm.MethodName)) ∈ lw_all := lw_g (lw_at lw_m3 204 rfl) rfl
theorem q792 : (Jvm.Cond.selects "TwoWorlds$Atom" ({ cls := "TwoWorlds$Formula", name := "writeWithin", desc := "(LTwoWorlds$Paper;)V" } : Jvm.MethodName) ({ cls := "TwoWorlds$Formula", name := "writeWithin", desc := "(LTwoWorlds$Paper;)V" } : Jvm.MethodName)) ∈ lw_all := lw_g (lw_at lw_m3 226 rfl) rfl
theorem q855 : (Jvm.Cond.fieldLinkNest "TwoWorlds$Atom" (20 : Nat) "TwoWorlds$Asking" "world" "LTwoWorlds$World;" "TwoWorlds") ∈ lw_tbl := lw_at lw_m4 49 rfl
theorem q858 : (Jvm.Cond.fieldLinkNest "TwoWorlds$Atom" (32 : Nat) "TwoWorlds$Asking" "things" "[I" "TwoWorlds") ∈ lw_tbl := lw_at lw_m4 52 rfl
theorem q892 : (Jvm.Cond.selects "TwoWorlds$Atom" ({ cls := "TwoWorlds$Formula", name := "holds", desc := "(LTwoWorlds$Asking;)Z" } : Jvm.MethodName) ({ cls := "TwoWorlds$Atom", name := "holds", desc := "(LTwoWorlds$Asking;)Z" } : Jvm.MethodName)) ∈ lw_all := lw_g (lw_at lw_m4 86 rfl) rfl
theorem q893 : (Jvm.Cond.instanceMethod ({ cls := "TwoWorlds$Atom", name := "holds", desc := "(LTwoWorlds$Asking;)Z" } : Jvm.MethodName)) ∈ lw_all := lw_g (lw_at lw_m4 87 rfl) rfl
theorem q894 : (Jvm.Cond.code ({ cls := "TwoWorlds$Atom", name := "holds", desc := "(LTwoWorlds$Asking;)Z" } : Jvm.MethodName) prog_3_method_2_code (2 : Nat) (Option.some Jvm.ClassFile.FieldType.boolean)) ∈ lw_all := lw_g (lw_at lw_m4 88 rfl) rfl
theorem q895 : (Jvm.Cond.methodLink "TwoWorlds$Atom" (35 : Nat) ({ cls := "TwoWorlds$World", name := "isTied", desc := "(II)Z" } : Jvm.MethodName)) ∈ lw_all := lw_g (lw_at lw_m4 89 rfl) rfl
theorem q951 : (Jvm.Cond.selects "TwoWorlds$Atom" ({ cls := "TwoWorlds$Formula", name := "isLike", desc := "(LTwoWorlds$Formula;)Z" } : Jvm.MethodName) ({ cls := "TwoWorlds$Atom", name := "isLike", desc := "(LTwoWorlds$Formula;)Z" } : Jvm.MethodName)) ∈ lw_all := lw_g (lw_at lw_m4 145 rfl) rfl
theorem q952 : (Jvm.Cond.instanceMethod ({ cls := "TwoWorlds$Atom", name := "isLike", desc := "(LTwoWorlds$Formula;)Z" } : Jvm.MethodName)) ∈ lw_all := lw_g (lw_at lw_m4 146 rfl) rfl
theorem q953 : (Jvm.Cond.code ({ cls := "TwoWorlds$Atom", name := "isLike", desc := "(LTwoWorlds$Formula;)Z" } : Jvm.MethodName) prog_3_method_4_code (3 : Nat) (Option.some Jvm.ClassFile.FieldType.boolean)) ∈ lw_all := lw_g (lw_at lw_m4 147 rfl) rfl
theorem q954 : (Jvm.Cond.classLink "TwoWorlds$Atom" (8 : Nat) "TwoWorlds$Atom") ∈ lw_all := lw_g (lw_at lw_m4 148 rfl) rfl
theorem q1732 : (Jvm.Cond.castable "TwoWorlds$Atom" "TwoWorlds$Formula") ∈ lw_tbl := lw_at lw_m7 206 rfl
theorem q1743 : (Jvm.Cond.castable "TwoWorlds$Atom" "java/lang/Object") ∈ lw_tbl := lw_at lw_m7 217 rfl
theorem in_X6 : ∀ w ∈ wsX60, w ∈ lw_all := lw_in wsX60 [464, 466, 468] (by decide +kernel) (by decide +kernel)
def RX7 : String := "TwoWorlds$Wrong"
def TX7 : u_T := fun k => match k with
  | 0 => ("java/lang/Throwable", "cause", "Ljava/lang/Throwable;", false)
  | 1 => ("java/lang/Throwable", "stackTrace", "[Ljava/lang/StackTraceElement;", false)
  | 2 => ("java/lang/Throwable", "suppressedExceptions", "Ljava/util/List;", false)
  | 3 => ("java/lang/Throwable", "detailMessage", "Ljava/lang/String;", false)
  | 4 => ("java/lang/Throwable", "backtrace", "Ljava/lang/Object;", false)
  | 5 => ("java/lang/Throwable", "depth", "I", false)
  | _ => ("TwoWorlds$Wrong", "place", "I", true)
def tyX7 : Nat → FieldType := fun k => match k with
  | 0 => .object "java/lang/Throwable"
  | 1 => .array (.object "java/lang/StackTraceElement")
  | 2 => .object "java/util/List"
  | 3 => .object "java/lang/String"
  | 4 => .object "java/lang/Object"
  | 5 => .int
  | _ => .int
abbrev wsX70 : List Cond := u_ws RX7 TX7 7
theorem nmX7 : ∀ a, a < 7 → ∀ b, b < 7 → a ≠ b → (TX7 a).2.1 ≠ (TX7 b).2.1 := by decide +kernel
theorem tyX7_ok : ∀ k, k < 7 → parseFieldDescriptor (TX7 k).2.2.1 = some (tyX7 k) := by decide +kernel
abbrev cX7_init : ByteArray := prog_17_method_1_code
abbrev yX7_init : MethodName := ⟨RX7, "<init>", "(I)V"⟩
theorem q99 : (Jvm.Cond.initialized "TwoWorlds$Wrong") ∈ lw_all := lw_g (lw_at lw_m1 13 rfl) rfl
theorem q484 : (Jvm.Cond.instantiable "TwoWorlds$Wrong" (7 : Nat)) ∈ lw_all := lw_g (lw_at lw_m2 158 rfl) rfl
theorem q485 : (Jvm.Cond.castable "TwoWorlds$Wrong" "TwoWorlds$Wrong") ∈ lw_tbl := lw_at lw_m2 159 rfl
theorem q490 : (Jvm.Cond.selects "TwoWorlds$Wrong" ({ cls := "java/lang/Throwable", name := "fillInStackTrace", desc := "(I)Ljava/lang/Throwable;" } : Jvm.MethodName) ({ cls := "java/lang/Throwable", name := "fillInStackTrace", desc := "(I)Ljava/lang/Throwable;" } : Jvm.MethodName)) ∈ lw_all := lw_g (lw_at lw_m2 164 rfl) rfl
theorem q491 : (Jvm.Cond.selects "TwoWorlds$Wrong" ({ cls := "java/lang/Throwable", name := "fillInStackTrace", desc := "()Ljava/lang/Throwable;" } : Jvm.MethodName) ({ cls := "java/lang/Throwable", name := "fillInStackTrace", desc := "()Ljava/lang/Throwable;" } : Jvm.MethodName)) ∈ lw_all := lw_g (lw_at lw_m2 165 rfl) rfl
theorem q492 : (Jvm.Cond.lays "TwoWorlds$Wrong" "java/lang/Throwable" "cause" "Ljava/lang/Throwable;") ∈ lw_all := lw_g (lw_at lw_m2 166 rfl) rfl
theorem q494 : (Jvm.Cond.lays "TwoWorlds$Wrong" "java/lang/Throwable" "stackTrace" "[Ljava/lang/StackTraceElement;") ∈ lw_all := lw_g (lw_at lw_m2 168 rfl) rfl
theorem q496 : (Jvm.Cond.lays "TwoWorlds$Wrong" "java/lang/Throwable" "suppressedExceptions" "Ljava/util/List;") ∈ lw_all := lw_g (lw_at lw_m2 170 rfl) rfl
theorem q498 : (Jvm.Cond.lays "TwoWorlds$Wrong" "java/lang/Throwable" "detailMessage" "Ljava/lang/String;") ∈ lw_all := lw_g (lw_at lw_m2 172 rfl) rfl
theorem q500 : (Jvm.Cond.lays "TwoWorlds$Wrong" "java/lang/Throwable" "backtrace" "Ljava/lang/Object;") ∈ lw_all := lw_g (lw_at lw_m2 174 rfl) rfl
theorem q522 : (Jvm.Cond.instanceMethod ({ cls := "TwoWorlds$Wrong", name := "<init>", desc := "(I)V" } : Jvm.MethodName)) ∈ lw_all := lw_g (lw_at lw_m2 196 rfl) rfl
theorem q523 : (Jvm.Cond.code ({ cls := "TwoWorlds$Wrong", name := "<init>", desc := "(I)V" } : Jvm.MethodName) prog_17_method_1_code (2 : Nat) (Option.none : Option Jvm.ClassFile.FieldType)) ∈ lw_all := lw_g (lw_at lw_m2 197 rfl) rfl
theorem q524 : (Jvm.Cond.stringRef "TwoWorlds$Wrong" (1 : Nat) "wrong") ∈ lw_tbl := lw_at lw_m2 198 rfl
theorem q525 : (Jvm.Cond.methodLink "TwoWorlds$Wrong" (3 : Nat) ({ cls := "java/lang/Exception", name := "<init>", desc := "(Ljava/lang/String;Ljava/lang/Throwable;ZZ)V" } : Jvm.MethodName)) ∈ lw_all := lw_g (lw_at lw_m2 199 rfl) rfl
theorem q531 : (Jvm.Cond.fieldLink "TwoWorlds$Wrong" (9 : Nat) "TwoWorlds$Wrong" "place" "I") ∈ lw_all := lw_g (lw_at lw_m2 205 rfl) rfl
theorem q538 : (Jvm.Cond.laysFinal "TwoWorlds$Wrong" "TwoWorlds$Wrong" "place" "I") ∈ lw_all := lw_g (lw_at lw_m2 212 rfl) rfl
theorem q539 : (Jvm.Cond.soleField "TwoWorlds$Wrong" "place") ∈ lw_all := lw_g (lw_at lw_m2 213 rfl) rfl
theorem q544 : (Jvm.Cond.lays "TwoWorlds$Wrong" "java/lang/Throwable" "depth" "I") ∈ lw_all := lw_g (lw_at lw_m2 218 rfl) rfl
theorem q547 : (Jvm.Cond.superclass "TwoWorlds$Wrong" "java/lang/Exception") ∈ lw_all := lw_g (lw_at lw_m2 221 rfl) rfl
theorem q636 : (Jvm.Cond.selects "TwoWorlds$Wrong" ({ cls := "java/lang/Object", name := "getClass", desc := "()Ljava/lang/Class;" } : Jvm.MethodName) ({ cls := "java/lang/Object", name := "getClass", desc := "()Ljava/lang/Class;" } : Jvm.MethodName)) ∈ lw_all := lw_g (lw_at lw_m3 70 rfl) rfl
theorem q1744 : (Jvm.Cond.castable "TwoWorlds$Wrong" "java/lang/Object") ∈ lw_tbl := lw_at lw_m7 218 rfl
theorem in_X7 : ∀ w ∈ wsX70, w ∈ lw_all := lw_in wsX70 [492, 494, 496, 498, 500, 544, 538] (by decide +kernel) (by decide +kernel)
def RX8 : String := "TwoWorlds$Not"
def TX8 : u_T := fun k => match k with
  | _ => ("TwoWorlds$Not", "part", "LTwoWorlds$Formula;", true)
def tyX8 : Nat → FieldType := fun k => match k with
  | _ => .object "TwoWorlds$Formula"
abbrev wsX80 : List Cond := u_ws RX8 TX8 1
theorem nmX8 : ∀ a, a < 1 → ∀ b, b < 1 → a ≠ b → (TX8 a).2.1 ≠ (TX8 b).2.1 := by decide +kernel
theorem tyX8_ok : ∀ k, k < 1 → parseFieldDescriptor (TX8 k).2.2.1 = some (tyX8 k) := by decide +kernel
abbrev cX8_init : ByteArray := prog_10_method_1_code
abbrev yX8_init : MethodName := ⟨RX8, "<init>", "(LTwoWorlds$Formula;)V"⟩
abbrev cX8_nodes : ByteArray := prog_10_method_5_code
abbrev yX8_nodes : MethodName := ⟨RX8, "nodes", "()I"⟩
abbrev cX8_depth : ByteArray := prog_10_method_3_code
abbrev yX8_depth : MethodName := ⟨RX8, "depth", "()I"⟩
abbrev cX8_write : ByteArray := prog_10_method_7_code
abbrev yX8_write : MethodName := ⟨RX8, "write", "(LTwoWorlds$Paper;)V"⟩
abbrev cX8_sign : ByteArray := prog_10_method_6_code
abbrev yX8_sign : MethodName := ⟨RX8, "sign", "(LTwoWorlds$Paper;)V"⟩
abbrev cX8_holds : ByteArray := prog_10_method_2_code
abbrev yX8_holds : MethodName := ⟨RX8, "holds", "(LTwoWorlds$Asking;)Z"⟩
abbrev cX8_isLike : ByteArray := prog_10_method_4_code
abbrev yX8_isLike : MethodName := ⟨RX8, "isLike", "(LTwoWorlds$Formula;)Z"⟩
theorem q100 : (Jvm.Cond.initialized "TwoWorlds$Not") ∈ lw_all := lw_g (lw_at lw_m1 14 rfl) rfl
theorem q553 : (Jvm.Cond.instantiable "TwoWorlds$Not" (1 : Nat)) ∈ lw_all := lw_g (lw_at lw_m2 227 rfl) rfl
theorem q555 : (Jvm.Cond.instanceMethod ({ cls := "TwoWorlds$Not", name := "<init>", desc := "(LTwoWorlds$Formula;)V" } : Jvm.MethodName)) ∈ lw_all := lw_g (lw_at lw_m2 229 rfl) rfl
theorem q556 : (Jvm.Cond.code ({ cls := "TwoWorlds$Not", name := "<init>", desc := "(LTwoWorlds$Formula;)V" } : Jvm.MethodName) prog_10_method_1_code (2 : Nat) (Option.none : Option Jvm.ClassFile.FieldType)) ∈ lw_all := lw_g (lw_at lw_m2 230 rfl) rfl
theorem q557 : (Jvm.Cond.methodLinkNest "TwoWorlds$Not" (1 : Nat) ({ cls := "TwoWorlds$Formula", name := "<init>", desc := "()V" } : Jvm.MethodName) "TwoWorlds") ∈ lw_tbl := lw_at lw_m2 231 rfl
theorem q558 : (Jvm.Cond.fieldLink "TwoWorlds$Not" (7 : Nat) "TwoWorlds$Not" "part" "LTwoWorlds$Formula;") ∈ lw_all := lw_g (lw_at lw_m2 232 rfl) rfl
theorem q561 : (Jvm.Cond.laysFinal "TwoWorlds$Not" "TwoWorlds$Not" "part" "LTwoWorlds$Formula;") ∈ lw_all := lw_g (lw_at lw_m2 235 rfl) rfl
theorem q562 : (Jvm.Cond.soleField "TwoWorlds$Not" "part") ∈ lw_all := lw_g (lw_at lw_m2 236 rfl) rfl
theorem q563 : (Jvm.Cond.superclass "TwoWorlds$Not" "TwoWorlds$Formula") ∈ lw_all := lw_g (lw_at lw_m2 237 rfl) rfl
theorem q629 : (Jvm.Cond.selects "TwoWorlds$Not" ({ cls := "java/lang/Object", name := "getClass", desc := "()Ljava/lang/Class;" } : Jvm.MethodName) ({ cls := "java/lang/Object", name := "getClass", desc := "()Ljava/lang/Class;" } : Jvm.MethodName)) ∈ lw_all := lw_g (lw_at lw_m3 63 rfl) rfl
theorem q676 : (Jvm.Cond.instanceMethod ({ cls := "TwoWorlds$Not", name := "nodes", desc := "()I" } : Jvm.MethodName)) ∈ lw_all := lw_g (lw_at lw_m3 110 rfl) rfl
theorem q677 : (Jvm.Cond.code ({ cls := "TwoWorlds$Not", name := "nodes", desc := "()I" } : Jvm.MethodName) prog_10_method_5_code (1 : Nat) (Option.some Jvm.ClassFile.FieldType.int)) ∈ lw_all := lw_g (lw_at lw_m3 111 rfl) rfl
theorem q678 : (Jvm.Cond.methodLink "TwoWorlds$Not" (28 : Nat) ({ cls := "TwoWorlds$Formula", name := "nodes", desc := "()I" } : Jvm.MethodName)) ∈ lw_all := lw_g (lw_at lw_m3 112 rfl) rfl
theorem q712 : (Jvm.Cond.selects "TwoWorlds$Not" ({ cls := "TwoWorlds$Formula", name := "nodes", desc := "()I" } : Jvm.MethodName) ({ cls := "TwoWorlds$Not", name := "nodes", desc := "()I" } : Jvm.MethodName)) ∈ lw_all := lw_g (lw_at lw_m3 146 rfl) rfl
theorem q732 : (Jvm.Cond.instanceMethod ({ cls := "TwoWorlds$Not", name := "depth", desc := "()I" } : Jvm.MethodName)) ∈ lw_all := lw_g (lw_at lw_m3 166 rfl) rfl
theorem q733 : (Jvm.Cond.code ({ cls := "TwoWorlds$Not", name := "depth", desc := "()I" } : Jvm.MethodName) prog_10_method_3_code (1 : Nat) (Option.some Jvm.ClassFile.FieldType.int)) ∈ lw_all := lw_g (lw_at lw_m3 167 rfl) rfl
theorem q734 : (Jvm.Cond.methodLink "TwoWorlds$Not" (19 : Nat) ({ cls := "TwoWorlds$Formula", name := "depth", desc := "()I" } : Jvm.MethodName)) ∈ lw_all := lw_g (lw_at lw_m3 168 rfl) rfl
theorem q740 : (Jvm.Cond.selects "TwoWorlds$Not" ({ cls := "TwoWorlds$Formula", name := "depth", desc := "()I" } : Jvm.MethodName) ({ cls := "TwoWorlds$Not", name := "depth", desc := "()I" } : Jvm.MethodName)) ∈ lw_all := lw_g (lw_at lw_m3 174 rfl) rfl
theorem q776 : (Jvm.Cond.instanceMethod ({ cls := "TwoWorlds$Not", name := "write", desc := "(LTwoWorlds$Paper;)V" } : Jvm.MethodName)) ∈ lw_all := lw_g (lw_at lw_m3 210 rfl) rfl
theorem q777 : (Jvm.Cond.code ({ cls := "TwoWorlds$Not", name := "write", desc := "(LTwoWorlds$Paper;)V" } : Jvm.MethodName) prog_10_method_7_code (2 : Nat) (Option.none : Option Jvm.ClassFile.FieldType)) ∈ lw_all := lw_g (lw_at lw_m3 211 rfl) rfl
theorem q778 : (Jvm.Cond.methodLink "TwoWorlds$Not" (37 : Nat) ({ cls := "TwoWorlds$Not", name := "sign", desc := "(LTwoWorlds$Paper;)V" } : Jvm.MethodName)) ∈ lw_all := lw_g (lw_at lw_m3 212 rfl) rfl
theorem q779 : (Jvm.Cond.instanceMethod ({ cls := "TwoWorlds$Not", name := "sign", desc := "(LTwoWorlds$Paper;)V" } : Jvm.MethodName)) ∈ lw_all := lw_g (lw_at lw_m3 213 rfl) rfl
theorem q780 : (Jvm.Cond.selects "TwoWorlds$Not" ({ cls := "TwoWorlds$Not", name := "sign", desc := "(LTwoWorlds$Paper;)V" } : Jvm.MethodName) ({ cls := "TwoWorlds$Not", name := "sign", desc := "(LTwoWorlds$Paper;)V" } : Jvm.MethodName)) ∈ lw_all := lw_g (lw_at lw_m3 214 rfl) rfl
theorem q781 : (Jvm.Cond.sameMethod "TwoWorlds$Not" "TwoWorlds$Not" "sign" "(LTwoWorlds$Paper;)V") ∈ lw_all := lw_g (lw_at lw_m3 215 rfl) rfl
theorem q787 : (Jvm.Cond.code ({ cls := "TwoWorlds$Not", name := "sign", desc := "(LTwoWorlds$Paper;)V" } : Jvm.MethodName) prog_10_method_6_code (2 : Nat) (Option.none : Option Jvm.ClassFile.FieldType)) ∈ lw_all := lw_g (lw_at lw_m3 221 rfl) rfl
theorem q788 : (Jvm.Cond.methodLink "TwoWorlds$Not" (31 : Nat) ({ cls := "TwoWorlds$Paper", name := "put", desc := "(I)V" } : Jvm.MethodName)) ∈ lw_all := lw_g (lw_at lw_m3 222 rfl) rfl
theorem q789 : (Jvm.Cond.methodLink "TwoWorlds$Not" (41 : Nat) ({ cls := "TwoWorlds$Formula", name := "writeWithin", desc := "(LTwoWorlds$Paper;)V" } : Jvm.MethodName)) ∈ lw_all := lw_g (lw_at lw_m3 223 rfl) rfl
theorem q803 : (Jvm.Cond.selects "TwoWorlds$Not" ({ cls := "TwoWorlds$Formula", name := "writeWithin", desc := "(LTwoWorlds$Paper;)V" } : Jvm.MethodName) ({ cls := "TwoWorlds$Formula", name := "writeWithin", desc := "(LTwoWorlds$Paper;)V" } : Jvm.MethodName)) ∈ lw_all := lw_g (lw_at lw_m3 237 rfl) rfl
theorem q807 : (Jvm.Cond.selects "TwoWorlds$Not" ({ cls := "TwoWorlds$Formula", name := "write", desc := "(LTwoWorlds$Paper;)V" } : Jvm.MethodName) ({ cls := "TwoWorlds$Not", name := "write", desc := "(LTwoWorlds$Paper;)V" } : Jvm.MethodName)) ∈ lw_all := lw_g (lw_at lw_m4 1 rfl) rfl
theorem q904 : (Jvm.Cond.selects "TwoWorlds$Not" ({ cls := "TwoWorlds$Formula", name := "holds", desc := "(LTwoWorlds$Asking;)Z" } : Jvm.MethodName) ({ cls := "TwoWorlds$Not", name := "holds", desc := "(LTwoWorlds$Asking;)Z" } : Jvm.MethodName)) ∈ lw_all := lw_g (lw_at lw_m4 98 rfl) rfl
theorem q905 : (Jvm.Cond.instanceMethod ({ cls := "TwoWorlds$Not", name := "holds", desc := "(LTwoWorlds$Asking;)Z" } : Jvm.MethodName)) ∈ lw_all := lw_g (lw_at lw_m4 99 rfl) rfl
theorem q906 : (Jvm.Cond.code ({ cls := "TwoWorlds$Not", name := "holds", desc := "(LTwoWorlds$Asking;)Z" } : Jvm.MethodName) prog_10_method_2_code (2 : Nat) (Option.some Jvm.ClassFile.FieldType.boolean)) ∈ lw_all := lw_g (lw_at lw_m4 100 rfl) rfl
theorem q907 : (Jvm.Cond.methodLink "TwoWorlds$Not" (13 : Nat) ({ cls := "TwoWorlds$Asking", name := "asks", desc := "(LTwoWorlds$Formula;)Z" } : Jvm.MethodName)) ∈ lw_all := lw_g (lw_at lw_m4 101 rfl) rfl
theorem q964 : (Jvm.Cond.instanceMethod ({ cls := "TwoWorlds$Not", name := "isLike", desc := "(LTwoWorlds$Formula;)Z" } : Jvm.MethodName)) ∈ lw_all := lw_g (lw_at lw_m4 158 rfl) rfl
theorem q965 : (Jvm.Cond.code ({ cls := "TwoWorlds$Not", name := "isLike", desc := "(LTwoWorlds$Formula;)Z" } : Jvm.MethodName) prog_10_method_4_code (3 : Nat) (Option.some Jvm.ClassFile.FieldType.boolean)) ∈ lw_all := lw_g (lw_at lw_m4 159 rfl) rfl
theorem q966 : (Jvm.Cond.classLink "TwoWorlds$Not" (8 : Nat) "TwoWorlds$Not") ∈ lw_all := lw_g (lw_at lw_m4 160 rfl) rfl
theorem q967 : (Jvm.Cond.classLink "TwoWorlds$Not" (23 : Nat) "TwoWorlds$Each") ∈ lw_all := lw_g (lw_at lw_m4 161 rfl) rfl
theorem q968 : (Jvm.Cond.methodLink "TwoWorlds$Not" (25 : Nat) ({ cls := "TwoWorlds$Formula", name := "isLike", desc := "(LTwoWorlds$Formula;)Z" } : Jvm.MethodName)) ∈ lw_all := lw_g (lw_at lw_m4 162 rfl) rfl
theorem q970 : (Jvm.Cond.selects "TwoWorlds$Not" ({ cls := "TwoWorlds$Formula", name := "isLike", desc := "(LTwoWorlds$Formula;)Z" } : Jvm.MethodName) ({ cls := "TwoWorlds$Not", name := "isLike", desc := "(LTwoWorlds$Formula;)Z" } : Jvm.MethodName)) ∈ lw_all := lw_g (lw_at lw_m4 164 rfl) rfl
theorem q1730 : (Jvm.Cond.sameMethod "TwoWorlds$Not" "TwoWorlds$Not" "depth" "()I") ∈ lw_all := lw_g (lw_at lw_m7 204 rfl) rfl
theorem q1735 : (Jvm.Cond.castable "TwoWorlds$Not" "TwoWorlds$Formula") ∈ lw_tbl := lw_at lw_m7 209 rfl
theorem q1745 : (Jvm.Cond.castable "TwoWorlds$Not" "java/lang/Object") ∈ lw_tbl := lw_at lw_m7 219 rfl
theorem in_X8 : ∀ w ∈ wsX80, w ∈ lw_all := lw_in wsX80 [561] (by decide +kernel) (by decide +kernel)
def RX9 : String := "TwoWorlds$Each"
def TX9 : u_T := fun k => match k with
  | 0 => ("TwoWorlds$Not", "part", "LTwoWorlds$Formula;", true)
  | 1 => ("TwoWorlds$Each", "m", "I", true)
  | _ => ("TwoWorlds$Each", "isAll", "Z", true)
def tyX9 : Nat → FieldType := fun k => match k with
  | 0 => .object "TwoWorlds$Formula"
  | 1 => .int
  | _ => .boolean
abbrev wsX90 : List Cond := u_ws RX9 TX9 3
theorem nmX9 : ∀ a, a < 3 → ∀ b, b < 3 → a ≠ b → (TX9 a).2.1 ≠ (TX9 b).2.1 := by decide +kernel
theorem tyX9_ok : ∀ k, k < 3 → parseFieldDescriptor (TX9 k).2.2.1 = some (tyX9 k) := by decide +kernel
abbrev cX9_init : ByteArray := prog_6_method_1_code
abbrev yX9_init : MethodName := ⟨RX9, "<init>", "(LTwoWorlds$Formula;IZ)V"⟩
abbrev cX9_depth : ByteArray := prog_6_method_3_code
abbrev yX9_depth : MethodName := ⟨RX9, "depth", "()I"⟩
abbrev cX9_sign : ByteArray := prog_6_method_5_code
abbrev yX9_sign : MethodName := ⟨RX9, "sign", "(LTwoWorlds$Paper;)V"⟩
abbrev cX9_holds : ByteArray := prog_6_method_2_code
abbrev yX9_holds : MethodName := ⟨RX9, "holds", "(LTwoWorlds$Asking;)Z"⟩
abbrev cX9_isLike : ByteArray := prog_6_method_4_code
abbrev yX9_isLike : MethodName := ⟨RX9, "isLike", "(LTwoWorlds$Formula;)Z"⟩
theorem q101 : (Jvm.Cond.initialized "TwoWorlds$Each") ∈ lw_all := lw_g (lw_at lw_m1 15 rfl) rfl
theorem q214 : (Jvm.Cond.fieldLinkNest "TwoWorlds$Each" (23 : Nat) "TwoWorlds$World" "n" "I" "TwoWorlds") ∈ lw_tbl := lw_at lw_m1 128 rfl
theorem q559 : (Jvm.Cond.fieldLink "TwoWorlds$Each" (32 : Nat) "TwoWorlds$Each" "part" "LTwoWorlds$Formula;") ∈ lw_all := lw_g (lw_at lw_m2 233 rfl) rfl
theorem q560 : (Jvm.Cond.sameField "TwoWorlds$Each" "TwoWorlds$Not" "part" "LTwoWorlds$Formula;") ∈ lw_all := lw_g (lw_at lw_m2 234 rfl) rfl
theorem q569 : (Jvm.Cond.instantiable "TwoWorlds$Each" (3 : Nat)) ∈ lw_all := lw_g (lw_at lw_m3 3 rfl) rfl
theorem q571 : (Jvm.Cond.instanceMethod ({ cls := "TwoWorlds$Each", name := "<init>", desc := "(LTwoWorlds$Formula;IZ)V" } : Jvm.MethodName)) ∈ lw_all := lw_g (lw_at lw_m3 5 rfl) rfl
theorem q572 : (Jvm.Cond.code ({ cls := "TwoWorlds$Each", name := "<init>", desc := "(LTwoWorlds$Formula;IZ)V" } : Jvm.MethodName) prog_6_method_1_code (4 : Nat) (Option.none : Option Jvm.ClassFile.FieldType)) ∈ lw_all := lw_g (lw_at lw_m3 6 rfl) rfl
theorem q573 : (Jvm.Cond.methodLink "TwoWorlds$Each" (1 : Nat) ({ cls := "TwoWorlds$Not", name := "<init>", desc := "(LTwoWorlds$Formula;)V" } : Jvm.MethodName)) ∈ lw_all := lw_g (lw_at lw_m3 7 rfl) rfl
theorem q574 : (Jvm.Cond.fieldLink "TwoWorlds$Each" (7 : Nat) "TwoWorlds$Each" "m" "I") ∈ lw_all := lw_g (lw_at lw_m3 8 rfl) rfl
theorem q575 : (Jvm.Cond.fieldLink "TwoWorlds$Each" (13 : Nat) "TwoWorlds$Each" "isAll" "Z") ∈ lw_all := lw_g (lw_at lw_m3 9 rfl) rfl
theorem q576 : (Jvm.Cond.laysFinal "TwoWorlds$Each" "TwoWorlds$Each" "m" "I") ∈ lw_all := lw_g (lw_at lw_m3 10 rfl) rfl
theorem q577 : (Jvm.Cond.soleField "TwoWorlds$Each" "m") ∈ lw_all := lw_g (lw_at lw_m3 11 rfl) rfl
theorem q578 : (Jvm.Cond.laysFinal "TwoWorlds$Each" "TwoWorlds$Each" "isAll" "Z") ∈ lw_all := lw_g (lw_at lw_m3 12 rfl) rfl
theorem q579 : (Jvm.Cond.soleField "TwoWorlds$Each" "isAll") ∈ lw_all := lw_g (lw_at lw_m3 13 rfl) rfl
theorem q580 : (Jvm.Cond.laysFinal "TwoWorlds$Each" "TwoWorlds$Not" "part" "LTwoWorlds$Formula;") ∈ lw_all := lw_g (lw_at lw_m3 14 rfl) rfl
theorem q581 : (Jvm.Cond.superclass "TwoWorlds$Each" "TwoWorlds$Not") ∈ lw_all := lw_g (lw_at lw_m3 15 rfl) rfl
theorem q626 : (Jvm.Cond.selects "TwoWorlds$Each" ({ cls := "java/lang/Object", name := "getClass", desc := "()Ljava/lang/Class;" } : Jvm.MethodName) ({ cls := "java/lang/Object", name := "getClass", desc := "()Ljava/lang/Class;" } : Jvm.MethodName)) ∈ lw_all := lw_g (lw_at lw_m3 60 rfl) rfl
theorem q675 : (Jvm.Cond.selects "TwoWorlds$Each" ({ cls := "TwoWorlds$Formula", name := "nodes", desc := "()I" } : Jvm.MethodName) ({ cls := "TwoWorlds$Not", name := "nodes", desc := "()I" } : Jvm.MethodName)) ∈ lw_all := lw_g (lw_at lw_m3 109 rfl) rfl
theorem q728 : (Jvm.Cond.selects "TwoWorlds$Each" ({ cls := "TwoWorlds$Formula", name := "depth", desc := "()I" } : Jvm.MethodName) ({ cls := "TwoWorlds$Each", name := "depth", desc := "()I" } : Jvm.MethodName)) ∈ lw_all := lw_g (lw_at lw_m3 162 rfl) rfl
theorem q729 : (Jvm.Cond.instanceMethod ({ cls := "TwoWorlds$Each", name := "depth", desc := "()I" } : Jvm.MethodName)) ∈ lw_all := lw_g (lw_at lw_m3 163 rfl) rfl
theorem q730 : (Jvm.Cond.code ({ cls := "TwoWorlds$Each", name := "depth", desc := "()I" } : Jvm.MethodName) prog_6_method_3_code (1 : Nat) (Option.some Jvm.ClassFile.FieldType.int)) ∈ lw_all := lw_g (lw_at lw_m3 164 rfl) rfl
theorem q731 : (Jvm.Cond.methodLink "TwoWorlds$Each" (40 : Nat) ({ cls := "TwoWorlds$Not", name := "depth", desc := "()I" } : Jvm.MethodName)) ∈ lw_all := lw_g (lw_at lw_m3 165 rfl) rfl
theorem q775 : (Jvm.Cond.selects "TwoWorlds$Each" ({ cls := "TwoWorlds$Formula", name := "write", desc := "(LTwoWorlds$Paper;)V" } : Jvm.MethodName) ({ cls := "TwoWorlds$Not", name := "write", desc := "(LTwoWorlds$Paper;)V" } : Jvm.MethodName)) ∈ lw_all := lw_g (lw_at lw_m3 209 rfl) rfl
theorem q782 : (Jvm.Cond.selects "TwoWorlds$Each" ({ cls := "TwoWorlds$Not", name := "sign", desc := "(LTwoWorlds$Paper;)V" } : Jvm.MethodName) ({ cls := "TwoWorlds$Each", name := "sign", desc := "(LTwoWorlds$Paper;)V" } : Jvm.MethodName)) ∈ lw_all := lw_g (lw_at lw_m3 216 rfl) rfl
theorem q783 : (Jvm.Cond.instanceMethod ({ cls := "TwoWorlds$Each", name := "sign", desc := "(LTwoWorlds$Paper;)V" } : Jvm.MethodName)) ∈ lw_all := lw_g (lw_at lw_m3 217 rfl) rfl
theorem q784 : (Jvm.Cond.code ({ cls := "TwoWorlds$Each", name := "sign", desc := "(LTwoWorlds$Paper;)V" } : Jvm.MethodName) prog_6_method_5_code (2 : Nat) (Option.none : Option Jvm.ClassFile.FieldType)) ∈ lw_all := lw_g (lw_at lw_m3 218 rfl) rfl
theorem q785 : (Jvm.Cond.methodLink "TwoWorlds$Each" (49 : Nat) ({ cls := "TwoWorlds$Paper", name := "put", desc := "(I)V" } : Jvm.MethodName)) ∈ lw_all := lw_g (lw_at lw_m3 219 rfl) rfl
theorem q786 : (Jvm.Cond.methodLink "TwoWorlds$Each" (55 : Nat) ({ cls := "TwoWorlds$Paper", name := "variable", desc := "(I)V" } : Jvm.MethodName)) ∈ lw_all := lw_g (lw_at lw_m3 220 rfl) rfl
theorem q793 : (Jvm.Cond.selects "TwoWorlds$Each" ({ cls := "TwoWorlds$Formula", name := "writeWithin", desc := "(LTwoWorlds$Paper;)V" } : Jvm.MethodName) ({ cls := "TwoWorlds$Formula", name := "writeWithin", desc := "(LTwoWorlds$Paper;)V" } : Jvm.MethodName)) ∈ lw_all := lw_g (lw_at lw_m3 227 rfl) rfl
theorem q854 : (Jvm.Cond.fieldLinkNest "TwoWorlds$Each" (17 : Nat) "TwoWorlds$Asking" "world" "LTwoWorlds$World;" "TwoWorlds") ∈ lw_tbl := lw_at lw_m4 48 rfl
theorem q857 : (Jvm.Cond.fieldLinkNest "TwoWorlds$Each" (28 : Nat) "TwoWorlds$Asking" "things" "[I" "TwoWorlds") ∈ lw_tbl := lw_at lw_m4 51 rfl
theorem q896 : (Jvm.Cond.selects "TwoWorlds$Each" ({ cls := "TwoWorlds$Formula", name := "holds", desc := "(LTwoWorlds$Asking;)Z" } : Jvm.MethodName) ({ cls := "TwoWorlds$Each", name := "holds", desc := "(LTwoWorlds$Asking;)Z" } : Jvm.MethodName)) ∈ lw_all := lw_g (lw_at lw_m4 90 rfl) rfl
theorem q897 : (Jvm.Cond.instanceMethod ({ cls := "TwoWorlds$Each", name := "holds", desc := "(LTwoWorlds$Asking;)Z" } : Jvm.MethodName)) ∈ lw_all := lw_g (lw_at lw_m4 91 rfl) rfl
theorem q898 : (Jvm.Cond.code ({ cls := "TwoWorlds$Each", name := "holds", desc := "(LTwoWorlds$Asking;)Z" } : Jvm.MethodName) prog_6_method_2_code (4 : Nat) (Option.some Jvm.ClassFile.FieldType.boolean)) ∈ lw_all := lw_g (lw_at lw_m4 92 rfl) rfl
theorem q899 : (Jvm.Cond.methodLink "TwoWorlds$Each" (36 : Nat) ({ cls := "TwoWorlds$Asking", name := "asks", desc := "(LTwoWorlds$Formula;)Z" } : Jvm.MethodName)) ∈ lw_all := lw_g (lw_at lw_m4 93 rfl) rfl
theorem q955 : (Jvm.Cond.selects "TwoWorlds$Each" ({ cls := "TwoWorlds$Formula", name := "isLike", desc := "(LTwoWorlds$Formula;)Z" } : Jvm.MethodName) ({ cls := "TwoWorlds$Each", name := "isLike", desc := "(LTwoWorlds$Formula;)Z" } : Jvm.MethodName)) ∈ lw_all := lw_g (lw_at lw_m4 149 rfl) rfl
theorem q956 : (Jvm.Cond.instanceMethod ({ cls := "TwoWorlds$Each", name := "isLike", desc := "(LTwoWorlds$Formula;)Z" } : Jvm.MethodName)) ∈ lw_all := lw_g (lw_at lw_m4 150 rfl) rfl
theorem q957 : (Jvm.Cond.code ({ cls := "TwoWorlds$Each", name := "isLike", desc := "(LTwoWorlds$Formula;)Z" } : Jvm.MethodName) prog_6_method_4_code (3 : Nat) (Option.some Jvm.ClassFile.FieldType.boolean)) ∈ lw_all := lw_g (lw_at lw_m4 151 rfl) rfl
theorem q958 : (Jvm.Cond.classLink "TwoWorlds$Each" (8 : Nat) "TwoWorlds$Each") ∈ lw_all := lw_g (lw_at lw_m4 152 rfl) rfl
theorem q959 : (Jvm.Cond.methodLink "TwoWorlds$Each" (44 : Nat) ({ cls := "TwoWorlds$Formula", name := "isLike", desc := "(LTwoWorlds$Formula;)Z" } : Jvm.MethodName)) ∈ lw_all := lw_g (lw_at lw_m4 153 rfl) rfl
theorem q1733 : (Jvm.Cond.castable "TwoWorlds$Each" "TwoWorlds$Formula") ∈ lw_tbl := lw_at lw_m7 207 rfl
theorem q1736 : (Jvm.Cond.castable "TwoWorlds$Each" "TwoWorlds$Not") ∈ lw_tbl := lw_at lw_m7 210 rfl
theorem q1746 : (Jvm.Cond.castable "TwoWorlds$Each" "java/lang/Object") ∈ lw_tbl := lw_at lw_m7 220 rfl
theorem in_X9 : ∀ w ∈ wsX90, w ∈ lw_all := lw_in wsX90 [580, 576, 578] (by decide +kernel) (by decide +kernel)
def RX10 : String := "TwoWorlds$Many"
def TX10 : u_T := fun k => match k with
  | 0 => ("TwoWorlds$Many", "parts", "Ljava/util/List;", true)
  | _ => ("TwoWorlds$Many", "sign", "C", true)
def tyX10 : Nat → FieldType := fun k => match k with
  | 0 => .object "java/util/List"
  | _ => .char
abbrev wsX100 : List Cond := u_ws RX10 TX10 2
theorem nmX10 : ∀ a, a < 2 → ∀ b, b < 2 → a ≠ b → (TX10 a).2.1 ≠ (TX10 b).2.1 := by decide +kernel
theorem tyX10_ok : ∀ k, k < 2 → parseFieldDescriptor (TX10 k).2.2.1 = some (tyX10 k) := by decide +kernel
abbrev cX10_init : ByteArray := prog_8_method_1_code
abbrev yX10_init : MethodName := ⟨RX10, "<init>", "(Ljava/util/List;C)V"⟩
abbrev cX10_nodes : ByteArray := prog_8_method_4_code
abbrev yX10_nodes : MethodName := ⟨RX10, "nodes", "()I"⟩
abbrev cX10_depth : ByteArray := prog_8_method_3_code
abbrev yX10_depth : MethodName := ⟨RX10, "depth", "()I"⟩
abbrev cX10_writeWithin : ByteArray := prog_8_method_7_code
abbrev yX10_writeWithin : MethodName := ⟨RX10, "writeWithin", "(LTwoWorlds$Paper;)V"⟩
abbrev cX10_write : ByteArray := prog_8_method_6_code
abbrev yX10_write : MethodName := ⟨RX10, "write", "(LTwoWorlds$Paper;)V"⟩
abbrev cX10_holds : ByteArray := prog_8_method_2_code
abbrev yX10_holds : MethodName := ⟨RX10, "holds", "(LTwoWorlds$Asking;)Z"⟩
abbrev cX10_isLike : ByteArray := prog_8_method_5_code
abbrev yX10_isLike : MethodName := ⟨RX10, "isLike", "(LTwoWorlds$Formula;)Z"⟩
theorem q106 : (Jvm.Cond.initialized "TwoWorlds$Many") ∈ lw_all := lw_g (lw_at lw_m1 20 rfl) rfl
theorem q627 : (Jvm.Cond.selects "TwoWorlds$Many" ({ cls := "java/lang/Object", name := "getClass", desc := "()Ljava/lang/Class;" } : Jvm.MethodName) ({ cls := "java/lang/Object", name := "getClass", desc := "()Ljava/lang/Class;" } : Jvm.MethodName)) ∈ lw_all := lw_g (lw_at lw_m3 61 rfl) rfl
theorem q655 : (Jvm.Cond.instantiable "TwoWorlds$Many" (2 : Nat)) ∈ lw_all := lw_g (lw_at lw_m3 89 rfl) rfl
theorem q657 : (Jvm.Cond.instanceMethod ({ cls := "TwoWorlds$Many", name := "<init>", desc := "(Ljava/util/List;C)V" } : Jvm.MethodName)) ∈ lw_all := lw_g (lw_at lw_m3 91 rfl) rfl
theorem q658 : (Jvm.Cond.code ({ cls := "TwoWorlds$Many", name := "<init>", desc := "(Ljava/util/List;C)V" } : Jvm.MethodName) prog_8_method_1_code (3 : Nat) (Option.none : Option Jvm.ClassFile.FieldType)) ∈ lw_all := lw_g (lw_at lw_m3 92 rfl) rfl
theorem q659 : (Jvm.Cond.methodLinkNest "TwoWorlds$Many" (1 : Nat) ({ cls := "TwoWorlds$Formula", name := "<init>", desc := "()V" } : Jvm.MethodName) "TwoWorlds") ∈ lw_tbl := lw_at lw_m3 93 rfl
theorem q660 : (Jvm.Cond.fieldLink "TwoWorlds$Many" (7 : Nat) "TwoWorlds$Many" "parts" "Ljava/util/List;") ∈ lw_all := lw_g (lw_at lw_m3 94 rfl) rfl
theorem q661 : (Jvm.Cond.fieldLink "TwoWorlds$Many" (13 : Nat) "TwoWorlds$Many" "sign" "C") ∈ lw_all := lw_g (lw_at lw_m3 95 rfl) rfl
theorem q662 : (Jvm.Cond.laysFinal "TwoWorlds$Many" "TwoWorlds$Many" "parts" "Ljava/util/List;") ∈ lw_all := lw_g (lw_at lw_m3 96 rfl) rfl
theorem q663 : (Jvm.Cond.soleField "TwoWorlds$Many" "parts") ∈ lw_all := lw_g (lw_at lw_m3 97 rfl) rfl
theorem q664 : (Jvm.Cond.laysFinal "TwoWorlds$Many" "TwoWorlds$Many" "sign" "C") ∈ lw_all := lw_g (lw_at lw_m3 98 rfl) rfl
theorem q665 : (Jvm.Cond.soleField "TwoWorlds$Many" "sign") ∈ lw_all := lw_g (lw_at lw_m3 99 rfl) rfl
theorem q666 : (Jvm.Cond.superclass "TwoWorlds$Many" "TwoWorlds$Formula") ∈ lw_all := lw_g (lw_at lw_m3 100 rfl) rfl
theorem q679 : (Jvm.Cond.instanceMethod ({ cls := "TwoWorlds$Many", name := "nodes", desc := "()I" } : Jvm.MethodName)) ∈ lw_all := lw_g (lw_at lw_m3 113 rfl) rfl
theorem q680 : (Jvm.Cond.code ({ cls := "TwoWorlds$Many", name := "nodes", desc := "()I" } : Jvm.MethodName) prog_8_method_4_code (3 : Nat) (Option.some Jvm.ClassFile.FieldType.int)) ∈ lw_all := lw_g (lw_at lw_m3 114 rfl) rfl
theorem q681 : (Jvm.Cond.methodLink "TwoWorlds$Many" (42 : Nat) ({ cls := "TwoWorlds$Formula", name := "nodes", desc := "()I" } : Jvm.MethodName)) ∈ lw_all := lw_g (lw_at lw_m3 115 rfl) rfl
theorem q682 : (Jvm.Cond.interfaceEntry "TwoWorlds$Many" (17 : Nat)) ∈ lw_tbl := lw_at lw_m3 116 rfl
theorem q683 : (Jvm.Cond.methodLink "TwoWorlds$Many" (17 : Nat) ({ cls := "java/util/List", name := "size", desc := "()I" } : Jvm.MethodName)) ∈ lw_all := lw_g (lw_at lw_m3 117 rfl) rfl
theorem q691 : (Jvm.Cond.interfaceEntry "TwoWorlds$Many" (23 : Nat)) ∈ lw_tbl := lw_at lw_m3 125 rfl
theorem q692 : (Jvm.Cond.methodLink "TwoWorlds$Many" (23 : Nat) ({ cls := "java/util/List", name := "get", desc := "(I)Ljava/lang/Object;" } : Jvm.MethodName)) ∈ lw_all := lw_g (lw_at lw_m3 126 rfl) rfl
theorem q710 : (Jvm.Cond.classLink "TwoWorlds$Many" (2 : Nat) "TwoWorlds$Formula") ∈ lw_all := lw_g (lw_at lw_m3 144 rfl) rfl
theorem q711 : (Jvm.Cond.selects "TwoWorlds$Many" ({ cls := "TwoWorlds$Formula", name := "nodes", desc := "()I" } : Jvm.MethodName) ({ cls := "TwoWorlds$Many", name := "nodes", desc := "()I" } : Jvm.MethodName)) ∈ lw_all := lw_g (lw_at lw_m3 145 rfl) rfl
theorem q735 : (Jvm.Cond.instanceMethod ({ cls := "TwoWorlds$Many", name := "depth", desc := "()I" } : Jvm.MethodName)) ∈ lw_all := lw_g (lw_at lw_m3 169 rfl) rfl
theorem q736 : (Jvm.Cond.code ({ cls := "TwoWorlds$Many", name := "depth", desc := "()I" } : Jvm.MethodName) prog_8_method_3_code (3 : Nat) (Option.some Jvm.ClassFile.FieldType.int)) ∈ lw_all := lw_g (lw_at lw_m3 170 rfl) rfl
theorem q737 : (Jvm.Cond.methodLink "TwoWorlds$Many" (33 : Nat) ({ cls := "TwoWorlds$Formula", name := "depth", desc := "()I" } : Jvm.MethodName)) ∈ lw_all := lw_g (lw_at lw_m3 171 rfl) rfl
theorem q738 : (Jvm.Cond.methodLink "TwoWorlds$Many" (36 : Nat) ({ cls := "java/lang/Math", name := "max", desc := "(II)I" } : Jvm.MethodName)) ∈ lw_all := lw_g (lw_at lw_m3 172 rfl) rfl
theorem q739 : (Jvm.Cond.selects "TwoWorlds$Many" ({ cls := "TwoWorlds$Formula", name := "depth", desc := "()I" } : Jvm.MethodName) ({ cls := "TwoWorlds$Many", name := "depth", desc := "()I" } : Jvm.MethodName)) ∈ lw_all := lw_g (lw_at lw_m3 173 rfl) rfl
theorem q794 : (Jvm.Cond.selects "TwoWorlds$Many" ({ cls := "TwoWorlds$Formula", name := "writeWithin", desc := "(LTwoWorlds$Paper;)V" } : Jvm.MethodName) ({ cls := "TwoWorlds$Many", name := "writeWithin", desc := "(LTwoWorlds$Paper;)V" } : Jvm.MethodName)) ∈ lw_all := lw_g (lw_at lw_m3 228 rfl) rfl
theorem q795 : (Jvm.Cond.instanceMethod ({ cls := "TwoWorlds$Many", name := "writeWithin", desc := "(LTwoWorlds$Paper;)V" } : Jvm.MethodName)) ∈ lw_all := lw_g (lw_at lw_m3 229 rfl) rfl
theorem q796 : (Jvm.Cond.code ({ cls := "TwoWorlds$Many", name := "writeWithin", desc := "(LTwoWorlds$Paper;)V" } : Jvm.MethodName) prog_8_method_7_code (2 : Nat) (Option.none : Option Jvm.ClassFile.FieldType)) ∈ lw_all := lw_g (lw_at lw_m3 230 rfl) rfl
theorem q797 : (Jvm.Cond.methodLink "TwoWorlds$Many" (48 : Nat) ({ cls := "TwoWorlds$Paper", name := "put", desc := "(I)V" } : Jvm.MethodName)) ∈ lw_all := lw_g (lw_at lw_m3 231 rfl) rfl
theorem q798 : (Jvm.Cond.methodLink "TwoWorlds$Many" (58 : Nat) ({ cls := "TwoWorlds$Many", name := "write", desc := "(LTwoWorlds$Paper;)V" } : Jvm.MethodName)) ∈ lw_all := lw_g (lw_at lw_m3 232 rfl) rfl
theorem q799 : (Jvm.Cond.instanceMethod ({ cls := "TwoWorlds$Many", name := "write", desc := "(LTwoWorlds$Paper;)V" } : Jvm.MethodName)) ∈ lw_all := lw_g (lw_at lw_m3 233 rfl) rfl
theorem q800 : (Jvm.Cond.selects "TwoWorlds$Many" ({ cls := "TwoWorlds$Many", name := "write", desc := "(LTwoWorlds$Paper;)V" } : Jvm.MethodName) ({ cls := "TwoWorlds$Many", name := "write", desc := "(LTwoWorlds$Paper;)V" } : Jvm.MethodName)) ∈ lw_all := lw_g (lw_at lw_m3 234 rfl) rfl
theorem q801 : (Jvm.Cond.code ({ cls := "TwoWorlds$Many", name := "write", desc := "(LTwoWorlds$Paper;)V" } : Jvm.MethodName) prog_8_method_6_code (3 : Nat) (Option.none : Option Jvm.ClassFile.FieldType)) ∈ lw_all := lw_g (lw_at lw_m3 235 rfl) rfl
theorem q802 : (Jvm.Cond.methodLink "TwoWorlds$Many" (54 : Nat) ({ cls := "TwoWorlds$Formula", name := "writeWithin", desc := "(LTwoWorlds$Paper;)V" } : Jvm.MethodName)) ∈ lw_all := lw_g (lw_at lw_m3 236 rfl) rfl
theorem q806 : (Jvm.Cond.selects "TwoWorlds$Many" ({ cls := "TwoWorlds$Formula", name := "write", desc := "(LTwoWorlds$Paper;)V" } : Jvm.MethodName) ({ cls := "TwoWorlds$Many", name := "write", desc := "(LTwoWorlds$Paper;)V" } : Jvm.MethodName)) ∈ lw_all := lw_g (lw_at lw_m4 0 rfl) rfl
theorem q900 : (Jvm.Cond.selects "TwoWorlds$Many" ({ cls := "TwoWorlds$Formula", name := "holds", desc := "(LTwoWorlds$Asking;)Z" } : Jvm.MethodName) ({ cls := "TwoWorlds$Many", name := "holds", desc := "(LTwoWorlds$Asking;)Z" } : Jvm.MethodName)) ∈ lw_all := lw_g (lw_at lw_m4 94 rfl) rfl
theorem q901 : (Jvm.Cond.instanceMethod ({ cls := "TwoWorlds$Many", name := "holds", desc := "(LTwoWorlds$Asking;)Z" } : Jvm.MethodName)) ∈ lw_all := lw_g (lw_at lw_m4 95 rfl) rfl
theorem q902 : (Jvm.Cond.code ({ cls := "TwoWorlds$Many", name := "holds", desc := "(LTwoWorlds$Asking;)Z" } : Jvm.MethodName) prog_8_method_2_code (5 : Nat) (Option.some Jvm.ClassFile.FieldType.boolean)) ∈ lw_all := lw_g (lw_at lw_m4 96 rfl) rfl
theorem q903 : (Jvm.Cond.methodLink "TwoWorlds$Many" (27 : Nat) ({ cls := "TwoWorlds$Asking", name := "asks", desc := "(LTwoWorlds$Formula;)Z" } : Jvm.MethodName)) ∈ lw_all := lw_g (lw_at lw_m4 97 rfl) rfl
theorem q960 : (Jvm.Cond.instanceMethod ({ cls := "TwoWorlds$Many", name := "isLike", desc := "(LTwoWorlds$Formula;)Z" } : Jvm.MethodName)) ∈ lw_all := lw_g (lw_at lw_m4 154 rfl) rfl
theorem q961 : (Jvm.Cond.code ({ cls := "TwoWorlds$Many", name := "isLike", desc := "(LTwoWorlds$Formula;)Z" } : Jvm.MethodName) prog_8_method_5_code (4 : Nat) (Option.some Jvm.ClassFile.FieldType.boolean)) ∈ lw_all := lw_g (lw_at lw_m4 155 rfl) rfl
theorem q962 : (Jvm.Cond.classLink "TwoWorlds$Many" (8 : Nat) "TwoWorlds$Many") ∈ lw_all := lw_g (lw_at lw_m4 156 rfl) rfl
theorem q963 : (Jvm.Cond.methodLink "TwoWorlds$Many" (45 : Nat) ({ cls := "TwoWorlds$Formula", name := "isLike", desc := "(LTwoWorlds$Formula;)Z" } : Jvm.MethodName)) ∈ lw_all := lw_g (lw_at lw_m4 157 rfl) rfl
theorem q969 : (Jvm.Cond.selects "TwoWorlds$Many" ({ cls := "TwoWorlds$Formula", name := "isLike", desc := "(LTwoWorlds$Formula;)Z" } : Jvm.MethodName) ({ cls := "TwoWorlds$Many", name := "isLike", desc := "(LTwoWorlds$Formula;)Z" } : Jvm.MethodName)) ∈ lw_all := lw_g (lw_at lw_m4 163 rfl) rfl
theorem q1734 : (Jvm.Cond.castable "TwoWorlds$Many" "TwoWorlds$Formula") ∈ lw_tbl := lw_at lw_m7 208 rfl
theorem q1747 : (Jvm.Cond.castable "TwoWorlds$Many" "java/lang/Object") ∈ lw_tbl := lw_at lw_m7 221 rfl
theorem in_X10 : ∀ w ∈ wsX100, w ∈ lw_all := lw_in wsX100 [662, 664] (by decide +kernel) (by decide +kernel)
def RX11 : String := "TwoWorlds$Sentence"
def TX11 : u_T := fun k => match k with
  | 0 => ("TwoWorlds$Sentence", "formula", "LTwoWorlds$Formula;", true)
  | 1 => ("TwoWorlds$Sentence", "depth", "I", true)
  | 2 => ("TwoWorlds$Sentence", "nodes", "I", true)
  | _ => ("TwoWorlds$Sentence", "text", "[B", true)
def tyX11 : Nat → FieldType := fun k => match k with
  | 0 => .object "TwoWorlds$Formula"
  | 1 => .int
  | 2 => .int
  | _ => .array .byte
abbrev wsX110 : List Cond := u_ws RX11 TX11 4
theorem nmX11 : ∀ a, a < 4 → ∀ b, b < 4 → a ≠ b → (TX11 a).2.1 ≠ (TX11 b).2.1 := by decide +kernel
theorem tyX11_ok : ∀ k, k < 4 → parseFieldDescriptor (TX11 k).2.2.1 = some (tyX11 k) := by decide +kernel
abbrev cX11_init : ByteArray := prog_14_method_1_code
abbrev yX11_init : MethodName := ⟨RX11, "<init>", "(LTwoWorlds$Formula;)V"⟩
abbrev cX11_isLike : ByteArray := prog_14_method_2_code
abbrev yX11_isLike : MethodName := ⟨RX11, "isLike", "(LTwoWorlds$Sentence;)Z"⟩
theorem q109 : (Jvm.Cond.initialized "TwoWorlds$Sentence") ∈ lw_all := lw_g (lw_at lw_m1 23 rfl) rfl
theorem q633 : (Jvm.Cond.selects "TwoWorlds$Sentence" ({ cls := "java/lang/Object", name := "getClass", desc := "()Ljava/lang/Class;" } : Jvm.MethodName) ({ cls := "java/lang/Object", name := "getClass", desc := "()Ljava/lang/Class;" } : Jvm.MethodName)) ∈ lw_all := lw_g (lw_at lw_m3 67 rfl) rfl
theorem q717 : (Jvm.Cond.instantiable "TwoWorlds$Sentence" (4 : Nat)) ∈ lw_all := lw_g (lw_at lw_m3 151 rfl) rfl
theorem q719 : (Jvm.Cond.instanceMethod ({ cls := "TwoWorlds$Sentence", name := "<init>", desc := "(LTwoWorlds$Formula;)V" } : Jvm.MethodName)) ∈ lw_all := lw_g (lw_at lw_m3 153 rfl) rfl
theorem q720 : (Jvm.Cond.code ({ cls := "TwoWorlds$Sentence", name := "<init>", desc := "(LTwoWorlds$Formula;)V" } : Jvm.MethodName) prog_14_method_1_code (2 : Nat) (Option.none : Option Jvm.ClassFile.FieldType)) ∈ lw_all := lw_g (lw_at lw_m3 154 rfl) rfl
theorem q721 : (Jvm.Cond.methodLink "TwoWorlds$Sentence" (1 : Nat) ({ cls := "java/lang/Object", name := "<init>", desc := "()V" } : Jvm.MethodName)) ∈ lw_all := lw_g (lw_at lw_m3 155 rfl) rfl
theorem q722 : (Jvm.Cond.methodLink "TwoWorlds$Sentence" (13 : Nat) ({ cls := "TwoWorlds$Formula", name := "depth", desc := "()I" } : Jvm.MethodName)) ∈ lw_all := lw_g (lw_at lw_m3 156 rfl) rfl
theorem q741 : (Jvm.Cond.methodLink "TwoWorlds$Sentence" (22 : Nat) ({ cls := "TwoWorlds$Formula", name := "nodes", desc := "()I" } : Jvm.MethodName)) ∈ lw_all := lw_g (lw_at lw_m3 175 rfl) rfl
theorem q742 : (Jvm.Cond.methodLinkNest "TwoWorlds$Sentence" (27 : Nat) ({ cls := "TwoWorlds", name := "textOf", desc := "(LTwoWorlds$Formula;)[B" } : Jvm.MethodName) "TwoWorlds") ∈ lw_tbl := lw_at lw_m3 176 rfl
theorem q809 : (Jvm.Cond.fieldLink "TwoWorlds$Sentence" (7 : Nat) "TwoWorlds$Sentence" "formula" "LTwoWorlds$Formula;") ∈ lw_all := lw_g (lw_at lw_m4 3 rfl) rfl
theorem q811 : (Jvm.Cond.fieldLink "TwoWorlds$Sentence" (19 : Nat) "TwoWorlds$Sentence" "depth" "I") ∈ lw_all := lw_g (lw_at lw_m4 5 rfl) rfl
theorem q813 : (Jvm.Cond.fieldLink "TwoWorlds$Sentence" (25 : Nat) "TwoWorlds$Sentence" "nodes" "I") ∈ lw_all := lw_g (lw_at lw_m4 7 rfl) rfl
theorem q815 : (Jvm.Cond.fieldLink "TwoWorlds$Sentence" (33 : Nat) "TwoWorlds$Sentence" "text" "[B") ∈ lw_all := lw_g (lw_at lw_m4 9 rfl) rfl
theorem q817 : (Jvm.Cond.laysFinal "TwoWorlds$Sentence" "TwoWorlds$Sentence" "formula" "LTwoWorlds$Formula;") ∈ lw_all := lw_g (lw_at lw_m4 11 rfl) rfl
theorem q818 : (Jvm.Cond.soleField "TwoWorlds$Sentence" "formula") ∈ lw_all := lw_g (lw_at lw_m4 12 rfl) rfl
theorem q819 : (Jvm.Cond.laysFinal "TwoWorlds$Sentence" "TwoWorlds$Sentence" "depth" "I") ∈ lw_all := lw_g (lw_at lw_m4 13 rfl) rfl
theorem q820 : (Jvm.Cond.soleField "TwoWorlds$Sentence" "depth") ∈ lw_all := lw_g (lw_at lw_m4 14 rfl) rfl
theorem q821 : (Jvm.Cond.laysFinal "TwoWorlds$Sentence" "TwoWorlds$Sentence" "nodes" "I") ∈ lw_all := lw_g (lw_at lw_m4 15 rfl) rfl
theorem q822 : (Jvm.Cond.soleField "TwoWorlds$Sentence" "nodes") ∈ lw_all := lw_g (lw_at lw_m4 16 rfl) rfl
theorem q823 : (Jvm.Cond.laysFinal "TwoWorlds$Sentence" "TwoWorlds$Sentence" "text" "[B") ∈ lw_all := lw_g (lw_at lw_m4 17 rfl) rfl
theorem q824 : (Jvm.Cond.soleField "TwoWorlds$Sentence" "text") ∈ lw_all := lw_g (lw_at lw_m4 18 rfl) rfl
theorem q825 : (Jvm.Cond.superclass "TwoWorlds$Sentence" "java/lang/Object") ∈ lw_all := lw_g (lw_at lw_m4 19 rfl) rfl
theorem q917 : (Jvm.Cond.instanceMethod ({ cls := "TwoWorlds$Sentence", name := "isLike", desc := "(LTwoWorlds$Sentence;)Z" } : Jvm.MethodName)) ∈ lw_all := lw_g (lw_at lw_m4 111 rfl) rfl
theorem q918 : (Jvm.Cond.selects "TwoWorlds$Sentence" ({ cls := "TwoWorlds$Sentence", name := "isLike", desc := "(LTwoWorlds$Sentence;)Z" } : Jvm.MethodName) ({ cls := "TwoWorlds$Sentence", name := "isLike", desc := "(LTwoWorlds$Sentence;)Z" } : Jvm.MethodName)) ∈ lw_all := lw_g (lw_at lw_m4 112 rfl) rfl
theorem q919 : (Jvm.Cond.code ({ cls := "TwoWorlds$Sentence", name := "isLike", desc := "(LTwoWorlds$Sentence;)Z" } : Jvm.MethodName) prog_14_method_2_code (4 : Nat) (Option.some Jvm.ClassFile.FieldType.boolean)) ∈ lw_all := lw_g (lw_at lw_m4 113 rfl) rfl
theorem q1748 : (Jvm.Cond.castable "TwoWorlds$Sentence" "java/lang/Object") ∈ lw_tbl := lw_at lw_m7 222 rfl
theorem in_X11 : ∀ w ∈ wsX110, w ∈ lw_all := lw_in wsX110 [817, 819, 821, 823] (by decide +kernel) (by decide +kernel)
def RX12 : String := "TwoWorlds$Paper"
def TX12 : u_T := fun k => match k with
  | 0 => ("TwoWorlds$Paper", "bytes", "[B", true)
  | _ => ("TwoWorlds$Paper", "size", "I", false)
def tyX12 : Nat → FieldType := fun k => match k with
  | 0 => .array .byte
  | _ => .int
abbrev wsX120 : List Cond := u_ws RX12 TX12 2
theorem nmX12 : ∀ a, a < 2 → ∀ b, b < 2 → a ≠ b → (TX12 a).2.1 ≠ (TX12 b).2.1 := by decide +kernel
theorem tyX12_ok : ∀ k, k < 2 → parseFieldDescriptor (TX12 k).2.2.1 = some (tyX12 k) := by decide +kernel
abbrev cX12_init : ByteArray := prog_12_method_1_code
abbrev yX12_init : MethodName := ⟨RX12, "<init>", "()V"⟩
abbrev cX12_put : ByteArray := prog_12_method_2_code
abbrev yX12_put : MethodName := ⟨RX12, "put", "(I)V"⟩
abbrev cX12_variable : ByteArray := prog_12_method_3_code
abbrev yX12_variable : MethodName := ⟨RX12, "variable", "(I)V"⟩
theorem q110 : (Jvm.Cond.initialized "TwoWorlds$Paper") ∈ lw_all := lw_g (lw_at lw_m1 24 rfl) rfl
theorem q631 : (Jvm.Cond.selects "TwoWorlds$Paper" ({ cls := "java/lang/Object", name := "getClass", desc := "()Ljava/lang/Class;" } : Jvm.MethodName) ({ cls := "java/lang/Object", name := "getClass", desc := "()Ljava/lang/Class;" } : Jvm.MethodName)) ∈ lw_all := lw_g (lw_at lw_m3 65 rfl) rfl
theorem q746 : (Jvm.Cond.instantiable "TwoWorlds$Paper" (2 : Nat)) ∈ lw_all := lw_g (lw_at lw_m3 180 rfl) rfl
theorem q748 : (Jvm.Cond.instanceMethod ({ cls := "TwoWorlds$Paper", name := "<init>", desc := "()V" } : Jvm.MethodName)) ∈ lw_all := lw_g (lw_at lw_m3 182 rfl) rfl
theorem q749 : (Jvm.Cond.code ({ cls := "TwoWorlds$Paper", name := "<init>", desc := "()V" } : Jvm.MethodName) prog_12_method_1_code (1 : Nat) (Option.none : Option Jvm.ClassFile.FieldType)) ∈ lw_all := lw_g (lw_at lw_m3 183 rfl) rfl
theorem q750 : (Jvm.Cond.methodLink "TwoWorlds$Paper" (3 : Nat) ({ cls := "java/lang/Object", name := "<init>", desc := "()V" } : Jvm.MethodName)) ∈ lw_all := lw_g (lw_at lw_m3 184 rfl) rfl
theorem q751 : (Jvm.Cond.fieldLink "TwoWorlds$Paper" (9 : Nat) "TwoWorlds$Paper" "bytes" "[B") ∈ lw_all := lw_g (lw_at lw_m3 185 rfl) rfl
theorem q753 : (Jvm.Cond.fieldLink "TwoWorlds$Paper" (15 : Nat) "TwoWorlds$Paper" "size" "I") ∈ lw_all := lw_g (lw_at lw_m3 187 rfl) rfl
theorem q755 : (Jvm.Cond.laysFinal "TwoWorlds$Paper" "TwoWorlds$Paper" "bytes" "[B") ∈ lw_all := lw_g (lw_at lw_m3 189 rfl) rfl
theorem q756 : (Jvm.Cond.soleField "TwoWorlds$Paper" "bytes") ∈ lw_all := lw_g (lw_at lw_m3 190 rfl) rfl
theorem q757 : (Jvm.Cond.lays "TwoWorlds$Paper" "TwoWorlds$Paper" "size" "I") ∈ lw_all := lw_g (lw_at lw_m3 191 rfl) rfl
theorem q758 : (Jvm.Cond.soleField "TwoWorlds$Paper" "size") ∈ lw_all := lw_g (lw_at lw_m3 192 rfl) rfl
theorem q759 : (Jvm.Cond.superclass "TwoWorlds$Paper" "java/lang/Object") ∈ lw_all := lw_g (lw_at lw_m3 193 rfl) rfl
theorem q767 : (Jvm.Cond.instanceMethod ({ cls := "TwoWorlds$Paper", name := "put", desc := "(I)V" } : Jvm.MethodName)) ∈ lw_all := lw_g (lw_at lw_m3 201 rfl) rfl
theorem q768 : (Jvm.Cond.selects "TwoWorlds$Paper" ({ cls := "TwoWorlds$Paper", name := "put", desc := "(I)V" } : Jvm.MethodName) ({ cls := "TwoWorlds$Paper", name := "put", desc := "(I)V" } : Jvm.MethodName)) ∈ lw_all := lw_g (lw_at lw_m3 202 rfl) rfl
theorem q769 : (Jvm.Cond.code ({ cls := "TwoWorlds$Paper", name := "put", desc := "(I)V" } : Jvm.MethodName) prog_12_method_2_code (2 : Nat) (Option.none : Option Jvm.ClassFile.FieldType)) ∈ lw_all := lw_g (lw_at lw_m3 203 rfl) rfl
theorem q771 : (Jvm.Cond.instanceMethod ({ cls := "TwoWorlds$Paper", name := "variable", desc := "(I)V" } : Jvm.MethodName)) ∈ lw_all := lw_g (lw_at lw_m3 205 rfl) rfl
theorem q772 : (Jvm.Cond.selects "TwoWorlds$Paper" ({ cls := "TwoWorlds$Paper", name := "variable", desc := "(I)V" } : Jvm.MethodName) ({ cls := "TwoWorlds$Paper", name := "variable", desc := "(I)V" } : Jvm.MethodName)) ∈ lw_all := lw_g (lw_at lw_m3 206 rfl) rfl
theorem q773 : (Jvm.Cond.code ({ cls := "TwoWorlds$Paper", name := "variable", desc := "(I)V" } : Jvm.MethodName) prog_12_method_3_code (2 : Nat) (Option.none : Option Jvm.ClassFile.FieldType)) ∈ lw_all := lw_g (lw_at lw_m3 207 rfl) rfl
theorem q774 : (Jvm.Cond.methodLink "TwoWorlds$Paper" (19 : Nat) ({ cls := "TwoWorlds$Paper", name := "put", desc := "(I)V" } : Jvm.MethodName)) ∈ lw_all := lw_g (lw_at lw_m3 208 rfl) rfl
theorem q1749 : (Jvm.Cond.castable "TwoWorlds$Paper" "java/lang/Object") ∈ lw_tbl := lw_at lw_m7 223 rfl
theorem in_X12 : ∀ w ∈ wsX120, w ∈ lw_all := lw_in wsX120 [755, 757] (by decide +kernel) (by decide +kernel)
def RX13 : String := "TwoWorlds$Asking"
def TX13 : u_T := fun k => match k with
  | 0 => ("TwoWorlds$Asking", "world", "LTwoWorlds$World;", true)
  | 1 => ("TwoWorlds$Asking", "things", "[I", true)
  | _ => ("TwoWorlds$Asking", "asked", "I", false)
def tyX13 : Nat → FieldType := fun k => match k with
  | 0 => .object "TwoWorlds$World"
  | 1 => .array .int
  | _ => .int
abbrev wsX130 : List Cond := u_ws RX13 TX13 3
theorem nmX13 : ∀ a, a < 3 → ∀ b, b < 3 → a ≠ b → (TX13 a).2.1 ≠ (TX13 b).2.1 := by decide +kernel
theorem tyX13_ok : ∀ k, k < 3 → parseFieldDescriptor (TX13 k).2.2.1 = some (tyX13 k) := by decide +kernel
abbrev cX13_init : ByteArray := prog_2_method_1_code
abbrev yX13_init : MethodName := ⟨RX13, "<init>", "(LTwoWorlds$World;)V"⟩
abbrev cX13_asks : ByteArray := prog_2_method_2_code
abbrev yX13_asks : MethodName := ⟨RX13, "asks", "(LTwoWorlds$Formula;)Z"⟩
theorem q111 : (Jvm.Cond.initialized "TwoWorlds$Asking") ∈ lw_all := lw_g (lw_at lw_m1 25 rfl) rfl
theorem q623 : (Jvm.Cond.selects "TwoWorlds$Asking" ({ cls := "java/lang/Object", name := "getClass", desc := "()Ljava/lang/Class;" } : Jvm.MethodName) ({ cls := "java/lang/Object", name := "getClass", desc := "()Ljava/lang/Class;" } : Jvm.MethodName)) ∈ lw_all := lw_g (lw_at lw_m3 57 rfl) rfl
theorem q848 : (Jvm.Cond.instantiable "TwoWorlds$Asking" (3 : Nat)) ∈ lw_all := lw_g (lw_at lw_m4 42 rfl) rfl
theorem q850 : (Jvm.Cond.instanceMethod ({ cls := "TwoWorlds$Asking", name := "<init>", desc := "(LTwoWorlds$World;)V" } : Jvm.MethodName)) ∈ lw_all := lw_g (lw_at lw_m4 44 rfl) rfl
theorem q851 : (Jvm.Cond.code ({ cls := "TwoWorlds$Asking", name := "<init>", desc := "(LTwoWorlds$World;)V" } : Jvm.MethodName) prog_2_method_1_code (2 : Nat) (Option.none : Option Jvm.ClassFile.FieldType)) ∈ lw_all := lw_g (lw_at lw_m4 45 rfl) rfl
theorem q852 : (Jvm.Cond.methodLink "TwoWorlds$Asking" (3 : Nat) ({ cls := "java/lang/Object", name := "<init>", desc := "()V" } : Jvm.MethodName)) ∈ lw_all := lw_g (lw_at lw_m4 46 rfl) rfl
theorem q853 : (Jvm.Cond.fieldLink "TwoWorlds$Asking" (15 : Nat) "TwoWorlds$Asking" "world" "LTwoWorlds$World;") ∈ lw_all := lw_g (lw_at lw_m4 47 rfl) rfl
theorem q856 : (Jvm.Cond.fieldLink "TwoWorlds$Asking" (9 : Nat) "TwoWorlds$Asking" "things" "[I") ∈ lw_all := lw_g (lw_at lw_m4 50 rfl) rfl
theorem q859 : (Jvm.Cond.fieldLink "TwoWorlds$Asking" (19 : Nat) "TwoWorlds$Asking" "asked" "I") ∈ lw_all := lw_g (lw_at lw_m4 53 rfl) rfl
theorem q861 : (Jvm.Cond.laysFinal "TwoWorlds$Asking" "TwoWorlds$Asking" "world" "LTwoWorlds$World;") ∈ lw_all := lw_g (lw_at lw_m4 55 rfl) rfl
theorem q862 : (Jvm.Cond.soleField "TwoWorlds$Asking" "world") ∈ lw_all := lw_g (lw_at lw_m4 56 rfl) rfl
theorem q863 : (Jvm.Cond.laysFinal "TwoWorlds$Asking" "TwoWorlds$Asking" "things" "[I") ∈ lw_all := lw_g (lw_at lw_m4 57 rfl) rfl
theorem q864 : (Jvm.Cond.soleField "TwoWorlds$Asking" "things") ∈ lw_all := lw_g (lw_at lw_m4 58 rfl) rfl
theorem q865 : (Jvm.Cond.lays "TwoWorlds$Asking" "TwoWorlds$Asking" "asked" "I") ∈ lw_all := lw_g (lw_at lw_m4 59 rfl) rfl
theorem q866 : (Jvm.Cond.soleField "TwoWorlds$Asking" "asked") ∈ lw_all := lw_g (lw_at lw_m4 60 rfl) rfl
theorem q867 : (Jvm.Cond.superclass "TwoWorlds$Asking" "java/lang/Object") ∈ lw_all := lw_g (lw_at lw_m4 61 rfl) rfl
theorem q869 : (Jvm.Cond.instanceMethod ({ cls := "TwoWorlds$Asking", name := "asks", desc := "(LTwoWorlds$Formula;)Z" } : Jvm.MethodName)) ∈ lw_all := lw_g (lw_at lw_m4 63 rfl) rfl
theorem q870 : (Jvm.Cond.selects "TwoWorlds$Asking" ({ cls := "TwoWorlds$Asking", name := "asks", desc := "(LTwoWorlds$Formula;)Z" } : Jvm.MethodName) ({ cls := "TwoWorlds$Asking", name := "asks", desc := "(LTwoWorlds$Formula;)Z" } : Jvm.MethodName)) ∈ lw_all := lw_g (lw_at lw_m4 64 rfl) rfl
theorem q871 : (Jvm.Cond.code ({ cls := "TwoWorlds$Asking", name := "asks", desc := "(LTwoWorlds$Formula;)Z" } : Jvm.MethodName) prog_2_method_2_code (2 : Nat) (Option.some Jvm.ClassFile.FieldType.boolean)) ∈ lw_all := lw_g (lw_at lw_m4 65 rfl) rfl
theorem q872 : (Jvm.Cond.constant "TwoWorlds$Asking" (23 : Nat) (100000 : Int32)) ∈ lw_all := lw_g (lw_at lw_m4 66 rfl) rfl
theorem q873 : (Jvm.Cond.classLink "TwoWorlds$Asking" (24 : Nat) "TwoWorlds$TooMuch") ∈ lw_all := lw_g (lw_at lw_m4 67 rfl) rfl
theorem q882 : (Jvm.Cond.methodLink "TwoWorlds$Asking" (26 : Nat) ({ cls := "TwoWorlds$TooMuch", name := "<init>", desc := "()V" } : Jvm.MethodName)) ∈ lw_all := lw_g (lw_at lw_m4 76 rfl) rfl
theorem q889 : (Jvm.Cond.methodLink "TwoWorlds$Asking" (27 : Nat) ({ cls := "TwoWorlds$Formula", name := "holds", desc := "(LTwoWorlds$Asking;)Z" } : Jvm.MethodName)) ∈ lw_all := lw_g (lw_at lw_m4 83 rfl) rfl
theorem q1750 : (Jvm.Cond.castable "TwoWorlds$Asking" "java/lang/Object") ∈ lw_tbl := lw_at lw_m7 224 rfl
theorem in_X13 : ∀ w ∈ wsX130, w ∈ lw_all := lw_in wsX130 [861, 863, 865] (by decide +kernel) (by decide +kernel)
def RX14 : String := "TwoWorlds$TooMuch"
def TX14 : u_T := fun k => match k with
  | 0 => ("java/lang/Throwable", "cause", "Ljava/lang/Throwable;", false)
  | 1 => ("java/lang/Throwable", "stackTrace", "[Ljava/lang/StackTraceElement;", false)
  | 2 => ("java/lang/Throwable", "suppressedExceptions", "Ljava/util/List;", false)
  | 3 => ("java/lang/Throwable", "detailMessage", "Ljava/lang/String;", false)
  | 4 => ("java/lang/Throwable", "backtrace", "Ljava/lang/Object;", false)
  | _ => ("java/lang/Throwable", "depth", "I", false)
def tyX14 : Nat → FieldType := fun k => match k with
  | 0 => .object "java/lang/Throwable"
  | 1 => .array (.object "java/lang/StackTraceElement")
  | 2 => .object "java/util/List"
  | 3 => .object "java/lang/String"
  | 4 => .object "java/lang/Object"
  | _ => .int
abbrev wsX140 : List Cond := u_ws RX14 TX14 6
theorem nmX14 : ∀ a, a < 6 → ∀ b, b < 6 → a ≠ b → (TX14 a).2.1 ≠ (TX14 b).2.1 := by decide +kernel
theorem tyX14_ok : ∀ k, k < 6 → parseFieldDescriptor (TX14 k).2.2.1 = some (tyX14 k) := by decide +kernel
abbrev cX14_init : ByteArray := prog_15_method_1_code
abbrev yX14_init : MethodName := ⟨RX14, "<init>", "()V"⟩
theorem q112 : (Jvm.Cond.initialized "TwoWorlds$TooMuch") ∈ lw_all := lw_g (lw_at lw_m1 26 rfl) rfl
theorem q514 : (Jvm.Cond.selects "TwoWorlds$TooMuch" ({ cls := "java/lang/Throwable", name := "fillInStackTrace", desc := "()Ljava/lang/Throwable;" } : Jvm.MethodName) ({ cls := "java/lang/Throwable", name := "fillInStackTrace", desc := "()Ljava/lang/Throwable;" } : Jvm.MethodName)) ∈ lw_all := lw_g (lw_at lw_m2 188 rfl) rfl
theorem q634 : (Jvm.Cond.selects "TwoWorlds$TooMuch" ({ cls := "java/lang/Object", name := "getClass", desc := "()Ljava/lang/Class;" } : Jvm.MethodName) ({ cls := "java/lang/Object", name := "getClass", desc := "()Ljava/lang/Class;" } : Jvm.MethodName)) ∈ lw_all := lw_g (lw_at lw_m3 68 rfl) rfl
theorem q874 : (Jvm.Cond.instantiable "TwoWorlds$TooMuch" (6 : Nat)) ∈ lw_all := lw_g (lw_at lw_m4 68 rfl) rfl
theorem q875 : (Jvm.Cond.castable "TwoWorlds$TooMuch" "TwoWorlds$TooMuch") ∈ lw_tbl := lw_at lw_m4 69 rfl
theorem q876 : (Jvm.Cond.selects "TwoWorlds$TooMuch" ({ cls := "java/lang/Throwable", name := "fillInStackTrace", desc := "(I)Ljava/lang/Throwable;" } : Jvm.MethodName) ({ cls := "java/lang/Throwable", name := "fillInStackTrace", desc := "(I)Ljava/lang/Throwable;" } : Jvm.MethodName)) ∈ lw_all := lw_g (lw_at lw_m4 70 rfl) rfl
theorem q877 : (Jvm.Cond.lays "TwoWorlds$TooMuch" "java/lang/Throwable" "cause" "Ljava/lang/Throwable;") ∈ lw_all := lw_g (lw_at lw_m4 71 rfl) rfl
theorem q878 : (Jvm.Cond.lays "TwoWorlds$TooMuch" "java/lang/Throwable" "stackTrace" "[Ljava/lang/StackTraceElement;") ∈ lw_all := lw_g (lw_at lw_m4 72 rfl) rfl
theorem q879 : (Jvm.Cond.lays "TwoWorlds$TooMuch" "java/lang/Throwable" "suppressedExceptions" "Ljava/util/List;") ∈ lw_all := lw_g (lw_at lw_m4 73 rfl) rfl
theorem q880 : (Jvm.Cond.lays "TwoWorlds$TooMuch" "java/lang/Throwable" "detailMessage" "Ljava/lang/String;") ∈ lw_all := lw_g (lw_at lw_m4 74 rfl) rfl
theorem q881 : (Jvm.Cond.lays "TwoWorlds$TooMuch" "java/lang/Throwable" "backtrace" "Ljava/lang/Object;") ∈ lw_all := lw_g (lw_at lw_m4 75 rfl) rfl
theorem q883 : (Jvm.Cond.instanceMethod ({ cls := "TwoWorlds$TooMuch", name := "<init>", desc := "()V" } : Jvm.MethodName)) ∈ lw_all := lw_g (lw_at lw_m4 77 rfl) rfl
theorem q884 : (Jvm.Cond.code ({ cls := "TwoWorlds$TooMuch", name := "<init>", desc := "()V" } : Jvm.MethodName) prog_15_method_1_code (1 : Nat) (Option.none : Option Jvm.ClassFile.FieldType)) ∈ lw_all := lw_g (lw_at lw_m4 78 rfl) rfl
theorem q885 : (Jvm.Cond.stringRef "TwoWorlds$TooMuch" (1 : Nat) "too much") ∈ lw_tbl := lw_at lw_m4 79 rfl
theorem q886 : (Jvm.Cond.methodLink "TwoWorlds$TooMuch" (3 : Nat) ({ cls := "java/lang/Exception", name := "<init>", desc := "(Ljava/lang/String;Ljava/lang/Throwable;ZZ)V" } : Jvm.MethodName)) ∈ lw_all := lw_g (lw_at lw_m4 80 rfl) rfl
theorem q887 : (Jvm.Cond.lays "TwoWorlds$TooMuch" "java/lang/Throwable" "depth" "I") ∈ lw_all := lw_g (lw_at lw_m4 81 rfl) rfl
theorem q888 : (Jvm.Cond.superclass "TwoWorlds$TooMuch" "java/lang/Exception") ∈ lw_all := lw_g (lw_at lw_m4 82 rfl) rfl
theorem q1751 : (Jvm.Cond.castable "TwoWorlds$TooMuch" "java/lang/Object") ∈ lw_tbl := lw_at lw_m7 225 rfl
theorem in_X14 : ∀ w ∈ wsX140, w ∈ lw_all := lw_in wsX140 [877, 878, 879, 880, 881, 887] (by decide +kernel) (by decide +kernel)
def RX15 : String := "TwoWorlds$Colouring"
abbrev cX15_init : ByteArray := prog_4_method_1_code
abbrev yX15_init : MethodName := ⟨RX15, "<init>", "(LTwoWorlds$World;LTwoWorlds$World;II)V"⟩
abbrev cX15_run : ByteArray := prog_4_method_7_code
abbrev yX15_run : MethodName := ⟨RX15, "run", "()V"⟩
abbrev cX15_part : ByteArray := prog_4_method_8_code
abbrev yX15_part : MethodName := ⟨RX15, "part", "(Z)V"⟩
abbrev cX15_of : ByteArray := prog_4_method_2_code
abbrev yX15_of : MethodName := ⟨RX15, "of", "(I)LTwoWorlds$World;"⟩
abbrev cX15_isOneAlike : ByteArray := prog_4_method_3_code
abbrev yX15_isOneAlike : MethodName := ⟨RX15, "isOneAlike", "(LTwoWorlds$World;ILTwoWorlds$World;I)Z"⟩
abbrev cX15_isBalanced : ByteArray := prog_4_method_9_code
abbrev yX15_isBalanced : MethodName := ⟨RX15, "isBalanced", "()Z"⟩
theorem q113 : (Jvm.Cond.initialized "TwoWorlds$Colouring") ∈ lw_all := lw_g (lw_at lw_m1 27 rfl) rfl
theorem q219 : (Jvm.Cond.fieldLinkNest "TwoWorlds$Colouring" (29 : Nat) "TwoWorlds$World" "marks" "[I" "TwoWorlds") ∈ lw_tbl := lw_at lw_m1 133 rfl
theorem q994 : (Jvm.Cond.instanceMethod ({ cls := "TwoWorlds$Colouring", name := "<init>", desc := "(LTwoWorlds$World;LTwoWorlds$World;II)V" } : Jvm.MethodName)) ∈ lw_all := lw_g (lw_at lw_m4 188 rfl) rfl
theorem q995 : (Jvm.Cond.code ({ cls := "TwoWorlds$Colouring", name := "<init>", desc := "(LTwoWorlds$World;LTwoWorlds$World;II)V" } : Jvm.MethodName) prog_4_method_1_code (5 : Nat) (Option.none : Option Jvm.ClassFile.FieldType)) ∈ lw_all := lw_g (lw_at lw_m4 189 rfl) rfl
theorem q996 : (Jvm.Cond.methodLink "TwoWorlds$Colouring" (3 : Nat) ({ cls := "java/lang/Object", name := "<init>", desc := "()V" } : Jvm.MethodName)) ∈ lw_all := lw_g (lw_at lw_m4 190 rfl) rfl
theorem q998 : (Jvm.Cond.fieldLink "TwoWorlds$Colouring" (9 : Nat) "TwoWorlds$Colouring" "a" "LTwoWorlds$World;") ∈ lw_all := lw_g (lw_at lw_m4 192 rfl) rfl
theorem q1001 : (Jvm.Cond.fieldLink "TwoWorlds$Colouring" (15 : Nat) "TwoWorlds$Colouring" "b" "LTwoWorlds$World;") ∈ lw_all := lw_g (lw_at lw_m4 195 rfl) rfl
theorem q1004 : (Jvm.Cond.fieldLink "TwoWorlds$Colouring" (18 : Nat) "TwoWorlds$Colouring" "first" "I") ∈ lw_all := lw_g (lw_at lw_m4 198 rfl) rfl
theorem q1009 : (Jvm.Cond.fieldLink "TwoWorlds$Colouring" (22 : Nat) "TwoWorlds$Colouring" "all" "I") ∈ lw_all := lw_g (lw_at lw_m4 203 rfl) rfl
theorem q1015 : (Jvm.Cond.fieldLink "TwoWorlds$Colouring" (25 : Nat) "TwoWorlds$Colouring" "colours" "[I") ∈ lw_all := lw_g (lw_at lw_m4 209 rfl) rfl
theorem q1021 : (Jvm.Cond.fieldLink "TwoWorlds$Colouring" (38 : Nat) "TwoWorlds$Colouring" "many" "I") ∈ lw_all := lw_g (lw_at lw_m4 215 rfl) rfl
theorem q1023 : (Jvm.Cond.fieldLink "TwoWorlds$Colouring" (45 : Nat) "TwoWorlds$Colouring" "steps" "I") ∈ lw_all := lw_g (lw_at lw_m4 217 rfl) rfl
theorem q1028 : (Jvm.Cond.soleField "TwoWorlds$Colouring" "a") ∈ lw_all := lw_g (lw_at lw_m4 222 rfl) rfl
theorem q1030 : (Jvm.Cond.soleField "TwoWorlds$Colouring" "b") ∈ lw_all := lw_g (lw_at lw_m4 224 rfl) rfl
theorem q1032 : (Jvm.Cond.soleField "TwoWorlds$Colouring" "first") ∈ lw_all := lw_g (lw_at lw_m4 226 rfl) rfl
theorem q1034 : (Jvm.Cond.soleField "TwoWorlds$Colouring" "all") ∈ lw_all := lw_g (lw_at lw_m4 228 rfl) rfl
theorem q1036 : (Jvm.Cond.soleField "TwoWorlds$Colouring" "colours") ∈ lw_all := lw_g (lw_at lw_m4 230 rfl) rfl
theorem q1038 : (Jvm.Cond.soleField "TwoWorlds$Colouring" "many") ∈ lw_all := lw_g (lw_at lw_m4 232 rfl) rfl
theorem q1040 : (Jvm.Cond.soleField "TwoWorlds$Colouring" "steps") ∈ lw_all := lw_g (lw_at lw_m4 234 rfl) rfl
theorem q1061 : (Jvm.Cond.instanceMethod ({ cls := "TwoWorlds$Colouring", name := "run", desc := "()V" } : Jvm.MethodName)) ∈ lw_all := lw_g (lw_at lw_m5 15 rfl) rfl
theorem q1062 : (Jvm.Cond.sameMethod "TwoWorlds$Colouring" "TwoWorlds$Colouring" "run" "()V") ∈ lw_all := lw_g (lw_at lw_m5 16 rfl) rfl
theorem q1065 : (Jvm.Cond.code ({ cls := "TwoWorlds$Colouring", name := "run", desc := "()V" } : Jvm.MethodName) prog_4_method_7_code (2 : Nat) (Option.none : Option Jvm.ClassFile.FieldType)) ∈ lw_all := lw_g (lw_at lw_m5 19 rfl) rfl
theorem q1066 : (Jvm.Cond.methodLink "TwoWorlds$Colouring" (41 : Nat) ({ cls := "TwoWorlds$Colouring", name := "part", desc := "(Z)V" } : Jvm.MethodName)) ∈ lw_all := lw_g (lw_at lw_m5 20 rfl) rfl
theorem q1067 : (Jvm.Cond.privateMethod ({ cls := "TwoWorlds$Colouring", name := "part", desc := "(Z)V" } : Jvm.MethodName)) ∈ lw_tbl := lw_at lw_m5 21 rfl
theorem q1068 : (Jvm.Cond.instanceMethod ({ cls := "TwoWorlds$Colouring", name := "part", desc := "(Z)V" } : Jvm.MethodName)) ∈ lw_all := lw_g (lw_at lw_m5 22 rfl) rfl
theorem q1069 : (Jvm.Cond.code ({ cls := "TwoWorlds$Colouring", name := "part", desc := "(Z)V" } : Jvm.MethodName) prog_4_method_8_code (6 : Nat) (Option.none : Option Jvm.ClassFile.FieldType)) ∈ lw_all := lw_g (lw_at lw_m5 23 rfl) rfl
theorem q1070 : (Jvm.Cond.methodLink "TwoWorlds$Colouring" (48 : Nat) ({ cls := "TwoWorlds$Colouring", name := "prepare", desc := "()V" } : Jvm.MethodName)) ∈ lw_all := lw_g (lw_at lw_m5 24 rfl) rfl
theorem q1071 : (Jvm.Cond.declares ({ cls := "TwoWorlds$Colouring", name := "prepare", desc := "()V" } : Jvm.MethodName)) ∈ lw_tbl := lw_at lw_m5 25 rfl
theorem q1072 : (Jvm.Cond.sameMethod "TwoWorlds$Colouring" "TwoWorlds$Colouring" "prepare" "()V") ∈ lw_all := lw_g (lw_at lw_m5 26 rfl) rfl
theorem q1078 : (Jvm.Cond.declares ({ cls := "TwoWorlds$Colouring", name := "of", desc := "(I)LTwoWorlds$World;" } : Jvm.MethodName)) ∈ lw_tbl := lw_at lw_m5 32 rfl
theorem q1080 : (Jvm.Cond.instanceMethod ({ cls := "TwoWorlds$Colouring", name := "of", desc := "(I)LTwoWorlds$World;" } : Jvm.MethodName)) ∈ lw_all := lw_g (lw_at lw_m5 34 rfl) rfl
theorem q1081 : (Jvm.Cond.code ({ cls := "TwoWorlds$Colouring", name := "of", desc := "(I)LTwoWorlds$World;" } : Jvm.MethodName) prog_4_method_2_code (2 : Nat) (Option.some (Jvm.ClassFile.FieldType.object "TwoWorlds$World"))) ∈ lw_all := lw_g (lw_at lw_m5 35 rfl) rfl
theorem q1109 : (Jvm.Cond.methodLink "TwoWorlds$Colouring" (51 : Nat) ({ cls := "TwoWorlds$Colouring", name := "isAlike", desc := "(II)Z" } : Jvm.MethodName)) ∈ lw_all := lw_g (lw_at lw_m5 63 rfl) rfl
theorem q1110 : (Jvm.Cond.declares ({ cls := "TwoWorlds$Colouring", name := "isAlike", desc := "(II)Z" } : Jvm.MethodName)) ∈ lw_tbl := lw_at lw_m5 64 rfl
theorem q1111 : (Jvm.Cond.sameMethod "TwoWorlds$Colouring" "TwoWorlds$Colouring" "isAlike" "(II)Z") ∈ lw_all := lw_g (lw_at lw_m5 65 rfl) rfl
theorem q1117 : (Jvm.Cond.static ({ cls := "TwoWorlds$Colouring", name := "isOneAlike", desc := "(LTwoWorlds$World;ILTwoWorlds$World;I)Z" } : Jvm.MethodName)) ∈ lw_all := lw_g (lw_at lw_m5 71 rfl) rfl
theorem q1118 : (Jvm.Cond.code ({ cls := "TwoWorlds$Colouring", name := "isOneAlike", desc := "(LTwoWorlds$World;ILTwoWorlds$World;I)Z" } : Jvm.MethodName) prog_4_method_3_code (4 : Nat) (Option.some Jvm.ClassFile.FieldType.boolean)) ∈ lw_all := lw_g (lw_at lw_m5 72 rfl) rfl
theorem q1119 : (Jvm.Cond.methodLink "TwoWorlds$Colouring" (34 : Nat) ({ cls := "TwoWorlds$World", name := "isTied", desc := "(II)Z" } : Jvm.MethodName)) ∈ lw_all := lw_g (lw_at lw_m5 73 rfl) rfl
theorem q1126 : (Jvm.Cond.methodLink "TwoWorlds$Colouring" (54 : Nat) ({ cls := "TwoWorlds$Colouring", name := "stays", desc := "(II)Z" } : Jvm.MethodName)) ∈ lw_all := lw_g (lw_at lw_m5 80 rfl) rfl
theorem q1127 : (Jvm.Cond.declares ({ cls := "TwoWorlds$Colouring", name := "stays", desc := "(II)Z" } : Jvm.MethodName)) ∈ lw_tbl := lw_at lw_m5 81 rfl
theorem q1128 : (Jvm.Cond.sameMethod "TwoWorlds$Colouring" "TwoWorlds$Colouring" "stays" "(II)Z") ∈ lw_all := lw_g (lw_at lw_m5 82 rfl) rfl
theorem q1144 : (Jvm.Cond.instanceMethod ({ cls := "TwoWorlds$Colouring", name := "isBalanced", desc := "()Z" } : Jvm.MethodName)) ∈ lw_all := lw_g (lw_at lw_m5 98 rfl) rfl
theorem q1145 : (Jvm.Cond.sameMethod "TwoWorlds$Colouring" "TwoWorlds$Colouring" "isBalanced" "()Z") ∈ lw_all := lw_g (lw_at lw_m5 99 rfl) rfl
theorem q1148 : (Jvm.Cond.code ({ cls := "TwoWorlds$Colouring", name := "isBalanced", desc := "()Z" } : Jvm.MethodName) prog_4_method_9_code (4 : Nat) (Option.some Jvm.ClassFile.FieldType.boolean)) ∈ lw_all := lw_g (lw_at lw_m5 102 rfl) rfl
theorem q1731 : (Jvm.Cond.sameMethod "TwoWorlds$Colouring" "TwoWorlds$Colouring" "part" "(Z)V") ∈ lw_all := lw_g (lw_at lw_m7 205 rfl) rfl
def RX16 : String := "TwoWorlds$Counting"
def TX16 : u_T := fun k => match k with
  | 0 => ("TwoWorlds$Colouring", "a", "LTwoWorlds$World;", true)
  | 1 => ("TwoWorlds$Colouring", "b", "LTwoWorlds$World;", true)
  | 2 => ("TwoWorlds$Colouring", "first", "I", true)
  | 3 => ("TwoWorlds$Colouring", "all", "I", true)
  | 4 => ("TwoWorlds$Colouring", "colours", "[I", false)
  | 5 => ("TwoWorlds$Colouring", "many", "I", false)
  | 6 => ("TwoWorlds$Colouring", "steps", "I", false)
  | _ => ("TwoWorlds$Counting", "counts", "[I", true)
def tyX16 : Nat → FieldType := fun k => match k with
  | 0 => .object "TwoWorlds$World"
  | 1 => .object "TwoWorlds$World"
  | 2 => .int
  | 3 => .int
  | 4 => .array .int
  | 5 => .int
  | 6 => .int
  | _ => .array .int
abbrev wsX160 : List Cond := u_ws RX16 TX16 8
theorem nmX16 : ∀ a, a < 8 → ∀ b, b < 8 → a ≠ b → (TX16 a).2.1 ≠ (TX16 b).2.1 := by decide +kernel
theorem tyX16_ok : ∀ k, k < 8 → parseFieldDescriptor (TX16 k).2.2.1 = some (tyX16 k) := by decide +kernel
abbrev cX16_init : ByteArray := prog_5_method_1_code
abbrev yX16_init : MethodName := ⟨RX16, "<init>", "(LTwoWorlds$World;LTwoWorlds$World;)V"⟩
abbrev cX16_prepare : ByteArray := prog_5_method_5_code
abbrev yX16_prepare : MethodName := ⟨RX16, "prepare", "()V"⟩
abbrev cX16_place : ByteArray := prog_5_method_3_code
abbrev yX16_place : MethodName := ⟨RX16, "place", "(II)I"⟩
abbrev cX16_thing : ByteArray := prog_5_method_2_code
abbrev yX16_thing : MethodName := ⟨RX16, "thing", "(I)I"⟩
abbrev cX16_isAlike : ByteArray := prog_5_method_4_code
abbrev yX16_isAlike : MethodName := ⟨RX16, "isAlike", "(II)Z"⟩
abbrev cX16_stays : ByteArray := prog_5_method_6_code
abbrev yX16_stays : MethodName := ⟨RX16, "stays", "(II)Z"⟩
theorem q114 : (Jvm.Cond.initialized "TwoWorlds$Counting") ∈ lw_all := lw_g (lw_at lw_m1 28 rfl) rfl
theorem q211 : (Jvm.Cond.fieldLinkNest "TwoWorlds$Counting" (3 : Nat) "TwoWorlds$World" "n" "I" "TwoWorlds") ∈ lw_tbl := lw_at lw_m1 125 rfl
theorem q625 : (Jvm.Cond.selects "TwoWorlds$Counting" ({ cls := "java/lang/Object", name := "getClass", desc := "()Ljava/lang/Class;" } : Jvm.MethodName) ({ cls := "java/lang/Object", name := "getClass", desc := "()Ljava/lang/Class;" } : Jvm.MethodName)) ∈ lw_all := lw_g (lw_at lw_m3 59 rfl) rfl
theorem q989 : (Jvm.Cond.instantiable "TwoWorlds$Counting" (8 : Nat)) ∈ lw_all := lw_g (lw_at lw_m4 183 rfl) rfl
theorem q991 : (Jvm.Cond.instanceMethod ({ cls := "TwoWorlds$Counting", name := "<init>", desc := "(LTwoWorlds$World;LTwoWorlds$World;)V" } : Jvm.MethodName)) ∈ lw_all := lw_g (lw_at lw_m4 185 rfl) rfl
theorem q992 : (Jvm.Cond.code ({ cls := "TwoWorlds$Counting", name := "<init>", desc := "(LTwoWorlds$World;LTwoWorlds$World;)V" } : Jvm.MethodName) prog_5_method_1_code (3 : Nat) (Option.none : Option Jvm.ClassFile.FieldType)) ∈ lw_all := lw_g (lw_at lw_m4 186 rfl) rfl
theorem q993 : (Jvm.Cond.methodLink "TwoWorlds$Counting" (9 : Nat) ({ cls := "TwoWorlds$Colouring", name := "<init>", desc := "(LTwoWorlds$World;LTwoWorlds$World;II)V" } : Jvm.MethodName)) ∈ lw_all := lw_g (lw_at lw_m4 187 rfl) rfl
theorem q997 : (Jvm.Cond.fieldLink "TwoWorlds$Counting" (15 : Nat) "TwoWorlds$Counting" "counts" "[I") ∈ lw_all := lw_g (lw_at lw_m4 191 rfl) rfl
theorem q1005 : (Jvm.Cond.fieldLink "TwoWorlds$Counting" (21 : Nat) "TwoWorlds$Counting" "first" "I") ∈ lw_all := lw_g (lw_at lw_m4 199 rfl) rfl
theorem q1006 : (Jvm.Cond.sameField "TwoWorlds$Counting" "TwoWorlds$Colouring" "first" "I") ∈ lw_all := lw_g (lw_at lw_m4 200 rfl) rfl
theorem q1010 : (Jvm.Cond.fieldLink "TwoWorlds$Counting" (36 : Nat) "TwoWorlds$Counting" "all" "I") ∈ lw_all := lw_g (lw_at lw_m4 204 rfl) rfl
theorem q1011 : (Jvm.Cond.sameField "TwoWorlds$Counting" "TwoWorlds$Colouring" "all" "I") ∈ lw_all := lw_g (lw_at lw_m4 205 rfl) rfl
theorem q1016 : (Jvm.Cond.fieldLink "TwoWorlds$Counting" (39 : Nat) "TwoWorlds$Counting" "colours" "[I") ∈ lw_all := lw_g (lw_at lw_m4 210 rfl) rfl
theorem q1017 : (Jvm.Cond.sameField "TwoWorlds$Counting" "TwoWorlds$Colouring" "colours" "[I") ∈ lw_all := lw_g (lw_at lw_m4 211 rfl) rfl
theorem q1025 : (Jvm.Cond.laysFinal "TwoWorlds$Counting" "TwoWorlds$Counting" "counts" "[I") ∈ lw_all := lw_g (lw_at lw_m4 219 rfl) rfl
theorem q1026 : (Jvm.Cond.soleField "TwoWorlds$Counting" "counts") ∈ lw_all := lw_g (lw_at lw_m4 220 rfl) rfl
theorem q1027 : (Jvm.Cond.laysFinal "TwoWorlds$Counting" "TwoWorlds$Colouring" "a" "LTwoWorlds$World;") ∈ lw_all := lw_g (lw_at lw_m4 221 rfl) rfl
theorem q1029 : (Jvm.Cond.laysFinal "TwoWorlds$Counting" "TwoWorlds$Colouring" "b" "LTwoWorlds$World;") ∈ lw_all := lw_g (lw_at lw_m4 223 rfl) rfl
theorem q1031 : (Jvm.Cond.laysFinal "TwoWorlds$Counting" "TwoWorlds$Colouring" "first" "I") ∈ lw_all := lw_g (lw_at lw_m4 225 rfl) rfl
theorem q1033 : (Jvm.Cond.laysFinal "TwoWorlds$Counting" "TwoWorlds$Colouring" "all" "I") ∈ lw_all := lw_g (lw_at lw_m4 227 rfl) rfl
theorem q1035 : (Jvm.Cond.lays "TwoWorlds$Counting" "TwoWorlds$Colouring" "colours" "[I") ∈ lw_all := lw_g (lw_at lw_m4 229 rfl) rfl
theorem q1037 : (Jvm.Cond.lays "TwoWorlds$Counting" "TwoWorlds$Colouring" "many" "I") ∈ lw_all := lw_g (lw_at lw_m4 231 rfl) rfl
theorem q1039 : (Jvm.Cond.lays "TwoWorlds$Counting" "TwoWorlds$Colouring" "steps" "I") ∈ lw_all := lw_g (lw_at lw_m4 233 rfl) rfl
theorem q1041 : (Jvm.Cond.superclass "TwoWorlds$Counting" "TwoWorlds$Colouring") ∈ lw_all := lw_g (lw_at lw_m4 235 rfl) rfl
theorem q1063 : (Jvm.Cond.selects "TwoWorlds$Counting" ({ cls := "TwoWorlds$Colouring", name := "run", desc := "()V" } : Jvm.MethodName) ({ cls := "TwoWorlds$Colouring", name := "run", desc := "()V" } : Jvm.MethodName)) ∈ lw_all := lw_g (lw_at lw_m5 17 rfl) rfl
theorem q1073 : (Jvm.Cond.selects "TwoWorlds$Counting" ({ cls := "TwoWorlds$Colouring", name := "prepare", desc := "()V" } : Jvm.MethodName) ({ cls := "TwoWorlds$Counting", name := "prepare", desc := "()V" } : Jvm.MethodName)) ∈ lw_all := lw_g (lw_at lw_m5 27 rfl) rfl
theorem q1074 : (Jvm.Cond.instanceMethod ({ cls := "TwoWorlds$Counting", name := "prepare", desc := "()V" } : Jvm.MethodName)) ∈ lw_all := lw_g (lw_at lw_m5 28 rfl) rfl
theorem q1075 : (Jvm.Cond.code ({ cls := "TwoWorlds$Counting", name := "prepare", desc := "()V" } : Jvm.MethodName) prog_5_method_5_code (4 : Nat) (Option.none : Option Jvm.ClassFile.FieldType)) ∈ lw_all := lw_g (lw_at lw_m5 29 rfl) rfl
theorem q1076 : (Jvm.Cond.methodLink "TwoWorlds$Counting" (24 : Nat) ({ cls := "TwoWorlds$Counting", name := "of", desc := "(I)LTwoWorlds$World;" } : Jvm.MethodName)) ∈ lw_all := lw_g (lw_at lw_m5 30 rfl) rfl
theorem q1077 : (Jvm.Cond.sameMethod "TwoWorlds$Counting" "TwoWorlds$Colouring" "of" "(I)LTwoWorlds$World;") ∈ lw_all := lw_g (lw_at lw_m5 31 rfl) rfl
theorem q1079 : (Jvm.Cond.selects "TwoWorlds$Counting" ({ cls := "TwoWorlds$Counting", name := "of", desc := "(I)LTwoWorlds$World;" } : Jvm.MethodName) ({ cls := "TwoWorlds$Colouring", name := "of", desc := "(I)LTwoWorlds$World;" } : Jvm.MethodName)) ∈ lw_all := lw_g (lw_at lw_m5 33 rfl) rfl
theorem q1082 : (Jvm.Cond.methodLink "TwoWorlds$Counting" (42 : Nat) ({ cls := "TwoWorlds$Counting", name := "place", desc := "(II)I" } : Jvm.MethodName)) ∈ lw_all := lw_g (lw_at lw_m5 36 rfl) rfl
theorem q1083 : (Jvm.Cond.privateMethod ({ cls := "TwoWorlds$Counting", name := "place", desc := "(II)I" } : Jvm.MethodName)) ∈ lw_tbl := lw_at lw_m5 37 rfl
theorem q1084 : (Jvm.Cond.instanceMethod ({ cls := "TwoWorlds$Counting", name := "place", desc := "(II)I" } : Jvm.MethodName)) ∈ lw_all := lw_g (lw_at lw_m5 38 rfl) rfl
theorem q1085 : (Jvm.Cond.code ({ cls := "TwoWorlds$Counting", name := "place", desc := "(II)I" } : Jvm.MethodName) prog_5_method_3_code (3 : Nat) (Option.some Jvm.ClassFile.FieldType.int)) ∈ lw_all := lw_g (lw_at lw_m5 39 rfl) rfl
theorem q1086 : (Jvm.Cond.methodLink "TwoWorlds$Counting" (28 : Nat) ({ cls := "TwoWorlds$Counting", name := "thing", desc := "(I)I" } : Jvm.MethodName)) ∈ lw_all := lw_g (lw_at lw_m5 40 rfl) rfl
theorem q1087 : (Jvm.Cond.privateMethod ({ cls := "TwoWorlds$Counting", name := "thing", desc := "(I)I" } : Jvm.MethodName)) ∈ lw_tbl := lw_at lw_m5 41 rfl
theorem q1088 : (Jvm.Cond.instanceMethod ({ cls := "TwoWorlds$Counting", name := "thing", desc := "(I)I" } : Jvm.MethodName)) ∈ lw_all := lw_g (lw_at lw_m5 42 rfl) rfl
theorem q1089 : (Jvm.Cond.code ({ cls := "TwoWorlds$Counting", name := "thing", desc := "(I)I" } : Jvm.MethodName) prog_5_method_2_code (2 : Nat) (Option.some Jvm.ClassFile.FieldType.int)) ∈ lw_all := lw_g (lw_at lw_m5 43 rfl) rfl
theorem q1090 : (Jvm.Cond.methodLink "TwoWorlds$Counting" (46 : Nat) ({ cls := "TwoWorlds$World", name := "isTied", desc := "(II)Z" } : Jvm.MethodName)) ∈ lw_all := lw_g (lw_at lw_m5 44 rfl) rfl
theorem q1112 : (Jvm.Cond.selects "TwoWorlds$Counting" ({ cls := "TwoWorlds$Colouring", name := "isAlike", desc := "(II)Z" } : Jvm.MethodName) ({ cls := "TwoWorlds$Counting", name := "isAlike", desc := "(II)Z" } : Jvm.MethodName)) ∈ lw_all := lw_g (lw_at lw_m5 66 rfl) rfl
theorem q1113 : (Jvm.Cond.instanceMethod ({ cls := "TwoWorlds$Counting", name := "isAlike", desc := "(II)Z" } : Jvm.MethodName)) ∈ lw_all := lw_g (lw_at lw_m5 67 rfl) rfl
theorem q1114 : (Jvm.Cond.code ({ cls := "TwoWorlds$Counting", name := "isAlike", desc := "(II)Z" } : Jvm.MethodName) prog_5_method_4_code (3 : Nat) (Option.some Jvm.ClassFile.FieldType.boolean)) ∈ lw_all := lw_g (lw_at lw_m5 68 rfl) rfl
theorem q1115 : (Jvm.Cond.methodLink "TwoWorlds$Counting" (32 : Nat) ({ cls := "TwoWorlds$Counting", name := "isOneAlike", desc := "(LTwoWorlds$World;ILTwoWorlds$World;I)Z" } : Jvm.MethodName)) ∈ lw_all := lw_g (lw_at lw_m5 69 rfl) rfl
theorem q1116 : (Jvm.Cond.sameMethod "TwoWorlds$Counting" "TwoWorlds$Colouring" "isOneAlike" "(LTwoWorlds$World;ILTwoWorlds$World;I)Z") ∈ lw_all := lw_g (lw_at lw_m5 70 rfl) rfl
theorem q1129 : (Jvm.Cond.selects "TwoWorlds$Counting" ({ cls := "TwoWorlds$Colouring", name := "stays", desc := "(II)Z" } : Jvm.MethodName) ({ cls := "TwoWorlds$Counting", name := "stays", desc := "(II)Z" } : Jvm.MethodName)) ∈ lw_all := lw_g (lw_at lw_m5 83 rfl) rfl
theorem q1130 : (Jvm.Cond.instanceMethod ({ cls := "TwoWorlds$Counting", name := "stays", desc := "(II)Z" } : Jvm.MethodName)) ∈ lw_all := lw_g (lw_at lw_m5 84 rfl) rfl
theorem q1131 : (Jvm.Cond.code ({ cls := "TwoWorlds$Counting", name := "stays", desc := "(II)Z" } : Jvm.MethodName) prog_5_method_6_code (5 : Nat) (Option.some Jvm.ClassFile.FieldType.boolean)) ∈ lw_all := lw_g (lw_at lw_m5 85 rfl) rfl
theorem q1146 : (Jvm.Cond.selects "TwoWorlds$Counting" ({ cls := "TwoWorlds$Colouring", name := "isBalanced", desc := "()Z" } : Jvm.MethodName) ({ cls := "TwoWorlds$Colouring", name := "isBalanced", desc := "()Z" } : Jvm.MethodName)) ∈ lw_all := lw_g (lw_at lw_m5 100 rfl) rfl
theorem q1752 : (Jvm.Cond.castable "TwoWorlds$Counting" "java/lang/Object") ∈ lw_tbl := lw_at lw_m7 226 rfl
theorem in_X16 : ∀ w ∈ wsX160, w ∈ lw_all := lw_in wsX160 [1027, 1029, 1031, 1033, 1035, 1037, 1039, 1025] (by decide +kernel) (by decide +kernel)
def RX17 : String := "TwoWorlds$Pairs"
def TX17 : u_T := fun k => match k with
  | 0 => ("TwoWorlds$Colouring", "a", "LTwoWorlds$World;", true)
  | 1 => ("TwoWorlds$Colouring", "b", "LTwoWorlds$World;", true)
  | 2 => ("TwoWorlds$Colouring", "first", "I", true)
  | 3 => ("TwoWorlds$Colouring", "all", "I", true)
  | 4 => ("TwoWorlds$Colouring", "colours", "[I", false)
  | 5 => ("TwoWorlds$Colouring", "many", "I", false)
  | 6 => ("TwoWorlds$Colouring", "steps", "I", false)
  | _ => ("TwoWorlds$Pairs", "sets", "[J", true)
def tyX17 : Nat → FieldType := fun k => match k with
  | 0 => .object "TwoWorlds$World"
  | 1 => .object "TwoWorlds$World"
  | 2 => .int
  | 3 => .int
  | 4 => .array .int
  | 5 => .int
  | 6 => .int
  | _ => .array .long
abbrev wsX170 : List Cond := u_ws RX17 TX17 8
theorem nmX17 : ∀ a, a < 8 → ∀ b, b < 8 → a ≠ b → (TX17 a).2.1 ≠ (TX17 b).2.1 := by decide +kernel
theorem tyX17_ok : ∀ k, k < 8 → parseFieldDescriptor (TX17 k).2.2.1 = some (tyX17 k) := by decide +kernel
abbrev cX17_init : ByteArray := prog_11_method_1_code
abbrev yX17_init : MethodName := ⟨RX17, "<init>", "(LTwoWorlds$World;LTwoWorlds$World;)V"⟩
abbrev cX17_prepare : ByteArray := prog_11_method_6_code
abbrev yX17_prepare : MethodName := ⟨RX17, "prepare", "()V"⟩
abbrev cX17_y : ByteArray := prog_11_method_3_code
abbrev yX17_y : MethodName := ⟨RX17, "y", "(I)I"⟩
abbrev cX17_place : ByteArray := prog_11_method_4_code
abbrev yX17_place : MethodName := ⟨RX17, "place", "(III)I"⟩
abbrev cX17_x : ByteArray := prog_11_method_2_code
abbrev yX17_x : MethodName := ⟨RX17, "x", "(I)I"⟩
abbrev cX17_isAlike : ByteArray := prog_11_method_5_code
abbrev yX17_isAlike : MethodName := ⟨RX17, "isAlike", "(II)Z"⟩
abbrev cX17_stays : ByteArray := prog_11_method_7_code
abbrev yX17_stays : MethodName := ⟨RX17, "stays", "(II)Z"⟩
theorem q115 : (Jvm.Cond.initialized "TwoWorlds$Pairs") ∈ lw_all := lw_g (lw_at lw_m1 29 rfl) rfl
theorem q212 : (Jvm.Cond.fieldLinkNest "TwoWorlds$Pairs" (3 : Nat) "TwoWorlds$World" "n" "I" "TwoWorlds") ∈ lw_tbl := lw_at lw_m1 126 rfl
theorem q630 : (Jvm.Cond.selects "TwoWorlds$Pairs" ({ cls := "java/lang/Object", name := "getClass", desc := "()Ljava/lang/Class;" } : Jvm.MethodName) ({ cls := "java/lang/Object", name := "getClass", desc := "()Ljava/lang/Class;" } : Jvm.MethodName)) ∈ lw_all := lw_g (lw_at lw_m3 64 rfl) rfl
theorem q999 : (Jvm.Cond.fieldLink "TwoWorlds$Pairs" (24 : Nat) "TwoWorlds$Pairs" "a" "LTwoWorlds$World;") ∈ lw_all := lw_g (lw_at lw_m4 193 rfl) rfl
theorem q1000 : (Jvm.Cond.sameField "TwoWorlds$Pairs" "TwoWorlds$Colouring" "a" "LTwoWorlds$World;") ∈ lw_all := lw_g (lw_at lw_m4 194 rfl) rfl
theorem q1002 : (Jvm.Cond.fieldLink "TwoWorlds$Pairs" (28 : Nat) "TwoWorlds$Pairs" "b" "LTwoWorlds$World;") ∈ lw_all := lw_g (lw_at lw_m4 196 rfl) rfl
theorem q1003 : (Jvm.Cond.sameField "TwoWorlds$Pairs" "TwoWorlds$Colouring" "b" "LTwoWorlds$World;") ∈ lw_all := lw_g (lw_at lw_m4 197 rfl) rfl
theorem q1007 : (Jvm.Cond.fieldLink "TwoWorlds$Pairs" (21 : Nat) "TwoWorlds$Pairs" "first" "I") ∈ lw_all := lw_g (lw_at lw_m4 201 rfl) rfl
theorem q1008 : (Jvm.Cond.sameField "TwoWorlds$Pairs" "TwoWorlds$Colouring" "first" "I") ∈ lw_all := lw_g (lw_at lw_m4 202 rfl) rfl
theorem q1012 : (Jvm.Cond.fieldLink "TwoWorlds$Pairs" (50 : Nat) "TwoWorlds$Pairs" "all" "I") ∈ lw_all := lw_g (lw_at lw_m4 206 rfl) rfl
theorem q1013 : (Jvm.Cond.sameField "TwoWorlds$Pairs" "TwoWorlds$Colouring" "all" "I") ∈ lw_all := lw_g (lw_at lw_m4 207 rfl) rfl
theorem q1018 : (Jvm.Cond.fieldLink "TwoWorlds$Pairs" (53 : Nat) "TwoWorlds$Pairs" "colours" "[I") ∈ lw_all := lw_g (lw_at lw_m4 212 rfl) rfl
theorem q1019 : (Jvm.Cond.sameField "TwoWorlds$Pairs" "TwoWorlds$Colouring" "colours" "[I") ∈ lw_all := lw_g (lw_at lw_m4 213 rfl) rfl
theorem q1043 : (Jvm.Cond.instantiable "TwoWorlds$Pairs" (8 : Nat)) ∈ lw_all := lw_g (lw_at lw_m4 237 rfl) rfl
theorem q1045 : (Jvm.Cond.instanceMethod ({ cls := "TwoWorlds$Pairs", name := "<init>", desc := "(LTwoWorlds$World;LTwoWorlds$World;)V" } : Jvm.MethodName)) ∈ lw_all := lw_g (lw_at lw_m4 239 rfl) rfl
theorem q1046 : (Jvm.Cond.code ({ cls := "TwoWorlds$Pairs", name := "<init>", desc := "(LTwoWorlds$World;LTwoWorlds$World;)V" } : Jvm.MethodName) prog_11_method_1_code (3 : Nat) (Option.none : Option Jvm.ClassFile.FieldType)) ∈ lw_all := lw_g (lw_at lw_m5 0 rfl) rfl
theorem q1047 : (Jvm.Cond.methodLink "TwoWorlds$Pairs" (9 : Nat) ({ cls := "TwoWorlds$Colouring", name := "<init>", desc := "(LTwoWorlds$World;LTwoWorlds$World;II)V" } : Jvm.MethodName)) ∈ lw_all := lw_g (lw_at lw_m5 1 rfl) rfl
theorem q1048 : (Jvm.Cond.fieldLink "TwoWorlds$Pairs" (15 : Nat) "TwoWorlds$Pairs" "sets" "[J") ∈ lw_all := lw_g (lw_at lw_m5 2 rfl) rfl
theorem q1049 : (Jvm.Cond.laysFinal "TwoWorlds$Pairs" "TwoWorlds$Pairs" "sets" "[J") ∈ lw_all := lw_g (lw_at lw_m5 3 rfl) rfl
theorem q1050 : (Jvm.Cond.soleField "TwoWorlds$Pairs" "sets") ∈ lw_all := lw_g (lw_at lw_m5 4 rfl) rfl
theorem q1051 : (Jvm.Cond.laysFinal "TwoWorlds$Pairs" "TwoWorlds$Colouring" "a" "LTwoWorlds$World;") ∈ lw_all := lw_g (lw_at lw_m5 5 rfl) rfl
theorem q1052 : (Jvm.Cond.laysFinal "TwoWorlds$Pairs" "TwoWorlds$Colouring" "b" "LTwoWorlds$World;") ∈ lw_all := lw_g (lw_at lw_m5 6 rfl) rfl
theorem q1053 : (Jvm.Cond.laysFinal "TwoWorlds$Pairs" "TwoWorlds$Colouring" "first" "I") ∈ lw_all := lw_g (lw_at lw_m5 7 rfl) rfl
theorem q1054 : (Jvm.Cond.laysFinal "TwoWorlds$Pairs" "TwoWorlds$Colouring" "all" "I") ∈ lw_all := lw_g (lw_at lw_m5 8 rfl) rfl
theorem q1055 : (Jvm.Cond.lays "TwoWorlds$Pairs" "TwoWorlds$Colouring" "colours" "[I") ∈ lw_all := lw_g (lw_at lw_m5 9 rfl) rfl
theorem q1056 : (Jvm.Cond.lays "TwoWorlds$Pairs" "TwoWorlds$Colouring" "many" "I") ∈ lw_all := lw_g (lw_at lw_m5 10 rfl) rfl
theorem q1057 : (Jvm.Cond.lays "TwoWorlds$Pairs" "TwoWorlds$Colouring" "steps" "I") ∈ lw_all := lw_g (lw_at lw_m5 11 rfl) rfl
theorem q1058 : (Jvm.Cond.superclass "TwoWorlds$Pairs" "TwoWorlds$Colouring") ∈ lw_all := lw_g (lw_at lw_m5 12 rfl) rfl
theorem q1064 : (Jvm.Cond.selects "TwoWorlds$Pairs" ({ cls := "TwoWorlds$Colouring", name := "run", desc := "()V" } : Jvm.MethodName) ({ cls := "TwoWorlds$Colouring", name := "run", desc := "()V" } : Jvm.MethodName)) ∈ lw_all := lw_g (lw_at lw_m5 18 rfl) rfl
theorem q1091 : (Jvm.Cond.selects "TwoWorlds$Pairs" ({ cls := "TwoWorlds$Colouring", name := "prepare", desc := "()V" } : Jvm.MethodName) ({ cls := "TwoWorlds$Pairs", name := "prepare", desc := "()V" } : Jvm.MethodName)) ∈ lw_all := lw_g (lw_at lw_m5 45 rfl) rfl
theorem q1092 : (Jvm.Cond.instanceMethod ({ cls := "TwoWorlds$Pairs", name := "prepare", desc := "()V" } : Jvm.MethodName)) ∈ lw_all := lw_g (lw_at lw_m5 46 rfl) rfl
theorem q1093 : (Jvm.Cond.code ({ cls := "TwoWorlds$Pairs", name := "prepare", desc := "()V" } : Jvm.MethodName) prog_11_method_6_code (5 : Nat) (Option.none : Option Jvm.ClassFile.FieldType)) ∈ lw_all := lw_g (lw_at lw_m5 47 rfl) rfl
theorem q1094 : (Jvm.Cond.methodLink "TwoWorlds$Pairs" (31 : Nat) ({ cls := "TwoWorlds$Pairs", name := "of", desc := "(I)LTwoWorlds$World;" } : Jvm.MethodName)) ∈ lw_all := lw_g (lw_at lw_m5 48 rfl) rfl
theorem q1095 : (Jvm.Cond.sameMethod "TwoWorlds$Pairs" "TwoWorlds$Colouring" "of" "(I)LTwoWorlds$World;") ∈ lw_all := lw_g (lw_at lw_m5 49 rfl) rfl
theorem q1096 : (Jvm.Cond.selects "TwoWorlds$Pairs" ({ cls := "TwoWorlds$Pairs", name := "of", desc := "(I)LTwoWorlds$World;" } : Jvm.MethodName) ({ cls := "TwoWorlds$Colouring", name := "of", desc := "(I)LTwoWorlds$World;" } : Jvm.MethodName)) ∈ lw_all := lw_g (lw_at lw_m5 50 rfl) rfl
theorem q1097 : (Jvm.Cond.methodLink "TwoWorlds$Pairs" (43 : Nat) ({ cls := "TwoWorlds$Pairs", name := "y", desc := "(I)I" } : Jvm.MethodName)) ∈ lw_all := lw_g (lw_at lw_m5 51 rfl) rfl
theorem q1098 : (Jvm.Cond.privateMethod ({ cls := "TwoWorlds$Pairs", name := "y", desc := "(I)I" } : Jvm.MethodName)) ∈ lw_tbl := lw_at lw_m5 52 rfl
theorem q1099 : (Jvm.Cond.instanceMethod ({ cls := "TwoWorlds$Pairs", name := "y", desc := "(I)I" } : Jvm.MethodName)) ∈ lw_all := lw_g (lw_at lw_m5 53 rfl) rfl
theorem q1100 : (Jvm.Cond.code ({ cls := "TwoWorlds$Pairs", name := "y", desc := "(I)I" } : Jvm.MethodName) prog_11_method_3_code (2 : Nat) (Option.some Jvm.ClassFile.FieldType.int)) ∈ lw_all := lw_g (lw_at lw_m5 54 rfl) rfl
theorem q1101 : (Jvm.Cond.methodLink "TwoWorlds$Pairs" (57 : Nat) ({ cls := "TwoWorlds$Pairs", name := "place", desc := "(III)I" } : Jvm.MethodName)) ∈ lw_all := lw_g (lw_at lw_m5 55 rfl) rfl
theorem q1102 : (Jvm.Cond.privateMethod ({ cls := "TwoWorlds$Pairs", name := "place", desc := "(III)I" } : Jvm.MethodName)) ∈ lw_tbl := lw_at lw_m5 56 rfl
theorem q1103 : (Jvm.Cond.instanceMethod ({ cls := "TwoWorlds$Pairs", name := "place", desc := "(III)I" } : Jvm.MethodName)) ∈ lw_all := lw_g (lw_at lw_m5 57 rfl) rfl
theorem q1104 : (Jvm.Cond.code ({ cls := "TwoWorlds$Pairs", name := "place", desc := "(III)I" } : Jvm.MethodName) prog_11_method_4_code (4 : Nat) (Option.some Jvm.ClassFile.FieldType.int)) ∈ lw_all := lw_g (lw_at lw_m5 58 rfl) rfl
theorem q1105 : (Jvm.Cond.methodLink "TwoWorlds$Pairs" (35 : Nat) ({ cls := "TwoWorlds$Pairs", name := "x", desc := "(I)I" } : Jvm.MethodName)) ∈ lw_all := lw_g (lw_at lw_m5 59 rfl) rfl
theorem q1106 : (Jvm.Cond.privateMethod ({ cls := "TwoWorlds$Pairs", name := "x", desc := "(I)I" } : Jvm.MethodName)) ∈ lw_tbl := lw_at lw_m5 60 rfl
theorem q1107 : (Jvm.Cond.instanceMethod ({ cls := "TwoWorlds$Pairs", name := "x", desc := "(I)I" } : Jvm.MethodName)) ∈ lw_all := lw_g (lw_at lw_m5 61 rfl) rfl
theorem q1108 : (Jvm.Cond.code ({ cls := "TwoWorlds$Pairs", name := "x", desc := "(I)I" } : Jvm.MethodName) prog_11_method_2_code (2 : Nat) (Option.some Jvm.ClassFile.FieldType.int)) ∈ lw_all := lw_g (lw_at lw_m5 62 rfl) rfl
theorem q1120 : (Jvm.Cond.selects "TwoWorlds$Pairs" ({ cls := "TwoWorlds$Colouring", name := "isAlike", desc := "(II)Z" } : Jvm.MethodName) ({ cls := "TwoWorlds$Pairs", name := "isAlike", desc := "(II)Z" } : Jvm.MethodName)) ∈ lw_all := lw_g (lw_at lw_m5 74 rfl) rfl
theorem q1121 : (Jvm.Cond.instanceMethod ({ cls := "TwoWorlds$Pairs", name := "isAlike", desc := "(II)Z" } : Jvm.MethodName)) ∈ lw_all := lw_g (lw_at lw_m5 75 rfl) rfl
theorem q1122 : (Jvm.Cond.code ({ cls := "TwoWorlds$Pairs", name := "isAlike", desc := "(II)Z" } : Jvm.MethodName) prog_11_method_5_code (6 : Nat) (Option.some Jvm.ClassFile.FieldType.boolean)) ∈ lw_all := lw_g (lw_at lw_m5 76 rfl) rfl
theorem q1123 : (Jvm.Cond.methodLink "TwoWorlds$Pairs" (39 : Nat) ({ cls := "TwoWorlds$Pairs", name := "isOneAlike", desc := "(LTwoWorlds$World;ILTwoWorlds$World;I)Z" } : Jvm.MethodName)) ∈ lw_all := lw_g (lw_at lw_m5 77 rfl) rfl
theorem q1124 : (Jvm.Cond.sameMethod "TwoWorlds$Pairs" "TwoWorlds$Colouring" "isOneAlike" "(LTwoWorlds$World;ILTwoWorlds$World;I)Z") ∈ lw_all := lw_g (lw_at lw_m5 78 rfl) rfl
theorem q1125 : (Jvm.Cond.methodLink "TwoWorlds$Pairs" (46 : Nat) ({ cls := "TwoWorlds$World", name := "isTied", desc := "(II)Z" } : Jvm.MethodName)) ∈ lw_all := lw_g (lw_at lw_m5 79 rfl) rfl
theorem q1132 : (Jvm.Cond.selects "TwoWorlds$Pairs" ({ cls := "TwoWorlds$Colouring", name := "stays", desc := "(II)Z" } : Jvm.MethodName) ({ cls := "TwoWorlds$Pairs", name := "stays", desc := "(II)Z" } : Jvm.MethodName)) ∈ lw_all := lw_g (lw_at lw_m5 86 rfl) rfl
theorem q1133 : (Jvm.Cond.instanceMethod ({ cls := "TwoWorlds$Pairs", name := "stays", desc := "(II)Z" } : Jvm.MethodName)) ∈ lw_all := lw_g (lw_at lw_m5 87 rfl) rfl
theorem q1134 : (Jvm.Cond.code ({ cls := "TwoWorlds$Pairs", name := "stays", desc := "(II)Z" } : Jvm.MethodName) prog_11_method_7_code (5 : Nat) (Option.some Jvm.ClassFile.FieldType.boolean)) ∈ lw_all := lw_g (lw_at lw_m5 88 rfl) rfl
theorem q1147 : (Jvm.Cond.selects "TwoWorlds$Pairs" ({ cls := "TwoWorlds$Colouring", name := "isBalanced", desc := "()Z" } : Jvm.MethodName) ({ cls := "TwoWorlds$Colouring", name := "isBalanced", desc := "()Z" } : Jvm.MethodName)) ∈ lw_all := lw_g (lw_at lw_m5 101 rfl) rfl
theorem q1753 : (Jvm.Cond.castable "TwoWorlds$Pairs" "java/lang/Object") ∈ lw_tbl := lw_at lw_m7 227 rfl
theorem in_X17 : ∀ w ∈ wsX170, w ∈ lw_all := lw_in wsX170 [1051, 1052, 1053, 1054, 1055, 1056, 1057, 1049] (by decide +kernel) (by decide +kernel)
def RJ0 : String := "java/util/AbstractCollection"
abbrev cJ0_init : ByteArray := prog_28_method_1_code
abbrev yJ0_init : MethodName := ⟨RJ0, "<init>", "()V"⟩
theorem q88 : (Jvm.Cond.initialized "java/util/AbstractCollection") ∈ lw_all := lw_g (lw_at lw_m1 2 rfl) rfl
theorem q135 : (Jvm.Cond.instanceMethod ({ cls := "java/util/AbstractCollection", name := "<init>", desc := "()V" } : Jvm.MethodName)) ∈ lw_all := lw_g (lw_at lw_m1 49 rfl) rfl
theorem q136 : (Jvm.Cond.code ({ cls := "java/util/AbstractCollection", name := "<init>", desc := "()V" } : Jvm.MethodName) prog_28_method_1_code (1 : Nat) (Option.none : Option Jvm.ClassFile.FieldType)) ∈ lw_all := lw_g (lw_at lw_m1 50 rfl) rfl
theorem q137 : (Jvm.Cond.methodLink "java/util/AbstractCollection" (1 : Nat) ({ cls := "java/lang/Object", name := "<init>", desc := "()V" } : Jvm.MethodName)) ∈ lw_all := lw_g (lw_at lw_m1 51 rfl) rfl
def RJ1 : String := "java/util/AbstractList"
abbrev cJ1_init : ByteArray := prog_29_method_1_code
abbrev yJ1_init : MethodName := ⟨RJ1, "<init>", "()V"⟩
theorem q89 : (Jvm.Cond.initialized "java/util/AbstractList") ∈ lw_all := lw_g (lw_at lw_m1 3 rfl) rfl
theorem q132 : (Jvm.Cond.instanceMethod ({ cls := "java/util/AbstractList", name := "<init>", desc := "()V" } : Jvm.MethodName)) ∈ lw_all := lw_g (lw_at lw_m1 46 rfl) rfl
theorem q133 : (Jvm.Cond.code ({ cls := "java/util/AbstractList", name := "<init>", desc := "()V" } : Jvm.MethodName) prog_29_method_1_code (1 : Nat) (Option.none : Option Jvm.ClassFile.FieldType)) ∈ lw_all := lw_g (lw_at lw_m1 47 rfl) rfl
theorem q134 : (Jvm.Cond.methodLink "java/util/AbstractList" (1 : Nat) ({ cls := "java/util/AbstractCollection", name := "<init>", desc := "()V" } : Jvm.MethodName)) ∈ lw_all := lw_g (lw_at lw_m1 48 rfl) rfl
theorem q142 : (Jvm.Cond.fieldLink "java/util/AbstractList" (7 : Nat) "java/util/AbstractList" "modCount" "I") ∈ lw_all := lw_g (lw_at lw_m1 56 rfl) rfl
theorem q150 : (Jvm.Cond.soleField "java/util/AbstractList" "modCount") ∈ lw_all := lw_g (lw_at lw_m1 64 rfl) rfl
def RJ2 : String := "java/util/ArrayList"
def TJ2 : u_T := fun k => match k with
  | 0 => ("java/util/AbstractList", "modCount", "I", false)
  | 1 => ("java/util/ArrayList", "elementData", "[Ljava/lang/Object;", false)
  | _ => ("java/util/ArrayList", "size", "I", false)
def tyJ2 : Nat → FieldType := fun k => match k with
  | 0 => .int
  | 1 => .array (.object "java/lang/Object")
  | _ => .int
abbrev wsJ20 : List Cond := u_ws RJ2 TJ2 3
theorem nmJ2 : ∀ a, a < 3 → ∀ b, b < 3 → a ≠ b → (TJ2 a).2.1 ≠ (TJ2 b).2.1 := by decide +kernel
theorem tyJ2_ok : ∀ k, k < 3 → parseFieldDescriptor (TJ2 k).2.2.1 = some (tyJ2 k) := by decide +kernel
abbrev cJ2_init : ByteArray := prog_30_method_2_code
abbrev yJ2_init : MethodName := ⟨RJ2, "<init>", "()V"⟩
abbrev cJ2_add : ByteArray := prog_30_method_25_code
abbrev yJ2_add : MethodName := ⟨RJ2, "add", "(Ljava/lang/Object;)Z"⟩
abbrev cJ2_add_2 : ByteArray := prog_30_method_24_code
abbrev yJ2_add_2 : MethodName := ⟨RJ2, "add", "(Ljava/lang/Object;[Ljava/lang/Object;I)V"⟩
abbrev cJ2_grow : ByteArray := prog_30_method_7_code
abbrev yJ2_grow : MethodName := ⟨RJ2, "grow", "()[Ljava/lang/Object;"⟩
abbrev cJ2_grow_2 : ByteArray := prog_30_method_6_code
abbrev yJ2_grow_2 : MethodName := ⟨RJ2, "grow", "(I)[Ljava/lang/Object;"⟩
abbrev cJ2_size : ByteArray := prog_30_method_8_code
abbrev yJ2_size : MethodName := ⟨RJ2, "size", "()I"⟩
abbrev cJ2_get : ByteArray := prog_30_method_20_code
abbrev yJ2_get : MethodName := ⟨RJ2, "get", "(I)Ljava/lang/Object;"⟩
abbrev cJ2_elementData : ByteArray := prog_30_method_18_code
abbrev yJ2_elementData : MethodName := ⟨RJ2, "elementData", "(I)Ljava/lang/Object;"⟩
theorem q90 : (Jvm.Cond.initialized "java/util/ArrayList") ∈ lw_all := lw_g (lw_at lw_m1 4 rfl) rfl
theorem q127 : (Jvm.Cond.instantiable "java/util/ArrayList" (3 : Nat)) ∈ lw_all := lw_g (lw_at lw_m1 41 rfl) rfl
theorem q129 : (Jvm.Cond.instanceMethod ({ cls := "java/util/ArrayList", name := "<init>", desc := "()V" } : Jvm.MethodName)) ∈ lw_all := lw_g (lw_at lw_m1 43 rfl) rfl
theorem q130 : (Jvm.Cond.code ({ cls := "java/util/ArrayList", name := "<init>", desc := "()V" } : Jvm.MethodName) prog_30_method_2_code (1 : Nat) (Option.none : Option Jvm.ClassFile.FieldType)) ∈ lw_all := lw_g (lw_at lw_m1 44 rfl) rfl
theorem q131 : (Jvm.Cond.methodLink "java/util/ArrayList" (1 : Nat) ({ cls := "java/util/AbstractList", name := "<init>", desc := "()V" } : Jvm.MethodName)) ∈ lw_all := lw_g (lw_at lw_m1 45 rfl) rfl
theorem q138 : (Jvm.Cond.fieldLink "java/util/ArrayList" (39 : Nat) "java/util/ArrayList" "DEFAULTCAPACITY_EMPTY_ELEMENTDATA" "[Ljava/lang/Object;") ∈ lw_all := lw_g (lw_at lw_m1 52 rfl) rfl
theorem q139 : (Jvm.Cond.laysStatic "java/util/ArrayList" "DEFAULTCAPACITY_EMPTY_ELEMENTDATA" "[Ljava/lang/Object;") ∈ lw_tbl := lw_at lw_m1 53 rfl
theorem q140 : (Jvm.Cond.fieldLink "java/util/ArrayList" (9 : Nat) "java/util/ArrayList" "elementData" "[Ljava/lang/Object;") ∈ lw_all := lw_g (lw_at lw_m1 54 rfl) rfl
theorem q141 : (Jvm.Cond.fieldLink "java/util/ArrayList" (48 : Nat) "java/util/ArrayList" "size" "I") ∈ lw_all := lw_g (lw_at lw_m1 55 rfl) rfl
theorem q143 : (Jvm.Cond.fieldLink "java/util/ArrayList" (63 : Nat) "java/util/ArrayList" "modCount" "I") ∈ lw_all := lw_g (lw_at lw_m1 57 rfl) rfl
theorem q144 : (Jvm.Cond.sameField "java/util/ArrayList" "java/util/AbstractList" "modCount" "I") ∈ lw_all := lw_g (lw_at lw_m1 58 rfl) rfl
theorem q145 : (Jvm.Cond.lays "java/util/ArrayList" "java/util/ArrayList" "elementData" "[Ljava/lang/Object;") ∈ lw_all := lw_g (lw_at lw_m1 59 rfl) rfl
theorem q146 : (Jvm.Cond.soleField "java/util/ArrayList" "elementData") ∈ lw_all := lw_g (lw_at lw_m1 60 rfl) rfl
theorem q147 : (Jvm.Cond.lays "java/util/ArrayList" "java/util/ArrayList" "size" "I") ∈ lw_all := lw_g (lw_at lw_m1 61 rfl) rfl
theorem q148 : (Jvm.Cond.soleField "java/util/ArrayList" "size") ∈ lw_all := lw_g (lw_at lw_m1 62 rfl) rfl
theorem q149 : (Jvm.Cond.lays "java/util/ArrayList" "java/util/AbstractList" "modCount" "I") ∈ lw_all := lw_g (lw_at lw_m1 63 rfl) rfl
theorem q151 : (Jvm.Cond.superclass "java/util/ArrayList" "java/util/AbstractList") ∈ lw_all := lw_g (lw_at lw_m1 65 rfl) rfl
theorem q588 : (Jvm.Cond.castable "java/util/ArrayList" "java/util/List") ∈ lw_tbl := lw_at lw_m3 22 rfl
theorem q589 : (Jvm.Cond.selects "java/util/ArrayList" ({ cls := "java/util/List", name := "add", desc := "(Ljava/lang/Object;)Z" } : Jvm.MethodName) ({ cls := "java/util/ArrayList", name := "add", desc := "(Ljava/lang/Object;)Z" } : Jvm.MethodName)) ∈ lw_all := lw_g (lw_at lw_m3 23 rfl) rfl
theorem q590 : (Jvm.Cond.unhidden "java/util/ArrayList" "add" "(Ljava/lang/Object;)Z") ∈ lw_tbl := lw_at lw_m3 24 rfl
theorem q591 : (Jvm.Cond.instanceMethod ({ cls := "java/util/ArrayList", name := "add", desc := "(Ljava/lang/Object;)Z" } : Jvm.MethodName)) ∈ lw_all := lw_g (lw_at lw_m3 25 rfl) rfl
theorem q592 : (Jvm.Cond.publicMethod ({ cls := "java/util/ArrayList", name := "add", desc := "(Ljava/lang/Object;)Z" } : Jvm.MethodName)) ∈ lw_tbl := lw_at lw_m3 26 rfl
theorem q593 : (Jvm.Cond.code ({ cls := "java/util/ArrayList", name := "add", desc := "(Ljava/lang/Object;)Z" } : Jvm.MethodName) prog_30_method_25_code (2 : Nat) (Option.some Jvm.ClassFile.FieldType.boolean)) ∈ lw_all := lw_g (lw_at lw_m3 27 rfl) rfl
theorem q594 : (Jvm.Cond.methodLink "java/util/ArrayList" (131 : Nat) ({ cls := "java/util/ArrayList", name := "add", desc := "(Ljava/lang/Object;[Ljava/lang/Object;I)V" } : Jvm.MethodName)) ∈ lw_all := lw_g (lw_at lw_m3 28 rfl) rfl
theorem q595 : (Jvm.Cond.privateMethod ({ cls := "java/util/ArrayList", name := "add", desc := "(Ljava/lang/Object;[Ljava/lang/Object;I)V" } : Jvm.MethodName)) ∈ lw_tbl := lw_at lw_m3 29 rfl
theorem q596 : (Jvm.Cond.instanceMethod ({ cls := "java/util/ArrayList", name := "add", desc := "(Ljava/lang/Object;[Ljava/lang/Object;I)V" } : Jvm.MethodName)) ∈ lw_all := lw_g (lw_at lw_m3 30 rfl) rfl
theorem q597 : (Jvm.Cond.code ({ cls := "java/util/ArrayList", name := "add", desc := "(Ljava/lang/Object;[Ljava/lang/Object;I)V" } : Jvm.MethodName) prog_30_method_24_code (4 : Nat) (Option.none : Option Jvm.ClassFile.FieldType)) ∈ lw_all := lw_g (lw_at lw_m3 31 rfl) rfl
theorem q598 : (Jvm.Cond.methodLink "java/util/ArrayList" (129 : Nat) ({ cls := "java/util/ArrayList", name := "grow", desc := "()[Ljava/lang/Object;" } : Jvm.MethodName)) ∈ lw_all := lw_g (lw_at lw_m3 32 rfl) rfl
theorem q599 : (Jvm.Cond.privateMethod ({ cls := "java/util/ArrayList", name := "grow", desc := "()[Ljava/lang/Object;" } : Jvm.MethodName)) ∈ lw_tbl := lw_at lw_m3 33 rfl
theorem q600 : (Jvm.Cond.instanceMethod ({ cls := "java/util/ArrayList", name := "grow", desc := "()[Ljava/lang/Object;" } : Jvm.MethodName)) ∈ lw_all := lw_g (lw_at lw_m3 34 rfl) rfl
theorem q601 : (Jvm.Cond.code ({ cls := "java/util/ArrayList", name := "grow", desc := "()[Ljava/lang/Object;" } : Jvm.MethodName) prog_30_method_7_code (1 : Nat) (Option.some (Jvm.ClassFile.FieldType.array (Jvm.ClassFile.FieldType.object "java/lang/Object")))) ∈ lw_all := lw_g (lw_at lw_m3 35 rfl) rfl
theorem q602 : (Jvm.Cond.methodLink "java/util/ArrayList" (69 : Nat) ({ cls := "java/util/ArrayList", name := "grow", desc := "(I)[Ljava/lang/Object;" } : Jvm.MethodName)) ∈ lw_all := lw_g (lw_at lw_m3 36 rfl) rfl
theorem q603 : (Jvm.Cond.privateMethod ({ cls := "java/util/ArrayList", name := "grow", desc := "(I)[Ljava/lang/Object;" } : Jvm.MethodName)) ∈ lw_tbl := lw_at lw_m3 37 rfl
theorem q604 : (Jvm.Cond.instanceMethod ({ cls := "java/util/ArrayList", name := "grow", desc := "(I)[Ljava/lang/Object;" } : Jvm.MethodName)) ∈ lw_all := lw_g (lw_at lw_m3 38 rfl) rfl
theorem q605 : (Jvm.Cond.code ({ cls := "java/util/ArrayList", name := "grow", desc := "(I)[Ljava/lang/Object;" } : Jvm.MethodName) prog_30_method_6_code (4 : Nat) (Option.some (Jvm.ClassFile.FieldType.array (Jvm.ClassFile.FieldType.object "java/lang/Object")))) ∈ lw_all := lw_g (lw_at lw_m3 39 rfl) rfl
theorem q606 : (Jvm.Cond.methodLink "java/util/ArrayList" (73 : Nat) ({ cls := "jdk/internal/util/ArraysSupport", name := "newLength", desc := "(III)I" } : Jvm.MethodName)) ∈ lw_all := lw_g (lw_at lw_m3 40 rfl) rfl
theorem q616 : (Jvm.Cond.methodLink "java/util/ArrayList" (66 : Nat) ({ cls := "java/util/Arrays", name := "copyOf", desc := "([Ljava/lang/Object;I)[Ljava/lang/Object;" } : Jvm.MethodName)) ∈ lw_all := lw_g (lw_at lw_m3 50 rfl) rfl
theorem q638 : (Jvm.Cond.selects "java/util/ArrayList" ({ cls := "java/lang/Object", name := "getClass", desc := "()Ljava/lang/Class;" } : Jvm.MethodName) ({ cls := "java/lang/Object", name := "getClass", desc := "()Ljava/lang/Class;" } : Jvm.MethodName)) ∈ lw_all := lw_g (lw_at lw_m3 72 rfl) rfl
theorem q652 : (Jvm.Cond.methodLink "java/util/ArrayList" (79 : Nat) ({ cls := "java/lang/Math", name := "max", desc := "(II)I" } : Jvm.MethodName)) ∈ lw_all := lw_g (lw_at lw_m3 86 rfl) rfl
theorem q653 : (Jvm.Cond.classLink "java/util/ArrayList" (7 : Nat) "java/lang/Object") ∈ lw_all := lw_g (lw_at lw_m3 87 rfl) rfl
theorem q686 : (Jvm.Cond.selects "java/util/ArrayList" ({ cls := "java/util/List", name := "size", desc := "()I" } : Jvm.MethodName) ({ cls := "java/util/ArrayList", name := "size", desc := "()I" } : Jvm.MethodName)) ∈ lw_all := lw_g (lw_at lw_m3 120 rfl) rfl
theorem q687 : (Jvm.Cond.unhidden "java/util/ArrayList" "size" "()I") ∈ lw_tbl := lw_at lw_m3 121 rfl
theorem q688 : (Jvm.Cond.instanceMethod ({ cls := "java/util/ArrayList", name := "size", desc := "()I" } : Jvm.MethodName)) ∈ lw_all := lw_g (lw_at lw_m3 122 rfl) rfl
theorem q689 : (Jvm.Cond.publicMethod ({ cls := "java/util/ArrayList", name := "size", desc := "()I" } : Jvm.MethodName)) ∈ lw_tbl := lw_at lw_m3 123 rfl
theorem q690 : (Jvm.Cond.code ({ cls := "java/util/ArrayList", name := "size", desc := "()I" } : Jvm.MethodName) prog_30_method_8_code (1 : Nat) (Option.some Jvm.ClassFile.FieldType.int)) ∈ lw_all := lw_g (lw_at lw_m3 124 rfl) rfl
theorem q695 : (Jvm.Cond.selects "java/util/ArrayList" ({ cls := "java/util/List", name := "get", desc := "(I)Ljava/lang/Object;" } : Jvm.MethodName) ({ cls := "java/util/ArrayList", name := "get", desc := "(I)Ljava/lang/Object;" } : Jvm.MethodName)) ∈ lw_all := lw_g (lw_at lw_m3 129 rfl) rfl
theorem q696 : (Jvm.Cond.unhidden "java/util/ArrayList" "get" "(I)Ljava/lang/Object;") ∈ lw_tbl := lw_at lw_m3 130 rfl
theorem q697 : (Jvm.Cond.instanceMethod ({ cls := "java/util/ArrayList", name := "get", desc := "(I)Ljava/lang/Object;" } : Jvm.MethodName)) ∈ lw_all := lw_g (lw_at lw_m3 131 rfl) rfl
theorem q698 : (Jvm.Cond.publicMethod ({ cls := "java/util/ArrayList", name := "get", desc := "(I)Ljava/lang/Object;" } : Jvm.MethodName)) ∈ lw_tbl := lw_at lw_m3 132 rfl
theorem q699 : (Jvm.Cond.code ({ cls := "java/util/ArrayList", name := "get", desc := "(I)Ljava/lang/Object;" } : Jvm.MethodName) prog_30_method_20_code (2 : Nat) (Option.some (Jvm.ClassFile.FieldType.object "java/lang/Object"))) ∈ lw_all := lw_g (lw_at lw_m3 133 rfl) rfl
theorem q700 : (Jvm.Cond.methodLink "java/util/ArrayList" (118 : Nat) ({ cls := "java/util/Objects", name := "checkIndex", desc := "(II)I" } : Jvm.MethodName)) ∈ lw_all := lw_g (lw_at lw_m3 134 rfl) rfl
theorem q706 : (Jvm.Cond.methodLink "java/util/ArrayList" (123 : Nat) ({ cls := "java/util/ArrayList", name := "elementData", desc := "(I)Ljava/lang/Object;" } : Jvm.MethodName)) ∈ lw_all := lw_g (lw_at lw_m3 140 rfl) rfl
theorem q707 : (Jvm.Cond.instanceMethod ({ cls := "java/util/ArrayList", name := "elementData", desc := "(I)Ljava/lang/Object;" } : Jvm.MethodName)) ∈ lw_all := lw_g (lw_at lw_m3 141 rfl) rfl
theorem q708 : (Jvm.Cond.selects "java/util/ArrayList" ({ cls := "java/util/ArrayList", name := "elementData", desc := "(I)Ljava/lang/Object;" } : Jvm.MethodName) ({ cls := "java/util/ArrayList", name := "elementData", desc := "(I)Ljava/lang/Object;" } : Jvm.MethodName)) ∈ lw_all := lw_g (lw_at lw_m3 142 rfl) rfl
theorem q709 : (Jvm.Cond.code ({ cls := "java/util/ArrayList", name := "elementData", desc := "(I)Ljava/lang/Object;" } : Jvm.MethodName) prog_30_method_18_code (2 : Nat) (Option.some (Jvm.ClassFile.FieldType.object "java/lang/Object"))) ∈ lw_all := lw_g (lw_at lw_m3 143 rfl) rfl
theorem q1739 : (Jvm.Cond.castable "java/util/ArrayList" "java/lang/Object") ∈ lw_tbl := lw_at lw_m7 213 rfl
theorem in_J2 : ∀ w ∈ wsJ20, w ∈ lw_all := lw_in wsJ20 [149, 145, 147] (by decide +kernel) (by decide +kernel)
def RJ3 : String := "java/lang/Throwable"
def TJ3 : u_T := fun k => match k with
  | 0 => ("java/lang/Throwable", "cause", "Ljava/lang/Throwable;", false)
  | 1 => ("java/lang/Throwable", "stackTrace", "[Ljava/lang/StackTraceElement;", false)
  | 2 => ("java/lang/Throwable", "suppressedExceptions", "Ljava/util/List;", false)
  | 3 => ("java/lang/Throwable", "detailMessage", "Ljava/lang/String;", false)
  | _ => ("java/lang/Throwable", "backtrace", "Ljava/lang/Object;", false)
def tyJ3 : Nat → FieldType := fun k => match k with
  | 0 => .object "java/lang/Throwable"
  | 1 => .array (.object "java/lang/StackTraceElement")
  | 2 => .object "java/util/List"
  | 3 => .object "java/lang/String"
  | _ => .object "java/lang/Object"
abbrev wsJ30 : List Cond := u_ws RJ3 TJ3 5
theorem nmJ3 : ∀ a, a < 5 → ∀ b, b < 5 → a ≠ b → (TJ3 a).2.1 ≠ (TJ3 b).2.1 := by decide +kernel
theorem tyJ3_ok : ∀ k, k < 5 → parseFieldDescriptor (TJ3 k).2.2.1 = some (tyJ3 k) := by decide +kernel
abbrev cJ3_init : ByteArray := prog_27_method_1_code
abbrev yJ3_init : MethodName := ⟨RJ3, "<init>", "()V"⟩
abbrev cJ3_init_2 : ByteArray := prog_27_method_5_code
abbrev yJ3_init_2 : MethodName := ⟨RJ3, "<init>", "(Ljava/lang/String;Ljava/lang/Throwable;ZZ)V"⟩
theorem q97 : (Jvm.Cond.initialized "java/lang/Throwable") ∈ lw_all := lw_g (lw_at lw_m1 11 rfl) rfl
theorem q488 : (Jvm.Cond.declares ({ cls := "java/lang/Throwable", name := "<init>", desc := "()V" } : Jvm.MethodName)) ∈ lw_tbl := lw_at lw_m2 162 rfl
theorem q489 : (Jvm.Cond.declares ({ cls := "java/lang/Throwable", name := "<init>", desc := "(Ljava/lang/String;)V" } : Jvm.MethodName)) ∈ lw_tbl := lw_at lw_m2 163 rfl
theorem q493 : (Jvm.Cond.lays "java/lang/Throwable" "java/lang/Throwable" "cause" "Ljava/lang/Throwable;") ∈ lw_all := lw_g (lw_at lw_m2 167 rfl) rfl
theorem q495 : (Jvm.Cond.lays "java/lang/Throwable" "java/lang/Throwable" "stackTrace" "[Ljava/lang/StackTraceElement;") ∈ lw_all := lw_g (lw_at lw_m2 169 rfl) rfl
theorem q497 : (Jvm.Cond.lays "java/lang/Throwable" "java/lang/Throwable" "suppressedExceptions" "Ljava/util/List;") ∈ lw_all := lw_g (lw_at lw_m2 171 rfl) rfl
theorem q499 : (Jvm.Cond.lays "java/lang/Throwable" "java/lang/Throwable" "detailMessage" "Ljava/lang/String;") ∈ lw_all := lw_g (lw_at lw_m2 173 rfl) rfl
theorem q501 : (Jvm.Cond.lays "java/lang/Throwable" "java/lang/Throwable" "backtrace" "Ljava/lang/Object;") ∈ lw_all := lw_g (lw_at lw_m2 175 rfl) rfl
theorem q502 : (Jvm.Cond.fieldLink "java/lang/Throwable" (198 : Nat) "java/lang/Throwable" "backtrace" "Ljava/lang/Object;") ∈ lw_all := lw_g (lw_at lw_m2 176 rfl) rfl
theorem q503 : (Jvm.Cond.superclass "java/lang/Throwable" "java/lang/Object") ∈ lw_all := lw_g (lw_at lw_m2 177 rfl) rfl
theorem q504 : (Jvm.Cond.instanceMethod ({ cls := "java/lang/Throwable", name := "<init>", desc := "()V" } : Jvm.MethodName)) ∈ lw_all := lw_g (lw_at lw_m2 178 rfl) rfl
theorem q505 : (Jvm.Cond.code ({ cls := "java/lang/Throwable", name := "<init>", desc := "()V" } : Jvm.MethodName) prog_27_method_1_code (1 : Nat) (Option.none : Option Jvm.ClassFile.FieldType)) ∈ lw_all := lw_g (lw_at lw_m2 179 rfl) rfl
theorem q506 : (Jvm.Cond.methodLink "java/lang/Throwable" (1 : Nat) ({ cls := "java/lang/Object", name := "<init>", desc := "()V" } : Jvm.MethodName)) ∈ lw_all := lw_g (lw_at lw_m2 180 rfl) rfl
theorem q507 : (Jvm.Cond.fieldLink "java/lang/Throwable" (13 : Nat) "java/lang/Throwable" "UNASSIGNED_STACK" "[Ljava/lang/StackTraceElement;") ∈ lw_all := lw_g (lw_at lw_m2 181 rfl) rfl
theorem q508 : (Jvm.Cond.laysStatic "java/lang/Throwable" "UNASSIGNED_STACK" "[Ljava/lang/StackTraceElement;") ∈ lw_tbl := lw_at lw_m2 182 rfl
theorem q509 : (Jvm.Cond.fieldLink "java/lang/Throwable" (20 : Nat) "java/lang/Throwable" "SUPPRESSED_SENTINEL" "Ljava/util/List;") ∈ lw_all := lw_g (lw_at lw_m2 183 rfl) rfl
theorem q510 : (Jvm.Cond.laysStatic "java/lang/Throwable" "SUPPRESSED_SENTINEL" "Ljava/util/List;") ∈ lw_tbl := lw_at lw_m2 184 rfl
theorem q511 : (Jvm.Cond.methodLink "java/lang/Throwable" (27 : Nat) ({ cls := "java/lang/Throwable", name := "fillInStackTrace", desc := "()Ljava/lang/Throwable;" } : Jvm.MethodName)) ∈ lw_all := lw_g (lw_at lw_m2 185 rfl) rfl
theorem q512 : (Jvm.Cond.instanceMethod ({ cls := "java/lang/Throwable", name := "fillInStackTrace", desc := "()Ljava/lang/Throwable;" } : Jvm.MethodName)) ∈ lw_all := lw_g (lw_at lw_m2 186 rfl) rfl
theorem q513 : (Jvm.Cond.sameMethod "java/lang/Throwable" "java/lang/Throwable" "fillInStackTrace" "()Ljava/lang/Throwable;") ∈ lw_all := lw_g (lw_at lw_m2 187 rfl) rfl
theorem q515 : (Jvm.Cond.codeSync ({ cls := "java/lang/Throwable", name := "fillInStackTrace", desc := "()Ljava/lang/Throwable;" } : Jvm.MethodName) prog_27_method_18_code (1 : Nat) (Option.some (Jvm.ClassFile.FieldType.object "java/lang/Throwable"))) ∈ lw_all := lw_g (lw_at lw_m2 189 rfl) rfl
theorem q516 : (Jvm.Cond.methodLink "java/lang/Throwable" (202 : Nat) ({ cls := "java/lang/Throwable", name := "fillInStackTrace", desc := "(I)Ljava/lang/Throwable;" } : Jvm.MethodName)) ∈ lw_all := lw_g (lw_at lw_m2 190 rfl) rfl
theorem q517 : (Jvm.Cond.privateMethod ({ cls := "java/lang/Throwable", name := "fillInStackTrace", desc := "(I)Ljava/lang/Throwable;" } : Jvm.MethodName)) ∈ lw_tbl := lw_at lw_m2 191 rfl
theorem q518 : (Jvm.Cond.instanceMethod ({ cls := "java/lang/Throwable", name := "fillInStackTrace", desc := "(I)Ljava/lang/Throwable;" } : Jvm.MethodName)) ∈ lw_all := lw_g (lw_at lw_m2 192 rfl) rfl
theorem q519 : (Jvm.Cond.instantiable "java/lang/Throwable" (6 : Nat)) ∈ lw_all := lw_g (lw_at lw_m2 193 rfl) rfl
theorem q520 : (Jvm.Cond.native ({ cls := "java/lang/Throwable", name := "fillInStackTrace", desc := "(I)Ljava/lang/Throwable;" } : Jvm.MethodName)) ∈ lw_all := lw_g (lw_at lw_m2 194 rfl) rfl
theorem q529 : (Jvm.Cond.instanceMethod ({ cls := "java/lang/Throwable", name := "<init>", desc := "(Ljava/lang/String;Ljava/lang/Throwable;ZZ)V" } : Jvm.MethodName)) ∈ lw_all := lw_g (lw_at lw_m2 203 rfl) rfl
theorem q530 : (Jvm.Cond.code ({ cls := "java/lang/Throwable", name := "<init>", desc := "(Ljava/lang/String;Ljava/lang/Throwable;ZZ)V" } : Jvm.MethodName) prog_27_method_5_code (5 : Nat) (Option.none : Option Jvm.ClassFile.FieldType)) ∈ lw_all := lw_g (lw_at lw_m2 204 rfl) rfl
theorem q533 : (Jvm.Cond.fieldLink "java/lang/Throwable" (198 : Nat) "java/lang/Throwable" "backtrace" "Ljava/lang/Object;") ∈ lw_all := lw_g (lw_at lw_m2 207 rfl) rfl
theorem q534 : (Jvm.Cond.fieldLink "java/lang/Throwable" (31 : Nat) "java/lang/Throwable" "detailMessage" "Ljava/lang/String;") ∈ lw_all := lw_g (lw_at lw_m2 208 rfl) rfl
theorem q535 : (Jvm.Cond.fieldLink "java/lang/Throwable" (7 : Nat) "java/lang/Throwable" "cause" "Ljava/lang/Throwable;") ∈ lw_all := lw_g (lw_at lw_m2 209 rfl) rfl
theorem q536 : (Jvm.Cond.fieldLink "java/lang/Throwable" (17 : Nat) "java/lang/Throwable" "stackTrace" "[Ljava/lang/StackTraceElement;") ∈ lw_all := lw_g (lw_at lw_m2 210 rfl) rfl
theorem q537 : (Jvm.Cond.fieldLink "java/lang/Throwable" (24 : Nat) "java/lang/Throwable" "suppressedExceptions" "Ljava/util/List;") ∈ lw_all := lw_g (lw_at lw_m2 211 rfl) rfl
theorem q540 : (Jvm.Cond.soleField "java/lang/Throwable" "backtrace") ∈ lw_all := lw_g (lw_at lw_m2 214 rfl) rfl
theorem q541 : (Jvm.Cond.soleField "java/lang/Throwable" "detailMessage") ∈ lw_all := lw_g (lw_at lw_m2 215 rfl) rfl
theorem q542 : (Jvm.Cond.soleField "java/lang/Throwable" "cause") ∈ lw_all := lw_g (lw_at lw_m2 216 rfl) rfl
theorem q543 : (Jvm.Cond.soleField "java/lang/Throwable" "stackTrace") ∈ lw_all := lw_g (lw_at lw_m2 217 rfl) rfl
theorem q545 : (Jvm.Cond.soleField "java/lang/Throwable" "depth") ∈ lw_all := lw_g (lw_at lw_m2 219 rfl) rfl
theorem q546 : (Jvm.Cond.soleField "java/lang/Throwable" "suppressedExceptions") ∈ lw_all := lw_g (lw_at lw_m2 220 rfl) rfl
theorem q1729 : (Jvm.Cond.sameMethod "java/lang/Throwable" "java/lang/Throwable" "fillInStackTrace" "(I)Ljava/lang/Throwable;") ∈ lw_all := lw_g (lw_at lw_m7 203 rfl) rfl
theorem q1754 : (Jvm.Cond.castable "java/lang/Throwable" "java/lang/Object") ∈ lw_tbl := lw_at lw_m7 228 rfl
theorem in_J3 : ∀ w ∈ wsJ30, w ∈ lw_all := lw_in wsJ30 [493, 495, 497, 499, 501] (by decide +kernel) (by decide +kernel)
def RJ4 : String := "java/lang/Exception"
abbrev cJ4_init : ByteArray := prog_22_method_5_code
abbrev yJ4_init : MethodName := ⟨RJ4, "<init>", "(Ljava/lang/String;Ljava/lang/Throwable;ZZ)V"⟩
theorem q98 : (Jvm.Cond.initialized "java/lang/Exception") ∈ lw_all := lw_g (lw_at lw_m1 12 rfl) rfl
theorem q486 : (Jvm.Cond.declares ({ cls := "java/lang/Exception", name := "<init>", desc := "()V" } : Jvm.MethodName)) ∈ lw_tbl := lw_at lw_m2 160 rfl
theorem q487 : (Jvm.Cond.declares ({ cls := "java/lang/Exception", name := "<init>", desc := "(Ljava/lang/String;)V" } : Jvm.MethodName)) ∈ lw_tbl := lw_at lw_m2 161 rfl
theorem q526 : (Jvm.Cond.instanceMethod ({ cls := "java/lang/Exception", name := "<init>", desc := "(Ljava/lang/String;Ljava/lang/Throwable;ZZ)V" } : Jvm.MethodName)) ∈ lw_all := lw_g (lw_at lw_m2 200 rfl) rfl
theorem q527 : (Jvm.Cond.code ({ cls := "java/lang/Exception", name := "<init>", desc := "(Ljava/lang/String;Ljava/lang/Throwable;ZZ)V" } : Jvm.MethodName) prog_22_method_5_code (5 : Nat) (Option.none : Option Jvm.ClassFile.FieldType)) ∈ lw_all := lw_g (lw_at lw_m2 201 rfl) rfl
theorem q528 : (Jvm.Cond.methodLink "java/lang/Exception" (16 : Nat) ({ cls := "java/lang/Throwable", name := "<init>", desc := "(Ljava/lang/String;Ljava/lang/Throwable;ZZ)V" } : Jvm.MethodName)) ∈ lw_all := lw_g (lw_at lw_m2 202 rfl) rfl
def RJ5 : String := "jdk/internal/util/ArraysSupport"
abbrev cJ5_newLength : ByteArray := prog_37_method_27_code
abbrev yJ5_newLength : MethodName := ⟨RJ5, "newLength", "(III)I"⟩
abbrev cJ5_hugeLength : ByteArray := prog_37_method_28_code
abbrev yJ5_hugeLength : MethodName := ⟨RJ5, "hugeLength", "(II)I"⟩
theorem q102 : (Jvm.Cond.initialized "jdk/internal/util/ArraysSupport") ∈ lw_all := lw_g (lw_at lw_m1 16 rfl) rfl
theorem q607 : (Jvm.Cond.static ({ cls := "jdk/internal/util/ArraysSupport", name := "newLength", desc := "(III)I" } : Jvm.MethodName)) ∈ lw_all := lw_g (lw_at lw_m3 41 rfl) rfl
theorem q608 : (Jvm.Cond.code ({ cls := "jdk/internal/util/ArraysSupport", name := "newLength", desc := "(III)I" } : Jvm.MethodName) prog_37_method_27_code (4 : Nat) (Option.some Jvm.ClassFile.FieldType.int)) ∈ lw_all := lw_g (lw_at lw_m3 42 rfl) rfl
theorem q609 : (Jvm.Cond.methodLink "jdk/internal/util/ArraysSupport" (194 : Nat) ({ cls := "java/lang/Math", name := "max", desc := "(II)I" } : Jvm.MethodName)) ∈ lw_all := lw_g (lw_at lw_m3 43 rfl) rfl
theorem q612 : (Jvm.Cond.constant "jdk/internal/util/ArraysSupport" (200 : Nat) (2147483639 : Int32)) ∈ lw_all := lw_g (lw_at lw_m3 46 rfl) rfl
theorem q613 : (Jvm.Cond.methodLink "jdk/internal/util/ArraysSupport" (201 : Nat) ({ cls := "jdk/internal/util/ArraysSupport", name := "hugeLength", desc := "(II)I" } : Jvm.MethodName)) ∈ lw_all := lw_g (lw_at lw_m3 47 rfl) rfl
theorem q614 : (Jvm.Cond.static ({ cls := "jdk/internal/util/ArraysSupport", name := "hugeLength", desc := "(II)I" } : Jvm.MethodName)) ∈ lw_all := lw_g (lw_at lw_m3 48 rfl) rfl
theorem q615 : (Jvm.Cond.code ({ cls := "jdk/internal/util/ArraysSupport", name := "hugeLength", desc := "(II)I" } : Jvm.MethodName) prog_37_method_28_code (3 : Nat) (Option.some Jvm.ClassFile.FieldType.int)) ∈ lw_all := lw_g (lw_at lw_m3 49 rfl) rfl
def RJ6 : String := "java/lang/Math"
abbrev cJ6_max : ByteArray := prog_24_method_65_code
abbrev yJ6_max : MethodName := ⟨RJ6, "max", "(II)I"⟩
abbrev cJ6_min : ByteArray := prog_24_method_69_code
abbrev yJ6_min : MethodName := ⟨RJ6, "min", "(II)I"⟩
theorem q103 : (Jvm.Cond.initialized "java/lang/Math") ∈ lw_all := lw_g (lw_at lw_m1 17 rfl) rfl
theorem q610 : (Jvm.Cond.static ({ cls := "java/lang/Math", name := "max", desc := "(II)I" } : Jvm.MethodName)) ∈ lw_all := lw_g (lw_at lw_m3 44 rfl) rfl
theorem q611 : (Jvm.Cond.code ({ cls := "java/lang/Math", name := "max", desc := "(II)I" } : Jvm.MethodName) prog_24_method_65_code (2 : Nat) (Option.some Jvm.ClassFile.FieldType.int)) ∈ lw_all := lw_g (lw_at lw_m3 45 rfl) rfl
theorem q647 : (Jvm.Cond.static ({ cls := "java/lang/Math", name := "min", desc := "(II)I" } : Jvm.MethodName)) ∈ lw_all := lw_g (lw_at lw_m3 81 rfl) rfl
theorem q648 : (Jvm.Cond.code ({ cls := "java/lang/Math", name := "min", desc := "(II)I" } : Jvm.MethodName) prog_24_method_69_code (2 : Nat) (Option.some Jvm.ClassFile.FieldType.int)) ∈ lw_all := lw_g (lw_at lw_m3 82 rfl) rfl
def RJ7 : String := "java/util/Arrays"
abbrev cJ7_copyOf : ByteArray := prog_31_method_119_code
abbrev yJ7_copyOf : MethodName := ⟨RJ7, "copyOf", "([Ljava/lang/Object;I)[Ljava/lang/Object;"⟩
abbrev cJ7_copyOf_2 : ByteArray := prog_31_method_120_code
abbrev yJ7_copyOf_2 : MethodName := ⟨RJ7, "copyOf", "([Ljava/lang/Object;ILjava/lang/Class;)[Ljava/lang/Object;"⟩
theorem q104 : (Jvm.Cond.initialized "java/util/Arrays") ∈ lw_all := lw_g (lw_at lw_m1 18 rfl) rfl
theorem q617 : (Jvm.Cond.static ({ cls := "java/util/Arrays", name := "copyOf", desc := "([Ljava/lang/Object;I)[Ljava/lang/Object;" } : Jvm.MethodName)) ∈ lw_all := lw_g (lw_at lw_m3 51 rfl) rfl
theorem q618 : (Jvm.Cond.code ({ cls := "java/util/Arrays", name := "copyOf", desc := "([Ljava/lang/Object;I)[Ljava/lang/Object;" } : Jvm.MethodName) prog_31_method_119_code (2 : Nat) (Option.some (Jvm.ClassFile.FieldType.array (Jvm.ClassFile.FieldType.object "java/lang/Object")))) ∈ lw_all := lw_g (lw_at lw_m3 52 rfl) rfl
theorem q619 : (Jvm.Cond.methodLink "java/util/Arrays" (86 : Nat) ({ cls := "java/lang/Object", name := "getClass", desc := "()Ljava/lang/Class;" } : Jvm.MethodName)) ∈ lw_all := lw_g (lw_at lw_m3 53 rfl) rfl
theorem q640 : (Jvm.Cond.methodLink "java/util/Arrays" (300 : Nat) ({ cls := "java/util/Arrays", name := "copyOf", desc := "([Ljava/lang/Object;ILjava/lang/Class;)[Ljava/lang/Object;" } : Jvm.MethodName)) ∈ lw_all := lw_g (lw_at lw_m3 74 rfl) rfl
theorem q641 : (Jvm.Cond.static ({ cls := "java/util/Arrays", name := "copyOf", desc := "([Ljava/lang/Object;ILjava/lang/Class;)[Ljava/lang/Object;" } : Jvm.MethodName)) ∈ lw_all := lw_g (lw_at lw_m3 75 rfl) rfl
theorem q642 : (Jvm.Cond.code ({ cls := "java/util/Arrays", name := "copyOf", desc := "([Ljava/lang/Object;ILjava/lang/Class;)[Ljava/lang/Object;" } : Jvm.MethodName) prog_31_method_120_code (4 : Nat) (Option.some (Jvm.ClassFile.FieldType.array (Jvm.ClassFile.FieldType.object "java/lang/Object")))) ∈ lw_all := lw_g (lw_at lw_m3 76 rfl) rfl
theorem q643 : (Jvm.Cond.classLink "java/util/Arrays" (110 : Nat) "[Ljava/lang/Object;") ∈ lw_all := lw_g (lw_at lw_m3 77 rfl) rfl
theorem q645 : (Jvm.Cond.classLink "java/util/Arrays" (2 : Nat) "java/lang/Object") ∈ lw_all := lw_g (lw_at lw_m3 79 rfl) rfl
theorem q646 : (Jvm.Cond.methodLink "java/util/Arrays" (304 : Nat) ({ cls := "java/lang/Math", name := "min", desc := "(II)I" } : Jvm.MethodName)) ∈ lw_all := lw_g (lw_at lw_m3 80 rfl) rfl
theorem q649 : (Jvm.Cond.methodLink "java/util/Arrays" (150 : Nat) ({ cls := "java/lang/System", name := "arraycopy", desc := "(Ljava/lang/Object;ILjava/lang/Object;II)V" } : Jvm.MethodName)) ∈ lw_all := lw_g (lw_at lw_m3 83 rfl) rfl
def RJ8 : String := "java/util/Objects"
abbrev cJ8_checkIndex : ByteArray := prog_34_method_17_code
abbrev yJ8_checkIndex : MethodName := ⟨RJ8, "checkIndex", "(II)I"⟩
theorem q107 : (Jvm.Cond.initialized "java/util/Objects") ∈ lw_all := lw_g (lw_at lw_m1 21 rfl) rfl
theorem q701 : (Jvm.Cond.static ({ cls := "java/util/Objects", name := "checkIndex", desc := "(II)I" } : Jvm.MethodName)) ∈ lw_all := lw_g (lw_at lw_m3 135 rfl) rfl
theorem q702 : (Jvm.Cond.code ({ cls := "java/util/Objects", name := "checkIndex", desc := "(II)I" } : Jvm.MethodName) prog_34_method_17_code (2 : Nat) (Option.some Jvm.ClassFile.FieldType.int)) ∈ lw_all := lw_g (lw_at lw_m3 136 rfl) rfl
theorem q703 : (Jvm.Cond.methodLink "java/util/Objects" (105 : Nat) ({ cls := "jdk/internal/util/Preconditions", name := "checkIndex", desc := "(IILjava/util/function/BiFunction;)I" } : Jvm.MethodName)) ∈ lw_all := lw_g (lw_at lw_m3 137 rfl) rfl
def RJ9 : String := "jdk/internal/util/Preconditions"
abbrev cJ9_checkIndex : ByteArray := prog_38_method_11_code
abbrev yJ9_checkIndex : MethodName := ⟨RJ9, "checkIndex", "(IILjava/util/function/BiFunction;)I"⟩
theorem q108 : (Jvm.Cond.initialized "jdk/internal/util/Preconditions") ∈ lw_all := lw_g (lw_at lw_m1 22 rfl) rfl
theorem q704 : (Jvm.Cond.static ({ cls := "jdk/internal/util/Preconditions", name := "checkIndex", desc := "(IILjava/util/function/BiFunction;)I" } : Jvm.MethodName)) ∈ lw_all := lw_g (lw_at lw_m3 138 rfl) rfl
theorem q705 : (Jvm.Cond.code ({ cls := "jdk/internal/util/Preconditions", name := "checkIndex", desc := "(IILjava/util/function/BiFunction;)I" } : Jvm.MethodName) prog_38_method_11_code (3 : Nat) (Option.some Jvm.ClassFile.FieldType.int)) ∈ lw_all := lw_g (lw_at lw_m3 139 rfl) rfl
def RJ10 : String := "java/lang/Object"
abbrev cJ10_init : ByteArray := object_method_1_code
abbrev yJ10_init : MethodName := ⟨RJ10, "<init>", "()V"⟩
theorem q122 : (Jvm.Cond.instanceMethod ({ cls := "java/lang/Object", name := "<init>", desc := "()V" } : Jvm.MethodName)) ∈ lw_all := lw_g (lw_at lw_m1 36 rfl) rfl
theorem q123 : (Jvm.Cond.code ({ cls := "java/lang/Object", name := "<init>", desc := "()V" } : Jvm.MethodName) object_method_1_code (1 : Nat) (Option.none : Option Jvm.ClassFile.FieldType)) ∈ lw_all := lw_g (lw_at lw_m1 37 rfl) rfl
theorem q620 : (Jvm.Cond.instanceMethod ({ cls := "java/lang/Object", name := "getClass", desc := "()Ljava/lang/Class;" } : Jvm.MethodName)) ∈ lw_all := lw_g (lw_at lw_m3 54 rfl) rfl
theorem q621 : (Jvm.Cond.sameMethod "java/lang/Object" "java/lang/Object" "getClass" "()Ljava/lang/Class;") ∈ lw_all := lw_g (lw_at lw_m3 55 rfl) rfl
theorem q639 : (Jvm.Cond.native ({ cls := "java/lang/Object", name := "getClass", desc := "()Ljava/lang/Class;" } : Jvm.MethodName)) ∈ lw_all := lw_g (lw_at lw_m3 73 rfl) rfl
theorem q1758 : (Jvm.Cond.declares ({ cls := "java/lang/Object", name := "getClass", desc := "()Ljava/lang/Class;" } : Jvm.MethodName)) ∈ lw_tbl := lw_at lw_m7 232 rfl
theorem q86 : (Jvm.Cond.initialized "TwoWorldsLaw") ∈ lw_all := lw_g (lw_at lw_m1 0 rfl) rfl
theorem q116 : (Jvm.Cond.classLink "TwoWorldsLaw" (7 : Nat) "TwoWorlds") ∈ lw_all := lw_g (lw_at lw_m1 30 rfl) rfl
theorem q118 : (Jvm.Cond.methodLink "TwoWorldsLaw" (9 : Nat) ({ cls := "TwoWorlds", name := "<init>", desc := "()V" } : Jvm.MethodName)) ∈ lw_all := lw_g (lw_at lw_m1 32 rfl) rfl
theorem q194 : (Jvm.Cond.methodLink "TwoWorldsLaw" (13 : Nat) ({ cls := "TwoWorlds", name := "world", desc := "(II)I" } : Jvm.MethodName)) ∈ lw_all := lw_g (lw_at lw_m1 108 rfl) rfl
theorem q232 : (Jvm.Cond.methodLink "TwoWorldsLaw" (18 : Nat) ({ cls := "TwoWorlds", name := "mark", desc := "(IIIZ)I" } : Jvm.MethodName)) ∈ lw_all := lw_g (lw_at lw_m1 146 rfl) rfl
theorem q249 : (Jvm.Cond.methodLink "TwoWorldsLaw" (23 : Nat) ({ cls := "TwoWorlds", name := "tie", desc := "(IIIZ)I" } : Jvm.MethodName)) ∈ lw_all := lw_g (lw_at lw_m1 163 rfl) rfl
theorem q257 : (Jvm.Cond.methodLink "TwoWorldsLaw" (27 : Nat) ({ cls := "TwoWorlds", name := "turn", desc := "(IIII)I" } : Jvm.MethodName)) ∈ lw_all := lw_g (lw_at lw_m1 171 rfl) rfl
theorem q266 : (Jvm.Cond.methodLink "TwoWorldsLaw" (32 : Nat) ({ cls := "TwoWorlds", name := "join", desc := "(III)I" } : Jvm.MethodName)) ∈ lw_all := lw_g (lw_at lw_m1 180 rfl) rfl
theorem q270 : (Jvm.Cond.methodLink "TwoWorldsLaw" (37 : Nat) ({ cls := "TwoWorlds", name := "about", desc := "(II)I" } : Jvm.MethodName)) ∈ lw_all := lw_g (lw_at lw_m1 184 rfl) rfl
theorem q276 : (Jvm.Cond.methodLink "TwoWorldsLaw" (41 : Nat) ({ cls := "TwoWorlds", name := "tied", desc := "(III)I" } : Jvm.MethodName)) ∈ lw_all := lw_g (lw_at lw_m1 190 rfl) rfl
theorem q280 : (Jvm.Cond.methodLink "TwoWorldsLaw" (45 : Nat) ({ cls := "TwoWorlds", name := "game", desc := "(III)I" } : Jvm.MethodName)) ∈ lw_all := lw_g (lw_at lw_m1 194 rfl) rfl
theorem q358 : (Jvm.Cond.methodLink "TwoWorldsLaw" (49 : Nat) ({ cls := "TwoWorlds", name := "rank", desc := "(II)I" } : Jvm.MethodName)) ∈ lw_all := lw_g (lw_at lw_m2 32 rfl) rfl
theorem q365 : (Jvm.Cond.methodLink "TwoWorldsLaw" (53 : Nat) ({ cls := "TwoWorlds", name := "play", desc := "(III)I" } : Jvm.MethodName)) ∈ lw_all := lw_g (lw_at lw_m2 39 rfl) rfl
theorem q372 : (Jvm.Cond.methodLink "TwoWorldsLaw" (57 : Nat) ({ cls := "TwoWorlds", name := "pick", desc := "(II)I" } : Jvm.MethodName)) ∈ lw_all := lw_g (lw_at lw_m2 46 rfl) rfl
theorem q376 : (Jvm.Cond.methodLink "TwoWorldsLaw" (61 : Nat) ({ cls := "TwoWorlds", name := "answer", desc := "(I)I" } : Jvm.MethodName)) ∈ lw_all := lw_g (lw_at lw_m2 50 rfl) rfl
theorem q382 : (Jvm.Cond.methodLink "TwoWorldsLaw" (66 : Nat) ({ cls := "TwoWorlds", name := "best", desc := "()I" } : Jvm.MethodName)) ∈ lw_all := lw_g (lw_at lw_m2 56 rfl) rfl
theorem q390 : (Jvm.Cond.methodLink "TwoWorldsLaw" (71 : Nat) ({ cls := "TwoWorlds", name := "state", desc := "()I" } : Jvm.MethodName)) ∈ lw_all := lw_g (lw_at lw_m2 64 rfl) rfl
theorem q394 : (Jvm.Cond.methodLink "TwoWorldsLaw" (75 : Nat) ({ cls := "TwoWorlds", name := "left", desc := "()I" } : Jvm.MethodName)) ∈ lw_all := lw_g (lw_at lw_m2 68 rfl) rfl
theorem q398 : (Jvm.Cond.methodLink "TwoWorldsLaw" (79 : Nat) ({ cls := "TwoWorlds", name := "feed", desc := "(IIIII)I" } : Jvm.MethodName)) ∈ lw_all := lw_g (lw_at lw_m2 72 rfl) rfl
theorem q402 : (Jvm.Cond.methodLink "TwoWorldsLaw" (84 : Nat) ({ cls := "TwoWorlds", name := "trim", desc := "(I)I" } : Jvm.MethodName)) ∈ lw_all := lw_g (lw_at lw_m2 76 rfl) rfl
theorem q406 : (Jvm.Cond.methodLink "TwoWorldsLaw" (88 : Nat) ({ cls := "TwoWorlds", name := "read", desc := "()I" } : Jvm.MethodName)) ∈ lw_all := lw_g (lw_at lw_m2 80 rfl) rfl
theorem q828 : (Jvm.Cond.methodLink "TwoWorldsLaw" (92 : Nat) ({ cls := "TwoWorlds", name := "sentence", desc := "(II)I" } : Jvm.MethodName)) ∈ lw_all := lw_g (lw_at lw_m4 22 rfl) rfl
theorem q838 : (Jvm.Cond.methodLink "TwoWorldsLaw" (96 : Nat) ({ cls := "TwoWorlds", name := "written", desc := "(II)I" } : Jvm.MethodName)) ∈ lw_all := lw_g (lw_at lw_m4 32 rfl) rfl
theorem q842 : (Jvm.Cond.methodLink "TwoWorldsLaw" (100 : Nat) ({ cls := "TwoWorlds", name := "holds", desc := "(II)I" } : Jvm.MethodName)) ∈ lw_all := lw_g (lw_at lw_m4 36 rfl) rfl
theorem q908 : (Jvm.Cond.methodLink "TwoWorldsLaw" (104 : Nat) ({ cls := "TwoWorlds", name := "asked", desc := "()I" } : Jvm.MethodName)) ∈ lw_all := lw_g (lw_at lw_m4 102 rfl) rfl
theorem q912 : (Jvm.Cond.methodLink "TwoWorldsLaw" (108 : Nat) ({ cls := "TwoWorlds", name := "same", desc := "(II)I" } : Jvm.MethodName)) ∈ lw_all := lw_g (lw_at lw_m4 106 rfl) rfl
theorem q920 : (Jvm.Cond.methodLink "TwoWorldsLaw" (112 : Nat) ({ cls := "TwoWorlds", name := "part", desc := "(II)I" } : Jvm.MethodName)) ∈ lw_all := lw_g (lw_at lw_m4 114 rfl) rfl
theorem q975 : (Jvm.Cond.methodLink "TwoWorldsLaw" (116 : Nat) ({ cls := "TwoWorlds", name := "kinds", desc := "(III)I" } : Jvm.MethodName)) ∈ lw_all := lw_g (lw_at lw_m4 169 rfl) rfl
theorem q980 : (Jvm.Cond.methodLink "TwoWorldsLaw" (120 : Nat) ({ cls := "TwoWorlds", name := "kind", desc := "(I)I" } : Jvm.MethodName)) ∈ lw_all := lw_g (lw_at lw_m4 174 rfl) rfl
theorem q984 : (Jvm.Cond.methodLink "TwoWorldsLaw" (124 : Nat) ({ cls := "TwoWorlds", name := "colour", desc := "(III)I" } : Jvm.MethodName)) ∈ lw_all := lw_g (lw_at lw_m4 178 rfl) rfl
theorem q1135 : (Jvm.Cond.methodLink "TwoWorldsLaw" (128 : Nat) ({ cls := "TwoWorlds", name := "coloured", desc := "(I)I" } : Jvm.MethodName)) ∈ lw_all := lw_g (lw_at lw_m5 89 rfl) rfl
theorem q1139 : (Jvm.Cond.methodLink "TwoWorldsLaw" (132 : Nat) ({ cls := "TwoWorlds", name := "still", desc := "(I)I" } : Jvm.MethodName)) ∈ lw_all := lw_g (lw_at lw_m5 93 rfl) rfl
theorem q1149 : (Jvm.Cond.methodLink "TwoWorldsLaw" (136 : Nat) ({ cls := "TwoWorlds", name := "told", desc := "(I)I" } : Jvm.MethodName)) ∈ lw_all := lw_g (lw_at lw_m5 103 rfl) rfl
theorem q1153 : (Jvm.Cond.classLink "TwoWorldsLaw" (10 : Nat) "TwoWorldsModel") ∈ lw_all := lw_g (lw_at lw_m5 107 rfl) rfl
theorem q1155 : (Jvm.Cond.methodLink "TwoWorldsLaw" (12 : Nat) ({ cls := "TwoWorldsModel", name := "<init>", desc := "()V" } : Jvm.MethodName)) ∈ lw_all := lw_g (lw_at lw_m5 109 rfl) rfl
theorem q1352 : (Jvm.Cond.methodLink "TwoWorldsLaw" (17 : Nat) ({ cls := "TwoWorldsModel", name := "world", desc := "(II)I" } : Jvm.MethodName)) ∈ lw_all := lw_g (lw_at lw_m6 66 rfl) rfl
theorem q1362 : (Jvm.Cond.methodLink "TwoWorldsLaw" (22 : Nat) ({ cls := "TwoWorldsModel", name := "mark", desc := "(IIIZ)I" } : Jvm.MethodName)) ∈ lw_all := lw_g (lw_at lw_m6 76 rfl) rfl
theorem q1374 : (Jvm.Cond.methodLink "TwoWorldsLaw" (26 : Nat) ({ cls := "TwoWorldsModel", name := "tie", desc := "(IIIZ)I" } : Jvm.MethodName)) ∈ lw_all := lw_g (lw_at lw_m6 88 rfl) rfl
theorem q1378 : (Jvm.Cond.methodLink "TwoWorldsLaw" (31 : Nat) ({ cls := "TwoWorldsModel", name := "turn", desc := "(IIII)I" } : Jvm.MethodName)) ∈ lw_all := lw_g (lw_at lw_m6 92 rfl) rfl
theorem q1393 : (Jvm.Cond.methodLink "TwoWorldsLaw" (36 : Nat) ({ cls := "TwoWorldsModel", name := "join", desc := "(III)I" } : Jvm.MethodName)) ∈ lw_all := lw_g (lw_at lw_m6 107 rfl) rfl
theorem q1397 : (Jvm.Cond.methodLink "TwoWorldsLaw" (40 : Nat) ({ cls := "TwoWorldsModel", name := "about", desc := "(II)I" } : Jvm.MethodName)) ∈ lw_all := lw_g (lw_at lw_m6 111 rfl) rfl
theorem q1404 : (Jvm.Cond.methodLink "TwoWorldsLaw" (44 : Nat) ({ cls := "TwoWorldsModel", name := "tied", desc := "(III)I" } : Jvm.MethodName)) ∈ lw_all := lw_g (lw_at lw_m6 118 rfl) rfl
theorem q1408 : (Jvm.Cond.methodLink "TwoWorldsLaw" (48 : Nat) ({ cls := "TwoWorldsModel", name := "game", desc := "(III)I" } : Jvm.MethodName)) ∈ lw_all := lw_g (lw_at lw_m6 122 rfl) rfl
theorem q1452 : (Jvm.Cond.methodLink "TwoWorldsLaw" (52 : Nat) ({ cls := "TwoWorldsModel", name := "rank", desc := "(II)I" } : Jvm.MethodName)) ∈ lw_all := lw_g (lw_at lw_m6 166 rfl) rfl
theorem q1460 : (Jvm.Cond.methodLink "TwoWorldsLaw" (56 : Nat) ({ cls := "TwoWorldsModel", name := "play", desc := "(III)I" } : Jvm.MethodName)) ∈ lw_all := lw_g (lw_at lw_m6 174 rfl) rfl
theorem q1476 : (Jvm.Cond.methodLink "TwoWorldsLaw" (60 : Nat) ({ cls := "TwoWorldsModel", name := "pick", desc := "(II)I" } : Jvm.MethodName)) ∈ lw_all := lw_g (lw_at lw_m6 190 rfl) rfl
theorem q1480 : (Jvm.Cond.methodLink "TwoWorldsLaw" (65 : Nat) ({ cls := "TwoWorldsModel", name := "answer", desc := "(I)I" } : Jvm.MethodName)) ∈ lw_all := lw_g (lw_at lw_m6 194 rfl) rfl
theorem q1484 : (Jvm.Cond.methodLink "TwoWorldsLaw" (70 : Nat) ({ cls := "TwoWorldsModel", name := "best", desc := "()I" } : Jvm.MethodName)) ∈ lw_all := lw_g (lw_at lw_m6 198 rfl) rfl
theorem q1492 : (Jvm.Cond.methodLink "TwoWorldsLaw" (74 : Nat) ({ cls := "TwoWorldsModel", name := "state", desc := "()I" } : Jvm.MethodName)) ∈ lw_all := lw_g (lw_at lw_m6 206 rfl) rfl
theorem q1496 : (Jvm.Cond.methodLink "TwoWorldsLaw" (78 : Nat) ({ cls := "TwoWorldsModel", name := "left", desc := "()I" } : Jvm.MethodName)) ∈ lw_all := lw_g (lw_at lw_m6 210 rfl) rfl
theorem q1500 : (Jvm.Cond.methodLink "TwoWorldsLaw" (83 : Nat) ({ cls := "TwoWorldsModel", name := "feed", desc := "(IIIII)I" } : Jvm.MethodName)) ∈ lw_all := lw_g (lw_at lw_m6 214 rfl) rfl
theorem q1504 : (Jvm.Cond.methodLink "TwoWorldsLaw" (87 : Nat) ({ cls := "TwoWorldsModel", name := "trim", desc := "(I)I" } : Jvm.MethodName)) ∈ lw_all := lw_g (lw_at lw_m6 218 rfl) rfl
theorem q1508 : (Jvm.Cond.methodLink "TwoWorldsLaw" (91 : Nat) ({ cls := "TwoWorldsModel", name := "read", desc := "()I" } : Jvm.MethodName)) ∈ lw_all := lw_g (lw_at lw_m6 222 rfl) rfl
theorem q1572 : (Jvm.Cond.methodLink "TwoWorldsLaw" (95 : Nat) ({ cls := "TwoWorldsModel", name := "sentence", desc := "(II)I" } : Jvm.MethodName)) ∈ lw_all := lw_g (lw_at lw_m7 46 rfl) rfl
theorem q1600 : (Jvm.Cond.methodLink "TwoWorldsLaw" (99 : Nat) ({ cls := "TwoWorldsModel", name := "written", desc := "(II)I" } : Jvm.MethodName)) ∈ lw_all := lw_g (lw_at lw_m7 74 rfl) rfl
theorem q1604 : (Jvm.Cond.methodLink "TwoWorldsLaw" (111 : Nat) ({ cls := "TwoWorldsModel", name := "same", desc := "(II)I" } : Jvm.MethodName)) ∈ lw_all := lw_g (lw_at lw_m7 78 rfl) rfl
theorem q1608 : (Jvm.Cond.methodLink "TwoWorldsLaw" (103 : Nat) ({ cls := "TwoWorldsModel", name := "holds", desc := "(II)I" } : Jvm.MethodName)) ∈ lw_all := lw_g (lw_at lw_m7 82 rfl) rfl
theorem q1621 : (Jvm.Cond.methodLink "TwoWorldsLaw" (107 : Nat) ({ cls := "TwoWorldsModel", name := "asked", desc := "()I" } : Jvm.MethodName)) ∈ lw_all := lw_g (lw_at lw_m7 95 rfl) rfl
theorem q1625 : (Jvm.Cond.methodLink "TwoWorldsLaw" (115 : Nat) ({ cls := "TwoWorldsModel", name := "part", desc := "(II)I" } : Jvm.MethodName)) ∈ lw_all := lw_g (lw_at lw_m7 99 rfl) rfl
theorem q1677 : (Jvm.Cond.methodLink "TwoWorldsLaw" (119 : Nat) ({ cls := "TwoWorldsModel", name := "kinds", desc := "(III)I" } : Jvm.MethodName)) ∈ lw_all := lw_g (lw_at lw_m7 151 rfl) rfl
theorem q1681 : (Jvm.Cond.methodLink "TwoWorldsLaw" (123 : Nat) ({ cls := "TwoWorldsModel", name := "kind", desc := "(I)I" } : Jvm.MethodName)) ∈ lw_all := lw_g (lw_at lw_m7 155 rfl) rfl
theorem q1685 : (Jvm.Cond.methodLink "TwoWorldsLaw" (127 : Nat) ({ cls := "TwoWorldsModel", name := "colour", desc := "(III)I" } : Jvm.MethodName)) ∈ lw_all := lw_g (lw_at lw_m7 159 rfl) rfl
theorem q1717 : (Jvm.Cond.methodLink "TwoWorldsLaw" (131 : Nat) ({ cls := "TwoWorldsModel", name := "coloured", desc := "(I)I" } : Jvm.MethodName)) ∈ lw_all := lw_g (lw_at lw_m7 191 rfl) rfl
theorem q1721 : (Jvm.Cond.methodLink "TwoWorldsLaw" (135 : Nat) ({ cls := "TwoWorldsModel", name := "still", desc := "(I)I" } : Jvm.MethodName)) ∈ lw_all := lw_g (lw_at lw_m7 195 rfl) rfl
theorem q1725 : (Jvm.Cond.methodLink "TwoWorldsLaw" (139 : Nat) ({ cls := "TwoWorldsModel", name := "told", desc := "(I)I" } : Jvm.MethodName)) ∈ lw_all := lw_g (lw_at lw_m7 199 rfl) rfl
theorem q1760 : (Jvm.Cond.castable "[B" "java/lang/Object") ∈ lw_tbl := lw_at lw_m7 234 rfl
theorem q1761 : (Jvm.Cond.castable "[I" "java/lang/Object") ∈ lw_tbl := lw_at lw_m7 235 rfl
theorem q1764 : (Jvm.Cond.castable "[J" "java/lang/Object") ∈ lw_tbl := lw_at lw_m7 238 rfl
theorem q1759 : (Jvm.Cond.castable "[LTwoWorlds$World;" "java/lang/Object") ∈ lw_tbl := lw_at lw_m7 233 rfl
theorem q1756 : (Jvm.Cond.sameMethod "[Ljava/lang/Object;" "java/lang/Object" "getClass" "()Ljava/lang/Class;") ∈ lw_all := lw_g (lw_at lw_m7 230 rfl) rfl
theorem q1757 : (Jvm.Cond.selects "[Ljava/lang/Object;" ({ cls := "java/lang/Object", name := "getClass", desc := "()Ljava/lang/Class;" } : Jvm.MethodName) ({ cls := "java/lang/Object", name := "getClass", desc := "()Ljava/lang/Class;" } : Jvm.MethodName)) ∈ lw_all := lw_g (lw_at lw_m7 231 rfl) rfl
theorem q1763 : (Jvm.Cond.castable "[Ljava/lang/Object;" "java/lang/Object") ∈ lw_tbl := lw_at lw_m7 237 rfl
theorem q1762 : (Jvm.Cond.castable "[Z" "java/lang/Object") ∈ lw_tbl := lw_at lw_m7 236 rfl
theorem q1755 : (Jvm.Cond.castable "java/lang/String" "java/lang/Object") ∈ lw_tbl := lw_at lw_m7 229 rfl
theorem q105 : (Jvm.Cond.initialized "java/lang/System") ∈ lw_all := lw_g (lw_at lw_m1 19 rfl) rfl
theorem q650 : (Jvm.Cond.static ({ cls := "java/lang/System", name := "arraycopy", desc := "(Ljava/lang/Object;ILjava/lang/Object;II)V" } : Jvm.MethodName)) ∈ lw_all := lw_g (lw_at lw_m3 84 rfl) rfl
theorem q651 : (Jvm.Cond.native ({ cls := "java/lang/System", name := "arraycopy", desc := "(Ljava/lang/Object;ILjava/lang/Object;II)V" } : Jvm.MethodName)) ∈ lw_all := lw_g (lw_at lw_m3 85 rfl) rfl
theorem q586 : (Jvm.Cond.interfaceMethod "java/util/List" "java/util/List" "add" "(Ljava/lang/Object;)Z") ∈ lw_tbl := lw_at lw_m3 20 rfl
theorem q587 : (Jvm.Cond.declares ({ cls := "java/util/List", name := "add", desc := "(Ljava/lang/Object;)Z" } : Jvm.MethodName)) ∈ lw_tbl := lw_at lw_m3 21 rfl
theorem q684 : (Jvm.Cond.interfaceMethod "java/util/List" "java/util/List" "size" "()I") ∈ lw_tbl := lw_at lw_m3 118 rfl
theorem q685 : (Jvm.Cond.declares ({ cls := "java/util/List", name := "size", desc := "()I" } : Jvm.MethodName)) ∈ lw_tbl := lw_at lw_m3 119 rfl
theorem q693 : (Jvm.Cond.interfaceMethod "java/util/List" "java/util/List" "get" "(I)Ljava/lang/Object;") ∈ lw_tbl := lw_at lw_m3 127 rfl
theorem q694 : (Jvm.Cond.declares ({ cls := "java/util/List", name := "get", desc := "(I)Ljava/lang/Object;" } : Jvm.MethodName)) ∈ lw_tbl := lw_at lw_m3 128 rfl
theorem q125 : (Jvm.Cond.arrayOver (Jvm.ClassFile.FieldType.object "TwoWorlds$World")) ∈ lw_tbl := lw_at lw_m1 39 rfl
theorem q152 : (Jvm.Cond.arrayClass Jvm.ClassFile.FieldType.byte) ∈ lw_all := lw_g (lw_at lw_m1 66 rfl) rfl
theorem q193 : (Jvm.Cond.arrayClass Jvm.ClassFile.FieldType.int) ∈ lw_all := lw_g (lw_at lw_m1 107 rfl) rfl
theorem q231 : (Jvm.Cond.arrayClass Jvm.ClassFile.FieldType.boolean) ∈ lw_all := lw_g (lw_at lw_m1 145 rfl) rfl
theorem q644 : (Jvm.Cond.arrayOver (Jvm.ClassFile.FieldType.object "java/lang/Object")) ∈ lw_tbl := lw_at lw_m3 78 rfl
theorem q1059 : (Jvm.Cond.arrayClass Jvm.ClassFile.FieldType.long) ∈ lw_all := lw_g (lw_at lw_m5 13 rfl) rfl
