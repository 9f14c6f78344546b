/-! names and words of BorderStones and its nested classes -/
set_option maxRecDepth 100000
def RX0 : String := "BorderStones"
def TX0 : u_T := fun k => match k with
  | 0 => ("BorderStones", "border", "LBorderStones$Border;", false)
  | 1 => ("BorderStones", "tape", "[B", true)
  | 2 => ("BorderStones", "taped", "I", false)
  | 3 => ("BorderStones", "faultKind", "I", false)
  | 4 => ("BorderStones", "faultPlace", "I", false)
  | 5 => ("BorderStones", "reader", "LBorderStones$Reader;", true)
  | 6 => ("BorderStones", "moment", "LBorderStones$Moment;", true)
  | 7 => ("BorderStones", "now", "LBorderStones$State;", true)
  | 8 => ("BorderStones", "seen", "[J", true)
  | 9 => ("BorderStones", "kept", "[LBorderStones$State;", true)
  | 10 => ("BorderStones", "undos", "I", false)
  | 11 => ("BorderStones", "tried", "LBorderStones$State;", true)
  | 12 => ("BorderStones", "deep", "[LBorderStones$State;", true)
  | 13 => ("BorderStones", "firsts", "[I", true)
  | 14 => ("BorderStones", "row", "[I", true)
  | 15 => ("BorderStones", "rowStates", "[LBorderStones$State;", true)
  | 16 => ("BorderStones", "free", "[I", true)
  | 17 => ("BorderStones", "withStone", "[I", true)
  | 18 => ("BorderStones", "freeMany", "I", false)
  | 19 => ("BorderStones", "hiddenWays", "I", false)
  | 20 => ("BorderStones", "seeds", "J", false)
  | 21 => ("BorderStones", "out", "[B", true)
  | _ => ("BorderStones", "outs", "I", false)
def tyX0 : Nat → FieldType := fun k => match k with
  | 0 => .object "BorderStones$Border"
  | 1 => .array .byte
  | 2 => .int
  | 3 => .int
  | 4 => .int
  | 5 => .object "BorderStones$Reader"
  | 6 => .object "BorderStones$Moment"
  | 7 => .object "BorderStones$State"
  | 8 => .array .long
  | 9 => .array (.object "BorderStones$State")
  | 10 => .int
  | 11 => .object "BorderStones$State"
  | 12 => .array (.object "BorderStones$State")
  | 13 => .array .int
  | 14 => .array .int
  | 15 => .array (.object "BorderStones$State")
  | 16 => .array .int
  | 17 => .array .int
  | 18 => .int
  | 19 => .int
  | 20 => .long
  | 21 => .array .byte
  | _ => .int
abbrev wsX00 : List Cond := u_ws RX0 TX0 23
theorem nmX0 : ∀ a, a < 23 → ∀ b, b < 23 → a ≠ b → (TX0 a).2.1 ≠ (TX0 b).2.1 := by decide +kernel
theorem tyX0_ok : ∀ k, k < 23 → parseFieldDescriptor (TX0 k).2.2.1 = some (tyX0 k) := by decide +kernel
abbrev cX0_init : ByteArray := prog_1_method_6_code
def yX0_init : MethodName := ⟨RX0, "<init>", "()V"⟩
abbrev cX0_feed : ByteArray := prog_1_method_8_code
def yX0_feed : MethodName := ⟨RX0, "feed", "(IIIII)I"⟩
abbrev cX0_put : ByteArray := prog_1_method_7_code
def yX0_put : MethodName := ⟨RX0, "put", "(I)V"⟩
abbrev cX0_end : ByteArray := prog_1_method_9_code
def yX0_end : MethodName := ⟨RX0, "end", "(I)Z"⟩
abbrev cX0_border : ByteArray := prog_1_method_11_code
def yX0_border : MethodName := ⟨RX0, "border", "()I"⟩
abbrev cX0_taken : ByteArray := prog_1_method_10_code
def yX0_taken : MethodName := ⟨RX0, "taken", "()I"⟩
abbrev cX0_isLetter : ByteArray := prog_1_method_3_code
def yX0_isLetter : MethodName := ⟨RX0, "isLetter", "(I)Z"⟩
abbrev cX0_isDigit : ByteArray := prog_1_method_4_code
def yX0_isDigit : MethodName := ⟨RX0, "isDigit", "(I)Z"⟩
abbrev cX0_is : ByteArray := prog_1_method_1_code
def yX0_is : MethodName := ⟨RX0, "is", "(III)Z"⟩
abbrev cX0_find : ByteArray := prog_1_method_5_code
def yX0_find : MethodName := ⟨RX0, "find", "(Ljava/lang/String;[Ljava/lang/String;)I"⟩
abbrev cX0_held : ByteArray := prog_1_method_2_code
def yX0_held : MethodName := ⟨RX0, "held", "(J)J"⟩
abbrev cX0_placeMany : ByteArray := prog_1_method_13_code
def yX0_placeMany : MethodName := ⟨RX0, "placeMany", "()I"⟩
abbrev cX0_fault : ByteArray := prog_1_method_12_code
def yX0_fault : MethodName := ⟨RX0, "fault", "(I)I"⟩
abbrev cX0_has : ByteArray := prog_1_method_17_code
def yX0_has : MethodName := ⟨RX0, "has", "(I)I"⟩
abbrev cX0_letter : ByteArray := prog_1_method_18_code
def yX0_letter : MethodName := ⟨RX0, "letter", "(II)I"⟩
abbrev cX0_isKind : ByteArray := prog_1_method_15_code
def yX0_isKind : MethodName := ⟨RX0, "isKind", "(I)Z"⟩
abbrev cX0_kind : ByteArray := prog_1_method_19_code
def yX0_kind : MethodName := ⟨RX0, "kind", "(II)I"⟩
abbrev cX0_place : ByteArray := prog_1_method_22_code
def yX0_place : MethodName := ⟨RX0, "place", "(II)I"⟩
abbrev cX0_isPlace : ByteArray := prog_1_method_14_code
def yX0_isPlace : MethodName := ⟨RX0, "isPlace", "(I)Z"⟩
abbrev cX0_sideOf : ByteArray := prog_1_method_20_code
def yX0_sideOf : MethodName := ⟨RX0, "sideOf", "([JI)I"⟩
abbrev cX0_shut : ByteArray := prog_1_method_21_code
def yX0_shut : MethodName := ⟨RX0, "shut", "(LBorderStones$State;I)J"⟩
abbrev cX0_side : ByteArray := prog_1_method_23_code
def yX0_side : MethodName := ⟨RX0, "side", "(II)I"⟩
abbrev cX0_isSide : ByteArray := prog_1_method_16_code
def yX0_isSide : MethodName := ⟨RX0, "isSide", "(I)Z"⟩
abbrev cX0_set : ByteArray := prog_1_method_26_code
def yX0_set : MethodName := ⟨RX0, "set", "(II)I"⟩
abbrev cX0_canSet : ByteArray := prog_1_method_25_code
def yX0_canSet : MethodName := ⟨RX0, "canSet", "(LBorderStones$State;II)Z"⟩
abbrev cX0_keeps : ByteArray := prog_1_method_24_code
def yX0_keeps : MethodName := ⟨RX0, "keeps", "()V"⟩
abbrev cX0_undo : ByteArray := prog_1_method_27_code
def yX0_undo : MethodName := ⟨RX0, "undo", "()Z"⟩
abbrev cX0_threat : ByteArray := prog_1_method_28_code
def yX0_threat : MethodName := ⟨RX0, "threat", "(III)I"⟩
abbrev cX0_answer : ByteArray := prog_1_method_29_code
def yX0_answer : MethodName := ⟨RX0, "answer", "(I)I"⟩
abbrev cX0_fork : ByteArray := prog_1_method_30_code
def yX0_fork : MethodName := ⟨RX0, "fork", "(I)I"⟩
abbrev cX0_line : ByteArray := prog_1_method_31_code
def yX0_line : MethodName := ⟨RX0, "line", "(II)I"⟩
abbrev cX0_play : ByteArray := prog_1_method_36_code
def yX0_play : MethodName := ⟨RX0, "play", "(II)I"⟩
abbrev cX0_canPlay : ByteArray := prog_1_method_32_code
def yX0_canPlay : MethodName := ⟨RX0, "canPlay", "(I)Z"⟩
abbrev cX0_plays : ByteArray := prog_1_method_34_code
def yX0_plays : MethodName := ⟨RX0, "plays", "(III)I"⟩
abbrev cX0_value : ByteArray := prog_1_method_33_code
def yX0_value : MethodName := ⟨RX0, "value", "(LBorderStones$State;I)I"⟩
abbrev cX0_playsOn : ByteArray := prog_1_method_35_code
def yX0_playsOn : MethodName := ⟨RX0, "playsOn", "(IIII)I"⟩
abbrev cX0_thumb : ByteArray := prog_1_method_39_code
def yX0_thumb : MethodName := ⟨RX0, "thumb", "(III)I"⟩
abbrev cX0_thumbOf : ByteArray := prog_1_method_38_code
def yX0_thumbOf : MethodName := ⟨RX0, "thumbOf", "(I)I"⟩
abbrev cX0_pointsOf : ByteArray := prog_1_method_37_code
def yX0_pointsOf : MethodName := ⟨RX0, "pointsOf", "(II)I"⟩
abbrev cX0_truce : ByteArray := prog_1_method_41_code
def yX0_truce : MethodName := ⟨RX0, "truce", "(I)I"⟩
abbrev cX0_isBreaking : ByteArray := prog_1_method_40_code
def yX0_isBreaking : MethodName := ⟨RX0, "isBreaking", "(III)Z"⟩
abbrev cX0_rows : ByteArray := prog_1_method_42_code
def yX0_rows : MethodName := ⟨RX0, "rows", "()I"⟩
abbrev cX0_isSameLand : ByteArray := prog_1_method_43_code
def yX0_isSameLand : MethodName := ⟨RX0, "isSameLand", "(LBorderStones$State;)Z"⟩
abbrev cX0_hidden : ByteArray := prog_1_method_47_code
def yX0_hidden : MethodName := ⟨RX0, "hidden", "(JIIII)I"⟩
abbrev cX0_hides : ByteArray := prog_1_method_44_code
def yX0_hides : MethodName := ⟨RX0, "hides", "(JIII)Z"⟩
abbrev cX0_isWay : ByteArray := prog_1_method_45_code
def yX0_isWay : MethodName := ⟨RX0, "isWay", "(III)Z"⟩
abbrev cX0_counts : ByteArray := prog_1_method_46_code
def yX0_counts : MethodName := ⟨RX0, "counts", "(I)V"⟩
abbrev cX0_look : ByteArray := prog_1_method_48_code
def yX0_look : MethodName := ⟨RX0, "look", "(JIII)I"⟩
abbrev cX0_seed : ByteArray := prog_1_method_49_code
def yX0_seed : MethodName := ⟨RX0, "seed", "(I)Z"⟩
abbrev cX0_year : ByteArray := prog_1_method_51_code
def yX0_year : MethodName := ⟨RX0, "year", "(I)I"⟩
abbrev cX0_draw : ByteArray := prog_1_method_50_code
def yX0_draw : MethodName := ⟨RX0, "draw", "(I)I"⟩
abbrev cX0_image : ByteArray := prog_1_method_53_code
def yX0_image : MethodName := ⟨RX0, "image", "()I"⟩
abbrev cX0_writes : ByteArray := prog_1_method_52_code
def yX0_writes : MethodName := ⟨RX0, "writes", "(I)V"⟩
abbrev cX0_octet : ByteArray := prog_1_method_54_code
def yX0_octet : MethodName := ⟨RX0, "octet", "(I)I"⟩
theorem q142 : (Jvm.Cond.initialized "BorderStones") ∈ lw_all := lw_g (lw_at lw_m1 1 rfl) rfl
theorem q182 : (Jvm.Cond.instantiable "BorderStones" (23 : Nat)) ∈ lw_all := lw_g (lw_at lw_m1 41 rfl) rfl
theorem q184 : (Jvm.Cond.instanceMethod ({ cls := "BorderStones", name := "<init>", desc := "()V" } : Jvm.MethodName)) ∈ lw_all := lw_g (lw_at lw_m1 43 rfl) rfl
theorem q185 : (Jvm.Cond.code ({ cls := "BorderStones", name := "<init>", desc := "()V" } : Jvm.MethodName) prog_1_method_6_code (2 : Nat) (Option.none : Option Jvm.ClassFile.FieldType)) ∈ lw_all := lw_g (lw_at lw_m1 44 rfl) rfl
theorem q186 : (Jvm.Cond.methodLink "BorderStones" (22 : Nat) ({ cls := "java/lang/Object", name := "<init>", desc := "()V" } : Jvm.MethodName)) ∈ lw_all := lw_g (lw_at lw_m1 45 rfl) rfl
theorem q189 : (Jvm.Cond.classLink "BorderStones" (28 : Nat) "BorderStones$Border") ∈ lw_all := lw_g (lw_at lw_m1 48 rfl) rfl
theorem q191 : (Jvm.Cond.methodLink "BorderStones" (30 : Nat) ({ cls := "BorderStones$Border", name := "<init>", desc := "()V" } : Jvm.MethodName)) ∈ lw_all := lw_g (lw_at lw_m1 50 rfl) rfl
theorem q229 : (Jvm.Cond.fieldLinkNest "BorderStones" (157 : Nat) "BorderStones$Border" "wide" "I" "BorderStones") ∈ lw_tbl := lw_at lw_m1 88 rfl
theorem q232 : (Jvm.Cond.fieldLinkNest "BorderStones" (160 : Nat) "BorderStones$Border" "high" "I" "BorderStones") ∈ lw_tbl := lw_at lw_m1 91 rfl
theorem q233 : (Jvm.Cond.fieldLinkNest "BorderStones" (139 : Nat) "BorderStones$Border" "statements" "I" "BorderStones") ∈ lw_tbl := lw_at lw_m1 92 rfl
theorem q238 : (Jvm.Cond.fieldLinkNest "BorderStones" (148 : Nat) "BorderStones$Border" "kinds" "Ljava/util/List;" "BorderStones") ∈ lw_tbl := lw_at lw_m1 97 rfl
theorem q241 : (Jvm.Cond.fieldLinkNest "BorderStones" (163 : Nat) "BorderStones$Border" "rules" "Ljava/util/List;" "BorderStones") ∈ lw_tbl := lw_at lw_m1 100 rfl
theorem q253 : (Jvm.Cond.fieldLinkNest "BorderStones" (230 : Nat) "BorderStones$Border" "worths" "[I" "BorderStones") ∈ lw_tbl := lw_at lw_m1 112 rfl
theorem q289 : (Jvm.Cond.classLink "BorderStones" (43 : Nat) "BorderStones$Reader") ∈ lw_all := lw_g (lw_at lw_m1 148 rfl) rfl
theorem q291 : (Jvm.Cond.methodLinkNest "BorderStones" (45 : Nat) ({ cls := "BorderStones$Reader", name := "<init>", desc := "(LBorderStones;)V" } : Jvm.MethodName) "BorderStones") ∈ lw_tbl := lw_at lw_m1 150 rfl
theorem q347 : (Jvm.Cond.fieldLinkNest "BorderStones" (123 : Nat) "BorderStones$Fault" "kind" "I" "BorderStones") ∈ lw_tbl := lw_at lw_m1 206 rfl
theorem q349 : (Jvm.Cond.fieldLinkNest "BorderStones" (126 : Nat) "BorderStones$Fault" "place" "I" "BorderStones") ∈ lw_tbl := lw_at lw_m1 208 rfl
theorem q390 : (Jvm.Cond.classLink "BorderStones" (52 : Nat) "BorderStones$Moment") ∈ lw_all := lw_g (lw_at lw_m2 9 rfl) rfl
theorem q392 : (Jvm.Cond.methodLinkNest "BorderStones" (54 : Nat) ({ cls := "BorderStones$Moment", name := "<init>", desc := "()V" } : Jvm.MethodName) "BorderStones") ∈ lw_tbl := lw_at lw_m2 11 rfl
theorem q402 : (Jvm.Cond.classLink "BorderStones" (59 : Nat) "BorderStones$State") ∈ lw_all := lw_g (lw_at lw_m2 21 rfl) rfl
theorem q404 : (Jvm.Cond.methodLinkNest "BorderStones" (61 : Nat) ({ cls := "BorderStones$State", name := "<init>", desc := "(LBorderStones;)V" } : Jvm.MethodName) "BorderStones") ∈ lw_tbl := lw_at lw_m2 23 rfl
theorem q409 : (Jvm.Cond.fieldLinkNest "BorderStones" (166 : Nat) "BorderStones$State" "day" "I" "BorderStones") ∈ lw_tbl := lw_at lw_m2 28 rfl
theorem q411 : (Jvm.Cond.fieldLinkNest "BorderStones" (178 : Nat) "BorderStones$State" "owedMany" "I" "BorderStones") ∈ lw_tbl := lw_at lw_m2 30 rfl
theorem q413 : (Jvm.Cond.fieldLinkNest "BorderStones" (207 : Nat) "BorderStones$State" "stones" "[J" "BorderStones") ∈ lw_tbl := lw_at lw_m2 32 rfl
theorem q415 : (Jvm.Cond.fieldLinkNest "BorderStones" (227 : Nat) "BorderStones$State" "land" "[J" "BorderStones") ∈ lw_tbl := lw_at lw_m2 34 rfl
theorem q420 : (Jvm.Cond.fieldLinkNest "BorderStones" (210 : Nat) "BorderStones$State" "kindAt" "[I" "BorderStones") ∈ lw_tbl := lw_at lw_m2 39 rfl
theorem q422 : (Jvm.Cond.fieldLinkNest "BorderStones" (241 : Nat) "BorderStones$State" "changes" "[I" "BorderStones") ∈ lw_tbl := lw_at lw_m2 41 rfl
theorem q424 : (Jvm.Cond.fieldLinkNest "BorderStones" (268 : Nat) "BorderStones$State" "owed" "[J" "BorderStones") ∈ lw_tbl := lw_at lw_m2 43 rfl
theorem q426 : (Jvm.Cond.fieldLinkNest "BorderStones" (247 : Nat) "BorderStones$State" "lines" "I" "BorderStones") ∈ lw_tbl := lw_at lw_m2 45 rfl
theorem q461 : (Jvm.Cond.fieldLink "BorderStones" (31 : Nat) "BorderStones" "border" "LBorderStones$Border;") ∈ lw_all := lw_g (lw_at lw_m2 80 rfl) rfl
theorem q463 : (Jvm.Cond.fieldLink "BorderStones" (35 : Nat) "BorderStones" "tape" "[B") ∈ lw_all := lw_g (lw_at lw_m2 82 rfl) rfl
theorem q464 : (Jvm.Cond.fieldLink "BorderStones" (103 : Nat) "BorderStones" "taped" "I") ∈ lw_all := lw_g (lw_at lw_m2 83 rfl) rfl
theorem q465 : (Jvm.Cond.fieldLink "BorderStones" (110 : Nat) "BorderStones" "faultKind" "I") ∈ lw_all := lw_g (lw_at lw_m2 84 rfl) rfl
theorem q466 : (Jvm.Cond.fieldLink "BorderStones" (39 : Nat) "BorderStones" "faultPlace" "I") ∈ lw_all := lw_g (lw_at lw_m2 85 rfl) rfl
theorem q467 : (Jvm.Cond.fieldLink "BorderStones" (48 : Nat) "BorderStones" "reader" "LBorderStones$Reader;") ∈ lw_all := lw_g (lw_at lw_m2 86 rfl) rfl
theorem q468 : (Jvm.Cond.fieldLink "BorderStones" (55 : Nat) "BorderStones" "moment" "LBorderStones$Moment;") ∈ lw_all := lw_g (lw_at lw_m2 87 rfl) rfl
theorem q469 : (Jvm.Cond.fieldLink "BorderStones" (62 : Nat) "BorderStones" "now" "LBorderStones$State;") ∈ lw_all := lw_g (lw_at lw_m2 88 rfl) rfl
theorem q470 : (Jvm.Cond.fieldLink "BorderStones" (66 : Nat) "BorderStones" "seen" "[J") ∈ lw_all := lw_g (lw_at lw_m2 89 rfl) rfl
theorem q471 : (Jvm.Cond.fieldLink "BorderStones" (70 : Nat) "BorderStones" "kept" "[LBorderStones$State;") ∈ lw_all := lw_g (lw_at lw_m2 90 rfl) rfl
theorem q472 : (Jvm.Cond.fieldLink "BorderStones" (136 : Nat) "BorderStones" "undos" "I") ∈ lw_all := lw_g (lw_at lw_m2 91 rfl) rfl
theorem q473 : (Jvm.Cond.fieldLink "BorderStones" (74 : Nat) "BorderStones" "tried" "LBorderStones$State;") ∈ lw_all := lw_g (lw_at lw_m2 92 rfl) rfl
theorem q474 : (Jvm.Cond.fieldLink "BorderStones" (77 : Nat) "BorderStones" "deep" "[LBorderStones$State;") ∈ lw_all := lw_g (lw_at lw_m2 93 rfl) rfl
theorem q475 : (Jvm.Cond.fieldLink "BorderStones" (80 : Nat) "BorderStones" "firsts" "[I") ∈ lw_all := lw_g (lw_at lw_m2 94 rfl) rfl
theorem q476 : (Jvm.Cond.fieldLink "BorderStones" (84 : Nat) "BorderStones" "row" "[I") ∈ lw_all := lw_g (lw_at lw_m2 95 rfl) rfl
theorem q477 : (Jvm.Cond.fieldLink "BorderStones" (87 : Nat) "BorderStones" "rowStates" "[LBorderStones$State;") ∈ lw_all := lw_g (lw_at lw_m2 96 rfl) rfl
theorem q478 : (Jvm.Cond.fieldLink "BorderStones" (90 : Nat) "BorderStones" "free" "[I") ∈ lw_all := lw_g (lw_at lw_m2 97 rfl) rfl
theorem q479 : (Jvm.Cond.fieldLink "BorderStones" (93 : Nat) "BorderStones" "withStone" "[I") ∈ lw_all := lw_g (lw_at lw_m2 98 rfl) rfl
theorem q480 : (Jvm.Cond.fieldLink "BorderStones" (319 : Nat) "BorderStones" "freeMany" "I") ∈ lw_all := lw_g (lw_at lw_m2 99 rfl) rfl
theorem q481 : (Jvm.Cond.fieldLink "BorderStones" (322 : Nat) "BorderStones" "hiddenWays" "I") ∈ lw_all := lw_g (lw_at lw_m2 100 rfl) rfl
theorem q482 : (Jvm.Cond.fieldLink "BorderStones" (96 : Nat) "BorderStones" "seeds" "J") ∈ lw_all := lw_g (lw_at lw_m2 101 rfl) rfl
theorem q483 : (Jvm.Cond.fieldLink "BorderStones" (100 : Nat) "BorderStones" "out" "[B") ∈ lw_all := lw_g (lw_at lw_m2 102 rfl) rfl
theorem q484 : (Jvm.Cond.fieldLink "BorderStones" (357 : Nat) "BorderStones" "outs" "I") ∈ lw_all := lw_g (lw_at lw_m2 103 rfl) rfl
theorem q485 : (Jvm.Cond.lays "BorderStones" "BorderStones" "border" "LBorderStones$Border;") ∈ lw_all := lw_g (lw_at lw_m2 104 rfl) rfl
theorem q487 : (Jvm.Cond.laysFinal "BorderStones" "BorderStones" "tape" "[B") ∈ lw_all := lw_g (lw_at lw_m2 106 rfl) rfl
theorem q489 : (Jvm.Cond.lays "BorderStones" "BorderStones" "taped" "I") ∈ lw_all := lw_g (lw_at lw_m2 108 rfl) rfl
theorem q491 : (Jvm.Cond.lays "BorderStones" "BorderStones" "faultKind" "I") ∈ lw_all := lw_g (lw_at lw_m2 110 rfl) rfl
theorem q493 : (Jvm.Cond.lays "BorderStones" "BorderStones" "faultPlace" "I") ∈ lw_all := lw_g (lw_at lw_m2 112 rfl) rfl
theorem q495 : (Jvm.Cond.laysFinal "BorderStones" "BorderStones" "reader" "LBorderStones$Reader;") ∈ lw_all := lw_g (lw_at lw_m2 114 rfl) rfl
theorem q497 : (Jvm.Cond.laysFinal "BorderStones" "BorderStones" "moment" "LBorderStones$Moment;") ∈ lw_all := lw_g (lw_at lw_m2 116 rfl) rfl
theorem q499 : (Jvm.Cond.laysFinal "BorderStones" "BorderStones" "now" "LBorderStones$State;") ∈ lw_all := lw_g (lw_at lw_m2 118 rfl) rfl
theorem q501 : (Jvm.Cond.laysFinal "BorderStones" "BorderStones" "seen" "[J") ∈ lw_all := lw_g (lw_at lw_m2 120 rfl) rfl
theorem q503 : (Jvm.Cond.laysFinal "BorderStones" "BorderStones" "kept" "[LBorderStones$State;") ∈ lw_all := lw_g (lw_at lw_m2 122 rfl) rfl
theorem q505 : (Jvm.Cond.lays "BorderStones" "BorderStones" "undos" "I") ∈ lw_all := lw_g (lw_at lw_m2 124 rfl) rfl
theorem q507 : (Jvm.Cond.laysFinal "BorderStones" "BorderStones" "tried" "LBorderStones$State;") ∈ lw_all := lw_g (lw_at lw_m2 126 rfl) rfl
theorem q509 : (Jvm.Cond.laysFinal "BorderStones" "BorderStones" "deep" "[LBorderStones$State;") ∈ lw_all := lw_g (lw_at lw_m2 128 rfl) rfl
theorem q511 : (Jvm.Cond.laysFinal "BorderStones" "BorderStones" "firsts" "[I") ∈ lw_all := lw_g (lw_at lw_m2 130 rfl) rfl
theorem q513 : (Jvm.Cond.laysFinal "BorderStones" "BorderStones" "row" "[I") ∈ lw_all := lw_g (lw_at lw_m2 132 rfl) rfl
theorem q515 : (Jvm.Cond.laysFinal "BorderStones" "BorderStones" "rowStates" "[LBorderStones$State;") ∈ lw_all := lw_g (lw_at lw_m2 134 rfl) rfl
theorem q517 : (Jvm.Cond.laysFinal "BorderStones" "BorderStones" "free" "[I") ∈ lw_all := lw_g (lw_at lw_m2 136 rfl) rfl
theorem q519 : (Jvm.Cond.laysFinal "BorderStones" "BorderStones" "withStone" "[I") ∈ lw_all := lw_g (lw_at lw_m2 138 rfl) rfl
theorem q521 : (Jvm.Cond.lays "BorderStones" "BorderStones" "freeMany" "I") ∈ lw_all := lw_g (lw_at lw_m2 140 rfl) rfl
theorem q523 : (Jvm.Cond.lays "BorderStones" "BorderStones" "hiddenWays" "I") ∈ lw_all := lw_g (lw_at lw_m2 142 rfl) rfl
theorem q525 : (Jvm.Cond.lays "BorderStones" "BorderStones" "seeds" "J") ∈ lw_all := lw_g (lw_at lw_m2 144 rfl) rfl
theorem q527 : (Jvm.Cond.laysFinal "BorderStones" "BorderStones" "out" "[B") ∈ lw_all := lw_g (lw_at lw_m2 146 rfl) rfl
theorem q529 : (Jvm.Cond.lays "BorderStones" "BorderStones" "outs" "I") ∈ lw_all := lw_g (lw_at lw_m2 148 rfl) rfl
theorem q531 : (Jvm.Cond.superclass "BorderStones" "java/lang/Object") ∈ lw_all := lw_g (lw_at lw_m2 150 rfl) rfl
theorem q533 : (Jvm.Cond.instanceMethod ({ cls := "BorderStones", name := "feed", desc := "(IIIII)I" } : Jvm.MethodName)) ∈ lw_all := lw_g (lw_at lw_m2 152 rfl) rfl
theorem q534 : (Jvm.Cond.selects "BorderStones" ({ cls := "BorderStones", name := "feed", desc := "(IIIII)I" } : Jvm.MethodName) ({ cls := "BorderStones", name := "feed", desc := "(IIIII)I" } : Jvm.MethodName)) ∈ lw_all := lw_g (lw_at lw_m2 153 rfl) rfl
theorem q535 : (Jvm.Cond.code ({ cls := "BorderStones", name := "feed", desc := "(IIIII)I" } : Jvm.MethodName) prog_1_method_8_code (6 : Nat) (Option.some Jvm.ClassFile.FieldType.int)) ∈ lw_all := lw_g (lw_at lw_m2 154 rfl) rfl
theorem q536 : (Jvm.Cond.methodLink "BorderStones" (106 : Nat) ({ cls := "BorderStones", name := "put", desc := "(I)V" } : Jvm.MethodName)) ∈ lw_all := lw_g (lw_at lw_m2 155 rfl) rfl
theorem q537 : (Jvm.Cond.privateMethod ({ cls := "BorderStones", name := "put", desc := "(I)V" } : Jvm.MethodName)) ∈ lw_tbl := lw_at lw_m2 156 rfl
theorem q538 : (Jvm.Cond.instanceMethod ({ cls := "BorderStones", name := "put", desc := "(I)V" } : Jvm.MethodName)) ∈ lw_all := lw_g (lw_at lw_m2 157 rfl) rfl
theorem q539 : (Jvm.Cond.code ({ cls := "BorderStones", name := "put", desc := "(I)V" } : Jvm.MethodName) prog_1_method_7_code (3 : Nat) (Option.none : Option Jvm.ClassFile.FieldType)) ∈ lw_all := lw_g (lw_at lw_m2 158 rfl) rfl
theorem q541 : (Jvm.Cond.instanceMethod ({ cls := "BorderStones", name := "end", desc := "(I)Z" } : Jvm.MethodName)) ∈ lw_all := lw_g (lw_at lw_m2 160 rfl) rfl
theorem q542 : (Jvm.Cond.selects "BorderStones" ({ cls := "BorderStones", name := "end", desc := "(I)Z" } : Jvm.MethodName) ({ cls := "BorderStones", name := "end", desc := "(I)Z" } : Jvm.MethodName)) ∈ lw_all := lw_g (lw_at lw_m2 161 rfl) rfl
theorem q543 : (Jvm.Cond.code ({ cls := "BorderStones", name := "end", desc := "(I)Z" } : Jvm.MethodName) prog_1_method_9_code (2 : Nat) (Option.some Jvm.ClassFile.FieldType.boolean)) ∈ lw_all := lw_g (lw_at lw_m2 162 rfl) rfl
theorem q545 : (Jvm.Cond.instanceMethod ({ cls := "BorderStones", name := "border", desc := "()I" } : Jvm.MethodName)) ∈ lw_all := lw_g (lw_at lw_m2 164 rfl) rfl
theorem q546 : (Jvm.Cond.selects "BorderStones" ({ cls := "BorderStones", name := "border", desc := "()I" } : Jvm.MethodName) ({ cls := "BorderStones", name := "border", desc := "()I" } : Jvm.MethodName)) ∈ lw_all := lw_g (lw_at lw_m2 165 rfl) rfl
theorem q547 : (Jvm.Cond.codeWith ({ cls := "BorderStones", name := "border", desc := "()I" } : Jvm.MethodName) prog_1_method_11_code (2 : Nat) (Option.some Jvm.ClassFile.FieldType.int) [((10 : Nat), (25 : Nat), (28 : Nat), (121 : Nat))]) ∈ lw_all := lw_g (lw_at lw_m2 166 rfl) rfl
theorem q548 : (Jvm.Cond.classLink "BorderStones" (121 : Nat) "BorderStones$Fault") ∈ lw_all := lw_g (lw_at lw_m2 167 rfl) rfl
theorem q549 : (Jvm.Cond.methodLink "BorderStones" (113 : Nat) ({ cls := "BorderStones", name := "taken", desc := "()I" } : Jvm.MethodName)) ∈ lw_all := lw_g (lw_at lw_m2 168 rfl) rfl
theorem q550 : (Jvm.Cond.privateMethod ({ cls := "BorderStones", name := "taken", desc := "()I" } : Jvm.MethodName)) ∈ lw_tbl := lw_at lw_m2 169 rfl
theorem q551 : (Jvm.Cond.instanceMethod ({ cls := "BorderStones", name := "taken", desc := "()I" } : Jvm.MethodName)) ∈ lw_all := lw_g (lw_at lw_m2 170 rfl) rfl
theorem q552 : (Jvm.Cond.code ({ cls := "BorderStones", name := "taken", desc := "()I" } : Jvm.MethodName) prog_1_method_10_code (2 : Nat) (Option.some Jvm.ClassFile.FieldType.int)) ∈ lw_all := lw_g (lw_at lw_m2 171 rfl) rfl
theorem q553 : (Jvm.Cond.methodLink "BorderStones" (117 : Nat) ({ cls := "BorderStones$Reader", name := "all", desc := "(I)LBorderStones$Border;" } : Jvm.MethodName)) ∈ lw_all := lw_g (lw_at lw_m2 172 rfl) rfl
theorem q577 : (Jvm.Cond.static ({ cls := "BorderStones", name := "isLetter", desc := "(I)Z" } : Jvm.MethodName)) ∈ lw_all := lw_g (lw_at lw_m2 196 rfl) rfl
theorem q578 : (Jvm.Cond.code ({ cls := "BorderStones", name := "isLetter", desc := "(I)Z" } : Jvm.MethodName) prog_1_method_3_code (1 : Nat) (Option.some Jvm.ClassFile.FieldType.boolean)) ∈ lw_all := lw_g (lw_at lw_m2 197 rfl) rfl
theorem q588 : (Jvm.Cond.static ({ cls := "BorderStones", name := "isDigit", desc := "(I)Z" } : Jvm.MethodName)) ∈ lw_all := lw_g (lw_at lw_m2 207 rfl) rfl
theorem q589 : (Jvm.Cond.code ({ cls := "BorderStones", name := "isDigit", desc := "(I)Z" } : Jvm.MethodName) prog_1_method_4_code (1 : Nat) (Option.some Jvm.ClassFile.FieldType.boolean)) ∈ lw_all := lw_g (lw_at lw_m2 208 rfl) rfl
theorem q680 : (Jvm.Cond.static ({ cls := "BorderStones", name := "is", desc := "(III)Z" } : Jvm.MethodName)) ∈ lw_all := lw_g (lw_at lw_m3 59 rfl) rfl
theorem q681 : (Jvm.Cond.code ({ cls := "BorderStones", name := "is", desc := "(III)Z" } : Jvm.MethodName) prog_1_method_1_code (3 : Nat) (Option.some Jvm.ClassFile.FieldType.boolean)) ∈ lw_all := lw_g (lw_at lw_m3 60 rfl) rfl
theorem q773 : (Jvm.Cond.laysStatic "BorderStones" "OWN" "[Ljava/lang/String;") ∈ lw_tbl := lw_at lw_m3 152 rfl
theorem q775 : (Jvm.Cond.static ({ cls := "BorderStones", name := "find", desc := "(Ljava/lang/String;[Ljava/lang/String;)I" } : Jvm.MethodName)) ∈ lw_all := lw_g (lw_at lw_m3 154 rfl) rfl
theorem q776 : (Jvm.Cond.code ({ cls := "BorderStones", name := "find", desc := "(Ljava/lang/String;[Ljava/lang/String;)I" } : Jvm.MethodName) prog_1_method_5_code (3 : Nat) (Option.some Jvm.ClassFile.FieldType.int)) ∈ lw_all := lw_g (lw_at lw_m3 155 rfl) rfl
theorem q777 : (Jvm.Cond.methodLink "BorderStones" (16 : Nat) ({ cls := "java/lang/String", name := "equals", desc := "(Ljava/lang/Object;)Z" } : Jvm.MethodName)) ∈ lw_all := lw_g (lw_at lw_m3 156 rfl) rfl
theorem q829 : (Jvm.Cond.fieldLinkNest "BorderStones" (201 : Nat) "BorderStones$Kind" "reach" "I" "BorderStones") ∈ lw_tbl := lw_at lw_m3 208 rfl
theorem q832 : (Jvm.Cond.fieldLinkNest "BorderStones" (204 : Nat) "BorderStones$Kind" "marks" "I" "BorderStones") ∈ lw_tbl := lw_at lw_m3 211 rfl
theorem q841 : (Jvm.Cond.laysStatic "BorderStones" "MARKS" "[Ljava/lang/String;") ∈ lw_tbl := lw_at lw_m3 220 rfl
theorem q885 : (Jvm.Cond.selects "BorderStones" ({ cls := "java/lang/Object", name := "getClass", desc := "()Ljava/lang/Class;" } : Jvm.MethodName) ({ cls := "java/lang/Object", name := "getClass", desc := "()Ljava/lang/Class;" } : Jvm.MethodName)) ∈ lw_all := lw_g (lw_at lw_m4 24 rfl) rfl
theorem q926 : (Jvm.Cond.laysStatic "BorderStones" "SIDES" "[Ljava/lang/String;") ∈ lw_tbl := lw_at lw_m4 65 rfl
theorem q1020 : (Jvm.Cond.laysStatic "BorderStones" "ASKED" "[Ljava/lang/String;") ∈ lw_tbl := lw_at lw_m4 159 rfl
theorem q1186 : (Jvm.Cond.methodLink "BorderStones" (129 : Nat) ({ cls := "BorderStones$Border", name := "settles", desc := "(LBorderStones$Moment;)V" } : Jvm.MethodName)) ∈ lw_all := lw_g (lw_at lw_m5 85 rfl) rfl
theorem q1268 : (Jvm.Cond.static ({ cls := "BorderStones", name := "held", desc := "(J)J" } : Jvm.MethodName)) ∈ lw_all := lw_g (lw_at lw_m5 167 rfl) rfl
theorem q1269 : (Jvm.Cond.code ({ cls := "BorderStones", name := "held", desc := "(J)J" } : Jvm.MethodName) prog_1_method_2_code (2 : Nat) (Option.some Jvm.ClassFile.FieldType.long)) ∈ lw_all := lw_g (lw_at lw_m5 168 rfl) rfl
theorem q1270 : (Jvm.Cond.constantLong "BorderStones" (3 : Nat) (-1000000 : Int64)) ∈ lw_all := lw_g (lw_at lw_m5 169 rfl) rfl
theorem q1271 : (Jvm.Cond.constantLong "BorderStones" (5 : Nat) (1000000 : Int64)) ∈ lw_all := lw_g (lw_at lw_m5 170 rfl) rfl
theorem q1272 : (Jvm.Cond.methodLink "BorderStones" (7 : Nat) ({ cls := "java/lang/Math", name := "min", desc := "(JJ)J" } : Jvm.MethodName)) ∈ lw_all := lw_g (lw_at lw_m5 171 rfl) rfl
theorem q1275 : (Jvm.Cond.methodLink "BorderStones" (13 : Nat) ({ cls := "java/lang/Math", name := "max", desc := "(JJ)J" } : Jvm.MethodName)) ∈ lw_all := lw_g (lw_at lw_m5 174 rfl) rfl
theorem q1294 : (Jvm.Cond.methodLink "BorderStones" (133 : Nat) ({ cls := "BorderStones$State", name := "begins", desc := "()V" } : Jvm.MethodName)) ∈ lw_all := lw_g (lw_at lw_m5 193 rfl) rfl
theorem q1303 : (Jvm.Cond.privateMethod ({ cls := "BorderStones", name := "placeMany", desc := "()I" } : Jvm.MethodName)) ∈ lw_tbl := lw_at lw_m5 202 rfl
theorem q1304 : (Jvm.Cond.instanceMethod ({ cls := "BorderStones", name := "placeMany", desc := "()I" } : Jvm.MethodName)) ∈ lw_all := lw_g (lw_at lw_m5 203 rfl) rfl
theorem q1305 : (Jvm.Cond.code ({ cls := "BorderStones", name := "placeMany", desc := "()I" } : Jvm.MethodName) prog_1_method_13_code (1 : Nat) (Option.some Jvm.ClassFile.FieldType.int)) ∈ lw_all := lw_g (lw_at lw_m5 204 rfl) rfl
theorem q1306 : (Jvm.Cond.methodLink "BorderStones" (142 : Nat) ({ cls := "BorderStones$Border", name := "places", desc := "()I" } : Jvm.MethodName)) ∈ lw_all := lw_g (lw_at lw_m5 205 rfl) rfl
theorem q1314 : (Jvm.Cond.instanceMethod ({ cls := "BorderStones", name := "fault", desc := "(I)I" } : Jvm.MethodName)) ∈ lw_all := lw_g (lw_at lw_m5 213 rfl) rfl
theorem q1315 : (Jvm.Cond.selects "BorderStones" ({ cls := "BorderStones", name := "fault", desc := "(I)I" } : Jvm.MethodName) ({ cls := "BorderStones", name := "fault", desc := "(I)I" } : Jvm.MethodName)) ∈ lw_all := lw_g (lw_at lw_m5 214 rfl) rfl
theorem q1316 : (Jvm.Cond.code ({ cls := "BorderStones", name := "fault", desc := "(I)I" } : Jvm.MethodName) prog_1_method_12_code (2 : Nat) (Option.some Jvm.ClassFile.FieldType.int)) ∈ lw_all := lw_g (lw_at lw_m5 215 rfl) rfl
theorem q1318 : (Jvm.Cond.instanceMethod ({ cls := "BorderStones", name := "has", desc := "(I)I" } : Jvm.MethodName)) ∈ lw_all := lw_g (lw_at lw_m5 217 rfl) rfl
theorem q1319 : (Jvm.Cond.selects "BorderStones" ({ cls := "BorderStones", name := "has", desc := "(I)I" } : Jvm.MethodName) ({ cls := "BorderStones", name := "has", desc := "(I)I" } : Jvm.MethodName)) ∈ lw_all := lw_g (lw_at lw_m5 218 rfl) rfl
theorem q1320 : (Jvm.Cond.code ({ cls := "BorderStones", name := "has", desc := "(I)I" } : Jvm.MethodName) prog_1_method_17_code (2 : Nat) (Option.some Jvm.ClassFile.FieldType.int)) ∈ lw_all := lw_g (lw_at lw_m5 219 rfl) rfl
theorem q1321 : (Jvm.Cond.interfaceEntry "BorderStones" (152 : Nat)) ∈ lw_tbl := lw_at lw_m5 220 rfl
theorem q1322 : (Jvm.Cond.methodLink "BorderStones" (152 : Nat) ({ cls := "java/util/List", name := "size", desc := "()I" } : Jvm.MethodName)) ∈ lw_all := lw_g (lw_at lw_m5 221 rfl) rfl
theorem q1323 : (Jvm.Cond.methodLink "BorderStones" (169 : Nat) ({ cls := "BorderStones$State", name := "all", desc := "()J" } : Jvm.MethodName)) ∈ lw_all := lw_g (lw_at lw_m5 222 rfl) rfl
theorem q1327 : (Jvm.Cond.methodLink "BorderStones" (172 : Nat) ({ cls := "java/lang/Long", name := "bitCount", desc := "(J)I" } : Jvm.MethodName)) ∈ lw_all := lw_g (lw_at lw_m5 226 rfl) rfl
theorem q1333 : (Jvm.Cond.methodLink "BorderStones" (181 : Nat) ({ cls := "BorderStones$State", name := "owedPlaces", desc := "()J" } : Jvm.MethodName)) ∈ lw_all := lw_g (lw_at lw_m5 232 rfl) rfl
theorem q1338 : (Jvm.Cond.instanceMethod ({ cls := "BorderStones", name := "letter", desc := "(II)I" } : Jvm.MethodName)) ∈ lw_all := lw_g (lw_at lw_m5 237 rfl) rfl
theorem q1339 : (Jvm.Cond.selects "BorderStones" ({ cls := "BorderStones", name := "letter", desc := "(II)I" } : Jvm.MethodName) ({ cls := "BorderStones", name := "letter", desc := "(II)I" } : Jvm.MethodName)) ∈ lw_all := lw_g (lw_at lw_m5 238 rfl) rfl
theorem q1340 : (Jvm.Cond.code ({ cls := "BorderStones", name := "letter", desc := "(II)I" } : Jvm.MethodName) prog_1_method_18_code (3 : Nat) (Option.some Jvm.ClassFile.FieldType.int)) ∈ lw_all := lw_g (lw_at lw_m5 239 rfl) rfl
theorem q1341 : (Jvm.Cond.methodLink "BorderStones" (184 : Nat) ({ cls := "BorderStones", name := "isKind", desc := "(I)Z" } : Jvm.MethodName)) ∈ lw_all := lw_g (lw_at lw_m6 0 rfl) rfl
theorem q1342 : (Jvm.Cond.privateMethod ({ cls := "BorderStones", name := "isKind", desc := "(I)Z" } : Jvm.MethodName)) ∈ lw_tbl := lw_at lw_m6 1 rfl
theorem q1343 : (Jvm.Cond.instanceMethod ({ cls := "BorderStones", name := "isKind", desc := "(I)Z" } : Jvm.MethodName)) ∈ lw_all := lw_g (lw_at lw_m6 2 rfl) rfl
theorem q1344 : (Jvm.Cond.code ({ cls := "BorderStones", name := "isKind", desc := "(I)Z" } : Jvm.MethodName) prog_1_method_15_code (2 : Nat) (Option.some Jvm.ClassFile.FieldType.boolean)) ∈ lw_all := lw_g (lw_at lw_m6 3 rfl) rfl
theorem q1345 : (Jvm.Cond.methodLink "BorderStones" (188 : Nat) ({ cls := "BorderStones", name := "is", desc := "(III)Z" } : Jvm.MethodName)) ∈ lw_all := lw_g (lw_at lw_m6 4 rfl) rfl
theorem q1346 : (Jvm.Cond.methodLink "BorderStones" (192 : Nat) ({ cls := "BorderStones$Border", name := "kind", desc := "(I)LBorderStones$Kind;" } : Jvm.MethodName)) ∈ lw_all := lw_g (lw_at lw_m6 5 rfl) rfl
theorem q1347 : (Jvm.Cond.methodLink "BorderStones" (195 : Nat) ({ cls := "BorderStones$Kind", name := "letter", desc := "(I)I" } : Jvm.MethodName)) ∈ lw_all := lw_g (lw_at lw_m6 6 rfl) rfl
theorem q1364 : (Jvm.Cond.instanceMethod ({ cls := "BorderStones", name := "kind", desc := "(II)I" } : Jvm.MethodName)) ∈ lw_all := lw_g (lw_at lw_m6 23 rfl) rfl
theorem q1365 : (Jvm.Cond.selects "BorderStones" ({ cls := "BorderStones", name := "kind", desc := "(II)I" } : Jvm.MethodName) ({ cls := "BorderStones", name := "kind", desc := "(II)I" } : Jvm.MethodName)) ∈ lw_all := lw_g (lw_at lw_m6 24 rfl) rfl
theorem q1366 : (Jvm.Cond.code ({ cls := "BorderStones", name := "kind", desc := "(II)I" } : Jvm.MethodName) prog_1_method_19_code (5 : Nat) (Option.some Jvm.ClassFile.FieldType.int)) ∈ lw_all := lw_g (lw_at lw_m6 25 rfl) rfl
theorem q1367 : (Jvm.Cond.methodLink "BorderStones" (145 : Nat) ({ cls := "BorderStones", name := "placeMany", desc := "()I" } : Jvm.MethodName)) ∈ lw_all := lw_g (lw_at lw_m6 26 rfl) rfl
theorem q1369 : (Jvm.Cond.instanceMethod ({ cls := "BorderStones", name := "place", desc := "(II)I" } : Jvm.MethodName)) ∈ lw_all := lw_g (lw_at lw_m6 28 rfl) rfl
theorem q1370 : (Jvm.Cond.selects "BorderStones" ({ cls := "BorderStones", name := "place", desc := "(II)I" } : Jvm.MethodName) ({ cls := "BorderStones", name := "place", desc := "(II)I" } : Jvm.MethodName)) ∈ lw_all := lw_g (lw_at lw_m6 29 rfl) rfl
theorem q1371 : (Jvm.Cond.code ({ cls := "BorderStones", name := "place", desc := "(II)I" } : Jvm.MethodName) prog_1_method_22_code (3 : Nat) (Option.some Jvm.ClassFile.FieldType.int)) ∈ lw_all := lw_g (lw_at lw_m6 30 rfl) rfl
theorem q1372 : (Jvm.Cond.methodLink "BorderStones" (217 : Nat) ({ cls := "BorderStones", name := "isPlace", desc := "(I)Z" } : Jvm.MethodName)) ∈ lw_all := lw_g (lw_at lw_m6 31 rfl) rfl
theorem q1373 : (Jvm.Cond.privateMethod ({ cls := "BorderStones", name := "isPlace", desc := "(I)Z" } : Jvm.MethodName)) ∈ lw_tbl := lw_at lw_m6 32 rfl
theorem q1374 : (Jvm.Cond.instanceMethod ({ cls := "BorderStones", name := "isPlace", desc := "(I)Z" } : Jvm.MethodName)) ∈ lw_all := lw_g (lw_at lw_m6 33 rfl) rfl
theorem q1375 : (Jvm.Cond.code ({ cls := "BorderStones", name := "isPlace", desc := "(I)Z" } : Jvm.MethodName) prog_1_method_14_code (2 : Nat) (Option.some Jvm.ClassFile.FieldType.boolean)) ∈ lw_all := lw_g (lw_at lw_m6 34 rfl) rfl
theorem q1376 : (Jvm.Cond.methodLink "BorderStones" (220 : Nat) ({ cls := "BorderStones", name := "sideOf", desc := "([JI)I" } : Jvm.MethodName)) ∈ lw_all := lw_g (lw_at lw_m6 35 rfl) rfl
theorem q1377 : (Jvm.Cond.static ({ cls := "BorderStones", name := "sideOf", desc := "([JI)I" } : Jvm.MethodName)) ∈ lw_all := lw_g (lw_at lw_m6 36 rfl) rfl
theorem q1378 : (Jvm.Cond.code ({ cls := "BorderStones", name := "sideOf", desc := "([JI)I" } : Jvm.MethodName) prog_1_method_20_code (2 : Nat) (Option.some Jvm.ClassFile.FieldType.int)) ∈ lw_all := lw_g (lw_at lw_m6 37 rfl) rfl
theorem q1379 : (Jvm.Cond.methodLink "BorderStones" (224 : Nat) ({ cls := "BorderStones$State", name := "has", desc := "(I)Z" } : Jvm.MethodName)) ∈ lw_all := lw_g (lw_at lw_m6 38 rfl) rfl
theorem q1384 : (Jvm.Cond.methodLink "BorderStones" (233 : Nat) ({ cls := "BorderStones$State", name := "edge", desc := "(I)J" } : Jvm.MethodName)) ∈ lw_all := lw_g (lw_at lw_m6 43 rfl) rfl
theorem q1400 : (Jvm.Cond.methodLink "BorderStones" (237 : Nat) ({ cls := "BorderStones", name := "shut", desc := "(LBorderStones$State;I)J" } : Jvm.MethodName)) ∈ lw_all := lw_g (lw_at lw_m6 59 rfl) rfl
theorem q1401 : (Jvm.Cond.privateMethod ({ cls := "BorderStones", name := "shut", desc := "(LBorderStones$State;I)J" } : Jvm.MethodName)) ∈ lw_tbl := lw_at lw_m6 60 rfl
theorem q1402 : (Jvm.Cond.instanceMethod ({ cls := "BorderStones", name := "shut", desc := "(LBorderStones$State;I)J" } : Jvm.MethodName)) ∈ lw_all := lw_g (lw_at lw_m6 61 rfl) rfl
theorem q1403 : (Jvm.Cond.code ({ cls := "BorderStones", name := "shut", desc := "(LBorderStones$State;I)J" } : Jvm.MethodName) prog_1_method_21_code (7 : Nat) (Option.some Jvm.ClassFile.FieldType.long)) ∈ lw_all := lw_g (lw_at lw_m6 62 rfl) rfl
theorem q1404 : (Jvm.Cond.methodLink "BorderStones" (213 : Nat) ({ cls := "BorderStones$State", name := "parts", desc := "(I[J)I" } : Jvm.MethodName)) ∈ lw_all := lw_g (lw_at lw_m6 63 rfl) rfl
theorem q1419 : (Jvm.Cond.instanceMethod ({ cls := "BorderStones", name := "side", desc := "(II)I" } : Jvm.MethodName)) ∈ lw_all := lw_g (lw_at lw_m6 78 rfl) rfl
theorem q1420 : (Jvm.Cond.selects "BorderStones" ({ cls := "BorderStones", name := "side", desc := "(II)I" } : Jvm.MethodName) ({ cls := "BorderStones", name := "side", desc := "(II)I" } : Jvm.MethodName)) ∈ lw_all := lw_g (lw_at lw_m6 79 rfl) rfl
theorem q1421 : (Jvm.Cond.code ({ cls := "BorderStones", name := "side", desc := "(II)I" } : Jvm.MethodName) prog_1_method_23_code (3 : Nat) (Option.some Jvm.ClassFile.FieldType.int)) ∈ lw_all := lw_g (lw_at lw_m6 80 rfl) rfl
theorem q1422 : (Jvm.Cond.methodLink "BorderStones" (244 : Nat) ({ cls := "BorderStones", name := "isSide", desc := "(I)Z" } : Jvm.MethodName)) ∈ lw_all := lw_g (lw_at lw_m6 81 rfl) rfl
theorem q1423 : (Jvm.Cond.static ({ cls := "BorderStones", name := "isSide", desc := "(I)Z" } : Jvm.MethodName)) ∈ lw_all := lw_g (lw_at lw_m6 82 rfl) rfl
theorem q1424 : (Jvm.Cond.code ({ cls := "BorderStones", name := "isSide", desc := "(I)Z" } : Jvm.MethodName) prog_1_method_16_code (1 : Nat) (Option.some Jvm.ClassFile.FieldType.boolean)) ∈ lw_all := lw_g (lw_at lw_m6 83 rfl) rfl
theorem q1425 : (Jvm.Cond.methodLink "BorderStones" (250 : Nat) ({ cls := "BorderStones$State", name := "worth", desc := "(I)I" } : Jvm.MethodName)) ∈ lw_all := lw_g (lw_at lw_m6 84 rfl) rfl
theorem q1430 : (Jvm.Cond.instanceMethod ({ cls := "BorderStones", name := "set", desc := "(II)I" } : Jvm.MethodName)) ∈ lw_all := lw_g (lw_at lw_m6 89 rfl) rfl
theorem q1431 : (Jvm.Cond.selects "BorderStones" ({ cls := "BorderStones", name := "set", desc := "(II)I" } : Jvm.MethodName) ({ cls := "BorderStones", name := "set", desc := "(II)I" } : Jvm.MethodName)) ∈ lw_all := lw_g (lw_at lw_m6 90 rfl) rfl
theorem q1432 : (Jvm.Cond.code ({ cls := "BorderStones", name := "set", desc := "(II)I" } : Jvm.MethodName) prog_1_method_26_code (3 : Nat) (Option.some Jvm.ClassFile.FieldType.int)) ∈ lw_all := lw_g (lw_at lw_m6 91 rfl) rfl
theorem q1433 : (Jvm.Cond.methodLink "BorderStones" (257 : Nat) ({ cls := "BorderStones", name := "canSet", desc := "(LBorderStones$State;II)Z" } : Jvm.MethodName)) ∈ lw_all := lw_g (lw_at lw_m6 92 rfl) rfl
theorem q1434 : (Jvm.Cond.privateMethod ({ cls := "BorderStones", name := "canSet", desc := "(LBorderStones$State;II)Z" } : Jvm.MethodName)) ∈ lw_tbl := lw_at lw_m6 93 rfl
theorem q1435 : (Jvm.Cond.instanceMethod ({ cls := "BorderStones", name := "canSet", desc := "(LBorderStones$State;II)Z" } : Jvm.MethodName)) ∈ lw_all := lw_g (lw_at lw_m6 94 rfl) rfl
theorem q1436 : (Jvm.Cond.code ({ cls := "BorderStones", name := "canSet", desc := "(LBorderStones$State;II)Z" } : Jvm.MethodName) prog_1_method_25_code (4 : Nat) (Option.some Jvm.ClassFile.FieldType.boolean)) ∈ lw_all := lw_g (lw_at lw_m6 95 rfl) rfl
theorem q1437 : (Jvm.Cond.methodLink "BorderStones" (261 : Nat) ({ cls := "BorderStones", name := "keeps", desc := "()V" } : Jvm.MethodName)) ∈ lw_all := lw_g (lw_at lw_m6 96 rfl) rfl
theorem q1438 : (Jvm.Cond.privateMethod ({ cls := "BorderStones", name := "keeps", desc := "()V" } : Jvm.MethodName)) ∈ lw_tbl := lw_at lw_m6 97 rfl
theorem q1439 : (Jvm.Cond.instanceMethod ({ cls := "BorderStones", name := "keeps", desc := "()V" } : Jvm.MethodName)) ∈ lw_all := lw_g (lw_at lw_m6 98 rfl) rfl
theorem q1440 : (Jvm.Cond.code ({ cls := "BorderStones", name := "keeps", desc := "()V" } : Jvm.MethodName) prog_1_method_24_code (3 : Nat) (Option.none : Option Jvm.ClassFile.FieldType)) ∈ lw_all := lw_g (lw_at lw_m6 99 rfl) rfl
theorem q1441 : (Jvm.Cond.methodLink "BorderStones" (253 : Nat) ({ cls := "BorderStones$State", name := "copy", desc := "(LBorderStones$State;)V" } : Jvm.MethodName)) ∈ lw_all := lw_g (lw_at lw_m6 100 rfl) rfl
theorem q1445 : (Jvm.Cond.methodLink "BorderStones" (264 : Nat) ({ cls := "BorderStones$State", name := "goes", desc := "(II)V" } : Jvm.MethodName)) ∈ lw_all := lw_g (lw_at lw_m6 104 rfl) rfl
theorem q1466 : (Jvm.Cond.instanceMethod ({ cls := "BorderStones", name := "undo", desc := "()Z" } : Jvm.MethodName)) ∈ lw_all := lw_g (lw_at lw_m6 125 rfl) rfl
theorem q1467 : (Jvm.Cond.selects "BorderStones" ({ cls := "BorderStones", name := "undo", desc := "()Z" } : Jvm.MethodName) ({ cls := "BorderStones", name := "undo", desc := "()Z" } : Jvm.MethodName)) ∈ lw_all := lw_g (lw_at lw_m6 126 rfl) rfl
theorem q1468 : (Jvm.Cond.code ({ cls := "BorderStones", name := "undo", desc := "()Z" } : Jvm.MethodName) prog_1_method_27_code (1 : Nat) (Option.some Jvm.ClassFile.FieldType.boolean)) ∈ lw_all := lw_g (lw_at lw_m6 127 rfl) rfl
theorem q1470 : (Jvm.Cond.instanceMethod ({ cls := "BorderStones", name := "threat", desc := "(III)I" } : Jvm.MethodName)) ∈ lw_all := lw_g (lw_at lw_m6 129 rfl) rfl
theorem q1471 : (Jvm.Cond.selects "BorderStones" ({ cls := "BorderStones", name := "threat", desc := "(III)I" } : Jvm.MethodName) ({ cls := "BorderStones", name := "threat", desc := "(III)I" } : Jvm.MethodName)) ∈ lw_all := lw_g (lw_at lw_m6 130 rfl) rfl
theorem q1472 : (Jvm.Cond.code ({ cls := "BorderStones", name := "threat", desc := "(III)I" } : Jvm.MethodName) prog_1_method_28_code (6 : Nat) (Option.some Jvm.ClassFile.FieldType.int)) ∈ lw_all := lw_g (lw_at lw_m6 131 rfl) rfl
theorem q1474 : (Jvm.Cond.instanceMethod ({ cls := "BorderStones", name := "answer", desc := "(I)I" } : Jvm.MethodName)) ∈ lw_all := lw_g (lw_at lw_m6 133 rfl) rfl
theorem q1475 : (Jvm.Cond.selects "BorderStones" ({ cls := "BorderStones", name := "answer", desc := "(I)I" } : Jvm.MethodName) ({ cls := "BorderStones", name := "answer", desc := "(I)I" } : Jvm.MethodName)) ∈ lw_all := lw_g (lw_at lw_m6 134 rfl) rfl
theorem q1476 : (Jvm.Cond.code ({ cls := "BorderStones", name := "answer", desc := "(I)I" } : Jvm.MethodName) prog_1_method_29_code (6 : Nat) (Option.some Jvm.ClassFile.FieldType.int)) ∈ lw_all := lw_g (lw_at lw_m6 135 rfl) rfl
theorem q1477 : (Jvm.Cond.constantLong "BorderStones" (271 : Nat) (-1 : Int64)) ∈ lw_all := lw_g (lw_at lw_m6 136 rfl) rfl
theorem q1479 : (Jvm.Cond.instanceMethod ({ cls := "BorderStones", name := "fork", desc := "(I)I" } : Jvm.MethodName)) ∈ lw_all := lw_g (lw_at lw_m6 138 rfl) rfl
theorem q1480 : (Jvm.Cond.selects "BorderStones" ({ cls := "BorderStones", name := "fork", desc := "(I)I" } : Jvm.MethodName) ({ cls := "BorderStones", name := "fork", desc := "(I)I" } : Jvm.MethodName)) ∈ lw_all := lw_g (lw_at lw_m6 139 rfl) rfl
theorem q1481 : (Jvm.Cond.code ({ cls := "BorderStones", name := "fork", desc := "(I)I" } : Jvm.MethodName) prog_1_method_30_code (3 : Nat) (Option.some Jvm.ClassFile.FieldType.int)) ∈ lw_all := lw_g (lw_at lw_m6 140 rfl) rfl
theorem q1482 : (Jvm.Cond.methodLink "BorderStones" (273 : Nat) ({ cls := "BorderStones", name := "threat", desc := "(III)I" } : Jvm.MethodName)) ∈ lw_all := lw_g (lw_at lw_m6 141 rfl) rfl
theorem q1484 : (Jvm.Cond.instanceMethod ({ cls := "BorderStones", name := "line", desc := "(II)I" } : Jvm.MethodName)) ∈ lw_all := lw_g (lw_at lw_m6 143 rfl) rfl
theorem q1485 : (Jvm.Cond.selects "BorderStones" ({ cls := "BorderStones", name := "line", desc := "(II)I" } : Jvm.MethodName) ({ cls := "BorderStones", name := "line", desc := "(II)I" } : Jvm.MethodName)) ∈ lw_all := lw_g (lw_at lw_m6 144 rfl) rfl
theorem q1486 : (Jvm.Cond.code ({ cls := "BorderStones", name := "line", desc := "(II)I" } : Jvm.MethodName) prog_1_method_31_code (4 : Nat) (Option.some Jvm.ClassFile.FieldType.int)) ∈ lw_all := lw_g (lw_at lw_m6 145 rfl) rfl
theorem q1487 : (Jvm.Cond.methodLink "BorderStones" (277 : Nat) ({ cls := "BorderStones$State", name := "isLine", desc := "(II)Z" } : Jvm.MethodName)) ∈ lw_all := lw_g (lw_at lw_m6 146 rfl) rfl
theorem q1489 : (Jvm.Cond.instanceMethod ({ cls := "BorderStones", name := "play", desc := "(II)I" } : Jvm.MethodName)) ∈ lw_all := lw_g (lw_at lw_m6 148 rfl) rfl
theorem q1490 : (Jvm.Cond.selects "BorderStones" ({ cls := "BorderStones", name := "play", desc := "(II)I" } : Jvm.MethodName) ({ cls := "BorderStones", name := "play", desc := "(II)I" } : Jvm.MethodName)) ∈ lw_all := lw_g (lw_at lw_m6 149 rfl) rfl
theorem q1491 : (Jvm.Cond.code ({ cls := "BorderStones", name := "play", desc := "(II)I" } : Jvm.MethodName) prog_1_method_36_code (4 : Nat) (Option.some Jvm.ClassFile.FieldType.int)) ∈ lw_all := lw_g (lw_at lw_m6 150 rfl) rfl
theorem q1492 : (Jvm.Cond.methodLink "BorderStones" (298 : Nat) ({ cls := "BorderStones", name := "canPlay", desc := "(I)Z" } : Jvm.MethodName)) ∈ lw_all := lw_g (lw_at lw_m6 151 rfl) rfl
theorem q1493 : (Jvm.Cond.privateMethod ({ cls := "BorderStones", name := "canPlay", desc := "(I)Z" } : Jvm.MethodName)) ∈ lw_tbl := lw_at lw_m6 152 rfl
theorem q1494 : (Jvm.Cond.instanceMethod ({ cls := "BorderStones", name := "canPlay", desc := "(I)Z" } : Jvm.MethodName)) ∈ lw_all := lw_g (lw_at lw_m6 153 rfl) rfl
theorem q1495 : (Jvm.Cond.code ({ cls := "BorderStones", name := "canPlay", desc := "(I)Z" } : Jvm.MethodName) prog_1_method_32_code (2 : Nat) (Option.some Jvm.ClassFile.FieldType.boolean)) ∈ lw_all := lw_g (lw_at lw_m6 154 rfl) rfl
theorem q1496 : (Jvm.Cond.constant "BorderStones" (301 : Nat) (-1000000000 : Int32)) ∈ lw_all := lw_g (lw_at lw_m6 155 rfl) rfl
theorem q1497 : (Jvm.Cond.methodLink "BorderStones" (284 : Nat) ({ cls := "BorderStones$State", name := "side", desc := "()I" } : Jvm.MethodName)) ∈ lw_all := lw_g (lw_at lw_m6 156 rfl) rfl
theorem q1498 : (Jvm.Cond.methodLink "BorderStones" (295 : Nat) ({ cls := "BorderStones", name := "plays", desc := "(III)I" } : Jvm.MethodName)) ∈ lw_all := lw_g (lw_at lw_m6 157 rfl) rfl
theorem q1499 : (Jvm.Cond.privateMethod ({ cls := "BorderStones", name := "plays", desc := "(III)I" } : Jvm.MethodName)) ∈ lw_tbl := lw_at lw_m6 158 rfl
theorem q1500 : (Jvm.Cond.instanceMethod ({ cls := "BorderStones", name := "plays", desc := "(III)I" } : Jvm.MethodName)) ∈ lw_all := lw_g (lw_at lw_m6 159 rfl) rfl
theorem q1501 : (Jvm.Cond.code ({ cls := "BorderStones", name := "plays", desc := "(III)I" } : Jvm.MethodName) prog_1_method_34_code (11 : Nat) (Option.some Jvm.ClassFile.FieldType.int)) ∈ lw_all := lw_g (lw_at lw_m6 160 rfl) rfl
theorem q1502 : (Jvm.Cond.methodLink "BorderStones" (287 : Nat) ({ cls := "BorderStones", name := "value", desc := "(LBorderStones$State;I)I" } : Jvm.MethodName)) ∈ lw_all := lw_g (lw_at lw_m6 161 rfl) rfl
theorem q1503 : (Jvm.Cond.privateMethod ({ cls := "BorderStones", name := "value", desc := "(LBorderStones$State;I)I" } : Jvm.MethodName)) ∈ lw_tbl := lw_at lw_m6 162 rfl
theorem q1504 : (Jvm.Cond.instanceMethod ({ cls := "BorderStones", name := "value", desc := "(LBorderStones$State;I)I" } : Jvm.MethodName)) ∈ lw_all := lw_g (lw_at lw_m6 163 rfl) rfl
theorem q1505 : (Jvm.Cond.code ({ cls := "BorderStones", name := "value", desc := "(LBorderStones$State;I)I" } : Jvm.MethodName) prog_1_method_33_code (12 : Nat) (Option.some Jvm.ClassFile.FieldType.int)) ∈ lw_all := lw_g (lw_at lw_m6 164 rfl) rfl
theorem q1506 : (Jvm.Cond.methodLink "BorderStones" (281 : Nat) ({ cls := "java/lang/Long", name := "numberOfTrailingZeros", desc := "(J)I" } : Jvm.MethodName)) ∈ lw_all := lw_g (lw_at lw_m6 165 rfl) rfl
theorem q1507 : (Jvm.Cond.methodLink "BorderStones" (291 : Nat) ({ cls := "BorderStones", name := "playsOn", desc := "(IIII)I" } : Jvm.MethodName)) ∈ lw_all := lw_g (lw_at lw_m6 166 rfl) rfl
theorem q1508 : (Jvm.Cond.privateMethod ({ cls := "BorderStones", name := "playsOn", desc := "(IIII)I" } : Jvm.MethodName)) ∈ lw_tbl := lw_at lw_m6 167 rfl
theorem q1509 : (Jvm.Cond.instanceMethod ({ cls := "BorderStones", name := "playsOn", desc := "(IIII)I" } : Jvm.MethodName)) ∈ lw_all := lw_g (lw_at lw_m6 168 rfl) rfl
theorem q1510 : (Jvm.Cond.code ({ cls := "BorderStones", name := "playsOn", desc := "(IIII)I" } : Jvm.MethodName) prog_1_method_35_code (5 : Nat) (Option.some Jvm.ClassFile.FieldType.int)) ∈ lw_all := lw_g (lw_at lw_m6 169 rfl) rfl
theorem q1512 : (Jvm.Cond.instanceMethod ({ cls := "BorderStones", name := "thumb", desc := "(III)I" } : Jvm.MethodName)) ∈ lw_all := lw_g (lw_at lw_m6 171 rfl) rfl
theorem q1513 : (Jvm.Cond.selects "BorderStones" ({ cls := "BorderStones", name := "thumb", desc := "(III)I" } : Jvm.MethodName) ({ cls := "BorderStones", name := "thumb", desc := "(III)I" } : Jvm.MethodName)) ∈ lw_all := lw_g (lw_at lw_m6 172 rfl) rfl
theorem q1514 : (Jvm.Cond.code ({ cls := "BorderStones", name := "thumb", desc := "(III)I" } : Jvm.MethodName) prog_1_method_39_code (6 : Nat) (Option.some Jvm.ClassFile.FieldType.int)) ∈ lw_all := lw_g (lw_at lw_m6 173 rfl) rfl
theorem q1515 : (Jvm.Cond.methodLink "BorderStones" (306 : Nat) ({ cls := "BorderStones", name := "thumbOf", desc := "(I)I" } : Jvm.MethodName)) ∈ lw_all := lw_g (lw_at lw_m6 174 rfl) rfl
theorem q1516 : (Jvm.Cond.privateMethod ({ cls := "BorderStones", name := "thumbOf", desc := "(I)I" } : Jvm.MethodName)) ∈ lw_tbl := lw_at lw_m6 175 rfl
theorem q1517 : (Jvm.Cond.instanceMethod ({ cls := "BorderStones", name := "thumbOf", desc := "(I)I" } : Jvm.MethodName)) ∈ lw_all := lw_g (lw_at lw_m6 176 rfl) rfl
theorem q1518 : (Jvm.Cond.code ({ cls := "BorderStones", name := "thumbOf", desc := "(I)I" } : Jvm.MethodName) prog_1_method_38_code (6 : Nat) (Option.some Jvm.ClassFile.FieldType.int)) ∈ lw_all := lw_g (lw_at lw_m6 177 rfl) rfl
theorem q1519 : (Jvm.Cond.methodLink "BorderStones" (302 : Nat) ({ cls := "BorderStones", name := "pointsOf", desc := "(II)I" } : Jvm.MethodName)) ∈ lw_all := lw_g (lw_at lw_m6 178 rfl) rfl
theorem q1520 : (Jvm.Cond.privateMethod ({ cls := "BorderStones", name := "pointsOf", desc := "(II)I" } : Jvm.MethodName)) ∈ lw_tbl := lw_at lw_m6 179 rfl
theorem q1521 : (Jvm.Cond.instanceMethod ({ cls := "BorderStones", name := "pointsOf", desc := "(II)I" } : Jvm.MethodName)) ∈ lw_all := lw_g (lw_at lw_m6 180 rfl) rfl
theorem q1522 : (Jvm.Cond.code ({ cls := "BorderStones", name := "pointsOf", desc := "(II)I" } : Jvm.MethodName) prog_1_method_37_code (3 : Nat) (Option.some Jvm.ClassFile.FieldType.int)) ∈ lw_all := lw_g (lw_at lw_m6 181 rfl) rfl
theorem q1524 : (Jvm.Cond.instanceMethod ({ cls := "BorderStones", name := "truce", desc := "(I)I" } : Jvm.MethodName)) ∈ lw_all := lw_g (lw_at lw_m6 183 rfl) rfl
theorem q1525 : (Jvm.Cond.selects "BorderStones" ({ cls := "BorderStones", name := "truce", desc := "(I)I" } : Jvm.MethodName) ({ cls := "BorderStones", name := "truce", desc := "(I)I" } : Jvm.MethodName)) ∈ lw_all := lw_g (lw_at lw_m6 184 rfl) rfl
theorem q1526 : (Jvm.Cond.code ({ cls := "BorderStones", name := "truce", desc := "(I)I" } : Jvm.MethodName) prog_1_method_41_code (5 : Nat) (Option.some Jvm.ClassFile.FieldType.int)) ∈ lw_all := lw_g (lw_at lw_m6 185 rfl) rfl
theorem q1527 : (Jvm.Cond.methodLink "BorderStones" (309 : Nat) ({ cls := "BorderStones", name := "isBreaking", desc := "(III)Z" } : Jvm.MethodName)) ∈ lw_all := lw_g (lw_at lw_m6 186 rfl) rfl
theorem q1528 : (Jvm.Cond.privateMethod ({ cls := "BorderStones", name := "isBreaking", desc := "(III)Z" } : Jvm.MethodName)) ∈ lw_tbl := lw_at lw_m6 187 rfl
theorem q1529 : (Jvm.Cond.instanceMethod ({ cls := "BorderStones", name := "isBreaking", desc := "(III)Z" } : Jvm.MethodName)) ∈ lw_all := lw_g (lw_at lw_m6 188 rfl) rfl
theorem q1530 : (Jvm.Cond.code ({ cls := "BorderStones", name := "isBreaking", desc := "(III)Z" } : Jvm.MethodName) prog_1_method_40_code (4 : Nat) (Option.some Jvm.ClassFile.FieldType.boolean)) ∈ lw_all := lw_g (lw_at lw_m6 189 rfl) rfl
theorem q1532 : (Jvm.Cond.instanceMethod ({ cls := "BorderStones", name := "rows", desc := "()I" } : Jvm.MethodName)) ∈ lw_all := lw_g (lw_at lw_m6 191 rfl) rfl
theorem q1533 : (Jvm.Cond.selects "BorderStones" ({ cls := "BorderStones", name := "rows", desc := "()I" } : Jvm.MethodName) ({ cls := "BorderStones", name := "rows", desc := "()I" } : Jvm.MethodName)) ∈ lw_all := lw_g (lw_at lw_m6 192 rfl) rfl
theorem q1534 : (Jvm.Cond.code ({ cls := "BorderStones", name := "rows", desc := "()I" } : Jvm.MethodName) prog_1_method_42_code (7 : Nat) (Option.some Jvm.ClassFile.FieldType.int)) ∈ lw_all := lw_g (lw_at lw_m6 193 rfl) rfl
theorem q1535 : (Jvm.Cond.methodLink "BorderStones" (312 : Nat) ({ cls := "BorderStones$State", name := "clears", desc := "()V" } : Jvm.MethodName)) ∈ lw_all := lw_g (lw_at lw_m6 194 rfl) rfl
theorem q1536 : (Jvm.Cond.methodLink "BorderStones" (315 : Nat) ({ cls := "BorderStones", name := "isSameLand", desc := "(LBorderStones$State;)Z" } : Jvm.MethodName)) ∈ lw_all := lw_g (lw_at lw_m6 195 rfl) rfl
theorem q1537 : (Jvm.Cond.privateMethod ({ cls := "BorderStones", name := "isSameLand", desc := "(LBorderStones$State;)Z" } : Jvm.MethodName)) ∈ lw_tbl := lw_at lw_m6 196 rfl
theorem q1538 : (Jvm.Cond.instanceMethod ({ cls := "BorderStones", name := "isSameLand", desc := "(LBorderStones$State;)Z" } : Jvm.MethodName)) ∈ lw_all := lw_g (lw_at lw_m6 197 rfl) rfl
theorem q1539 : (Jvm.Cond.code ({ cls := "BorderStones", name := "isSameLand", desc := "(LBorderStones$State;)Z" } : Jvm.MethodName) prog_1_method_43_code (2 : Nat) (Option.some Jvm.ClassFile.FieldType.boolean)) ∈ lw_all := lw_g (lw_at lw_m6 198 rfl) rfl
theorem q1541 : (Jvm.Cond.instanceMethod ({ cls := "BorderStones", name := "hidden", desc := "(JIIII)I" } : Jvm.MethodName)) ∈ lw_all := lw_g (lw_at lw_m6 200 rfl) rfl
theorem q1542 : (Jvm.Cond.selects "BorderStones" ({ cls := "BorderStones", name := "hidden", desc := "(JIIII)I" } : Jvm.MethodName) ({ cls := "BorderStones", name := "hidden", desc := "(JIIII)I" } : Jvm.MethodName)) ∈ lw_all := lw_g (lw_at lw_m6 201 rfl) rfl
theorem q1543 : (Jvm.Cond.code ({ cls := "BorderStones", name := "hidden", desc := "(JIIII)I" } : Jvm.MethodName) prog_1_method_47_code (8 : Nat) (Option.some Jvm.ClassFile.FieldType.int)) ∈ lw_all := lw_g (lw_at lw_m6 202 rfl) rfl
theorem q1544 : (Jvm.Cond.methodLink "BorderStones" (339 : Nat) ({ cls := "BorderStones", name := "hides", desc := "(JIII)Z" } : Jvm.MethodName)) ∈ lw_all := lw_g (lw_at lw_m6 203 rfl) rfl
theorem q1545 : (Jvm.Cond.privateMethod ({ cls := "BorderStones", name := "hides", desc := "(JIII)Z" } : Jvm.MethodName)) ∈ lw_tbl := lw_at lw_m6 204 rfl
theorem q1546 : (Jvm.Cond.instanceMethod ({ cls := "BorderStones", name := "hides", desc := "(JIII)Z" } : Jvm.MethodName)) ∈ lw_all := lw_g (lw_at lw_m6 205 rfl) rfl
theorem q1547 : (Jvm.Cond.code ({ cls := "BorderStones", name := "hides", desc := "(JIII)Z" } : Jvm.MethodName) prog_1_method_44_code (9 : Nat) (Option.some Jvm.ClassFile.FieldType.boolean)) ∈ lw_all := lw_g (lw_at lw_m6 206 rfl) rfl
theorem q1548 : (Jvm.Cond.methodLink "BorderStones" (325 : Nat) ({ cls := "java/lang/Integer", name := "bitCount", desc := "(I)I" } : Jvm.MethodName)) ∈ lw_all := lw_g (lw_at lw_m6 207 rfl) rfl
theorem q1554 : (Jvm.Cond.methodLink "BorderStones" (329 : Nat) ({ cls := "BorderStones", name := "isWay", desc := "(III)Z" } : Jvm.MethodName)) ∈ lw_all := lw_g (lw_at lw_m6 213 rfl) rfl
theorem q1555 : (Jvm.Cond.privateMethod ({ cls := "BorderStones", name := "isWay", desc := "(III)Z" } : Jvm.MethodName)) ∈ lw_tbl := lw_at lw_m6 214 rfl
theorem q1556 : (Jvm.Cond.instanceMethod ({ cls := "BorderStones", name := "isWay", desc := "(III)Z" } : Jvm.MethodName)) ∈ lw_all := lw_g (lw_at lw_m6 215 rfl) rfl
theorem q1557 : (Jvm.Cond.code ({ cls := "BorderStones", name := "isWay", desc := "(III)Z" } : Jvm.MethodName) prog_1_method_45_code (5 : Nat) (Option.some Jvm.ClassFile.FieldType.boolean)) ∈ lw_all := lw_g (lw_at lw_m6 216 rfl) rfl
theorem q1558 : (Jvm.Cond.methodLink "BorderStones" (335 : Nat) ({ cls := "BorderStones$State", name := "lays", desc := "(III)V" } : Jvm.MethodName)) ∈ lw_all := lw_g (lw_at lw_m6 217 rfl) rfl
theorem q1559 : (Jvm.Cond.methodLink "BorderStones" (332 : Nat) ({ cls := "BorderStones", name := "counts", desc := "(I)V" } : Jvm.MethodName)) ∈ lw_all := lw_g (lw_at lw_m6 218 rfl) rfl
theorem q1560 : (Jvm.Cond.privateMethod ({ cls := "BorderStones", name := "counts", desc := "(I)V" } : Jvm.MethodName)) ∈ lw_tbl := lw_at lw_m6 219 rfl
theorem q1561 : (Jvm.Cond.instanceMethod ({ cls := "BorderStones", name := "counts", desc := "(I)V" } : Jvm.MethodName)) ∈ lw_all := lw_g (lw_at lw_m6 220 rfl) rfl
theorem q1562 : (Jvm.Cond.code ({ cls := "BorderStones", name := "counts", desc := "(I)V" } : Jvm.MethodName) prog_1_method_46_code (3 : Nat) (Option.none : Option Jvm.ClassFile.FieldType)) ∈ lw_all := lw_g (lw_at lw_m6 221 rfl) rfl
theorem q1564 : (Jvm.Cond.instanceMethod ({ cls := "BorderStones", name := "look", desc := "(JIII)I" } : Jvm.MethodName)) ∈ lw_all := lw_g (lw_at lw_m6 223 rfl) rfl
theorem q1565 : (Jvm.Cond.selects "BorderStones" ({ cls := "BorderStones", name := "look", desc := "(JIII)I" } : Jvm.MethodName) ({ cls := "BorderStones", name := "look", desc := "(JIII)I" } : Jvm.MethodName)) ∈ lw_all := lw_g (lw_at lw_m6 224 rfl) rfl
theorem q1566 : (Jvm.Cond.code ({ cls := "BorderStones", name := "look", desc := "(JIII)I" } : Jvm.MethodName) prog_1_method_48_code (8 : Nat) (Option.some Jvm.ClassFile.FieldType.int)) ∈ lw_all := lw_g (lw_at lw_m6 225 rfl) rfl
theorem q1568 : (Jvm.Cond.instanceMethod ({ cls := "BorderStones", name := "seed", desc := "(I)Z" } : Jvm.MethodName)) ∈ lw_all := lw_g (lw_at lw_m6 227 rfl) rfl
theorem q1569 : (Jvm.Cond.selects "BorderStones" ({ cls := "BorderStones", name := "seed", desc := "(I)Z" } : Jvm.MethodName) ({ cls := "BorderStones", name := "seed", desc := "(I)Z" } : Jvm.MethodName)) ∈ lw_all := lw_g (lw_at lw_m6 228 rfl) rfl
theorem q1570 : (Jvm.Cond.code ({ cls := "BorderStones", name := "seed", desc := "(I)Z" } : Jvm.MethodName) prog_1_method_49_code (2 : Nat) (Option.some Jvm.ClassFile.FieldType.boolean)) ∈ lw_all := lw_g (lw_at lw_m6 229 rfl) rfl
theorem q1572 : (Jvm.Cond.instanceMethod ({ cls := "BorderStones", name := "year", desc := "(I)I" } : Jvm.MethodName)) ∈ lw_all := lw_g (lw_at lw_m6 231 rfl) rfl
theorem q1573 : (Jvm.Cond.selects "BorderStones" ({ cls := "BorderStones", name := "year", desc := "(I)I" } : Jvm.MethodName) ({ cls := "BorderStones", name := "year", desc := "(I)I" } : Jvm.MethodName)) ∈ lw_all := lw_g (lw_at lw_m6 232 rfl) rfl
theorem q1574 : (Jvm.Cond.code ({ cls := "BorderStones", name := "year", desc := "(I)I" } : Jvm.MethodName) prog_1_method_51_code (6 : Nat) (Option.some Jvm.ClassFile.FieldType.int)) ∈ lw_all := lw_g (lw_at lw_m6 233 rfl) rfl
theorem q1575 : (Jvm.Cond.methodLink "BorderStones" (351 : Nat) ({ cls := "BorderStones", name := "draw", desc := "(I)I" } : Jvm.MethodName)) ∈ lw_all := lw_g (lw_at lw_m6 234 rfl) rfl
theorem q1576 : (Jvm.Cond.privateMethod ({ cls := "BorderStones", name := "draw", desc := "(I)I" } : Jvm.MethodName)) ∈ lw_tbl := lw_at lw_m6 235 rfl
theorem q1577 : (Jvm.Cond.instanceMethod ({ cls := "BorderStones", name := "draw", desc := "(I)I" } : Jvm.MethodName)) ∈ lw_all := lw_g (lw_at lw_m6 236 rfl) rfl
theorem q1578 : (Jvm.Cond.code ({ cls := "BorderStones", name := "draw", desc := "(I)I" } : Jvm.MethodName) prog_1_method_50_code (2 : Nat) (Option.some Jvm.ClassFile.FieldType.int)) ∈ lw_all := lw_g (lw_at lw_m6 237 rfl) rfl
theorem q1579 : (Jvm.Cond.constantLong "BorderStones" (343 : Nat) (1103515245 : Int64)) ∈ lw_all := lw_g (lw_at lw_m6 238 rfl) rfl
theorem q1580 : (Jvm.Cond.constantLong "BorderStones" (345 : Nat) (12345 : Int64)) ∈ lw_all := lw_g (lw_at lw_m6 239 rfl) rfl
theorem q1581 : (Jvm.Cond.constantLong "BorderStones" (347 : Nat) (2147483648 : Int64)) ∈ lw_all := lw_g (lw_at lw_m7 0 rfl) rfl
theorem q1582 : (Jvm.Cond.constantLong "BorderStones" (349 : Nat) (64 : Int64)) ∈ lw_all := lw_g (lw_at lw_m7 1 rfl) rfl
theorem q1583 : (Jvm.Cond.methodLink "BorderStones" (354 : Nat) ({ cls := "BorderStones", name := "set", desc := "(II)I" } : Jvm.MethodName)) ∈ lw_all := lw_g (lw_at lw_m7 2 rfl) rfl
theorem q1585 : (Jvm.Cond.instanceMethod ({ cls := "BorderStones", name := "image", desc := "()I" } : Jvm.MethodName)) ∈ lw_all := lw_g (lw_at lw_m7 4 rfl) rfl
theorem q1586 : (Jvm.Cond.selects "BorderStones" ({ cls := "BorderStones", name := "image", desc := "()I" } : Jvm.MethodName) ({ cls := "BorderStones", name := "image", desc := "()I" } : Jvm.MethodName)) ∈ lw_all := lw_g (lw_at lw_m7 5 rfl) rfl
theorem q1587 : (Jvm.Cond.code ({ cls := "BorderStones", name := "image", desc := "()I" } : Jvm.MethodName) prog_1_method_53_code (3 : Nat) (Option.some Jvm.ClassFile.FieldType.int)) ∈ lw_all := lw_g (lw_at lw_m7 6 rfl) rfl
theorem q1588 : (Jvm.Cond.methodLink "BorderStones" (360 : Nat) ({ cls := "BorderStones", name := "writes", desc := "(I)V" } : Jvm.MethodName)) ∈ lw_all := lw_g (lw_at lw_m7 7 rfl) rfl
theorem q1589 : (Jvm.Cond.privateMethod ({ cls := "BorderStones", name := "writes", desc := "(I)V" } : Jvm.MethodName)) ∈ lw_tbl := lw_at lw_m7 8 rfl
theorem q1590 : (Jvm.Cond.instanceMethod ({ cls := "BorderStones", name := "writes", desc := "(I)V" } : Jvm.MethodName)) ∈ lw_all := lw_g (lw_at lw_m7 9 rfl) rfl
theorem q1591 : (Jvm.Cond.code ({ cls := "BorderStones", name := "writes", desc := "(I)V" } : Jvm.MethodName) prog_1_method_52_code (2 : Nat) (Option.none : Option Jvm.ClassFile.FieldType)) ∈ lw_all := lw_g (lw_at lw_m7 10 rfl) rfl
theorem q1593 : (Jvm.Cond.instanceMethod ({ cls := "BorderStones", name := "octet", desc := "(I)I" } : Jvm.MethodName)) ∈ lw_all := lw_g (lw_at lw_m7 12 rfl) rfl
theorem q1594 : (Jvm.Cond.selects "BorderStones" ({ cls := "BorderStones", name := "octet", desc := "(I)I" } : Jvm.MethodName) ({ cls := "BorderStones", name := "octet", desc := "(I)I" } : Jvm.MethodName)) ∈ lw_all := lw_g (lw_at lw_m7 13 rfl) rfl
theorem q1595 : (Jvm.Cond.code ({ cls := "BorderStones", name := "octet", desc := "(I)I" } : Jvm.MethodName) prog_1_method_54_code (2 : Nat) (Option.some Jvm.ClassFile.FieldType.int)) ∈ lw_all := lw_g (lw_at lw_m7 14 rfl) rfl
theorem q2365 : (Jvm.Cond.castable "BorderStones" "java/lang/Object") ∈ lw_tbl := lw_at lw_m10 64 rfl
theorem q2398 : (Jvm.Cond.stringRef "BorderStones" (387 : Nat) "field") ∈ lw_tbl := lw_at lw_m10 97 rfl
theorem q2399 : (Jvm.Cond.stringRef "BorderStones" (389 : Nat) "kind") ∈ lw_tbl := lw_at lw_m10 98 rfl
theorem q2400 : (Jvm.Cond.stringRef "BorderStones" (390 : Nat) "reach") ∈ lw_tbl := lw_at lw_m10 99 rfl
theorem q2401 : (Jvm.Cond.stringRef "BorderStones" (379 : Nat) "high") ∈ lw_tbl := lw_at lw_m10 100 rfl
theorem q2402 : (Jvm.Cond.stringRef "BorderStones" (380 : Nat) "sunk") ∈ lw_tbl := lw_at lw_m10 101 rfl
theorem q2403 : (Jvm.Cond.stringRef "BorderStones" (382 : Nat) "child") ∈ lw_tbl := lw_at lw_m10 102 rfl
theorem q2404 : (Jvm.Cond.stringRef "BorderStones" (391 : Nat) "stone") ∈ lw_tbl := lw_at lw_m10 103 rfl
theorem q2405 : (Jvm.Cond.stringRef "BorderStones" (372 : Nat) "red") ∈ lw_tbl := lw_at lw_m10 104 rfl
theorem q2406 : (Jvm.Cond.stringRef "BorderStones" (374 : Nat) "blue") ∈ lw_tbl := lw_at lw_m10 105 rfl
theorem q2407 : (Jvm.Cond.stringRef "BorderStones" (393 : Nat) "at") ∈ lw_tbl := lw_at lw_m10 106 rfl
theorem q2408 : (Jvm.Cond.stringRef "BorderStones" (395 : Nat) "land") ∈ lw_tbl := lw_at lw_m10 107 rfl
theorem q2409 : (Jvm.Cond.stringRef "BorderStones" (396 : Nat) "worth") ∈ lw_tbl := lw_at lw_m10 108 rfl
theorem q2410 : (Jvm.Cond.stringRef "BorderStones" (397 : Nat) "when") ∈ lw_tbl := lw_at lw_m10 109 rfl
theorem q2411 : (Jvm.Cond.stringRef "BorderStones" (399 : Nat) "or") ∈ lw_tbl := lw_at lw_m10 110 rfl
theorem q2412 : (Jvm.Cond.stringRef "BorderStones" (401 : Nat) "and") ∈ lw_tbl := lw_at lw_m10 111 rfl
theorem q2413 : (Jvm.Cond.stringRef "BorderStones" (403 : Nat) "not") ∈ lw_tbl := lw_at lw_m10 112 rfl
theorem q2414 : (Jvm.Cond.stringRef "BorderStones" (405 : Nat) "all") ∈ lw_tbl := lw_at lw_m10 113 rfl
theorem q2415 : (Jvm.Cond.stringRef "BorderStones" (363 : Nat) "across") ∈ lw_tbl := lw_at lw_m10 114 rfl
theorem q2416 : (Jvm.Cond.stringRef "BorderStones" (365 : Nat) "down") ∈ lw_tbl := lw_at lw_m10 115 rfl
theorem q2417 : (Jvm.Cond.stringRef "BorderStones" (367 : Nat) "edge") ∈ lw_tbl := lw_at lw_m10 116 rfl
theorem q2418 : (Jvm.Cond.stringRef "BorderStones" (406 : Nat) "min") ∈ lw_tbl := lw_at lw_m10 117 rfl
theorem q2419 : (Jvm.Cond.stringRef "BorderStones" (407 : Nat) "max") ∈ lw_tbl := lw_at lw_m10 118 rfl
theorem in_X0 : ∀ w ∈ wsX00, w ∈ lw_all := lw_in wsX00 [485, 487, 489, 491, 493, 495, 497, 499, 501, 503, 505, 507, 509, 511, 513, 515, 517, 519, 521, 523, 525, 527, 529] (by decide +kernel) (by decide +kernel)

def RX1 : String := "BorderStones$Border"
def TX1 : u_T := fun k => match k with
  | 0 => ("BorderStones$Border", "wide", "I", false)
  | 1 => ("BorderStones$Border", "high", "I", false)
  | 2 => ("BorderStones$Border", "statements", "I", false)
  | 3 => ("BorderStones$Border", "stones", "I", false)
  | 4 => ("BorderStones$Border", "kinds", "Ljava/util/List;", true)
  | 5 => ("BorderStones$Border", "rules", "Ljava/util/List;", true)
  | 6 => ("BorderStones$Border", "sideAt", "[I", true)
  | 7 => ("BorderStones$Border", "kindAt", "[I", true)
  | 8 => ("BorderStones$Border", "landAt", "[I", true)
  | 9 => ("BorderStones$Border", "worths", "[I", true)
  | 10 => ("BorderStones$Border", "steps", "[[I", true)
  | 11 => ("BorderStones$Border", "between", "[[J", true)
  | _ => ("BorderStones$Border", "rim", "J", false)
def tyX1 : Nat → FieldType := fun k => match k with
  | 0 => .int
  | 1 => .int
  | 2 => .int
  | 3 => .int
  | 4 => .object "java/util/List"
  | 5 => .object "java/util/List"
  | 6 => .array .int
  | 7 => .array .int
  | 8 => .array .int
  | 9 => .array .int
  | 10 => .array (.array .int)
  | 11 => .array (.array .long)
  | _ => .long
abbrev wsX10 : List Cond := u_ws RX1 TX1 13
theorem nmX1 : ∀ a, a < 13 → ∀ b, b < 13 → a ≠ b → (TX1 a).2.1 ≠ (TX1 b).2.1 := by decide +kernel
theorem tyX1_ok : ∀ k, k < 13 → parseFieldDescriptor (TX1 k).2.2.1 = some (tyX1 k) := by decide +kernel
abbrev cX1_init : ByteArray := prog_4_method_1_code
def yX1_init : MethodName := ⟨RX1, "<init>", "()V"⟩
abbrev cX1_kind : ByteArray := prog_4_method_3_code
def yX1_kind : MethodName := ⟨RX1, "kind", "(I)LBorderStones$Kind;"⟩
abbrev cX1_settles : ByteArray := prog_4_method_5_code
def yX1_settles : MethodName := ⟨RX1, "settles", "(LBorderStones$Moment;)V"⟩
abbrev cX1_places : ByteArray := prog_4_method_2_code
def yX1_places : MethodName := ⟨RX1, "places", "()I"⟩
abbrev cX1_worth : ByteArray := prog_4_method_6_code
def yX1_worth : MethodName := ⟨RX1, "worth", "(LBorderStones$Moment;)I"⟩
abbrev cX1_lays : ByteArray := prog_4_method_4_code
def yX1_lays : MethodName := ⟨RX1, "lays", "(II)V"⟩
abbrev cX1_grown : ByteArray := prog_4_method_7_code
def yX1_grown : MethodName := ⟨RX1, "grown", "(J)J"⟩
abbrev cX1_column : ByteArray := prog_4_method_8_code
def yX1_column : MethodName := ⟨RX1, "column", "(I)J"⟩
theorem q143 : (Jvm.Cond.initialized "BorderStones$Border") ∈ lw_all := lw_g (lw_at lw_m1 2 rfl) rfl
theorem q190 : (Jvm.Cond.instantiable "BorderStones$Border" (13 : Nat)) ∈ lw_all := lw_g (lw_at lw_m1 49 rfl) rfl
theorem q192 : (Jvm.Cond.instanceMethod ({ cls := "BorderStones$Border", name := "<init>", desc := "()V" } : Jvm.MethodName)) ∈ lw_all := lw_g (lw_at lw_m1 51 rfl) rfl
theorem q193 : (Jvm.Cond.code ({ cls := "BorderStones$Border", name := "<init>", desc := "()V" } : Jvm.MethodName) prog_4_method_1_code (2 : Nat) (Option.none : Option Jvm.ClassFile.FieldType)) ∈ lw_all := lw_g (lw_at lw_m1 52 rfl) rfl
theorem q194 : (Jvm.Cond.methodLink "BorderStones$Border" (3 : Nat) ({ cls := "java/lang/Object", name := "<init>", desc := "()V" } : Jvm.MethodName)) ∈ lw_all := lw_g (lw_at lw_m1 53 rfl) rfl
theorem q195 : (Jvm.Cond.classLink "BorderStones$Border" (9 : Nat) "java/util/ArrayList") ∈ lw_all := lw_g (lw_at lw_m1 54 rfl) rfl
theorem q197 : (Jvm.Cond.methodLink "BorderStones$Border" (11 : Nat) ({ cls := "java/util/ArrayList", name := "<init>", desc := "(I)V" } : Jvm.MethodName)) ∈ lw_all := lw_g (lw_at lw_m1 56 rfl) rfl
theorem q223 : (Jvm.Cond.classLink "BorderStones$Border" (36 : Nat) "[[I") ∈ lw_all := lw_g (lw_at lw_m1 82 rfl) rfl
theorem q225 : (Jvm.Cond.classLink "BorderStones$Border" (41 : Nat) "[[J") ∈ lw_all := lw_g (lw_at lw_m1 84 rfl) rfl
theorem q227 : (Jvm.Cond.fieldLink "BorderStones$Border" (46 : Nat) "BorderStones$Border" "wide" "I") ∈ lw_all := lw_g (lw_at lw_m1 86 rfl) rfl
theorem q230 : (Jvm.Cond.fieldLink "BorderStones$Border" (50 : Nat) "BorderStones$Border" "high" "I") ∈ lw_all := lw_g (lw_at lw_m1 89 rfl) rfl
theorem q236 : (Jvm.Cond.fieldLink "BorderStones$Border" (14 : Nat) "BorderStones$Border" "kinds" "Ljava/util/List;") ∈ lw_all := lw_g (lw_at lw_m1 95 rfl) rfl
theorem q239 : (Jvm.Cond.fieldLink "BorderStones$Border" (20 : Nat) "BorderStones$Border" "rules" "Ljava/util/List;") ∈ lw_all := lw_g (lw_at lw_m1 98 rfl) rfl
theorem q242 : (Jvm.Cond.fieldLink "BorderStones$Border" (23 : Nat) "BorderStones$Border" "sideAt" "[I") ∈ lw_all := lw_g (lw_at lw_m1 101 rfl) rfl
theorem q245 : (Jvm.Cond.fieldLink "BorderStones$Border" (27 : Nat) "BorderStones$Border" "kindAt" "[I") ∈ lw_all := lw_g (lw_at lw_m1 104 rfl) rfl
theorem q248 : (Jvm.Cond.fieldLink "BorderStones$Border" (30 : Nat) "BorderStones$Border" "landAt" "[I") ∈ lw_all := lw_g (lw_at lw_m1 107 rfl) rfl
theorem q251 : (Jvm.Cond.fieldLink "BorderStones$Border" (33 : Nat) "BorderStones$Border" "worths" "[I") ∈ lw_all := lw_g (lw_at lw_m1 110 rfl) rfl
theorem q254 : (Jvm.Cond.fieldLink "BorderStones$Border" (38 : Nat) "BorderStones$Border" "steps" "[[I") ∈ lw_all := lw_g (lw_at lw_m1 113 rfl) rfl
theorem q256 : (Jvm.Cond.fieldLink "BorderStones$Border" (43 : Nat) "BorderStones$Border" "between" "[[J") ∈ lw_all := lw_g (lw_at lw_m1 115 rfl) rfl
theorem q258 : (Jvm.Cond.fieldLink "BorderStones$Border" (78 : Nat) "BorderStones$Border" "rim" "J") ∈ lw_all := lw_g (lw_at lw_m1 117 rfl) rfl
theorem q260 : (Jvm.Cond.lays "BorderStones$Border" "BorderStones$Border" "wide" "I") ∈ lw_all := lw_g (lw_at lw_m1 119 rfl) rfl
theorem q262 : (Jvm.Cond.lays "BorderStones$Border" "BorderStones$Border" "high" "I") ∈ lw_all := lw_g (lw_at lw_m1 121 rfl) rfl
theorem q264 : (Jvm.Cond.lays "BorderStones$Border" "BorderStones$Border" "statements" "I") ∈ lw_all := lw_g (lw_at lw_m1 123 rfl) rfl
theorem q266 : (Jvm.Cond.lays "BorderStones$Border" "BorderStones$Border" "stones" "I") ∈ lw_all := lw_g (lw_at lw_m1 125 rfl) rfl
theorem q268 : (Jvm.Cond.laysFinal "BorderStones$Border" "BorderStones$Border" "kinds" "Ljava/util/List;") ∈ lw_all := lw_g (lw_at lw_m1 127 rfl) rfl
theorem q270 : (Jvm.Cond.laysFinal "BorderStones$Border" "BorderStones$Border" "rules" "Ljava/util/List;") ∈ lw_all := lw_g (lw_at lw_m1 129 rfl) rfl
theorem q272 : (Jvm.Cond.laysFinal "BorderStones$Border" "BorderStones$Border" "sideAt" "[I") ∈ lw_all := lw_g (lw_at lw_m1 131 rfl) rfl
theorem q274 : (Jvm.Cond.laysFinal "BorderStones$Border" "BorderStones$Border" "kindAt" "[I") ∈ lw_all := lw_g (lw_at lw_m1 133 rfl) rfl
theorem q276 : (Jvm.Cond.laysFinal "BorderStones$Border" "BorderStones$Border" "landAt" "[I") ∈ lw_all := lw_g (lw_at lw_m1 135 rfl) rfl
theorem q278 : (Jvm.Cond.laysFinal "BorderStones$Border" "BorderStones$Border" "worths" "[I") ∈ lw_all := lw_g (lw_at lw_m1 137 rfl) rfl
theorem q280 : (Jvm.Cond.laysFinal "BorderStones$Border" "BorderStones$Border" "steps" "[[I") ∈ lw_all := lw_g (lw_at lw_m1 139 rfl) rfl
theorem q282 : (Jvm.Cond.laysFinal "BorderStones$Border" "BorderStones$Border" "between" "[[J") ∈ lw_all := lw_g (lw_at lw_m1 141 rfl) rfl
theorem q284 : (Jvm.Cond.lays "BorderStones$Border" "BorderStones$Border" "rim" "J") ∈ lw_all := lw_g (lw_at lw_m1 143 rfl) rfl
theorem q286 : (Jvm.Cond.superclass "BorderStones$Border" "java/lang/Object") ∈ lw_all := lw_g (lw_at lw_m1 145 rfl) rfl
theorem q398 : (Jvm.Cond.fieldLinkNest "BorderStones$Border" (82 : Nat) "BorderStones$Moment" "of" "[I" "BorderStones") ∈ lw_tbl := lw_at lw_m2 17 rfl
theorem q791 : (Jvm.Cond.instanceMethod ({ cls := "BorderStones$Border", name := "kind", desc := "(I)LBorderStones$Kind;" } : Jvm.MethodName)) ∈ lw_all := lw_g (lw_at lw_m3 170 rfl) rfl
theorem q792 : (Jvm.Cond.selects "BorderStones$Border" ({ cls := "BorderStones$Border", name := "kind", desc := "(I)LBorderStones$Kind;" } : Jvm.MethodName) ({ cls := "BorderStones$Border", name := "kind", desc := "(I)LBorderStones$Kind;" } : Jvm.MethodName)) ∈ lw_all := lw_g (lw_at lw_m3 171 rfl) rfl
theorem q793 : (Jvm.Cond.code ({ cls := "BorderStones$Border", name := "kind", desc := "(I)LBorderStones$Kind;" } : Jvm.MethodName) prog_4_method_3_code (2 : Nat) (Option.some (Jvm.ClassFile.FieldType.object "BorderStones$Kind"))) ∈ lw_all := lw_g (lw_at lw_m3 172 rfl) rfl
theorem q794 : (Jvm.Cond.interfaceEntry "BorderStones$Border" (53 : Nat)) ∈ lw_tbl := lw_at lw_m3 173 rfl
theorem q795 : (Jvm.Cond.methodLink "BorderStones$Border" (53 : Nat) ({ cls := "java/util/List", name := "get", desc := "(I)Ljava/lang/Object;" } : Jvm.MethodName)) ∈ lw_all := lw_g (lw_at lw_m3 174 rfl) rfl
theorem q813 : (Jvm.Cond.classLink "BorderStones$Border" (59 : Nat) "BorderStones$Kind") ∈ lw_all := lw_g (lw_at lw_m3 192 rfl) rfl
theorem q888 : (Jvm.Cond.selects "BorderStones$Border" ({ cls := "java/lang/Object", name := "getClass", desc := "()Ljava/lang/Class;" } : Jvm.MethodName) ({ cls := "java/lang/Object", name := "getClass", desc := "()Ljava/lang/Class;" } : Jvm.MethodName)) ∈ lw_all := lw_g (lw_at lw_m4 27 rfl) rfl
theorem q1178 : (Jvm.Cond.fieldLinkNest "BorderStones$Border" (116 : Nat) "BorderStones$Rule" "sum" "LBorderStones$Value;" "BorderStones") ∈ lw_tbl := lw_at lw_m5 77 rfl
theorem q1180 : (Jvm.Cond.fieldLinkNest "BorderStones$Border" (104 : Nat) "BorderStones$Rule" "when" "LBorderStones$Test;" "BorderStones") ∈ lw_tbl := lw_at lw_m5 79 rfl
theorem q1187 : (Jvm.Cond.instanceMethod ({ cls := "BorderStones$Border", name := "settles", desc := "(LBorderStones$Moment;)V" } : Jvm.MethodName)) ∈ lw_all := lw_g (lw_at lw_m5 86 rfl) rfl
theorem q1188 : (Jvm.Cond.selects "BorderStones$Border" ({ cls := "BorderStones$Border", name := "settles", desc := "(LBorderStones$Moment;)V" } : Jvm.MethodName) ({ cls := "BorderStones$Border", name := "settles", desc := "(LBorderStones$Moment;)V" } : Jvm.MethodName)) ∈ lw_all := lw_g (lw_at lw_m5 87 rfl) rfl
theorem q1189 : (Jvm.Cond.code ({ cls := "BorderStones$Border", name := "settles", desc := "(LBorderStones$Moment;)V" } : Jvm.MethodName) prog_4_method_5_code (7 : Nat) (Option.none : Option Jvm.ClassFile.FieldType)) ∈ lw_all := lw_g (lw_at lw_m5 88 rfl) rfl
theorem q1190 : (Jvm.Cond.methodLink "BorderStones$Border" (71 : Nat) ({ cls := "BorderStones$Border", name := "places", desc := "()I" } : Jvm.MethodName)) ∈ lw_all := lw_g (lw_at lw_m5 89 rfl) rfl
theorem q1191 : (Jvm.Cond.instanceMethod ({ cls := "BorderStones$Border", name := "places", desc := "()I" } : Jvm.MethodName)) ∈ lw_all := lw_g (lw_at lw_m5 90 rfl) rfl
theorem q1192 : (Jvm.Cond.selects "BorderStones$Border" ({ cls := "BorderStones$Border", name := "places", desc := "()I" } : Jvm.MethodName) ({ cls := "BorderStones$Border", name := "places", desc := "()I" } : Jvm.MethodName)) ∈ lw_all := lw_g (lw_at lw_m5 91 rfl) rfl
theorem q1193 : (Jvm.Cond.code ({ cls := "BorderStones$Border", name := "places", desc := "()I" } : Jvm.MethodName) prog_4_method_2_code (1 : Nat) (Option.some Jvm.ClassFile.FieldType.int)) ∈ lw_all := lw_g (lw_at lw_m5 92 rfl) rfl
theorem q1194 : (Jvm.Cond.methodLink "BorderStones$Border" (75 : Nat) ({ cls := "java/lang/Math", name := "min", desc := "(II)I" } : Jvm.MethodName)) ∈ lw_all := lw_g (lw_at lw_m5 93 rfl) rfl
theorem q1195 : (Jvm.Cond.interfaceEntry "BorderStones$Border" (87 : Nat)) ∈ lw_tbl := lw_at lw_m5 94 rfl
theorem q1196 : (Jvm.Cond.methodLink "BorderStones$Border" (87 : Nat) ({ cls := "java/util/List", name := "isEmpty", desc := "()Z" } : Jvm.MethodName)) ∈ lw_all := lw_g (lw_at lw_m5 95 rfl) rfl
theorem q1204 : (Jvm.Cond.methodLink "BorderStones$Border" (91 : Nat) ({ cls := "BorderStones$Border", name := "worth", desc := "(LBorderStones$Moment;)I" } : Jvm.MethodName)) ∈ lw_all := lw_g (lw_at lw_m5 103 rfl) rfl
theorem q1205 : (Jvm.Cond.privateMethod ({ cls := "BorderStones$Border", name := "worth", desc := "(LBorderStones$Moment;)I" } : Jvm.MethodName)) ∈ lw_tbl := lw_at lw_m5 104 rfl
theorem q1206 : (Jvm.Cond.instanceMethod ({ cls := "BorderStones$Border", name := "worth", desc := "(LBorderStones$Moment;)I" } : Jvm.MethodName)) ∈ lw_all := lw_g (lw_at lw_m5 105 rfl) rfl
theorem q1207 : (Jvm.Cond.code ({ cls := "BorderStones$Border", name := "worth", desc := "(LBorderStones$Moment;)I" } : Jvm.MethodName) prog_4_method_6_code (4 : Nat) (Option.some Jvm.ClassFile.FieldType.int)) ∈ lw_all := lw_g (lw_at lw_m5 106 rfl) rfl
theorem q1208 : (Jvm.Cond.interfaceEntry "BorderStones$Border" (99 : Nat)) ∈ lw_tbl := lw_at lw_m5 107 rfl
theorem q1209 : (Jvm.Cond.methodLink "BorderStones$Border" (99 : Nat) ({ cls := "java/util/List", name := "size", desc := "()I" } : Jvm.MethodName)) ∈ lw_all := lw_g (lw_at lw_m5 108 rfl) rfl
theorem q1210 : (Jvm.Cond.classLink "BorderStones$Border" (102 : Nat) "BorderStones$Rule") ∈ lw_all := lw_g (lw_at lw_m5 109 rfl) rfl
theorem q1211 : (Jvm.Cond.methodLink "BorderStones$Border" (108 : Nat) ({ cls := "BorderStones$Test", name := "holds", desc := "(LBorderStones$Moment;)Z" } : Jvm.MethodName)) ∈ lw_all := lw_g (lw_at lw_m5 110 rfl) rfl
theorem q1282 : (Jvm.Cond.constantLong "BorderStones$Border" (114 : Nat) (99 : Int64)) ∈ lw_all := lw_g (lw_at lw_m5 181 rfl) rfl
theorem q1283 : (Jvm.Cond.methodLink "BorderStones$Border" (120 : Nat) ({ cls := "BorderStones$Value", name := "at", desc := "(LBorderStones$Moment;)J" } : Jvm.MethodName)) ∈ lw_all := lw_g (lw_at lw_m5 182 rfl) rfl
theorem q1284 : (Jvm.Cond.methodLink "BorderStones$Border" (126 : Nat) ({ cls := "java/lang/Math", name := "min", desc := "(JJ)J" } : Jvm.MethodName)) ∈ lw_all := lw_g (lw_at lw_m5 183 rfl) rfl
theorem q1285 : (Jvm.Cond.methodLink "BorderStones$Border" (129 : Nat) ({ cls := "java/lang/Math", name := "max", desc := "(JJ)J" } : Jvm.MethodName)) ∈ lw_all := lw_g (lw_at lw_m5 184 rfl) rfl
theorem q1286 : (Jvm.Cond.methodLink "BorderStones$Border" (95 : Nat) ({ cls := "BorderStones$Border", name := "lays", desc := "(II)V" } : Jvm.MethodName)) ∈ lw_all := lw_g (lw_at lw_m5 185 rfl) rfl
theorem q1287 : (Jvm.Cond.privateMethod ({ cls := "BorderStones$Border", name := "lays", desc := "(II)V" } : Jvm.MethodName)) ∈ lw_tbl := lw_at lw_m5 186 rfl
theorem q1288 : (Jvm.Cond.instanceMethod ({ cls := "BorderStones$Border", name := "lays", desc := "(II)V" } : Jvm.MethodName)) ∈ lw_all := lw_g (lw_at lw_m5 187 rfl) rfl
theorem q1289 : (Jvm.Cond.code ({ cls := "BorderStones$Border", name := "lays", desc := "(II)V" } : Jvm.MethodName) prog_4_method_4_code (7 : Nat) (Option.none : Option Jvm.ClassFile.FieldType)) ∈ lw_all := lw_g (lw_at lw_m5 188 rfl) rfl
theorem q1290 : (Jvm.Cond.methodLink "BorderStones$Border" (61 : Nat) ({ cls := "java/lang/Math", name := "abs", desc := "(I)I" } : Jvm.MethodName)) ∈ lw_all := lw_g (lw_at lw_m5 189 rfl) rfl
theorem q1293 : (Jvm.Cond.methodLink "BorderStones$Border" (67 : Nat) ({ cls := "java/lang/Math", name := "max", desc := "(II)I" } : Jvm.MethodName)) ∈ lw_all := lw_g (lw_at lw_m5 192 rfl) rfl
theorem q1410 : (Jvm.Cond.instanceMethod ({ cls := "BorderStones$Border", name := "grown", desc := "(J)J" } : Jvm.MethodName)) ∈ lw_all := lw_g (lw_at lw_m6 69 rfl) rfl
theorem q1411 : (Jvm.Cond.selects "BorderStones$Border" ({ cls := "BorderStones$Border", name := "grown", desc := "(J)J" } : Jvm.MethodName) ({ cls := "BorderStones$Border", name := "grown", desc := "(J)J" } : Jvm.MethodName)) ∈ lw_all := lw_g (lw_at lw_m6 70 rfl) rfl
theorem q1412 : (Jvm.Cond.code ({ cls := "BorderStones$Border", name := "grown", desc := "(J)J" } : Jvm.MethodName) prog_4_method_7_code (5 : Nat) (Option.some Jvm.ClassFile.FieldType.long)) ∈ lw_all := lw_g (lw_at lw_m6 71 rfl) rfl
theorem q1413 : (Jvm.Cond.methodLink "BorderStones$Border" (131 : Nat) ({ cls := "BorderStones$Border", name := "column", desc := "(I)J" } : Jvm.MethodName)) ∈ lw_all := lw_g (lw_at lw_m6 72 rfl) rfl
theorem q1414 : (Jvm.Cond.privateMethod ({ cls := "BorderStones$Border", name := "column", desc := "(I)J" } : Jvm.MethodName)) ∈ lw_tbl := lw_at lw_m6 73 rfl
theorem q1415 : (Jvm.Cond.instanceMethod ({ cls := "BorderStones$Border", name := "column", desc := "(I)J" } : Jvm.MethodName)) ∈ lw_all := lw_g (lw_at lw_m6 74 rfl) rfl
theorem q1416 : (Jvm.Cond.code ({ cls := "BorderStones$Border", name := "column", desc := "(I)J" } : Jvm.MethodName) prog_4_method_8_code (5 : Nat) (Option.some Jvm.ClassFile.FieldType.long)) ∈ lw_all := lw_g (lw_at lw_m6 75 rfl) rfl
theorem q1417 : (Jvm.Cond.constantLong "BorderStones$Border" (135 : Nat) (-1 : Int64)) ∈ lw_all := lw_g (lw_at lw_m6 76 rfl) rfl
theorem q2366 : (Jvm.Cond.castable "BorderStones$Border" "java/lang/Object") ∈ lw_tbl := lw_at lw_m10 65 rfl
theorem in_X1 : ∀ w ∈ wsX10, w ∈ lw_all := lw_in wsX10 [260, 262, 264, 266, 268, 270, 272, 274, 276, 278, 280, 282, 284] (by decide +kernel) (by decide +kernel)

def RX2 : String := "BorderStones$Reader"
def TX2 : u_T := fun k => match k with
  | 0 => ("BorderStones$Reader", "fault", "LBorderStones$Fault;", true)
  | 1 => ("BorderStones$Reader", "size", "I", false)
  | 2 => ("BorderStones$Reader", "at", "I", false)
  | 3 => ("BorderStones$Reader", "from", "I", false)
  | 4 => ("BorderStones$Reader", "open", "I", false)
  | 5 => ("BorderStones$Reader", "to", "LBorderStones$Border;", false)
  | _ => ("BorderStones$Reader", "this$0", "LBorderStones;", true)
def tyX2 : Nat → FieldType := fun k => match k with
  | 0 => .object "BorderStones$Fault"
  | 1 => .int
  | 2 => .int
  | 3 => .int
  | 4 => .int
  | 5 => .object "BorderStones$Border"
  | _ => .object "BorderStones"
abbrev wsX20 : List Cond := u_ws RX2 TX2 7
theorem nmX2 : ∀ a, a < 7 → ∀ b, b < 7 → a ≠ b → (TX2 a).2.1 ≠ (TX2 b).2.1 := by decide +kernel
theorem tyX2_ok : ∀ k, k < 7 → parseFieldDescriptor (TX2 k).2.2.1 = some (tyX2 k) := by decide +kernel
abbrev cX2_init : ByteArray := prog_13_method_1_code
def yX2_init : MethodName := ⟨RX2, "<init>", "(LBorderStones;)V"⟩
abbrev cX2_all : ByteArray := prog_13_method_15_code
def yX2_all : MethodName := ⟨RX2, "all", "(I)LBorderStones$Border;"⟩
abbrev cX2_word : ByteArray := prog_13_method_8_code
def yX2_word : MethodName := ⟨RX2, "word", "(Ljava/lang/String;)V"⟩
abbrev cX2_word_2 : ByteArray := prog_13_method_7_code
def yX2_word_2 : MethodName := ⟨RX2, "word", "()Ljava/lang/String;"⟩
abbrev cX2_here : ByteArray := prog_13_method_4_code
def yX2_here : MethodName := ⟨RX2, "here", "()I"⟩
abbrev cX2_byteAt : ByteArray := prog_13_method_3_code
def yX2_byteAt : MethodName := ⟨RX2, "byteAt", "(I)I"⟩
abbrev cX2_wrong : ByteArray := prog_13_method_2_code
def yX2_wrong : MethodName := ⟨RX2, "wrong", "(II)LBorderStones$Fault;"⟩
abbrev cX2_parted : ByteArray := prog_13_method_6_code
def yX2_parted : MethodName := ⟨RX2, "parted", "()V"⟩
abbrev cX2_number : ByteArray := prog_13_method_11_code
def yX2_number : MethodName := ⟨RX2, "number", "(II)I"⟩
abbrev cX2_must : ByteArray := prog_13_method_5_code
def yX2_must : MethodName := ⟨RX2, "must", "(I)V"⟩
abbrev cX2_most : ByteArray := prog_13_method_14_code
def yX2_most : MethodName := ⟨RX2, "most", "(ZI)V"⟩
abbrev cX2_told : ByteArray := prog_13_method_16_code
def yX2_told : MethodName := ⟨RX2, "told", "(Ljava/lang/String;I)V"⟩
abbrev cX2_kind : ByteArray := prog_13_method_17_code
def yX2_kind : MethodName := ⟨RX2, "kind", "()V"⟩
abbrev cX2_name : ByteArray := prog_13_method_10_code
def yX2_name : MethodName := ⟨RX2, "name", "()Ljava/lang/String;"⟩
abbrev cX2_kindOf : ByteArray := prog_13_method_13_code
def yX2_kindOf : MethodName := ⟨RX2, "kindOf", "(Ljava/lang/String;)I"⟩
abbrev cX2_number_2 : ByteArray := prog_13_method_12_code
def yX2_number_2 : MethodName := ⟨RX2, "number", "(Ljava/lang/String;II)I"⟩
abbrev cX2_stone : ByteArray := prog_13_method_20_code
def yX2_stone : MethodName := ⟨RX2, "stone", "()V"⟩
abbrev cX2_side : ByteArray := prog_13_method_18_code
def yX2_side : MethodName := ⟨RX2, "side", "()I"⟩
abbrev cX2_place : ByteArray := prog_13_method_19_code
def yX2_place : MethodName := ⟨RX2, "place", "()I"⟩
abbrev cX2_sum : ByteArray := prog_13_method_22_code
def yX2_sum : MethodName := ⟨RX2, "sum", "()LBorderStones$Value;"⟩
abbrev cX2_product : ByteArray := prog_13_method_23_code
def yX2_product : MethodName := ⟨RX2, "product", "()LBorderStones$Value;"⟩
abbrev cX2_part : ByteArray := prog_13_method_26_code
def yX2_part : MethodName := ⟨RX2, "part", "()LBorderStones$Value;"⟩
abbrev cX2_within : ByteArray := prog_13_method_25_code
def yX2_within : MethodName := ⟨RX2, "within", "(I)LBorderStones$Value;"⟩
abbrev cX2_opens : ByteArray := prog_13_method_24_code
def yX2_opens : MethodName := ⟨RX2, "opens", "(I)V"⟩
abbrev cX2_takes : ByteArray := prog_13_method_21_code
def yX2_takes : MethodName := ⟨RX2, "takes", "(I)Z"⟩
abbrev cX2_test : ByteArray := prog_13_method_27_code
def yX2_test : MethodName := ⟨RX2, "test", "()LBorderStones$Test;"⟩
abbrev cX2_both : ByteArray := prog_13_method_28_code
def yX2_both : MethodName := ⟨RX2, "both", "()LBorderStones$Test;"⟩
abbrev cX2_fact : ByteArray := prog_13_method_29_code
def yX2_fact : MethodName := ⟨RX2, "fact", "()LBorderStones$Test;"⟩
abbrev cX2_passes : ByteArray := prog_13_method_9_code
def yX2_passes : MethodName := ⟨RX2, "passes", "(Ljava/lang/String;)Z"⟩
theorem q147 : (Jvm.Cond.initialized "BorderStones$Reader") ∈ lw_all := lw_g (lw_at lw_m1 6 rfl) rfl
theorem q228 : (Jvm.Cond.fieldLinkNest "BorderStones$Reader" (129 : Nat) "BorderStones$Border" "wide" "I" "BorderStones") ∈ lw_tbl := lw_at lw_m1 87 rfl
theorem q231 : (Jvm.Cond.fieldLinkNest "BorderStones$Reader" (137 : Nat) "BorderStones$Border" "high" "I" "BorderStones") ∈ lw_tbl := lw_at lw_m1 90 rfl
theorem q234 : (Jvm.Cond.fieldLinkNest "BorderStones$Reader" (144 : Nat) "BorderStones$Border" "statements" "I" "BorderStones") ∈ lw_tbl := lw_at lw_m1 93 rfl
theorem q235 : (Jvm.Cond.fieldLinkNest "BorderStones$Reader" (167 : Nat) "BorderStones$Border" "stones" "I" "BorderStones") ∈ lw_tbl := lw_at lw_m1 94 rfl
theorem q237 : (Jvm.Cond.fieldLinkNest "BorderStones$Reader" (104 : Nat) "BorderStones$Border" "kinds" "Ljava/util/List;" "BorderStones") ∈ lw_tbl := lw_at lw_m1 96 rfl
theorem q240 : (Jvm.Cond.fieldLinkNest "BorderStones$Reader" (181 : Nat) "BorderStones$Border" "rules" "Ljava/util/List;" "BorderStones") ∈ lw_tbl := lw_at lw_m1 99 rfl
theorem q244 : (Jvm.Cond.fieldLinkNest "BorderStones$Reader" (228 : Nat) "BorderStones$Border" "sideAt" "[I" "BorderStones") ∈ lw_tbl := lw_at lw_m1 103 rfl
theorem q247 : (Jvm.Cond.fieldLinkNest "BorderStones$Reader" (231 : Nat) "BorderStones$Border" "kindAt" "[I" "BorderStones") ∈ lw_tbl := lw_at lw_m1 106 rfl
theorem q250 : (Jvm.Cond.fieldLinkNest "BorderStones$Reader" (175 : Nat) "BorderStones$Border" "landAt" "[I" "BorderStones") ∈ lw_tbl := lw_at lw_m1 109 rfl
theorem q290 : (Jvm.Cond.instantiable "BorderStones$Reader" (7 : Nat)) ∈ lw_all := lw_g (lw_at lw_m1 149 rfl) rfl
theorem q292 : (Jvm.Cond.instanceMethod ({ cls := "BorderStones$Reader", name := "<init>", desc := "(LBorderStones;)V" } : Jvm.MethodName)) ∈ lw_all := lw_g (lw_at lw_m1 151 rfl) rfl
theorem q293 : (Jvm.Cond.code ({ cls := "BorderStones$Reader", name := "<init>", desc := "(LBorderStones;)V" } : Jvm.MethodName) prog_13_method_1_code (2 : Nat) (Option.none : Option Jvm.ClassFile.FieldType)) ∈ lw_all := lw_g (lw_at lw_m1 152 rfl) rfl
theorem q294 : (Jvm.Cond.methodLink "BorderStones$Reader" (9 : Nat) ({ cls := "java/lang/Object", name := "<init>", desc := "()V" } : Jvm.MethodName)) ∈ lw_all := lw_g (lw_at lw_m1 153 rfl) rfl
theorem q295 : (Jvm.Cond.classLink "BorderStones$Reader" (15 : Nat) "BorderStones$Fault") ∈ lw_all := lw_g (lw_at lw_m1 154 rfl) rfl
theorem q334 : (Jvm.Cond.methodLink "BorderStones$Reader" (17 : Nat) ({ cls := "BorderStones$Fault", name := "<init>", desc := "()V" } : Jvm.MethodName)) ∈ lw_all := lw_g (lw_at lw_m1 193 rfl) rfl
theorem q346 : (Jvm.Cond.fieldLinkNest "BorderStones$Reader" (22 : Nat) "BorderStones$Fault" "kind" "I" "BorderStones") ∈ lw_tbl := lw_at lw_m1 205 rfl
theorem q348 : (Jvm.Cond.fieldLinkNest "BorderStones$Reader" (26 : Nat) "BorderStones$Fault" "place" "I" "BorderStones") ∈ lw_tbl := lw_at lw_m1 207 rfl
theorem q368 : (Jvm.Cond.fieldLink "BorderStones$Reader" (18 : Nat) "BorderStones$Reader" "fault" "LBorderStones$Fault;") ∈ lw_all := lw_g (lw_at lw_m1 227 rfl) rfl
theorem q369 : (Jvm.Cond.fieldLink "BorderStones$Reader" (29 : Nat) "BorderStones$Reader" "size" "I") ∈ lw_all := lw_g (lw_at lw_m1 228 rfl) rfl
theorem q370 : (Jvm.Cond.fieldLink "BorderStones$Reader" (36 : Nat) "BorderStones$Reader" "at" "I") ∈ lw_all := lw_g (lw_at lw_m1 229 rfl) rfl
theorem q371 : (Jvm.Cond.fieldLink "BorderStones$Reader" (61 : Nat) "BorderStones$Reader" "from" "I") ∈ lw_all := lw_g (lw_at lw_m1 230 rfl) rfl
theorem q372 : (Jvm.Cond.fieldLink "BorderStones$Reader" (124 : Nat) "BorderStones$Reader" "open" "I") ∈ lw_all := lw_g (lw_at lw_m1 231 rfl) rfl
theorem q373 : (Jvm.Cond.fieldLink "BorderStones$Reader" (100 : Nat) "BorderStones$Reader" "to" "LBorderStones$Border;") ∈ lw_all := lw_g (lw_at lw_m1 232 rfl) rfl
theorem q374 : (Jvm.Cond.fieldLink "BorderStones$Reader" (3 : Nat) "BorderStones$Reader" "this$0" "LBorderStones;") ∈ lw_all := lw_g (lw_at lw_m1 233 rfl) rfl
theorem q375 : (Jvm.Cond.laysFinal "BorderStones$Reader" "BorderStones$Reader" "fault" "LBorderStones$Fault;") ∈ lw_all := lw_g (lw_at lw_m1 234 rfl) rfl
theorem q377 : (Jvm.Cond.lays "BorderStones$Reader" "BorderStones$Reader" "size" "I") ∈ lw_all := lw_g (lw_at lw_m1 236 rfl) rfl
theorem q379 : (Jvm.Cond.lays "BorderStones$Reader" "BorderStones$Reader" "at" "I") ∈ lw_all := lw_g (lw_at lw_m1 238 rfl) rfl
theorem q381 : (Jvm.Cond.lays "BorderStones$Reader" "BorderStones$Reader" "from" "I") ∈ lw_all := lw_g (lw_at lw_m2 0 rfl) rfl
theorem q383 : (Jvm.Cond.lays "BorderStones$Reader" "BorderStones$Reader" "open" "I") ∈ lw_all := lw_g (lw_at lw_m2 2 rfl) rfl
theorem q385 : (Jvm.Cond.lays "BorderStones$Reader" "BorderStones$Reader" "to" "LBorderStones$Border;") ∈ lw_all := lw_g (lw_at lw_m2 4 rfl) rfl
theorem q387 : (Jvm.Cond.laysFinal "BorderStones$Reader" "BorderStones$Reader" "this$0" "LBorderStones;") ∈ lw_all := lw_g (lw_at lw_m2 6 rfl) rfl
theorem q389 : (Jvm.Cond.superclass "BorderStones$Reader" "java/lang/Object") ∈ lw_all := lw_g (lw_at lw_m2 8 rfl) rfl
theorem q462 : (Jvm.Cond.fieldLinkNest "BorderStones$Reader" (32 : Nat) "BorderStones" "tape" "[B" "BorderStones") ∈ lw_tbl := lw_at lw_m2 81 rfl
theorem q554 : (Jvm.Cond.instanceMethod ({ cls := "BorderStones$Reader", name := "all", desc := "(I)LBorderStones$Border;" } : Jvm.MethodName)) ∈ lw_all := lw_g (lw_at lw_m2 173 rfl) rfl
theorem q555 : (Jvm.Cond.selects "BorderStones$Reader" ({ cls := "BorderStones$Reader", name := "all", desc := "(I)LBorderStones$Border;" } : Jvm.MethodName) ({ cls := "BorderStones$Reader", name := "all", desc := "(I)LBorderStones$Border;" } : Jvm.MethodName)) ∈ lw_all := lw_g (lw_at lw_m2 174 rfl) rfl
theorem q556 : (Jvm.Cond.code ({ cls := "BorderStones$Reader", name := "all", desc := "(I)LBorderStones$Border;" } : Jvm.MethodName) prog_13_method_15_code (3 : Nat) (Option.some (Jvm.ClassFile.FieldType.object "BorderStones$Border"))) ∈ lw_all := lw_g (lw_at lw_m2 175 rfl) rfl
theorem q557 : (Jvm.Cond.classLink "BorderStones$Reader" (105 : Nat) "BorderStones$Border") ∈ lw_all := lw_g (lw_at lw_m2 176 rfl) rfl
theorem q558 : (Jvm.Cond.methodLink "BorderStones$Reader" (123 : Nat) ({ cls := "BorderStones$Border", name := "<init>", desc := "()V" } : Jvm.MethodName)) ∈ lw_all := lw_g (lw_at lw_m2 177 rfl) rfl
theorem q559 : (Jvm.Cond.stringRef "BorderStones$Reader" (127 : Nat) "field") ∈ lw_tbl := lw_at lw_m2 178 rfl
theorem q560 : (Jvm.Cond.methodLink "BorderStones$Reader" (93 : Nat) ({ cls := "BorderStones$Reader", name := "word", desc := "(Ljava/lang/String;)V" } : Jvm.MethodName)) ∈ lw_all := lw_g (lw_at lw_m2 179 rfl) rfl
theorem q561 : (Jvm.Cond.privateMethod ({ cls := "BorderStones$Reader", name := "word", desc := "(Ljava/lang/String;)V" } : Jvm.MethodName)) ∈ lw_tbl := lw_at lw_m2 180 rfl
theorem q562 : (Jvm.Cond.instanceMethod ({ cls := "BorderStones$Reader", name := "word", desc := "(Ljava/lang/String;)V" } : Jvm.MethodName)) ∈ lw_all := lw_g (lw_at lw_m2 181 rfl) rfl
theorem q563 : (Jvm.Cond.code ({ cls := "BorderStones$Reader", name := "word", desc := "(Ljava/lang/String;)V" } : Jvm.MethodName) prog_13_method_8_code (2 : Nat) (Option.none : Option Jvm.ClassFile.FieldType)) ∈ lw_all := lw_g (lw_at lw_m2 182 rfl) rfl
theorem q564 : (Jvm.Cond.methodLink "BorderStones$Reader" (70 : Nat) ({ cls := "BorderStones$Reader", name := "word", desc := "()Ljava/lang/String;" } : Jvm.MethodName)) ∈ lw_all := lw_g (lw_at lw_m2 183 rfl) rfl
theorem q565 : (Jvm.Cond.privateMethod ({ cls := "BorderStones$Reader", name := "word", desc := "()Ljava/lang/String;" } : Jvm.MethodName)) ∈ lw_tbl := lw_at lw_m2 184 rfl
theorem q566 : (Jvm.Cond.instanceMethod ({ cls := "BorderStones$Reader", name := "word", desc := "()Ljava/lang/String;" } : Jvm.MethodName)) ∈ lw_all := lw_g (lw_at lw_m2 185 rfl) rfl
theorem q567 : (Jvm.Cond.code ({ cls := "BorderStones$Reader", name := "word", desc := "()Ljava/lang/String;" } : Jvm.MethodName) prog_13_method_7_code (3 : Nat) (Option.some (Jvm.ClassFile.FieldType.object "java/lang/String"))) ∈ lw_all := lw_g (lw_at lw_m2 186 rfl) rfl
theorem q568 : (Jvm.Cond.methodLink "BorderStones$Reader" (43 : Nat) ({ cls := "BorderStones$Reader", name := "here", desc := "()I" } : Jvm.MethodName)) ∈ lw_all := lw_g (lw_at lw_m2 187 rfl) rfl
theorem q569 : (Jvm.Cond.privateMethod ({ cls := "BorderStones$Reader", name := "here", desc := "()I" } : Jvm.MethodName)) ∈ lw_tbl := lw_at lw_m2 188 rfl
theorem q570 : (Jvm.Cond.instanceMethod ({ cls := "BorderStones$Reader", name := "here", desc := "()I" } : Jvm.MethodName)) ∈ lw_all := lw_g (lw_at lw_m2 189 rfl) rfl
theorem q571 : (Jvm.Cond.code ({ cls := "BorderStones$Reader", name := "here", desc := "()I" } : Jvm.MethodName) prog_13_method_4_code (1 : Nat) (Option.some Jvm.ClassFile.FieldType.int)) ∈ lw_all := lw_g (lw_at lw_m2 190 rfl) rfl
theorem q572 : (Jvm.Cond.methodLink "BorderStones$Reader" (39 : Nat) ({ cls := "BorderStones$Reader", name := "byteAt", desc := "(I)I" } : Jvm.MethodName)) ∈ lw_all := lw_g (lw_at lw_m2 191 rfl) rfl
theorem q573 : (Jvm.Cond.privateMethod ({ cls := "BorderStones$Reader", name := "byteAt", desc := "(I)I" } : Jvm.MethodName)) ∈ lw_tbl := lw_at lw_m2 192 rfl
theorem q574 : (Jvm.Cond.instanceMethod ({ cls := "BorderStones$Reader", name := "byteAt", desc := "(I)I" } : Jvm.MethodName)) ∈ lw_all := lw_g (lw_at lw_m2 193 rfl) rfl
theorem q575 : (Jvm.Cond.code ({ cls := "BorderStones$Reader", name := "byteAt", desc := "(I)I" } : Jvm.MethodName) prog_13_method_3_code (2 : Nat) (Option.some Jvm.ClassFile.FieldType.int)) ∈ lw_all := lw_g (lw_at lw_m2 194 rfl) rfl
theorem q576 : (Jvm.Cond.methodLinkNest "BorderStones$Reader" (51 : Nat) ({ cls := "BorderStones", name := "isLetter", desc := "(I)Z" } : Jvm.MethodName) "BorderStones") ∈ lw_tbl := lw_at lw_m2 195 rfl
theorem q579 : (Jvm.Cond.methodLink "BorderStones$Reader" (47 : Nat) ({ cls := "BorderStones$Reader", name := "wrong", desc := "(II)LBorderStones$Fault;" } : Jvm.MethodName)) ∈ lw_all := lw_g (lw_at lw_m2 198 rfl) rfl
theorem q580 : (Jvm.Cond.privateMethod ({ cls := "BorderStones$Reader", name := "wrong", desc := "(II)LBorderStones$Fault;" } : Jvm.MethodName)) ∈ lw_tbl := lw_at lw_m2 199 rfl
theorem q581 : (Jvm.Cond.instanceMethod ({ cls := "BorderStones$Reader", name := "wrong", desc := "(II)LBorderStones$Fault;" } : Jvm.MethodName)) ∈ lw_all := lw_g (lw_at lw_m2 200 rfl) rfl
theorem q582 : (Jvm.Cond.code ({ cls := "BorderStones$Reader", name := "wrong", desc := "(II)LBorderStones$Fault;" } : Jvm.MethodName) prog_13_method_2_code (3 : Nat) (Option.some (Jvm.ClassFile.FieldType.object "BorderStones$Fault"))) ∈ lw_all := lw_g (lw_at lw_m2 201 rfl) rfl
theorem q583 : (Jvm.Cond.methodLink "BorderStones$Reader" (58 : Nat) ({ cls := "BorderStones$Reader", name := "parted", desc := "()V" } : Jvm.MethodName)) ∈ lw_all := lw_g (lw_at lw_m2 202 rfl) rfl
theorem q584 : (Jvm.Cond.privateMethod ({ cls := "BorderStones$Reader", name := "parted", desc := "()V" } : Jvm.MethodName)) ∈ lw_tbl := lw_at lw_m2 203 rfl
theorem q585 : (Jvm.Cond.instanceMethod ({ cls := "BorderStones$Reader", name := "parted", desc := "()V" } : Jvm.MethodName)) ∈ lw_all := lw_g (lw_at lw_m2 204 rfl) rfl
theorem q586 : (Jvm.Cond.code ({ cls := "BorderStones$Reader", name := "parted", desc := "()V" } : Jvm.MethodName) prog_13_method_6_code (1 : Nat) (Option.none : Option Jvm.ClassFile.FieldType)) ∈ lw_all := lw_g (lw_at lw_m2 205 rfl) rfl
theorem q587 : (Jvm.Cond.methodLinkNest "BorderStones$Reader" (55 : Nat) ({ cls := "BorderStones", name := "isDigit", desc := "(I)Z" } : Jvm.MethodName) "BorderStones") ∈ lw_tbl := lw_at lw_m2 206 rfl
theorem q590 : (Jvm.Cond.methodLink "BorderStones$Reader" (64 : Nat) ({ cls := "java/lang/String", name := "valueOf", desc := "([C)Ljava/lang/String;" } : Jvm.MethodName)) ∈ lw_all := lw_g (lw_at lw_m2 209 rfl) rfl
theorem q668 : (Jvm.Cond.methodLink "BorderStones$Reader" (74 : Nat) ({ cls := "java/lang/String", name := "equals", desc := "(Ljava/lang/Object;)Z" } : Jvm.MethodName)) ∈ lw_all := lw_g (lw_at lw_m3 47 rfl) rfl
theorem q675 : (Jvm.Cond.methodLink "BorderStones$Reader" (96 : Nat) ({ cls := "BorderStones$Reader", name := "number", desc := "(II)I" } : Jvm.MethodName)) ∈ lw_all := lw_g (lw_at lw_m3 54 rfl) rfl
theorem q676 : (Jvm.Cond.privateMethod ({ cls := "BorderStones$Reader", name := "number", desc := "(II)I" } : Jvm.MethodName)) ∈ lw_tbl := lw_at lw_m3 55 rfl
theorem q677 : (Jvm.Cond.instanceMethod ({ cls := "BorderStones$Reader", name := "number", desc := "(II)I" } : Jvm.MethodName)) ∈ lw_all := lw_g (lw_at lw_m3 56 rfl) rfl
theorem q678 : (Jvm.Cond.code ({ cls := "BorderStones$Reader", name := "number", desc := "(II)I" } : Jvm.MethodName) prog_13_method_11_code (4 : Nat) (Option.some Jvm.ClassFile.FieldType.int)) ∈ lw_all := lw_g (lw_at lw_m3 57 rfl) rfl
theorem q679 : (Jvm.Cond.methodLinkNest "BorderStones$Reader" (89 : Nat) ({ cls := "BorderStones", name := "is", desc := "(III)Z" } : Jvm.MethodName) "BorderStones") ∈ lw_tbl := lw_at lw_m3 58 rfl
theorem q682 : (Jvm.Cond.methodLink "BorderStones$Reader" (132 : Nat) ({ cls := "java/lang/Math", name := "min", desc := "(II)I" } : Jvm.MethodName)) ∈ lw_all := lw_g (lw_at lw_m3 61 rfl) rfl
theorem q685 : (Jvm.Cond.methodLink "BorderStones$Reader" (140 : Nat) ({ cls := "BorderStones$Reader", name := "must", desc := "(I)V" } : Jvm.MethodName)) ∈ lw_all := lw_g (lw_at lw_m3 64 rfl) rfl
theorem q686 : (Jvm.Cond.privateMethod ({ cls := "BorderStones$Reader", name := "must", desc := "(I)V" } : Jvm.MethodName)) ∈ lw_tbl := lw_at lw_m3 65 rfl
theorem q687 : (Jvm.Cond.instanceMethod ({ cls := "BorderStones$Reader", name := "must", desc := "(I)V" } : Jvm.MethodName)) ∈ lw_all := lw_g (lw_at lw_m3 66 rfl) rfl
theorem q688 : (Jvm.Cond.code ({ cls := "BorderStones$Reader", name := "must", desc := "(I)V" } : Jvm.MethodName) prog_13_method_5_code (2 : Nat) (Option.none : Option Jvm.ClassFile.FieldType)) ∈ lw_all := lw_g (lw_at lw_m3 67 rfl) rfl
theorem q689 : (Jvm.Cond.methodLink "BorderStones$Reader" (147 : Nat) ({ cls := "BorderStones$Reader", name := "most", desc := "(ZI)V" } : Jvm.MethodName)) ∈ lw_all := lw_g (lw_at lw_m3 68 rfl) rfl
theorem q690 : (Jvm.Cond.privateMethod ({ cls := "BorderStones$Reader", name := "most", desc := "(ZI)V" } : Jvm.MethodName)) ∈ lw_tbl := lw_at lw_m3 69 rfl
theorem q691 : (Jvm.Cond.instanceMethod ({ cls := "BorderStones$Reader", name := "most", desc := "(ZI)V" } : Jvm.MethodName)) ∈ lw_all := lw_g (lw_at lw_m3 70 rfl) rfl
theorem q692 : (Jvm.Cond.code ({ cls := "BorderStones$Reader", name := "most", desc := "(ZI)V" } : Jvm.MethodName) prog_13_method_14_code (3 : Nat) (Option.none : Option Jvm.ClassFile.FieldType)) ∈ lw_all := lw_g (lw_at lw_m3 71 rfl) rfl
theorem q693 : (Jvm.Cond.methodLink "BorderStones$Reader" (151 : Nat) ({ cls := "BorderStones$Reader", name := "told", desc := "(Ljava/lang/String;I)V" } : Jvm.MethodName)) ∈ lw_all := lw_g (lw_at lw_m3 72 rfl) rfl
theorem q694 : (Jvm.Cond.privateMethod ({ cls := "BorderStones$Reader", name := "told", desc := "(Ljava/lang/String;I)V" } : Jvm.MethodName)) ∈ lw_tbl := lw_at lw_m3 73 rfl
theorem q695 : (Jvm.Cond.instanceMethod ({ cls := "BorderStones$Reader", name := "told", desc := "(Ljava/lang/String;I)V" } : Jvm.MethodName)) ∈ lw_all := lw_g (lw_at lw_m3 74 rfl) rfl
theorem q696 : (Jvm.Cond.code ({ cls := "BorderStones$Reader", name := "told", desc := "(Ljava/lang/String;I)V" } : Jvm.MethodName) prog_13_method_16_code (7 : Nat) (Option.none : Option Jvm.ClassFile.FieldType)) ∈ lw_all := lw_g (lw_at lw_m3 75 rfl) rfl
theorem q697 : (Jvm.Cond.methodLink "BorderStones$Reader" (155 : Nat) ({ cls := "java/lang/String", name := "hashCode", desc := "()I" } : Jvm.MethodName)) ∈ lw_all := lw_g (lw_at lw_m3 76 rfl) rfl
theorem q750 : (Jvm.Cond.stringRef "BorderStones$Reader" (158 : Nat) "kind") ∈ lw_tbl := lw_at lw_m3 129 rfl
theorem q751 : (Jvm.Cond.stringRef "BorderStones$Reader" (159 : Nat) "stone") ∈ lw_tbl := lw_at lw_m3 130 rfl
theorem q752 : (Jvm.Cond.stringRef "BorderStones$Reader" (161 : Nat) "land") ∈ lw_tbl := lw_at lw_m3 131 rfl
theorem q753 : (Jvm.Cond.stringRef "BorderStones$Reader" (163 : Nat) "worth") ∈ lw_tbl := lw_at lw_m3 132 rfl
theorem q754 : (Jvm.Cond.interfaceEntry "BorderStones$Reader" (110 : Nat)) ∈ lw_tbl := lw_at lw_m3 133 rfl
theorem q755 : (Jvm.Cond.methodLink "BorderStones$Reader" (110 : Nat) ({ cls := "java/util/List", name := "size", desc := "()I" } : Jvm.MethodName)) ∈ lw_all := lw_g (lw_at lw_m3 134 rfl) rfl
theorem q764 : (Jvm.Cond.methodLink "BorderStones$Reader" (165 : Nat) ({ cls := "BorderStones$Reader", name := "kind", desc := "()V" } : Jvm.MethodName)) ∈ lw_all := lw_g (lw_at lw_m3 143 rfl) rfl
theorem q765 : (Jvm.Cond.privateMethod ({ cls := "BorderStones$Reader", name := "kind", desc := "()V" } : Jvm.MethodName)) ∈ lw_tbl := lw_at lw_m3 144 rfl
theorem q766 : (Jvm.Cond.instanceMethod ({ cls := "BorderStones$Reader", name := "kind", desc := "()V" } : Jvm.MethodName)) ∈ lw_all := lw_g (lw_at lw_m3 145 rfl) rfl
theorem q767 : (Jvm.Cond.code ({ cls := "BorderStones$Reader", name := "kind", desc := "()V" } : Jvm.MethodName) prog_13_method_17_code (4 : Nat) (Option.none : Option Jvm.ClassFile.FieldType)) ∈ lw_all := lw_g (lw_at lw_m3 146 rfl) rfl
theorem q768 : (Jvm.Cond.methodLink "BorderStones$Reader" (202 : Nat) ({ cls := "BorderStones$Reader", name := "name", desc := "()Ljava/lang/String;" } : Jvm.MethodName)) ∈ lw_all := lw_g (lw_at lw_m3 147 rfl) rfl
theorem q769 : (Jvm.Cond.privateMethod ({ cls := "BorderStones$Reader", name := "name", desc := "()Ljava/lang/String;" } : Jvm.MethodName)) ∈ lw_tbl := lw_at lw_m3 148 rfl
theorem q770 : (Jvm.Cond.instanceMethod ({ cls := "BorderStones$Reader", name := "name", desc := "()Ljava/lang/String;" } : Jvm.MethodName)) ∈ lw_all := lw_g (lw_at lw_m3 149 rfl) rfl
theorem q771 : (Jvm.Cond.code ({ cls := "BorderStones$Reader", name := "name", desc := "()Ljava/lang/String;" } : Jvm.MethodName) prog_13_method_10_code (2 : Nat) (Option.some (Jvm.ClassFile.FieldType.object "java/lang/String"))) ∈ lw_all := lw_g (lw_at lw_m3 150 rfl) rfl
theorem q772 : (Jvm.Cond.fieldLinkNest "BorderStones$Reader" (78 : Nat) "BorderStones" "OWN" "[Ljava/lang/String;" "BorderStones") ∈ lw_tbl := lw_at lw_m3 151 rfl
theorem q774 : (Jvm.Cond.methodLinkNest "BorderStones$Reader" (82 : Nat) ({ cls := "BorderStones", name := "find", desc := "(Ljava/lang/String;[Ljava/lang/String;)I" } : Jvm.MethodName) "BorderStones") ∈ lw_tbl := lw_at lw_m3 153 rfl
theorem q778 : (Jvm.Cond.methodLink "BorderStones$Reader" (86 : Nat) ({ cls := "java/lang/String", name := "length", desc := "()I" } : Jvm.MethodName)) ∈ lw_all := lw_g (lw_at lw_m3 157 rfl) rfl
theorem q786 : (Jvm.Cond.methodLink "BorderStones$Reader" (204 : Nat) ({ cls := "BorderStones$Reader", name := "kindOf", desc := "(Ljava/lang/String;)I" } : Jvm.MethodName)) ∈ lw_all := lw_g (lw_at lw_m3 165 rfl) rfl
theorem q787 : (Jvm.Cond.privateMethod ({ cls := "BorderStones$Reader", name := "kindOf", desc := "(Ljava/lang/String;)I" } : Jvm.MethodName)) ∈ lw_tbl := lw_at lw_m3 166 rfl
theorem q788 : (Jvm.Cond.instanceMethod ({ cls := "BorderStones$Reader", name := "kindOf", desc := "(Ljava/lang/String;)I" } : Jvm.MethodName)) ∈ lw_all := lw_g (lw_at lw_m3 167 rfl) rfl
theorem q789 : (Jvm.Cond.code ({ cls := "BorderStones$Reader", name := "kindOf", desc := "(Ljava/lang/String;)I" } : Jvm.MethodName) prog_13_method_13_code (3 : Nat) (Option.some Jvm.ClassFile.FieldType.int)) ∈ lw_all := lw_g (lw_at lw_m3 168 rfl) rfl
theorem q790 : (Jvm.Cond.methodLink "BorderStones$Reader" (114 : Nat) ({ cls := "BorderStones$Border", name := "kind", desc := "(I)LBorderStones$Kind;" } : Jvm.MethodName)) ∈ lw_all := lw_g (lw_at lw_m3 169 rfl) rfl
theorem q814 : (Jvm.Cond.classLink "BorderStones$Reader" (118 : Nat) "BorderStones$Kind") ∈ lw_all := lw_g (lw_at lw_m3 193 rfl) rfl
theorem q816 : (Jvm.Cond.stringRef "BorderStones$Reader" (208 : Nat) "reach") ∈ lw_tbl := lw_at lw_m3 195 rfl
theorem q817 : (Jvm.Cond.methodLink "BorderStones$Reader" (210 : Nat) ({ cls := "BorderStones$Reader", name := "number", desc := "(Ljava/lang/String;II)I" } : Jvm.MethodName)) ∈ lw_all := lw_g (lw_at lw_m3 196 rfl) rfl
theorem q818 : (Jvm.Cond.privateMethod ({ cls := "BorderStones$Reader", name := "number", desc := "(Ljava/lang/String;II)I" } : Jvm.MethodName)) ∈ lw_tbl := lw_at lw_m3 197 rfl
theorem q819 : (Jvm.Cond.instanceMethod ({ cls := "BorderStones$Reader", name := "number", desc := "(Ljava/lang/String;II)I" } : Jvm.MethodName)) ∈ lw_all := lw_g (lw_at lw_m3 198 rfl) rfl
theorem q820 : (Jvm.Cond.code ({ cls := "BorderStones$Reader", name := "number", desc := "(Ljava/lang/String;II)I" } : Jvm.MethodName) prog_13_method_12_code (4 : Nat) (Option.some Jvm.ClassFile.FieldType.int)) ∈ lw_all := lw_g (lw_at lw_m3 199 rfl) rfl
theorem q821 : (Jvm.Cond.methodLink "BorderStones$Reader" (213 : Nat) ({ cls := "BorderStones$Kind", name := "<init>", desc := "(Ljava/lang/String;I)V" } : Jvm.MethodName)) ∈ lw_all := lw_g (lw_at lw_m3 200 rfl) rfl
theorem q826 : (Jvm.Cond.fieldLinkNest "BorderStones$Reader" (117 : Nat) "BorderStones$Kind" "name" "Ljava/lang/String;" "BorderStones") ∈ lw_tbl := lw_at lw_m3 205 rfl
theorem q831 : (Jvm.Cond.fieldLinkNest "BorderStones$Reader" (221 : Nat) "BorderStones$Kind" "marks" "I" "BorderStones") ∈ lw_tbl := lw_at lw_m3 210 rfl
theorem q840 : (Jvm.Cond.fieldLinkNest "BorderStones$Reader" (215 : Nat) "BorderStones" "MARKS" "[Ljava/lang/String;" "BorderStones") ∈ lw_tbl := lw_at lw_m3 219 rfl
theorem q842 : (Jvm.Cond.methodLink "BorderStones$Reader" (218 : Nat) ({ cls := "BorderStones$Kind", name := "has", desc := "(I)Z" } : Jvm.MethodName)) ∈ lw_all := lw_g (lw_at lw_m3 221 rfl) rfl
theorem q846 : (Jvm.Cond.interfaceEntry "BorderStones$Reader" (199 : Nat)) ∈ lw_tbl := lw_at lw_m3 225 rfl
theorem q847 : (Jvm.Cond.methodLink "BorderStones$Reader" (199 : Nat) ({ cls := "java/util/List", name := "add", desc := "(Ljava/lang/Object;)Z" } : Jvm.MethodName)) ∈ lw_all := lw_g (lw_at lw_m3 226 rfl) rfl
theorem q897 : (Jvm.Cond.selects "BorderStones$Reader" ({ cls := "java/lang/Object", name := "getClass", desc := "()Ljava/lang/Class;" } : Jvm.MethodName) ({ cls := "java/lang/Object", name := "getClass", desc := "()Ljava/lang/Class;" } : Jvm.MethodName)) ∈ lw_all := lw_g (lw_at lw_m4 36 rfl) rfl
theorem q917 : (Jvm.Cond.methodLink "BorderStones$Reader" (170 : Nat) ({ cls := "BorderStones$Reader", name := "stone", desc := "()V" } : Jvm.MethodName)) ∈ lw_all := lw_g (lw_at lw_m4 56 rfl) rfl
theorem q918 : (Jvm.Cond.privateMethod ({ cls := "BorderStones$Reader", name := "stone", desc := "()V" } : Jvm.MethodName)) ∈ lw_tbl := lw_at lw_m4 57 rfl
theorem q919 : (Jvm.Cond.instanceMethod ({ cls := "BorderStones$Reader", name := "stone", desc := "()V" } : Jvm.MethodName)) ∈ lw_all := lw_g (lw_at lw_m4 58 rfl) rfl
theorem q920 : (Jvm.Cond.code ({ cls := "BorderStones$Reader", name := "stone", desc := "()V" } : Jvm.MethodName) prog_13_method_20_code (4 : Nat) (Option.none : Option Jvm.ClassFile.FieldType)) ∈ lw_all := lw_g (lw_at lw_m4 59 rfl) rfl
theorem q921 : (Jvm.Cond.methodLink "BorderStones$Reader" (172 : Nat) ({ cls := "BorderStones$Reader", name := "side", desc := "()I" } : Jvm.MethodName)) ∈ lw_all := lw_g (lw_at lw_m4 60 rfl) rfl
theorem q922 : (Jvm.Cond.privateMethod ({ cls := "BorderStones$Reader", name := "side", desc := "()I" } : Jvm.MethodName)) ∈ lw_tbl := lw_at lw_m4 61 rfl
theorem q923 : (Jvm.Cond.instanceMethod ({ cls := "BorderStones$Reader", name := "side", desc := "()I" } : Jvm.MethodName)) ∈ lw_all := lw_g (lw_at lw_m4 62 rfl) rfl
theorem q924 : (Jvm.Cond.code ({ cls := "BorderStones$Reader", name := "side", desc := "()I" } : Jvm.MethodName) prog_13_method_18_code (2 : Nat) (Option.some Jvm.ClassFile.FieldType.int)) ∈ lw_all := lw_g (lw_at lw_m4 63 rfl) rfl
theorem q925 : (Jvm.Cond.fieldLinkNest "BorderStones$Reader" (224 : Nat) "BorderStones" "SIDES" "[Ljava/lang/String;" "BorderStones") ∈ lw_tbl := lw_at lw_m4 64 rfl
theorem q927 : (Jvm.Cond.methodLink "BorderStones$Reader" (179 : Nat) ({ cls := "BorderStones$Reader", name := "place", desc := "()I" } : Jvm.MethodName)) ∈ lw_all := lw_g (lw_at lw_m4 66 rfl) rfl
theorem q928 : (Jvm.Cond.privateMethod ({ cls := "BorderStones$Reader", name := "place", desc := "()I" } : Jvm.MethodName)) ∈ lw_tbl := lw_at lw_m4 67 rfl
theorem q929 : (Jvm.Cond.instanceMethod ({ cls := "BorderStones$Reader", name := "place", desc := "()I" } : Jvm.MethodName)) ∈ lw_all := lw_g (lw_at lw_m4 68 rfl) rfl
theorem q930 : (Jvm.Cond.code ({ cls := "BorderStones$Reader", name := "place", desc := "()I" } : Jvm.MethodName) prog_13_method_19_code (2 : Nat) (Option.some Jvm.ClassFile.FieldType.int)) ∈ lw_all := lw_g (lw_at lw_m4 69 rfl) rfl
theorem q931 : (Jvm.Cond.stringRef "BorderStones$Reader" (227 : Nat) "at") ∈ lw_tbl := lw_at lw_m4 70 rfl
theorem q932 : (Jvm.Cond.methodLink "BorderStones$Reader" (184 : Nat) ({ cls := "BorderStones$Reader", name := "sum", desc := "()LBorderStones$Value;" } : Jvm.MethodName)) ∈ lw_all := lw_g (lw_at lw_m4 71 rfl) rfl
theorem q933 : (Jvm.Cond.privateMethod ({ cls := "BorderStones$Reader", name := "sum", desc := "()LBorderStones$Value;" } : Jvm.MethodName)) ∈ lw_tbl := lw_at lw_m4 72 rfl
theorem q934 : (Jvm.Cond.instanceMethod ({ cls := "BorderStones$Reader", name := "sum", desc := "()LBorderStones$Value;" } : Jvm.MethodName)) ∈ lw_all := lw_g (lw_at lw_m4 73 rfl) rfl
theorem q935 : (Jvm.Cond.code ({ cls := "BorderStones$Reader", name := "sum", desc := "()LBorderStones$Value;" } : Jvm.MethodName) prog_13_method_22_code (3 : Nat) (Option.some (Jvm.ClassFile.FieldType.object "BorderStones$Value"))) ∈ lw_all := lw_g (lw_at lw_m4 74 rfl) rfl
theorem q936 : (Jvm.Cond.classLink "BorderStones$Reader" (234 : Nat) "BorderStones$Chain") ∈ lw_all := lw_g (lw_at lw_m4 75 rfl) rfl
theorem q938 : (Jvm.Cond.methodLinkNest "BorderStones$Reader" (236 : Nat) ({ cls := "BorderStones$Chain", name := "<init>", desc := "()V" } : Jvm.MethodName) "BorderStones") ∈ lw_tbl := lw_at lw_m4 77 rfl
theorem q977 : (Jvm.Cond.methodLink "BorderStones$Reader" (237 : Nat) ({ cls := "BorderStones$Reader", name := "product", desc := "()LBorderStones$Value;" } : Jvm.MethodName)) ∈ lw_all := lw_g (lw_at lw_m4 116 rfl) rfl
theorem q978 : (Jvm.Cond.privateMethod ({ cls := "BorderStones$Reader", name := "product", desc := "()LBorderStones$Value;" } : Jvm.MethodName)) ∈ lw_tbl := lw_at lw_m4 117 rfl
theorem q979 : (Jvm.Cond.instanceMethod ({ cls := "BorderStones$Reader", name := "product", desc := "()LBorderStones$Value;" } : Jvm.MethodName)) ∈ lw_all := lw_g (lw_at lw_m4 118 rfl) rfl
theorem q980 : (Jvm.Cond.code ({ cls := "BorderStones$Reader", name := "product", desc := "()LBorderStones$Value;" } : Jvm.MethodName) prog_13_method_23_code (3 : Nat) (Option.some (Jvm.ClassFile.FieldType.object "BorderStones$Value"))) ∈ lw_all := lw_g (lw_at lw_m4 119 rfl) rfl
theorem q981 : (Jvm.Cond.methodLink "BorderStones$Reader" (246 : Nat) ({ cls := "BorderStones$Reader", name := "part", desc := "()LBorderStones$Value;" } : Jvm.MethodName)) ∈ lw_all := lw_g (lw_at lw_m4 120 rfl) rfl
theorem q982 : (Jvm.Cond.privateMethod ({ cls := "BorderStones$Reader", name := "part", desc := "()LBorderStones$Value;" } : Jvm.MethodName)) ∈ lw_tbl := lw_at lw_m4 121 rfl
theorem q983 : (Jvm.Cond.instanceMethod ({ cls := "BorderStones$Reader", name := "part", desc := "()LBorderStones$Value;" } : Jvm.MethodName)) ∈ lw_all := lw_g (lw_at lw_m4 122 rfl) rfl
theorem q984 : (Jvm.Cond.code ({ cls := "BorderStones$Reader", name := "part", desc := "()LBorderStones$Value;" } : Jvm.MethodName) prog_13_method_26_code (3 : Nat) (Option.some (Jvm.ClassFile.FieldType.object "BorderStones$Value"))) ∈ lw_all := lw_g (lw_at lw_m4 123 rfl) rfl
theorem q985 : (Jvm.Cond.methodLink "BorderStones$Reader" (257 : Nat) ({ cls := "BorderStones$Reader", name := "within", desc := "(I)LBorderStones$Value;" } : Jvm.MethodName)) ∈ lw_all := lw_g (lw_at lw_m4 124 rfl) rfl
theorem q986 : (Jvm.Cond.privateMethod ({ cls := "BorderStones$Reader", name := "within", desc := "(I)LBorderStones$Value;" } : Jvm.MethodName)) ∈ lw_tbl := lw_at lw_m4 125 rfl
theorem q987 : (Jvm.Cond.instanceMethod ({ cls := "BorderStones$Reader", name := "within", desc := "(I)LBorderStones$Value;" } : Jvm.MethodName)) ∈ lw_all := lw_g (lw_at lw_m4 126 rfl) rfl
theorem q988 : (Jvm.Cond.code ({ cls := "BorderStones$Reader", name := "within", desc := "(I)LBorderStones$Value;" } : Jvm.MethodName) prog_13_method_25_code (4 : Nat) (Option.some (Jvm.ClassFile.FieldType.object "BorderStones$Value"))) ∈ lw_all := lw_g (lw_at lw_m4 127 rfl) rfl
theorem q989 : (Jvm.Cond.methodLink "BorderStones$Reader" (249 : Nat) ({ cls := "BorderStones$Reader", name := "opens", desc := "(I)V" } : Jvm.MethodName)) ∈ lw_all := lw_g (lw_at lw_m4 128 rfl) rfl
theorem q990 : (Jvm.Cond.privateMethod ({ cls := "BorderStones$Reader", name := "opens", desc := "(I)V" } : Jvm.MethodName)) ∈ lw_tbl := lw_at lw_m4 129 rfl
theorem q991 : (Jvm.Cond.instanceMethod ({ cls := "BorderStones$Reader", name := "opens", desc := "(I)V" } : Jvm.MethodName)) ∈ lw_all := lw_g (lw_at lw_m4 130 rfl) rfl
theorem q992 : (Jvm.Cond.code ({ cls := "BorderStones$Reader", name := "opens", desc := "(I)V" } : Jvm.MethodName) prog_13_method_24_code (2 : Nat) (Option.none : Option Jvm.ClassFile.FieldType)) ∈ lw_all := lw_g (lw_at lw_m4 131 rfl) rfl
theorem q993 : (Jvm.Cond.classLink "BorderStones$Reader" (252 : Nat) "BorderStones$Pair") ∈ lw_all := lw_g (lw_at lw_m4 132 rfl) rfl
theorem q995 : (Jvm.Cond.methodLink "BorderStones$Reader" (254 : Nat) ({ cls := "BorderStones$Pair", name := "<init>", desc := "(ZLBorderStones$Value;LBorderStones$Value;)V" } : Jvm.MethodName)) ∈ lw_all := lw_g (lw_at lw_m4 134 rfl) rfl
theorem q1009 : (Jvm.Cond.classLink "BorderStones$Reader" (261 : Nat) "BorderStones$Fixed") ∈ lw_all := lw_g (lw_at lw_m4 148 rfl) rfl
theorem q1011 : (Jvm.Cond.methodLink "BorderStones$Reader" (263 : Nat) ({ cls := "BorderStones$Fixed", name := "<init>", desc := "(J)V" } : Jvm.MethodName)) ∈ lw_all := lw_g (lw_at lw_m4 150 rfl) rfl
theorem q1019 : (Jvm.Cond.fieldLinkNest "BorderStones$Reader" (266 : Nat) "BorderStones" "ASKED" "[Ljava/lang/String;" "BorderStones") ∈ lw_tbl := lw_at lw_m4 158 rfl
theorem q1021 : (Jvm.Cond.classLink "BorderStones$Reader" (269 : Nat) "BorderStones$Asked") ∈ lw_all := lw_g (lw_at lw_m4 160 rfl) rfl
theorem q1023 : (Jvm.Cond.methodLink "BorderStones$Reader" (271 : Nat) ({ cls := "BorderStones$Asked", name := "<init>", desc := "(I)V" } : Jvm.MethodName)) ∈ lw_all := lw_g (lw_at lw_m4 162 rfl) rfl
theorem q1031 : (Jvm.Cond.stringRef "BorderStones$Reader" (273 : Nat) "min") ∈ lw_tbl := lw_at lw_m4 170 rfl
theorem q1032 : (Jvm.Cond.stringRef "BorderStones$Reader" (274 : Nat) "max") ∈ lw_tbl := lw_at lw_m4 171 rfl
theorem q1033 : (Jvm.Cond.methodLink "BorderStones$Reader" (240 : Nat) ({ cls := "BorderStones$Chain", name := "add", desc := "(CLBorderStones$Value;)V" } : Jvm.MethodName)) ∈ lw_all := lw_g (lw_at lw_m4 172 rfl) rfl
theorem q1094 : (Jvm.Cond.methodLink "BorderStones$Reader" (243 : Nat) ({ cls := "BorderStones$Reader", name := "takes", desc := "(I)Z" } : Jvm.MethodName)) ∈ lw_all := lw_g (lw_at lw_m4 233 rfl) rfl
theorem q1095 : (Jvm.Cond.privateMethod ({ cls := "BorderStones$Reader", name := "takes", desc := "(I)Z" } : Jvm.MethodName)) ∈ lw_tbl := lw_at lw_m4 234 rfl
theorem q1096 : (Jvm.Cond.instanceMethod ({ cls := "BorderStones$Reader", name := "takes", desc := "(I)Z" } : Jvm.MethodName)) ∈ lw_all := lw_g (lw_at lw_m4 235 rfl) rfl
theorem q1097 : (Jvm.Cond.code ({ cls := "BorderStones$Reader", name := "takes", desc := "(I)Z" } : Jvm.MethodName) prog_13_method_21_code (3 : Nat) (Option.some Jvm.ClassFile.FieldType.boolean)) ∈ lw_all := lw_g (lw_at lw_m4 236 rfl) rfl
theorem q1098 : (Jvm.Cond.stringRef "BorderStones$Reader" (188 : Nat) "when") ∈ lw_tbl := lw_at lw_m4 237 rfl
theorem q1099 : (Jvm.Cond.classLink "BorderStones$Reader" (190 : Nat) "BorderStones$Rule") ∈ lw_all := lw_g (lw_at lw_m4 238 rfl) rfl
theorem q1101 : (Jvm.Cond.methodLink "BorderStones$Reader" (192 : Nat) ({ cls := "BorderStones$Reader", name := "test", desc := "()LBorderStones$Test;" } : Jvm.MethodName)) ∈ lw_all := lw_g (lw_at lw_m5 0 rfl) rfl
theorem q1102 : (Jvm.Cond.privateMethod ({ cls := "BorderStones$Reader", name := "test", desc := "()LBorderStones$Test;" } : Jvm.MethodName)) ∈ lw_tbl := lw_at lw_m5 1 rfl
theorem q1103 : (Jvm.Cond.instanceMethod ({ cls := "BorderStones$Reader", name := "test", desc := "()LBorderStones$Test;" } : Jvm.MethodName)) ∈ lw_all := lw_g (lw_at lw_m5 2 rfl) rfl
theorem q1104 : (Jvm.Cond.code ({ cls := "BorderStones$Reader", name := "test", desc := "()LBorderStones$Test;" } : Jvm.MethodName) prog_13_method_27_code (2 : Nat) (Option.some (Jvm.ClassFile.FieldType.object "BorderStones$Test"))) ∈ lw_all := lw_g (lw_at lw_m5 3 rfl) rfl
theorem q1105 : (Jvm.Cond.classLink "BorderStones$Reader" (276 : Nat) "BorderStones$Facts") ∈ lw_all := lw_g (lw_at lw_m5 4 rfl) rfl
theorem q1107 : (Jvm.Cond.methodLink "BorderStones$Reader" (278 : Nat) ({ cls := "BorderStones$Facts", name := "<init>", desc := "(Z)V" } : Jvm.MethodName)) ∈ lw_all := lw_g (lw_at lw_m5 6 rfl) rfl
theorem q1117 : (Jvm.Cond.fieldLinkNest "BorderStones$Reader" (281 : Nat) "BorderStones$Facts" "tests" "Ljava/util/List;" "BorderStones") ∈ lw_tbl := lw_at lw_m5 16 rfl
theorem q1124 : (Jvm.Cond.methodLink "BorderStones$Reader" (284 : Nat) ({ cls := "BorderStones$Reader", name := "both", desc := "()LBorderStones$Test;" } : Jvm.MethodName)) ∈ lw_all := lw_g (lw_at lw_m5 23 rfl) rfl
theorem q1125 : (Jvm.Cond.privateMethod ({ cls := "BorderStones$Reader", name := "both", desc := "()LBorderStones$Test;" } : Jvm.MethodName)) ∈ lw_tbl := lw_at lw_m5 24 rfl
theorem q1126 : (Jvm.Cond.instanceMethod ({ cls := "BorderStones$Reader", name := "both", desc := "()LBorderStones$Test;" } : Jvm.MethodName)) ∈ lw_all := lw_g (lw_at lw_m5 25 rfl) rfl
theorem q1127 : (Jvm.Cond.code ({ cls := "BorderStones$Reader", name := "both", desc := "()LBorderStones$Test;" } : Jvm.MethodName) prog_13_method_28_code (2 : Nat) (Option.some (Jvm.ClassFile.FieldType.object "BorderStones$Test"))) ∈ lw_all := lw_g (lw_at lw_m5 26 rfl) rfl
theorem q1128 : (Jvm.Cond.methodLink "BorderStones$Reader" (293 : Nat) ({ cls := "BorderStones$Reader", name := "fact", desc := "()LBorderStones$Test;" } : Jvm.MethodName)) ∈ lw_all := lw_g (lw_at lw_m5 27 rfl) rfl
theorem q1129 : (Jvm.Cond.privateMethod ({ cls := "BorderStones$Reader", name := "fact", desc := "()LBorderStones$Test;" } : Jvm.MethodName)) ∈ lw_tbl := lw_at lw_m5 28 rfl
theorem q1130 : (Jvm.Cond.instanceMethod ({ cls := "BorderStones$Reader", name := "fact", desc := "()LBorderStones$Test;" } : Jvm.MethodName)) ∈ lw_all := lw_g (lw_at lw_m5 29 rfl) rfl
theorem q1131 : (Jvm.Cond.code ({ cls := "BorderStones$Reader", name := "fact", desc := "()LBorderStones$Test;" } : Jvm.MethodName) prog_13_method_29_code (3 : Nat) (Option.some (Jvm.ClassFile.FieldType.object "BorderStones$Test"))) ∈ lw_all := lw_g (lw_at lw_m5 30 rfl) rfl
theorem q1132 : (Jvm.Cond.stringRef "BorderStones$Reader" (298 : Nat) "not") ∈ lw_tbl := lw_at lw_m5 31 rfl
theorem q1133 : (Jvm.Cond.methodLink "BorderStones$Reader" (289 : Nat) ({ cls := "BorderStones$Reader", name := "passes", desc := "(Ljava/lang/String;)Z" } : Jvm.MethodName)) ∈ lw_all := lw_g (lw_at lw_m5 32 rfl) rfl
theorem q1134 : (Jvm.Cond.privateMethod ({ cls := "BorderStones$Reader", name := "passes", desc := "(Ljava/lang/String;)Z" } : Jvm.MethodName)) ∈ lw_tbl := lw_at lw_m5 33 rfl
theorem q1135 : (Jvm.Cond.instanceMethod ({ cls := "BorderStones$Reader", name := "passes", desc := "(Ljava/lang/String;)Z" } : Jvm.MethodName)) ∈ lw_all := lw_g (lw_at lw_m5 34 rfl) rfl
theorem q1136 : (Jvm.Cond.code ({ cls := "BorderStones$Reader", name := "passes", desc := "(Ljava/lang/String;)Z" } : Jvm.MethodName) prog_13_method_9_code (3 : Nat) (Option.some Jvm.ClassFile.FieldType.boolean)) ∈ lw_all := lw_g (lw_at lw_m5 35 rfl) rfl
theorem q1137 : (Jvm.Cond.classLink "BorderStones$Reader" (300 : Nat) "BorderStones$Not") ∈ lw_all := lw_g (lw_at lw_m5 36 rfl) rfl
theorem q1139 : (Jvm.Cond.methodLink "BorderStones$Reader" (302 : Nat) ({ cls := "BorderStones$Not", name := "<init>", desc := "(LBorderStones$Test;)V" } : Jvm.MethodName)) ∈ lw_all := lw_g (lw_at lw_m5 38 rfl) rfl
theorem q1147 : (Jvm.Cond.stringRef "BorderStones$Reader" (305 : Nat) "all") ∈ lw_tbl := lw_at lw_m5 46 rfl
theorem q1148 : (Jvm.Cond.classLink "BorderStones$Reader" (307 : Nat) "BorderStones$All") ∈ lw_all := lw_g (lw_at lw_m5 47 rfl) rfl
theorem q1150 : (Jvm.Cond.methodLinkNest "BorderStones$Reader" (309 : Nat) ({ cls := "BorderStones$All", name := "<init>", desc := "()V" } : Jvm.MethodName) "BorderStones") ∈ lw_tbl := lw_at lw_m5 49 rfl
theorem q1155 : (Jvm.Cond.classLink "BorderStones$Reader" (310 : Nat) "BorderStones$Than") ∈ lw_all := lw_g (lw_at lw_m5 54 rfl) rfl
theorem q1157 : (Jvm.Cond.methodLink "BorderStones$Reader" (312 : Nat) ({ cls := "BorderStones$Than", name := "<init>", desc := "(LBorderStones$Value;ILBorderStones$Value;)V" } : Jvm.MethodName)) ∈ lw_all := lw_g (lw_at lw_m5 56 rfl) rfl
theorem q1171 : (Jvm.Cond.stringRef "BorderStones$Reader" (296 : Nat) "and") ∈ lw_tbl := lw_at lw_m5 70 rfl
theorem q1172 : (Jvm.Cond.stringRef "BorderStones$Reader" (287 : Nat) "or") ∈ lw_tbl := lw_at lw_m5 71 rfl
theorem q1173 : (Jvm.Cond.methodLink "BorderStones$Reader" (196 : Nat) ({ cls := "BorderStones$Rule", name := "<init>", desc := "(LBorderStones$Value;LBorderStones$Test;)V" } : Jvm.MethodName)) ∈ lw_all := lw_g (lw_at lw_m5 72 rfl) rfl
theorem q2368 : (Jvm.Cond.castable "BorderStones$Reader" "java/lang/Object") ∈ lw_tbl := lw_at lw_m10 67 rfl
theorem in_X2 : ∀ w ∈ wsX20, w ∈ lw_all := lw_in wsX20 [375, 377, 379, 381, 383, 385, 387] (by decide +kernel) (by decide +kernel)

def RX3 : String := "BorderStones$Fault"
def TX3 : u_T := fun k => match k with
  | 0 => ("java/lang/Throwable", "cause", "Ljava/lang/Throwable;", false)
  | 1 => ("java/lang/Throwable", "stackTrace", "[Ljava/lang/StackTraceElement;", false)
  | 2 => ("java/lang/Throwable", "suppressedExceptions", "Ljava/util/List;", false)
  | 3 => ("java/lang/Throwable", "detailMessage", "Ljava/lang/String;", false)
  | 4 => ("java/lang/Throwable", "backtrace", "Ljava/lang/Object;", false)
  | 5 => ("java/lang/Throwable", "depth", "I", false)
  | 6 => ("BorderStones$Fault", "kind", "I", false)
  | _ => ("BorderStones$Fault", "place", "I", false)
def tyX3 : Nat → FieldType := fun k => match k with
  | 0 => .object "java/lang/Throwable"
  | 1 => .array (.object "java/lang/StackTraceElement")
  | 2 => .object "java/util/List"
  | 3 => .object "java/lang/String"
  | 4 => .object "java/lang/Object"
  | 5 => .int
  | 6 => .int
  | _ => .int
abbrev wsX30 : List Cond := u_ws RX3 TX3 8
theorem nmX3 : ∀ a, a < 8 → ∀ b, b < 8 → a ≠ b → (TX3 a).2.1 ≠ (TX3 b).2.1 := by decide +kernel
theorem tyX3_ok : ∀ k, k < 8 → parseFieldDescriptor (TX3 k).2.2.1 = some (tyX3 k) := by decide +kernel
abbrev cX3_init : ByteArray := prog_7_method_1_code
def yX3_init : MethodName := ⟨RX3, "<init>", "()V"⟩
theorem q151 : (Jvm.Cond.initialized "BorderStones$Fault") ∈ lw_all := lw_g (lw_at lw_m1 10 rfl) rfl
theorem q296 : (Jvm.Cond.instantiable "BorderStones$Fault" (8 : Nat)) ∈ lw_all := lw_g (lw_at lw_m1 155 rfl) rfl
theorem q297 : (Jvm.Cond.castable "BorderStones$Fault" "BorderStones$Fault") ∈ lw_tbl := lw_at lw_m1 156 rfl
theorem q304 : (Jvm.Cond.selects "BorderStones$Fault" ({ cls := "java/lang/Throwable", name := "fillInStackTrace", desc := "(I)Ljava/lang/Throwable;" } : Jvm.MethodName) ({ cls := "java/lang/Throwable", name := "fillInStackTrace", desc := "(I)Ljava/lang/Throwable;" } : Jvm.MethodName)) ∈ lw_all := lw_g (lw_at lw_m1 163 rfl) rfl
theorem q305 : (Jvm.Cond.selects "BorderStones$Fault" ({ cls := "java/lang/Throwable", name := "fillInStackTrace", desc := "()Ljava/lang/Throwable;" } : Jvm.MethodName) ({ cls := "java/lang/Throwable", name := "fillInStackTrace", desc := "()Ljava/lang/Throwable;" } : Jvm.MethodName)) ∈ lw_all := lw_g (lw_at lw_m1 164 rfl) rfl
theorem q306 : (Jvm.Cond.lays "BorderStones$Fault" "java/lang/Throwable" "cause" "Ljava/lang/Throwable;") ∈ lw_all := lw_g (lw_at lw_m1 165 rfl) rfl
theorem q308 : (Jvm.Cond.lays "BorderStones$Fault" "java/lang/Throwable" "stackTrace" "[Ljava/lang/StackTraceElement;") ∈ lw_all := lw_g (lw_at lw_m1 167 rfl) rfl
theorem q310 : (Jvm.Cond.lays "BorderStones$Fault" "java/lang/Throwable" "suppressedExceptions" "Ljava/util/List;") ∈ lw_all := lw_g (lw_at lw_m1 169 rfl) rfl
theorem q312 : (Jvm.Cond.lays "BorderStones$Fault" "java/lang/Throwable" "detailMessage" "Ljava/lang/String;") ∈ lw_all := lw_g (lw_at lw_m1 171 rfl) rfl
theorem q314 : (Jvm.Cond.lays "BorderStones$Fault" "java/lang/Throwable" "backtrace" "Ljava/lang/Object;") ∈ lw_all := lw_g (lw_at lw_m1 173 rfl) rfl
theorem q335 : (Jvm.Cond.instanceMethod ({ cls := "BorderStones$Fault", name := "<init>", desc := "()V" } : Jvm.MethodName)) ∈ lw_all := lw_g (lw_at lw_m1 194 rfl) rfl
theorem q336 : (Jvm.Cond.code ({ cls := "BorderStones$Fault", name := "<init>", desc := "()V" } : Jvm.MethodName) prog_7_method_1_code (1 : Nat) (Option.none : Option Jvm.ClassFile.FieldType)) ∈ lw_all := lw_g (lw_at lw_m1 195 rfl) rfl
theorem q337 : (Jvm.Cond.methodLink "BorderStones$Fault" (1 : Nat) ({ cls := "java/lang/RuntimeException", name := "<init>", desc := "(Ljava/lang/String;Ljava/lang/Throwable;ZZ)V" } : Jvm.MethodName)) ∈ lw_all := lw_g (lw_at lw_m1 196 rfl) rfl
theorem q355 : (Jvm.Cond.lays "BorderStones$Fault" "BorderStones$Fault" "kind" "I") ∈ lw_all := lw_g (lw_at lw_m1 214 rfl) rfl
theorem q357 : (Jvm.Cond.lays "BorderStones$Fault" "BorderStones$Fault" "place" "I") ∈ lw_all := lw_g (lw_at lw_m1 216 rfl) rfl
theorem q363 : (Jvm.Cond.lays "BorderStones$Fault" "java/lang/Throwable" "depth" "I") ∈ lw_all := lw_g (lw_at lw_m1 222 rfl) rfl
theorem q366 : (Jvm.Cond.superclass "BorderStones$Fault" "java/lang/RuntimeException") ∈ lw_all := lw_g (lw_at lw_m1 225 rfl) rfl
theorem q891 : (Jvm.Cond.selects "BorderStones$Fault" ({ cls := "java/lang/Object", name := "getClass", desc := "()Ljava/lang/Class;" } : Jvm.MethodName) ({ cls := "java/lang/Object", name := "getClass", desc := "()Ljava/lang/Class;" } : Jvm.MethodName)) ∈ lw_all := lw_g (lw_at lw_m4 30 rfl) rfl
theorem q2369 : (Jvm.Cond.castable "BorderStones$Fault" "java/lang/Object") ∈ lw_tbl := lw_at lw_m10 68 rfl
theorem in_X3 : ∀ w ∈ wsX30, w ∈ lw_all := lw_in wsX30 [306, 308, 310, 312, 314, 363, 355, 357] (by decide +kernel) (by decide +kernel)

def RX4 : String := "BorderStones$Moment"
def TX4 : u_T := fun k => match k with
  | _ => ("BorderStones$Moment", "of", "[I", true)
def tyX4 : Nat → FieldType := fun k => match k with
  | _ => .array .int
abbrev wsX40 : List Cond := u_ws RX4 TX4 1
theorem nmX4 : ∀ a, a < 1 → ∀ b, b < 1 → a ≠ b → (TX4 a).2.1 ≠ (TX4 b).2.1 := by decide +kernel
theorem tyX4_ok : ∀ k, k < 1 → parseFieldDescriptor (TX4 k).2.2.1 = some (tyX4 k) := by decide +kernel
abbrev cX4_init : ByteArray := prog_10_method_1_code
def yX4_init : MethodName := ⟨RX4, "<init>", "()V"⟩
theorem q152 : (Jvm.Cond.initialized "BorderStones$Moment") ∈ lw_all := lw_g (lw_at lw_m1 11 rfl) rfl
theorem q391 : (Jvm.Cond.instantiable "BorderStones$Moment" (1 : Nat)) ∈ lw_all := lw_g (lw_at lw_m2 10 rfl) rfl
theorem q393 : (Jvm.Cond.instanceMethod ({ cls := "BorderStones$Moment", name := "<init>", desc := "()V" } : Jvm.MethodName)) ∈ lw_all := lw_g (lw_at lw_m2 12 rfl) rfl
theorem q394 : (Jvm.Cond.code ({ cls := "BorderStones$Moment", name := "<init>", desc := "()V" } : Jvm.MethodName) prog_10_method_1_code (1 : Nat) (Option.none : Option Jvm.ClassFile.FieldType)) ∈ lw_all := lw_g (lw_at lw_m2 13 rfl) rfl
theorem q395 : (Jvm.Cond.methodLink "BorderStones$Moment" (1 : Nat) ({ cls := "java/lang/Object", name := "<init>", desc := "()V" } : Jvm.MethodName)) ∈ lw_all := lw_g (lw_at lw_m2 14 rfl) rfl
theorem q396 : (Jvm.Cond.fieldLink "BorderStones$Moment" (7 : Nat) "BorderStones$Moment" "of" "[I") ∈ lw_all := lw_g (lw_at lw_m2 15 rfl) rfl
theorem q399 : (Jvm.Cond.laysFinal "BorderStones$Moment" "BorderStones$Moment" "of" "[I") ∈ lw_all := lw_g (lw_at lw_m2 18 rfl) rfl
theorem q401 : (Jvm.Cond.superclass "BorderStones$Moment" "java/lang/Object") ∈ lw_all := lw_g (lw_at lw_m2 20 rfl) rfl
theorem q894 : (Jvm.Cond.selects "BorderStones$Moment" ({ cls := "java/lang/Object", name := "getClass", desc := "()Ljava/lang/Class;" } : Jvm.MethodName) ({ cls := "java/lang/Object", name := "getClass", desc := "()Ljava/lang/Class;" } : Jvm.MethodName)) ∈ lw_all := lw_g (lw_at lw_m4 33 rfl) rfl
theorem q2370 : (Jvm.Cond.castable "BorderStones$Moment" "java/lang/Object") ∈ lw_tbl := lw_at lw_m10 69 rfl
theorem in_X4 : ∀ w ∈ wsX40, w ∈ lw_all := lw_in wsX40 [399] (by decide +kernel) (by decide +kernel)

def RX5 : String := "BorderStones$State"
def TX5 : u_T := fun k => match k with
  | 0 => ("BorderStones$State", "day", "I", false)
  | 1 => ("BorderStones$State", "owedMany", "I", false)
  | 2 => ("BorderStones$State", "stones", "[J", true)
  | 3 => ("BorderStones$State", "land", "[J", true)
  | 4 => ("BorderStones$State", "high", "J", false)
  | 5 => ("BorderStones$State", "sunk", "J", false)
  | 6 => ("BorderStones$State", "child", "J", false)
  | 7 => ("BorderStones$State", "kindAt", "[I", true)
  | 8 => ("BorderStones$State", "changes", "[I", true)
  | 9 => ("BorderStones$State", "owed", "[J", true)
  | 10 => ("BorderStones$State", "lines", "I", false)
  | 11 => ("BorderStones$State", "ahead", "[J", true)
  | 12 => ("BorderStones$State", "behind", "[J", true)
  | _ => ("BorderStones$State", "this$0", "LBorderStones;", true)
def tyX5 : Nat → FieldType := fun k => match k with
  | 0 => .int
  | 1 => .int
  | 2 => .array .long
  | 3 => .array .long
  | 4 => .long
  | 5 => .long
  | 6 => .long
  | 7 => .array .int
  | 8 => .array .int
  | 9 => .array .long
  | 10 => .int
  | 11 => .array .long
  | 12 => .array .long
  | _ => .object "BorderStones"
abbrev wsX50 : List Cond := u_ws RX5 TX5 14
theorem nmX5 : ∀ a, a < 14 → ∀ b, b < 14 → a ≠ b → (TX5 a).2.1 ≠ (TX5 b).2.1 := by decide +kernel
theorem tyX5_ok : ∀ k, k < 14 → parseFieldDescriptor (TX5 k).2.2.1 = some (tyX5 k) := by decide +kernel
abbrev cX5_init : ByteArray := prog_15_method_1_code
def yX5_init : MethodName := ⟨RX5, "<init>", "(LBorderStones;)V"⟩
abbrev cX5_begins : ByteArray := prog_15_method_4_code
def yX5_begins : MethodName := ⟨RX5, "begins", "()V"⟩
abbrev cX5_clears : ByteArray := prog_15_method_3_code
def yX5_clears : MethodName := ⟨RX5, "clears", "()V"⟩
abbrev cX5_lays : ByteArray := prog_15_method_8_code
def yX5_lays : MethodName := ⟨RX5, "lays", "(III)V"⟩
abbrev cX5_all : ByteArray := prog_15_method_5_code
def yX5_all : MethodName := ⟨RX5, "all", "()J"⟩
abbrev cX5_owedPlaces : ByteArray := prog_15_method_16_code
def yX5_owedPlaces : MethodName := ⟨RX5, "owedPlaces", "()J"⟩
abbrev cX5_has : ByteArray := prog_15_method_6_code
def yX5_has : MethodName := ⟨RX5, "has", "(I)Z"⟩
abbrev cX5_edge : ByteArray := prog_15_method_10_code
def yX5_edge : MethodName := ⟨RX5, "edge", "(I)J"⟩
abbrev cX5_isLine : ByteArray := prog_15_method_9_code
def yX5_isLine : MethodName := ⟨RX5, "isLine", "(II)Z"⟩
abbrev cX5_parts : ByteArray := prog_15_method_11_code
def yX5_parts : MethodName := ⟨RX5, "parts", "(I[J)I"⟩
abbrev cX5_worth : ByteArray := prog_15_method_17_code
def yX5_worth : MethodName := ⟨RX5, "worth", "(I)I"⟩
abbrev cX5_copy : ByteArray := prog_15_method_2_code
def yX5_copy : MethodName := ⟨RX5, "copy", "(LBorderStones$State;)V"⟩
abbrev cX5_goes : ByteArray := prog_15_method_15_code
def yX5_goes : MethodName := ⟨RX5, "goes", "(II)V"⟩
abbrev cX5_side : ByteArray := prog_15_method_7_code
def yX5_side : MethodName := ⟨RX5, "side", "()I"⟩
abbrev cX5_dusk : ByteArray := prog_15_method_14_code
def yX5_dusk : MethodName := ⟨RX5, "dusk", "(I)V"⟩
abbrev cX5_loses : ByteArray := prog_15_method_13_code
def yX5_loses : MethodName := ⟨RX5, "loses", "(IJ)V"⟩
abbrev cX5_isIn : ByteArray := prog_15_method_12_code
def yX5_isIn : MethodName := ⟨RX5, "isIn", "(J[JI)Z"⟩
theorem q153 : (Jvm.Cond.initialized "BorderStones$State") ∈ lw_all := lw_g (lw_at lw_m1 12 rfl) rfl
theorem q243 : (Jvm.Cond.fieldLinkNest "BorderStones$State" (66 : Nat) "BorderStones$Border" "sideAt" "[I" "BorderStones") ∈ lw_tbl := lw_at lw_m1 102 rfl
theorem q246 : (Jvm.Cond.fieldLinkNest "BorderStones$State" (71 : Nat) "BorderStones$Border" "kindAt" "[I" "BorderStones") ∈ lw_tbl := lw_at lw_m1 105 rfl
theorem q249 : (Jvm.Cond.fieldLinkNest "BorderStones$State" (76 : Nat) "BorderStones$Border" "landAt" "[I" "BorderStones") ∈ lw_tbl := lw_at lw_m1 108 rfl
theorem q252 : (Jvm.Cond.fieldLinkNest "BorderStones$State" (149 : Nat) "BorderStones$Border" "worths" "[I" "BorderStones") ∈ lw_tbl := lw_at lw_m1 111 rfl
theorem q255 : (Jvm.Cond.fieldLinkNest "BorderStones$State" (93 : Nat) "BorderStones$Border" "steps" "[[I" "BorderStones") ∈ lw_tbl := lw_at lw_m1 114 rfl
theorem q257 : (Jvm.Cond.fieldLinkNest "BorderStones$State" (100 : Nat) "BorderStones$Border" "between" "[[J" "BorderStones") ∈ lw_tbl := lw_at lw_m1 116 rfl
theorem q259 : (Jvm.Cond.fieldLinkNest "BorderStones$State" (127 : Nat) "BorderStones$Border" "rim" "J" "BorderStones") ∈ lw_tbl := lw_at lw_m1 118 rfl
theorem q403 : (Jvm.Cond.instantiable "BorderStones$State" (14 : Nat)) ∈ lw_all := lw_g (lw_at lw_m2 22 rfl) rfl
theorem q405 : (Jvm.Cond.instanceMethod ({ cls := "BorderStones$State", name := "<init>", desc := "(LBorderStones;)V" } : Jvm.MethodName)) ∈ lw_all := lw_g (lw_at lw_m2 24 rfl) rfl
theorem q406 : (Jvm.Cond.code ({ cls := "BorderStones$State", name := "<init>", desc := "(LBorderStones;)V" } : Jvm.MethodName) prog_15_method_1_code (2 : Nat) (Option.none : Option Jvm.ClassFile.FieldType)) ∈ lw_all := lw_g (lw_at lw_m2 25 rfl) rfl
theorem q407 : (Jvm.Cond.methodLink "BorderStones$State" (9 : Nat) ({ cls := "java/lang/Object", name := "<init>", desc := "()V" } : Jvm.MethodName)) ∈ lw_all := lw_g (lw_at lw_m2 26 rfl) rfl
theorem q408 : (Jvm.Cond.fieldLink "BorderStones$State" (38 : Nat) "BorderStones$State" "day" "I") ∈ lw_all := lw_g (lw_at lw_m2 27 rfl) rfl
theorem q410 : (Jvm.Cond.fieldLink "BorderStones$State" (42 : Nat) "BorderStones$State" "owedMany" "I") ∈ lw_all := lw_g (lw_at lw_m2 29 rfl) rfl
theorem q412 : (Jvm.Cond.fieldLink "BorderStones$State" (15 : Nat) "BorderStones$State" "stones" "[J") ∈ lw_all := lw_g (lw_at lw_m2 31 rfl) rfl
theorem q414 : (Jvm.Cond.fieldLink "BorderStones$State" (19 : Nat) "BorderStones$State" "land" "[J") ∈ lw_all := lw_g (lw_at lw_m2 33 rfl) rfl
theorem q416 : (Jvm.Cond.fieldLink "BorderStones$State" (45 : Nat) "BorderStones$State" "high" "J") ∈ lw_all := lw_g (lw_at lw_m2 35 rfl) rfl
theorem q417 : (Jvm.Cond.fieldLink "BorderStones$State" (49 : Nat) "BorderStones$State" "sunk" "J") ∈ lw_all := lw_g (lw_at lw_m2 36 rfl) rfl
theorem q418 : (Jvm.Cond.fieldLink "BorderStones$State" (52 : Nat) "BorderStones$State" "child" "J") ∈ lw_all := lw_g (lw_at lw_m2 37 rfl) rfl
theorem q419 : (Jvm.Cond.fieldLink "BorderStones$State" (22 : Nat) "BorderStones$State" "kindAt" "[I") ∈ lw_all := lw_g (lw_at lw_m2 38 rfl) rfl
theorem q421 : (Jvm.Cond.fieldLink "BorderStones$State" (26 : Nat) "BorderStones$State" "changes" "[I") ∈ lw_all := lw_g (lw_at lw_m2 40 rfl) rfl
theorem q423 : (Jvm.Cond.fieldLink "BorderStones$State" (29 : Nat) "BorderStones$State" "owed" "[J") ∈ lw_all := lw_g (lw_at lw_m2 42 rfl) rfl
theorem q425 : (Jvm.Cond.fieldLink "BorderStones$State" (106 : Nat) "BorderStones$State" "lines" "I") ∈ lw_all := lw_g (lw_at lw_m2 44 rfl) rfl
theorem q427 : (Jvm.Cond.fieldLink "BorderStones$State" (32 : Nat) "BorderStones$State" "ahead" "[J") ∈ lw_all := lw_g (lw_at lw_m2 46 rfl) rfl
theorem q428 : (Jvm.Cond.fieldLink "BorderStones$State" (35 : Nat) "BorderStones$State" "behind" "[J") ∈ lw_all := lw_g (lw_at lw_m2 47 rfl) rfl
theorem q429 : (Jvm.Cond.fieldLink "BorderStones$State" (3 : Nat) "BorderStones$State" "this$0" "LBorderStones;") ∈ lw_all := lw_g (lw_at lw_m2 48 rfl) rfl
theorem q430 : (Jvm.Cond.lays "BorderStones$State" "BorderStones$State" "day" "I") ∈ lw_all := lw_g (lw_at lw_m2 49 rfl) rfl
theorem q432 : (Jvm.Cond.lays "BorderStones$State" "BorderStones$State" "owedMany" "I") ∈ lw_all := lw_g (lw_at lw_m2 51 rfl) rfl
theorem q434 : (Jvm.Cond.laysFinal "BorderStones$State" "BorderStones$State" "stones" "[J") ∈ lw_all := lw_g (lw_at lw_m2 53 rfl) rfl
theorem q436 : (Jvm.Cond.laysFinal "BorderStones$State" "BorderStones$State" "land" "[J") ∈ lw_all := lw_g (lw_at lw_m2 55 rfl) rfl
theorem q438 : (Jvm.Cond.lays "BorderStones$State" "BorderStones$State" "high" "J") ∈ lw_all := lw_g (lw_at lw_m2 57 rfl) rfl
theorem q440 : (Jvm.Cond.lays "BorderStones$State" "BorderStones$State" "sunk" "J") ∈ lw_all := lw_g (lw_at lw_m2 59 rfl) rfl
theorem q442 : (Jvm.Cond.lays "BorderStones$State" "BorderStones$State" "child" "J") ∈ lw_all := lw_g (lw_at lw_m2 61 rfl) rfl
theorem q444 : (Jvm.Cond.laysFinal "BorderStones$State" "BorderStones$State" "kindAt" "[I") ∈ lw_all := lw_g (lw_at lw_m2 63 rfl) rfl
theorem q446 : (Jvm.Cond.laysFinal "BorderStones$State" "BorderStones$State" "changes" "[I") ∈ lw_all := lw_g (lw_at lw_m2 65 rfl) rfl
theorem q448 : (Jvm.Cond.laysFinal "BorderStones$State" "BorderStones$State" "owed" "[J") ∈ lw_all := lw_g (lw_at lw_m2 67 rfl) rfl
theorem q450 : (Jvm.Cond.lays "BorderStones$State" "BorderStones$State" "lines" "I") ∈ lw_all := lw_g (lw_at lw_m2 69 rfl) rfl
theorem q452 : (Jvm.Cond.laysFinal "BorderStones$State" "BorderStones$State" "ahead" "[J") ∈ lw_all := lw_g (lw_at lw_m2 71 rfl) rfl
theorem q454 : (Jvm.Cond.laysFinal "BorderStones$State" "BorderStones$State" "behind" "[J") ∈ lw_all := lw_g (lw_at lw_m2 73 rfl) rfl
theorem q456 : (Jvm.Cond.laysFinal "BorderStones$State" "BorderStones$State" "this$0" "LBorderStones;") ∈ lw_all := lw_g (lw_at lw_m2 75 rfl) rfl
theorem q458 : (Jvm.Cond.superclass "BorderStones$State" "java/lang/Object") ∈ lw_all := lw_g (lw_at lw_m2 77 rfl) rfl
theorem q460 : (Jvm.Cond.fieldLinkNest "BorderStones$State" (62 : Nat) "BorderStones" "border" "LBorderStones$Border;" "BorderStones") ∈ lw_tbl := lw_at lw_m2 79 rfl
theorem q828 : (Jvm.Cond.fieldLinkNest "BorderStones$State" (97 : Nat) "BorderStones$Kind" "reach" "I" "BorderStones") ∈ lw_tbl := lw_at lw_m3 207 rfl
theorem q899 : (Jvm.Cond.selects "BorderStones$State" ({ cls := "java/lang/Object", name := "getClass", desc := "()Ljava/lang/Class;" } : Jvm.MethodName) ({ cls := "java/lang/Object", name := "getClass", desc := "()Ljava/lang/Class;" } : Jvm.MethodName)) ∈ lw_all := lw_g (lw_at lw_m4 38 rfl) rfl
theorem q1295 : (Jvm.Cond.instanceMethod ({ cls := "BorderStones$State", name := "begins", desc := "()V" } : Jvm.MethodName)) ∈ lw_all := lw_g (lw_at lw_m5 194 rfl) rfl
theorem q1296 : (Jvm.Cond.selects "BorderStones$State" ({ cls := "BorderStones$State", name := "begins", desc := "()V" } : Jvm.MethodName) ({ cls := "BorderStones$State", name := "begins", desc := "()V" } : Jvm.MethodName)) ∈ lw_all := lw_g (lw_at lw_m5 195 rfl) rfl
theorem q1297 : (Jvm.Cond.code ({ cls := "BorderStones$State", name := "begins", desc := "()V" } : Jvm.MethodName) prog_15_method_4_code (2 : Nat) (Option.none : Option Jvm.ClassFile.FieldType)) ∈ lw_all := lw_g (lw_at lw_m5 196 rfl) rfl
theorem q1298 : (Jvm.Cond.methodLink "BorderStones$State" (55 : Nat) ({ cls := "BorderStones$State", name := "clears", desc := "()V" } : Jvm.MethodName)) ∈ lw_all := lw_g (lw_at lw_m5 197 rfl) rfl
theorem q1299 : (Jvm.Cond.instanceMethod ({ cls := "BorderStones$State", name := "clears", desc := "()V" } : Jvm.MethodName)) ∈ lw_all := lw_g (lw_at lw_m5 198 rfl) rfl
theorem q1300 : (Jvm.Cond.selects "BorderStones$State" ({ cls := "BorderStones$State", name := "clears", desc := "()V" } : Jvm.MethodName) ({ cls := "BorderStones$State", name := "clears", desc := "()V" } : Jvm.MethodName)) ∈ lw_all := lw_g (lw_at lw_m5 199 rfl) rfl
theorem q1301 : (Jvm.Cond.code ({ cls := "BorderStones$State", name := "clears", desc := "()V" } : Jvm.MethodName) prog_15_method_3_code (2 : Nat) (Option.none : Option Jvm.ClassFile.FieldType)) ∈ lw_all := lw_g (lw_at lw_m5 200 rfl) rfl
theorem q1302 : (Jvm.Cond.methodLinkNest "BorderStones$State" (58 : Nat) ({ cls := "BorderStones", name := "placeMany", desc := "()I" } : Jvm.MethodName) "BorderStones") ∈ lw_tbl := lw_at lw_m5 201 rfl
theorem q1307 : (Jvm.Cond.methodLink "BorderStones$State" (72 : Nat) ({ cls := "BorderStones$State", name := "lays", desc := "(III)V" } : Jvm.MethodName)) ∈ lw_all := lw_g (lw_at lw_m5 206 rfl) rfl
theorem q1308 : (Jvm.Cond.instanceMethod ({ cls := "BorderStones$State", name := "lays", desc := "(III)V" } : Jvm.MethodName)) ∈ lw_all := lw_g (lw_at lw_m5 207 rfl) rfl
theorem q1309 : (Jvm.Cond.selects "BorderStones$State" ({ cls := "BorderStones$State", name := "lays", desc := "(III)V" } : Jvm.MethodName) ({ cls := "BorderStones$State", name := "lays", desc := "(III)V" } : Jvm.MethodName)) ∈ lw_all := lw_g (lw_at lw_m5 208 rfl) rfl
theorem q1310 : (Jvm.Cond.code ({ cls := "BorderStones$State", name := "lays", desc := "(III)V" } : Jvm.MethodName) prog_15_method_8_code (7 : Nat) (Option.none : Option Jvm.ClassFile.FieldType)) ∈ lw_all := lw_g (lw_at lw_m5 209 rfl) rfl
theorem q1311 : (Jvm.Cond.methodLink "BorderStones$State" (83 : Nat) ({ cls := "BorderStones$Border", name := "kind", desc := "(I)LBorderStones$Kind;" } : Jvm.MethodName)) ∈ lw_all := lw_g (lw_at lw_m5 210 rfl) rfl
theorem q1312 : (Jvm.Cond.methodLink "BorderStones$State" (87 : Nat) ({ cls := "BorderStones$Kind", name := "has", desc := "(I)Z" } : Jvm.MethodName)) ∈ lw_all := lw_g (lw_at lw_m5 211 rfl) rfl
theorem q1324 : (Jvm.Cond.instanceMethod ({ cls := "BorderStones$State", name := "all", desc := "()J" } : Jvm.MethodName)) ∈ lw_all := lw_g (lw_at lw_m5 223 rfl) rfl
theorem q1325 : (Jvm.Cond.selects "BorderStones$State" ({ cls := "BorderStones$State", name := "all", desc := "()J" } : Jvm.MethodName) ({ cls := "BorderStones$State", name := "all", desc := "()J" } : Jvm.MethodName)) ∈ lw_all := lw_g (lw_at lw_m5 224 rfl) rfl
theorem q1326 : (Jvm.Cond.code ({ cls := "BorderStones$State", name := "all", desc := "()J" } : Jvm.MethodName) prog_15_method_5_code (1 : Nat) (Option.some Jvm.ClassFile.FieldType.long)) ∈ lw_all := lw_g (lw_at lw_m5 225 rfl) rfl
theorem q1334 : (Jvm.Cond.instanceMethod ({ cls := "BorderStones$State", name := "owedPlaces", desc := "()J" } : Jvm.MethodName)) ∈ lw_all := lw_g (lw_at lw_m5 233 rfl) rfl
theorem q1335 : (Jvm.Cond.selects "BorderStones$State" ({ cls := "BorderStones$State", name := "owedPlaces", desc := "()J" } : Jvm.MethodName) ({ cls := "BorderStones$State", name := "owedPlaces", desc := "()J" } : Jvm.MethodName)) ∈ lw_all := lw_g (lw_at lw_m5 234 rfl) rfl
theorem q1336 : (Jvm.Cond.code ({ cls := "BorderStones$State", name := "owedPlaces", desc := "()J" } : Jvm.MethodName) prog_15_method_16_code (4 : Nat) (Option.some Jvm.ClassFile.FieldType.long)) ∈ lw_all := lw_g (lw_at lw_m5 235 rfl) rfl
theorem q1380 : (Jvm.Cond.instanceMethod ({ cls := "BorderStones$State", name := "has", desc := "(I)Z" } : Jvm.MethodName)) ∈ lw_all := lw_g (lw_at lw_m6 39 rfl) rfl
theorem q1381 : (Jvm.Cond.selects "BorderStones$State" ({ cls := "BorderStones$State", name := "has", desc := "(I)Z" } : Jvm.MethodName) ({ cls := "BorderStones$State", name := "has", desc := "(I)Z" } : Jvm.MethodName)) ∈ lw_all := lw_g (lw_at lw_m6 40 rfl) rfl
theorem q1382 : (Jvm.Cond.code ({ cls := "BorderStones$State", name := "has", desc := "(I)Z" } : Jvm.MethodName) prog_15_method_6_code (2 : Nat) (Option.some Jvm.ClassFile.FieldType.boolean)) ∈ lw_all := lw_g (lw_at lw_m6 41 rfl) rfl
theorem q1383 : (Jvm.Cond.methodLink "BorderStones$State" (79 : Nat) ({ cls := "BorderStones$State", name := "all", desc := "()J" } : Jvm.MethodName)) ∈ lw_all := lw_g (lw_at lw_m6 42 rfl) rfl
theorem q1385 : (Jvm.Cond.instanceMethod ({ cls := "BorderStones$State", name := "edge", desc := "(I)J" } : Jvm.MethodName)) ∈ lw_all := lw_g (lw_at lw_m6 44 rfl) rfl
theorem q1386 : (Jvm.Cond.selects "BorderStones$State" ({ cls := "BorderStones$State", name := "edge", desc := "(I)J" } : Jvm.MethodName) ({ cls := "BorderStones$State", name := "edge", desc := "(I)J" } : Jvm.MethodName)) ∈ lw_all := lw_g (lw_at lw_m6 45 rfl) rfl
theorem q1387 : (Jvm.Cond.code ({ cls := "BorderStones$State", name := "edge", desc := "(I)J" } : Jvm.MethodName) prog_15_method_10_code (10 : Nat) (Option.some Jvm.ClassFile.FieldType.long)) ∈ lw_all := lw_g (lw_at lw_m6 46 rfl) rfl
theorem q1388 : (Jvm.Cond.methodLink "BorderStones$State" (109 : Nat) ({ cls := "java/lang/Long", name := "numberOfTrailingZeros", desc := "(J)I" } : Jvm.MethodName)) ∈ lw_all := lw_g (lw_at lw_m6 47 rfl) rfl
theorem q1395 : (Jvm.Cond.methodLink "BorderStones$State" (115 : Nat) ({ cls := "BorderStones$State", name := "isLine", desc := "(II)Z" } : Jvm.MethodName)) ∈ lw_all := lw_g (lw_at lw_m6 54 rfl) rfl
theorem q1396 : (Jvm.Cond.instanceMethod ({ cls := "BorderStones$State", name := "isLine", desc := "(II)Z" } : Jvm.MethodName)) ∈ lw_all := lw_g (lw_at lw_m6 55 rfl) rfl
theorem q1397 : (Jvm.Cond.selects "BorderStones$State" ({ cls := "BorderStones$State", name := "isLine", desc := "(II)Z" } : Jvm.MethodName) ({ cls := "BorderStones$State", name := "isLine", desc := "(II)Z" } : Jvm.MethodName)) ∈ lw_all := lw_g (lw_at lw_m6 56 rfl) rfl
theorem q1398 : (Jvm.Cond.code ({ cls := "BorderStones$State", name := "isLine", desc := "(II)Z" } : Jvm.MethodName) prog_15_method_9_code (6 : Nat) (Option.some Jvm.ClassFile.FieldType.boolean)) ∈ lw_all := lw_g (lw_at lw_m6 57 rfl) rfl
theorem q1399 : (Jvm.Cond.constantLong "BorderStones$State" (104 : Nat) (-1 : Int64)) ∈ lw_all := lw_g (lw_at lw_m6 58 rfl) rfl
theorem q1405 : (Jvm.Cond.instanceMethod ({ cls := "BorderStones$State", name := "parts", desc := "(I[J)I" } : Jvm.MethodName)) ∈ lw_all := lw_g (lw_at lw_m6 64 rfl) rfl
theorem q1406 : (Jvm.Cond.selects "BorderStones$State" ({ cls := "BorderStones$State", name := "parts", desc := "(I[J)I" } : Jvm.MethodName) ({ cls := "BorderStones$State", name := "parts", desc := "(I[J)I" } : Jvm.MethodName)) ∈ lw_all := lw_g (lw_at lw_m6 65 rfl) rfl
theorem q1407 : (Jvm.Cond.code ({ cls := "BorderStones$State", name := "parts", desc := "(I[J)I" } : Jvm.MethodName) prog_15_method_11_code (10 : Nat) (Option.some Jvm.ClassFile.FieldType.int)) ∈ lw_all := lw_g (lw_at lw_m6 66 rfl) rfl
theorem q1408 : (Jvm.Cond.methodLink "BorderStones$State" (119 : Nat) ({ cls := "BorderStones$State", name := "edge", desc := "(I)J" } : Jvm.MethodName)) ∈ lw_all := lw_g (lw_at lw_m6 67 rfl) rfl
theorem q1409 : (Jvm.Cond.methodLink "BorderStones$State" (123 : Nat) ({ cls := "BorderStones$Border", name := "grown", desc := "(J)J" } : Jvm.MethodName)) ∈ lw_all := lw_g (lw_at lw_m6 68 rfl) rfl
theorem q1426 : (Jvm.Cond.instanceMethod ({ cls := "BorderStones$State", name := "worth", desc := "(I)I" } : Jvm.MethodName)) ∈ lw_all := lw_g (lw_at lw_m6 85 rfl) rfl
theorem q1427 : (Jvm.Cond.selects "BorderStones$State" ({ cls := "BorderStones$State", name := "worth", desc := "(I)I" } : Jvm.MethodName) ({ cls := "BorderStones$State", name := "worth", desc := "(I)I" } : Jvm.MethodName)) ∈ lw_all := lw_g (lw_at lw_m6 86 rfl) rfl
theorem q1428 : (Jvm.Cond.code ({ cls := "BorderStones$State", name := "worth", desc := "(I)I" } : Jvm.MethodName) prog_15_method_17_code (5 : Nat) (Option.some Jvm.ClassFile.FieldType.int)) ∈ lw_all := lw_g (lw_at lw_m6 87 rfl) rfl
theorem q1442 : (Jvm.Cond.instanceMethod ({ cls := "BorderStones$State", name := "copy", desc := "(LBorderStones$State;)V" } : Jvm.MethodName)) ∈ lw_all := lw_g (lw_at lw_m6 101 rfl) rfl
theorem q1443 : (Jvm.Cond.selects "BorderStones$State" ({ cls := "BorderStones$State", name := "copy", desc := "(LBorderStones$State;)V" } : Jvm.MethodName) ({ cls := "BorderStones$State", name := "copy", desc := "(LBorderStones$State;)V" } : Jvm.MethodName)) ∈ lw_all := lw_g (lw_at lw_m6 102 rfl) rfl
theorem q1444 : (Jvm.Cond.code ({ cls := "BorderStones$State", name := "copy", desc := "(LBorderStones$State;)V" } : Jvm.MethodName) prog_15_method_2_code (3 : Nat) (Option.none : Option Jvm.ClassFile.FieldType)) ∈ lw_all := lw_g (lw_at lw_m6 103 rfl) rfl
theorem q1446 : (Jvm.Cond.instanceMethod ({ cls := "BorderStones$State", name := "goes", desc := "(II)V" } : Jvm.MethodName)) ∈ lw_all := lw_g (lw_at lw_m6 105 rfl) rfl
theorem q1447 : (Jvm.Cond.selects "BorderStones$State" ({ cls := "BorderStones$State", name := "goes", desc := "(II)V" } : Jvm.MethodName) ({ cls := "BorderStones$State", name := "goes", desc := "(II)V" } : Jvm.MethodName)) ∈ lw_all := lw_g (lw_at lw_m6 106 rfl) rfl
theorem q1448 : (Jvm.Cond.code ({ cls := "BorderStones$State", name := "goes", desc := "(II)V" } : Jvm.MethodName) prog_15_method_15_code (7 : Nat) (Option.none : Option Jvm.ClassFile.FieldType)) ∈ lw_all := lw_g (lw_at lw_m6 107 rfl) rfl
theorem q1449 : (Jvm.Cond.methodLink "BorderStones$State" (130 : Nat) ({ cls := "BorderStones$State", name := "side", desc := "()I" } : Jvm.MethodName)) ∈ lw_all := lw_g (lw_at lw_m6 108 rfl) rfl
theorem q1450 : (Jvm.Cond.instanceMethod ({ cls := "BorderStones$State", name := "side", desc := "()I" } : Jvm.MethodName)) ∈ lw_all := lw_g (lw_at lw_m6 109 rfl) rfl
theorem q1451 : (Jvm.Cond.selects "BorderStones$State" ({ cls := "BorderStones$State", name := "side", desc := "()I" } : Jvm.MethodName) ({ cls := "BorderStones$State", name := "side", desc := "()I" } : Jvm.MethodName)) ∈ lw_all := lw_g (lw_at lw_m6 110 rfl) rfl
theorem q1452 : (Jvm.Cond.code ({ cls := "BorderStones$State", name := "side", desc := "()I" } : Jvm.MethodName) prog_15_method_7_code (1 : Nat) (Option.some Jvm.ClassFile.FieldType.int)) ∈ lw_all := lw_g (lw_at lw_m6 111 rfl) rfl
theorem q1453 : (Jvm.Cond.methodLink "BorderStones$State" (137 : Nat) ({ cls := "BorderStones$State", name := "parts", desc := "(I[J)I" } : Jvm.MethodName)) ∈ lw_all := lw_g (lw_at lw_m6 112 rfl) rfl
theorem q1454 : (Jvm.Cond.methodLink "BorderStones$State" (141 : Nat) ({ cls := "BorderStones$State", name := "dusk", desc := "(I)V" } : Jvm.MethodName)) ∈ lw_all := lw_g (lw_at lw_m6 113 rfl) rfl
theorem q1455 : (Jvm.Cond.instanceMethod ({ cls := "BorderStones$State", name := "dusk", desc := "(I)V" } : Jvm.MethodName)) ∈ lw_all := lw_g (lw_at lw_m6 114 rfl) rfl
theorem q1456 : (Jvm.Cond.selects "BorderStones$State" ({ cls := "BorderStones$State", name := "dusk", desc := "(I)V" } : Jvm.MethodName) ({ cls := "BorderStones$State", name := "dusk", desc := "(I)V" } : Jvm.MethodName)) ∈ lw_all := lw_g (lw_at lw_m6 115 rfl) rfl
theorem q1457 : (Jvm.Cond.code ({ cls := "BorderStones$State", name := "dusk", desc := "(I)V" } : Jvm.MethodName) prog_15_method_14_code (3 : Nat) (Option.none : Option Jvm.ClassFile.FieldType)) ∈ lw_all := lw_g (lw_at lw_m6 116 rfl) rfl
theorem q1458 : (Jvm.Cond.methodLink "BorderStones$State" (133 : Nat) ({ cls := "BorderStones$State", name := "loses", desc := "(IJ)V" } : Jvm.MethodName)) ∈ lw_all := lw_g (lw_at lw_m6 117 rfl) rfl
theorem q1459 : (Jvm.Cond.instanceMethod ({ cls := "BorderStones$State", name := "loses", desc := "(IJ)V" } : Jvm.MethodName)) ∈ lw_all := lw_g (lw_at lw_m6 118 rfl) rfl
theorem q1460 : (Jvm.Cond.selects "BorderStones$State" ({ cls := "BorderStones$State", name := "loses", desc := "(IJ)V" } : Jvm.MethodName) ({ cls := "BorderStones$State", name := "loses", desc := "(IJ)V" } : Jvm.MethodName)) ∈ lw_all := lw_g (lw_at lw_m6 119 rfl) rfl
theorem q1461 : (Jvm.Cond.code ({ cls := "BorderStones$State", name := "loses", desc := "(IJ)V" } : Jvm.MethodName) prog_15_method_13_code (7 : Nat) (Option.none : Option Jvm.ClassFile.FieldType)) ∈ lw_all := lw_g (lw_at lw_m6 120 rfl) rfl
theorem q1462 : (Jvm.Cond.methodLink "BorderStones$State" (145 : Nat) ({ cls := "BorderStones$State", name := "isIn", desc := "(J[JI)Z" } : Jvm.MethodName)) ∈ lw_all := lw_g (lw_at lw_m6 121 rfl) rfl
theorem q1463 : (Jvm.Cond.static ({ cls := "BorderStones$State", name := "isIn", desc := "(J[JI)Z" } : Jvm.MethodName)) ∈ lw_all := lw_g (lw_at lw_m6 122 rfl) rfl
theorem q1464 : (Jvm.Cond.code ({ cls := "BorderStones$State", name := "isIn", desc := "(J[JI)Z" } : Jvm.MethodName) prog_15_method_12_code (5 : Nat) (Option.some Jvm.ClassFile.FieldType.boolean)) ∈ lw_all := lw_g (lw_at lw_m6 123 rfl) rfl
theorem q2363 : (Jvm.Cond.castable "BorderStones$State" "java/lang/Object") ∈ lw_tbl := lw_at lw_m10 62 rfl
theorem in_X5 : ∀ w ∈ wsX50, w ∈ lw_all := lw_in wsX50 [430, 432, 434, 436, 438, 440, 442, 444, 446, 448, 450, 452, 454, 456] (by decide +kernel) (by decide +kernel)

def RX7 : String := "BorderStones$Kind"
def TX7 : u_T := fun k => match k with
  | 0 => ("BorderStones$Kind", "name", "Ljava/lang/String;", true)
  | 1 => ("BorderStones$Kind", "reach", "I", true)
  | _ => ("BorderStones$Kind", "marks", "I", false)
def tyX7 : Nat → FieldType := fun k => match k with
  | 0 => .object "java/lang/String"
  | 1 => .int
  | _ => .int
abbrev wsX70 : List Cond := u_ws RX7 TX7 3
theorem nmX7 : ∀ a, a < 3 → ∀ b, b < 3 → a ≠ b → (TX7 a).2.1 ≠ (TX7 b).2.1 := by decide +kernel
theorem tyX7_ok : ∀ k, k < 3 → parseFieldDescriptor (TX7 k).2.2.1 = some (tyX7 k) := by decide +kernel
abbrev cX7_init : ByteArray := prog_9_method_1_code
def yX7_init : MethodName := ⟨RX7, "<init>", "(Ljava/lang/String;I)V"⟩
abbrev cX7_has : ByteArray := prog_9_method_3_code
def yX7_has : MethodName := ⟨RX7, "has", "(I)Z"⟩
abbrev cX7_letter : ByteArray := prog_9_method_2_code
def yX7_letter : MethodName := ⟨RX7, "letter", "(I)I"⟩
theorem q162 : (Jvm.Cond.initialized "BorderStones$Kind") ∈ lw_all := lw_g (lw_at lw_m1 21 rfl) rfl
theorem q815 : (Jvm.Cond.instantiable "BorderStones$Kind" (3 : Nat)) ∈ lw_all := lw_g (lw_at lw_m3 194 rfl) rfl
theorem q822 : (Jvm.Cond.instanceMethod ({ cls := "BorderStones$Kind", name := "<init>", desc := "(Ljava/lang/String;I)V" } : Jvm.MethodName)) ∈ lw_all := lw_g (lw_at lw_m3 201 rfl) rfl
theorem q823 : (Jvm.Cond.code ({ cls := "BorderStones$Kind", name := "<init>", desc := "(Ljava/lang/String;I)V" } : Jvm.MethodName) prog_9_method_1_code (3 : Nat) (Option.none : Option Jvm.ClassFile.FieldType)) ∈ lw_all := lw_g (lw_at lw_m3 202 rfl) rfl
theorem q824 : (Jvm.Cond.methodLink "BorderStones$Kind" (1 : Nat) ({ cls := "java/lang/Object", name := "<init>", desc := "()V" } : Jvm.MethodName)) ∈ lw_all := lw_g (lw_at lw_m3 203 rfl) rfl
theorem q825 : (Jvm.Cond.fieldLink "BorderStones$Kind" (7 : Nat) "BorderStones$Kind" "name" "Ljava/lang/String;") ∈ lw_all := lw_g (lw_at lw_m3 204 rfl) rfl
theorem q827 : (Jvm.Cond.fieldLink "BorderStones$Kind" (13 : Nat) "BorderStones$Kind" "reach" "I") ∈ lw_all := lw_g (lw_at lw_m3 206 rfl) rfl
theorem q830 : (Jvm.Cond.fieldLink "BorderStones$Kind" (27 : Nat) "BorderStones$Kind" "marks" "I") ∈ lw_all := lw_g (lw_at lw_m3 209 rfl) rfl
theorem q833 : (Jvm.Cond.laysFinal "BorderStones$Kind" "BorderStones$Kind" "name" "Ljava/lang/String;") ∈ lw_all := lw_g (lw_at lw_m3 212 rfl) rfl
theorem q835 : (Jvm.Cond.laysFinal "BorderStones$Kind" "BorderStones$Kind" "reach" "I") ∈ lw_all := lw_g (lw_at lw_m3 214 rfl) rfl
theorem q837 : (Jvm.Cond.lays "BorderStones$Kind" "BorderStones$Kind" "marks" "I") ∈ lw_all := lw_g (lw_at lw_m3 216 rfl) rfl
theorem q839 : (Jvm.Cond.superclass "BorderStones$Kind" "java/lang/Object") ∈ lw_all := lw_g (lw_at lw_m3 218 rfl) rfl
theorem q843 : (Jvm.Cond.instanceMethod ({ cls := "BorderStones$Kind", name := "has", desc := "(I)Z" } : Jvm.MethodName)) ∈ lw_all := lw_g (lw_at lw_m3 222 rfl) rfl
theorem q844 : (Jvm.Cond.selects "BorderStones$Kind" ({ cls := "BorderStones$Kind", name := "has", desc := "(I)Z" } : Jvm.MethodName) ({ cls := "BorderStones$Kind", name := "has", desc := "(I)Z" } : Jvm.MethodName)) ∈ lw_all := lw_g (lw_at lw_m3 223 rfl) rfl
theorem q845 : (Jvm.Cond.code ({ cls := "BorderStones$Kind", name := "has", desc := "(I)Z" } : Jvm.MethodName) prog_9_method_3_code (2 : Nat) (Option.some Jvm.ClassFile.FieldType.boolean)) ∈ lw_all := lw_g (lw_at lw_m3 224 rfl) rfl
theorem q893 : (Jvm.Cond.selects "BorderStones$Kind" ({ cls := "java/lang/Object", name := "getClass", desc := "()Ljava/lang/Class;" } : Jvm.MethodName) ({ cls := "java/lang/Object", name := "getClass", desc := "()Ljava/lang/Class;" } : Jvm.MethodName)) ∈ lw_all := lw_g (lw_at lw_m4 32 rfl) rfl
theorem q1348 : (Jvm.Cond.instanceMethod ({ cls := "BorderStones$Kind", name := "letter", desc := "(I)I" } : Jvm.MethodName)) ∈ lw_all := lw_g (lw_at lw_m6 7 rfl) rfl
theorem q1349 : (Jvm.Cond.selects "BorderStones$Kind" ({ cls := "BorderStones$Kind", name := "letter", desc := "(I)I" } : Jvm.MethodName) ({ cls := "BorderStones$Kind", name := "letter", desc := "(I)I" } : Jvm.MethodName)) ∈ lw_all := lw_g (lw_at lw_m6 8 rfl) rfl
theorem q1350 : (Jvm.Cond.code ({ cls := "BorderStones$Kind", name := "letter", desc := "(I)I" } : Jvm.MethodName) prog_9_method_2_code (2 : Nat) (Option.some Jvm.ClassFile.FieldType.int)) ∈ lw_all := lw_g (lw_at lw_m6 9 rfl) rfl
theorem q1351 : (Jvm.Cond.methodLink "BorderStones$Kind" (17 : Nat) ({ cls := "java/lang/String", name := "length", desc := "()I" } : Jvm.MethodName)) ∈ lw_all := lw_g (lw_at lw_m6 10 rfl) rfl
theorem q1352 : (Jvm.Cond.methodLink "BorderStones$Kind" (23 : Nat) ({ cls := "java/lang/String", name := "charAt", desc := "(I)C" } : Jvm.MethodName)) ∈ lw_all := lw_g (lw_at lw_m6 11 rfl) rfl
theorem q2373 : (Jvm.Cond.castable "BorderStones$Kind" "java/lang/Object") ∈ lw_tbl := lw_at lw_m10 72 rfl
theorem in_X7 : ∀ w ∈ wsX70, w ∈ lw_all := lw_in wsX70 [833, 835, 837] (by decide +kernel) (by decide +kernel)

def RX8 : String := "BorderStones$Value"
abbrev cX8_init : ByteArray := prog_18_method_1_code
def yX8_init : MethodName := ⟨RX8, "<init>", "()V"⟩
theorem q165 : (Jvm.Cond.initialized "BorderStones$Value") ∈ lw_all := lw_g (lw_at lw_m1 24 rfl) rfl
theorem q942 : (Jvm.Cond.instanceMethod ({ cls := "BorderStones$Value", name := "<init>", desc := "()V" } : Jvm.MethodName)) ∈ lw_all := lw_g (lw_at lw_m4 81 rfl) rfl
theorem q943 : (Jvm.Cond.code ({ cls := "BorderStones$Value", name := "<init>", desc := "()V" } : Jvm.MethodName) prog_18_method_1_code (1 : Nat) (Option.none : Option Jvm.ClassFile.FieldType)) ∈ lw_all := lw_g (lw_at lw_m4 82 rfl) rfl
theorem q944 : (Jvm.Cond.methodLink "BorderStones$Value" (1 : Nat) ({ cls := "java/lang/Object", name := "<init>", desc := "()V" } : Jvm.MethodName)) ∈ lw_all := lw_g (lw_at lw_m4 83 rfl) rfl
theorem q1232 : (Jvm.Cond.declares ({ cls := "BorderStones$Value", name := "at", desc := "(LBorderStones$Moment;)J" } : Jvm.MethodName)) ∈ lw_tbl := lw_at lw_m5 131 rfl
theorem q1233 : (Jvm.Cond.sameMethod "BorderStones$Value" "BorderStones$Value" "at" "(LBorderStones$Moment;)J") ∈ lw_all := lw_g (lw_at lw_m5 132 rfl) rfl

def RX9 : String := "BorderStones$Chain"
def TX9 : u_T := fun k => match k with
  | 0 => ("BorderStones$Chain", "values", "Ljava/util/List;", true)
  | _ => ("BorderStones$Chain", "signs", "Ljava/lang/StringBuilder;", true)
def tyX9 : Nat → FieldType := fun k => match k with
  | 0 => .object "java/util/List"
  | _ => .object "java/lang/StringBuilder"
abbrev wsX90 : List Cond := u_ws RX9 TX9 2
theorem nmX9 : ∀ a, a < 2 → ∀ b, b < 2 → a ≠ b → (TX9 a).2.1 ≠ (TX9 b).2.1 := by decide +kernel
theorem tyX9_ok : ∀ k, k < 2 → parseFieldDescriptor (TX9 k).2.2.1 = some (tyX9 k) := by decide +kernel
abbrev cX9_init : ByteArray := prog_5_method_1_code
def yX9_init : MethodName := ⟨RX9, "<init>", "()V"⟩
abbrev cX9_add : ByteArray := prog_5_method_2_code
def yX9_add : MethodName := ⟨RX9, "add", "(CLBorderStones$Value;)V"⟩
abbrev cX9_at : ByteArray := prog_5_method_3_code
def yX9_at : MethodName := ⟨RX9, "at", "(LBorderStones$Moment;)J"⟩
abbrev cX9_two : ByteArray := prog_5_method_4_code
def yX9_two : MethodName := ⟨RX9, "two", "(CJJ)J"⟩
theorem q166 : (Jvm.Cond.initialized "BorderStones$Chain") ∈ lw_all := lw_g (lw_at lw_m1 25 rfl) rfl
theorem q889 : (Jvm.Cond.selects "BorderStones$Chain" ({ cls := "java/lang/Object", name := "getClass", desc := "()Ljava/lang/Class;" } : Jvm.MethodName) ({ cls := "java/lang/Object", name := "getClass", desc := "()Ljava/lang/Class;" } : Jvm.MethodName)) ∈ lw_all := lw_g (lw_at lw_m4 28 rfl) rfl
theorem q937 : (Jvm.Cond.instantiable "BorderStones$Chain" (2 : Nat)) ∈ lw_all := lw_g (lw_at lw_m4 76 rfl) rfl
theorem q939 : (Jvm.Cond.instanceMethod ({ cls := "BorderStones$Chain", name := "<init>", desc := "()V" } : Jvm.MethodName)) ∈ lw_all := lw_g (lw_at lw_m4 78 rfl) rfl
theorem q940 : (Jvm.Cond.code ({ cls := "BorderStones$Chain", name := "<init>", desc := "()V" } : Jvm.MethodName) prog_5_method_1_code (1 : Nat) (Option.none : Option Jvm.ClassFile.FieldType)) ∈ lw_all := lw_g (lw_at lw_m4 79 rfl) rfl
theorem q941 : (Jvm.Cond.methodLinkNest "BorderStones$Chain" (1 : Nat) ({ cls := "BorderStones$Value", name := "<init>", desc := "()V" } : Jvm.MethodName) "BorderStones") ∈ lw_tbl := lw_at lw_m4 80 rfl
theorem q945 : (Jvm.Cond.classLink "BorderStones$Chain" (7 : Nat) "java/util/ArrayList") ∈ lw_all := lw_g (lw_at lw_m4 84 rfl) rfl
theorem q946 : (Jvm.Cond.methodLink "BorderStones$Chain" (9 : Nat) ({ cls := "java/util/ArrayList", name := "<init>", desc := "(I)V" } : Jvm.MethodName)) ∈ lw_all := lw_g (lw_at lw_m4 85 rfl) rfl
theorem q947 : (Jvm.Cond.classLink "BorderStones$Chain" (18 : Nat) "java/lang/StringBuilder") ∈ lw_all := lw_g (lw_at lw_m4 86 rfl) rfl
theorem q949 : (Jvm.Cond.methodLink "BorderStones$Chain" (20 : Nat) ({ cls := "java/lang/StringBuilder", name := "<init>", desc := "()V" } : Jvm.MethodName)) ∈ lw_all := lw_g (lw_at lw_m4 88 rfl) rfl
theorem q970 : (Jvm.Cond.fieldLink "BorderStones$Chain" (12 : Nat) "BorderStones$Chain" "values" "Ljava/util/List;") ∈ lw_all := lw_g (lw_at lw_m4 109 rfl) rfl
theorem q971 : (Jvm.Cond.fieldLink "BorderStones$Chain" (21 : Nat) "BorderStones$Chain" "signs" "Ljava/lang/StringBuilder;") ∈ lw_all := lw_g (lw_at lw_m4 110 rfl) rfl
theorem q972 : (Jvm.Cond.laysFinal "BorderStones$Chain" "BorderStones$Chain" "values" "Ljava/util/List;") ∈ lw_all := lw_g (lw_at lw_m4 111 rfl) rfl
theorem q974 : (Jvm.Cond.laysFinal "BorderStones$Chain" "BorderStones$Chain" "signs" "Ljava/lang/StringBuilder;") ∈ lw_all := lw_g (lw_at lw_m4 113 rfl) rfl
theorem q976 : (Jvm.Cond.superclass "BorderStones$Chain" "BorderStones$Value") ∈ lw_all := lw_g (lw_at lw_m4 115 rfl) rfl
theorem q1034 : (Jvm.Cond.instanceMethod ({ cls := "BorderStones$Chain", name := "add", desc := "(CLBorderStones$Value;)V" } : Jvm.MethodName)) ∈ lw_all := lw_g (lw_at lw_m4 173 rfl) rfl
theorem q1035 : (Jvm.Cond.selects "BorderStones$Chain" ({ cls := "BorderStones$Chain", name := "add", desc := "(CLBorderStones$Value;)V" } : Jvm.MethodName) ({ cls := "BorderStones$Chain", name := "add", desc := "(CLBorderStones$Value;)V" } : Jvm.MethodName)) ∈ lw_all := lw_g (lw_at lw_m4 174 rfl) rfl
theorem q1036 : (Jvm.Cond.code ({ cls := "BorderStones$Chain", name := "add", desc := "(CLBorderStones$Value;)V" } : Jvm.MethodName) prog_5_method_2_code (3 : Nat) (Option.none : Option Jvm.ClassFile.FieldType)) ∈ lw_all := lw_g (lw_at lw_m4 175 rfl) rfl
theorem q1037 : (Jvm.Cond.methodLink "BorderStones$Chain" (25 : Nat) ({ cls := "java/lang/StringBuilder", name := "append", desc := "(C)Ljava/lang/StringBuilder;" } : Jvm.MethodName)) ∈ lw_all := lw_g (lw_at lw_m4 176 rfl) rfl
theorem q1092 : (Jvm.Cond.interfaceEntry "BorderStones$Chain" (29 : Nat)) ∈ lw_tbl := lw_at lw_m4 231 rfl
theorem q1093 : (Jvm.Cond.methodLink "BorderStones$Chain" (29 : Nat) ({ cls := "java/util/List", name := "add", desc := "(Ljava/lang/Object;)Z" } : Jvm.MethodName)) ∈ lw_all := lw_g (lw_at lw_m4 232 rfl) rfl
theorem q1237 : (Jvm.Cond.selects "BorderStones$Chain" ({ cls := "BorderStones$Value", name := "at", desc := "(LBorderStones$Moment;)J" } : Jvm.MethodName) ({ cls := "BorderStones$Chain", name := "at", desc := "(LBorderStones$Moment;)J" } : Jvm.MethodName)) ∈ lw_all := lw_g (lw_at lw_m5 136 rfl) rfl
theorem q1238 : (Jvm.Cond.instanceMethod ({ cls := "BorderStones$Chain", name := "at", desc := "(LBorderStones$Moment;)J" } : Jvm.MethodName)) ∈ lw_all := lw_g (lw_at lw_m5 137 rfl) rfl
theorem q1239 : (Jvm.Cond.code ({ cls := "BorderStones$Chain", name := "at", desc := "(LBorderStones$Moment;)J" } : Jvm.MethodName) prog_5_method_3_code (5 : Nat) (Option.some Jvm.ClassFile.FieldType.long)) ∈ lw_all := lw_g (lw_at lw_m5 138 rfl) rfl
theorem q1240 : (Jvm.Cond.interfaceEntry "BorderStones$Chain" (35 : Nat)) ∈ lw_tbl := lw_at lw_m5 139 rfl
theorem q1241 : (Jvm.Cond.methodLink "BorderStones$Chain" (35 : Nat) ({ cls := "java/util/List", name := "get", desc := "(I)Ljava/lang/Object;" } : Jvm.MethodName)) ∈ lw_all := lw_g (lw_at lw_m5 140 rfl) rfl
theorem q1242 : (Jvm.Cond.classLink "BorderStones$Chain" (2 : Nat) "BorderStones$Value") ∈ lw_all := lw_g (lw_at lw_m5 141 rfl) rfl
theorem q1243 : (Jvm.Cond.methodLink "BorderStones$Chain" (39 : Nat) ({ cls := "BorderStones$Value", name := "at", desc := "(LBorderStones$Moment;)J" } : Jvm.MethodName)) ∈ lw_all := lw_g (lw_at lw_m5 142 rfl) rfl
theorem q1249 : (Jvm.Cond.interfaceEntry "BorderStones$Chain" (43 : Nat)) ∈ lw_tbl := lw_at lw_m5 148 rfl
theorem q1250 : (Jvm.Cond.methodLink "BorderStones$Chain" (43 : Nat) ({ cls := "java/util/List", name := "size", desc := "()I" } : Jvm.MethodName)) ∈ lw_all := lw_g (lw_at lw_m5 149 rfl) rfl
theorem q1251 : (Jvm.Cond.methodLink "BorderStones$Chain" (47 : Nat) ({ cls := "java/lang/StringBuilder", name := "charAt", desc := "(I)C" } : Jvm.MethodName)) ∈ lw_all := lw_g (lw_at lw_m5 150 rfl) rfl
theorem q1261 : (Jvm.Cond.methodLink "BorderStones$Chain" (51 : Nat) ({ cls := "BorderStones$Chain", name := "two", desc := "(CJJ)J" } : Jvm.MethodName)) ∈ lw_all := lw_g (lw_at lw_m5 160 rfl) rfl
theorem q1262 : (Jvm.Cond.static ({ cls := "BorderStones$Chain", name := "two", desc := "(CJJ)J" } : Jvm.MethodName)) ∈ lw_all := lw_g (lw_at lw_m5 161 rfl) rfl
theorem q1263 : (Jvm.Cond.code ({ cls := "BorderStones$Chain", name := "two", desc := "(CJJ)J" } : Jvm.MethodName) prog_5_method_4_code (5 : Nat) (Option.some Jvm.ClassFile.FieldType.long)) ∈ lw_all := lw_g (lw_at lw_m5 162 rfl) rfl
theorem q1264 : (Jvm.Cond.methodLink "BorderStones$Chain" (61 : Nat) ({ cls := "java/lang/Math", name := "floorDiv", desc := "(JJ)J" } : Jvm.MethodName)) ∈ lw_all := lw_g (lw_at lw_m5 163 rfl) rfl
theorem q1267 : (Jvm.Cond.methodLinkNest "BorderStones$Chain" (55 : Nat) ({ cls := "BorderStones", name := "held", desc := "(J)J" } : Jvm.MethodName) "BorderStones") ∈ lw_tbl := lw_at lw_m5 166 rfl
theorem q2360 : (Jvm.Cond.castable "BorderStones$Chain" "BorderStones$Value") ∈ lw_tbl := lw_at lw_m10 59 rfl
theorem q2374 : (Jvm.Cond.castable "BorderStones$Chain" "java/lang/Object") ∈ lw_tbl := lw_at lw_m10 73 rfl
theorem in_X9 : ∀ w ∈ wsX90, w ∈ lw_all := lw_in wsX90 [972, 974] (by decide +kernel) (by decide +kernel)

def RX10 : String := "BorderStones$Pair"
def TX10 : u_T := fun k => match k with
  | 0 => ("BorderStones$Pair", "most", "Z", true)
  | 1 => ("BorderStones$Pair", "first", "LBorderStones$Value;", true)
  | _ => ("BorderStones$Pair", "second", "LBorderStones$Value;", true)
def tyX10 : Nat → FieldType := fun k => match k with
  | 0 => .boolean
  | 1 => .object "BorderStones$Value"
  | _ => .object "BorderStones$Value"
abbrev wsX100 : List Cond := u_ws RX10 TX10 3
theorem nmX10 : ∀ a, a < 3 → ∀ b, b < 3 → a ≠ b → (TX10 a).2.1 ≠ (TX10 b).2.1 := by decide +kernel
theorem tyX10_ok : ∀ k, k < 3 → parseFieldDescriptor (TX10 k).2.2.1 = some (tyX10 k) := by decide +kernel
abbrev cX10_init : ByteArray := prog_12_method_1_code
def yX10_init : MethodName := ⟨RX10, "<init>", "(ZLBorderStones$Value;LBorderStones$Value;)V"⟩
abbrev cX10_at : ByteArray := prog_12_method_2_code
def yX10_at : MethodName := ⟨RX10, "at", "(LBorderStones$Moment;)J"⟩
theorem q169 : (Jvm.Cond.initialized "BorderStones$Pair") ∈ lw_all := lw_g (lw_at lw_m1 28 rfl) rfl
theorem q896 : (Jvm.Cond.selects "BorderStones$Pair" ({ cls := "java/lang/Object", name := "getClass", desc := "()Ljava/lang/Class;" } : Jvm.MethodName) ({ cls := "java/lang/Object", name := "getClass", desc := "()Ljava/lang/Class;" } : Jvm.MethodName)) ∈ lw_all := lw_g (lw_at lw_m4 35 rfl) rfl
theorem q994 : (Jvm.Cond.instantiable "BorderStones$Pair" (3 : Nat)) ∈ lw_all := lw_g (lw_at lw_m4 133 rfl) rfl
theorem q996 : (Jvm.Cond.instanceMethod ({ cls := "BorderStones$Pair", name := "<init>", desc := "(ZLBorderStones$Value;LBorderStones$Value;)V" } : Jvm.MethodName)) ∈ lw_all := lw_g (lw_at lw_m4 135 rfl) rfl
theorem q997 : (Jvm.Cond.code ({ cls := "BorderStones$Pair", name := "<init>", desc := "(ZLBorderStones$Value;LBorderStones$Value;)V" } : Jvm.MethodName) prog_12_method_1_code (4 : Nat) (Option.none : Option Jvm.ClassFile.FieldType)) ∈ lw_all := lw_g (lw_at lw_m4 136 rfl) rfl
theorem q998 : (Jvm.Cond.methodLinkNest "BorderStones$Pair" (1 : Nat) ({ cls := "BorderStones$Value", name := "<init>", desc := "()V" } : Jvm.MethodName) "BorderStones") ∈ lw_tbl := lw_at lw_m4 137 rfl
theorem q999 : (Jvm.Cond.fieldLink "BorderStones$Pair" (7 : Nat) "BorderStones$Pair" "most" "Z") ∈ lw_all := lw_g (lw_at lw_m4 138 rfl) rfl
theorem q1000 : (Jvm.Cond.fieldLink "BorderStones$Pair" (13 : Nat) "BorderStones$Pair" "first" "LBorderStones$Value;") ∈ lw_all := lw_g (lw_at lw_m4 139 rfl) rfl
theorem q1001 : (Jvm.Cond.fieldLink "BorderStones$Pair" (17 : Nat) "BorderStones$Pair" "second" "LBorderStones$Value;") ∈ lw_all := lw_g (lw_at lw_m4 140 rfl) rfl
theorem q1002 : (Jvm.Cond.laysFinal "BorderStones$Pair" "BorderStones$Pair" "most" "Z") ∈ lw_all := lw_g (lw_at lw_m4 141 rfl) rfl
theorem q1004 : (Jvm.Cond.laysFinal "BorderStones$Pair" "BorderStones$Pair" "first" "LBorderStones$Value;") ∈ lw_all := lw_g (lw_at lw_m4 143 rfl) rfl
theorem q1006 : (Jvm.Cond.laysFinal "BorderStones$Pair" "BorderStones$Pair" "second" "LBorderStones$Value;") ∈ lw_all := lw_g (lw_at lw_m4 145 rfl) rfl
theorem q1008 : (Jvm.Cond.superclass "BorderStones$Pair" "BorderStones$Value") ∈ lw_all := lw_g (lw_at lw_m4 147 rfl) rfl
theorem q1246 : (Jvm.Cond.instanceMethod ({ cls := "BorderStones$Pair", name := "at", desc := "(LBorderStones$Moment;)J" } : Jvm.MethodName)) ∈ lw_all := lw_g (lw_at lw_m5 145 rfl) rfl
theorem q1247 : (Jvm.Cond.code ({ cls := "BorderStones$Pair", name := "at", desc := "(LBorderStones$Moment;)J" } : Jvm.MethodName) prog_12_method_2_code (6 : Nat) (Option.some Jvm.ClassFile.FieldType.long)) ∈ lw_all := lw_g (lw_at lw_m5 146 rfl) rfl
theorem q1248 : (Jvm.Cond.methodLink "BorderStones$Pair" (20 : Nat) ({ cls := "BorderStones$Value", name := "at", desc := "(LBorderStones$Moment;)J" } : Jvm.MethodName)) ∈ lw_all := lw_g (lw_at lw_m5 147 rfl) rfl
theorem q1279 : (Jvm.Cond.selects "BorderStones$Pair" ({ cls := "BorderStones$Value", name := "at", desc := "(LBorderStones$Moment;)J" } : Jvm.MethodName) ({ cls := "BorderStones$Pair", name := "at", desc := "(LBorderStones$Moment;)J" } : Jvm.MethodName)) ∈ lw_all := lw_g (lw_at lw_m5 178 rfl) rfl
theorem q2362 : (Jvm.Cond.castable "BorderStones$Pair" "BorderStones$Value") ∈ lw_tbl := lw_at lw_m10 61 rfl
theorem q2376 : (Jvm.Cond.castable "BorderStones$Pair" "java/lang/Object") ∈ lw_tbl := lw_at lw_m10 75 rfl
theorem in_X10 : ∀ w ∈ wsX100, w ∈ lw_all := lw_in wsX100 [1002, 1004, 1006] (by decide +kernel) (by decide +kernel)

def RX11 : String := "BorderStones$Fixed"
def TX11 : u_T := fun k => match k with
  | _ => ("BorderStones$Fixed", "value", "J", true)
def tyX11 : Nat → FieldType := fun k => match k with
  | _ => .long
abbrev wsX110 : List Cond := u_ws RX11 TX11 1
theorem nmX11 : ∀ a, a < 1 → ∀ b, b < 1 → a ≠ b → (TX11 a).2.1 ≠ (TX11 b).2.1 := by decide +kernel
theorem tyX11_ok : ∀ k, k < 1 → parseFieldDescriptor (TX11 k).2.2.1 = some (tyX11 k) := by decide +kernel
abbrev cX11_init : ByteArray := prog_8_method_1_code
def yX11_init : MethodName := ⟨RX11, "<init>", "(J)V"⟩
abbrev cX11_at : ByteArray := prog_8_method_2_code
def yX11_at : MethodName := ⟨RX11, "at", "(LBorderStones$Moment;)J"⟩
theorem q170 : (Jvm.Cond.initialized "BorderStones$Fixed") ∈ lw_all := lw_g (lw_at lw_m1 29 rfl) rfl
theorem q892 : (Jvm.Cond.selects "BorderStones$Fixed" ({ cls := "java/lang/Object", name := "getClass", desc := "()Ljava/lang/Class;" } : Jvm.MethodName) ({ cls := "java/lang/Object", name := "getClass", desc := "()Ljava/lang/Class;" } : Jvm.MethodName)) ∈ lw_all := lw_g (lw_at lw_m4 31 rfl) rfl
theorem q1010 : (Jvm.Cond.instantiable "BorderStones$Fixed" (1 : Nat)) ∈ lw_all := lw_g (lw_at lw_m4 149 rfl) rfl
theorem q1012 : (Jvm.Cond.instanceMethod ({ cls := "BorderStones$Fixed", name := "<init>", desc := "(J)V" } : Jvm.MethodName)) ∈ lw_all := lw_g (lw_at lw_m4 151 rfl) rfl
theorem q1013 : (Jvm.Cond.code ({ cls := "BorderStones$Fixed", name := "<init>", desc := "(J)V" } : Jvm.MethodName) prog_8_method_1_code (3 : Nat) (Option.none : Option Jvm.ClassFile.FieldType)) ∈ lw_all := lw_g (lw_at lw_m4 152 rfl) rfl
theorem q1014 : (Jvm.Cond.methodLinkNest "BorderStones$Fixed" (1 : Nat) ({ cls := "BorderStones$Value", name := "<init>", desc := "()V" } : Jvm.MethodName) "BorderStones") ∈ lw_tbl := lw_at lw_m4 153 rfl
theorem q1015 : (Jvm.Cond.fieldLink "BorderStones$Fixed" (7 : Nat) "BorderStones$Fixed" "value" "J") ∈ lw_all := lw_g (lw_at lw_m4 154 rfl) rfl
theorem q1016 : (Jvm.Cond.laysFinal "BorderStones$Fixed" "BorderStones$Fixed" "value" "J") ∈ lw_all := lw_g (lw_at lw_m4 155 rfl) rfl
theorem q1018 : (Jvm.Cond.superclass "BorderStones$Fixed" "BorderStones$Value") ∈ lw_all := lw_g (lw_at lw_m4 157 rfl) rfl
theorem q1244 : (Jvm.Cond.instanceMethod ({ cls := "BorderStones$Fixed", name := "at", desc := "(LBorderStones$Moment;)J" } : Jvm.MethodName)) ∈ lw_all := lw_g (lw_at lw_m5 143 rfl) rfl
theorem q1245 : (Jvm.Cond.code ({ cls := "BorderStones$Fixed", name := "at", desc := "(LBorderStones$Moment;)J" } : Jvm.MethodName) prog_8_method_2_code (2 : Nat) (Option.some Jvm.ClassFile.FieldType.long)) ∈ lw_all := lw_g (lw_at lw_m5 144 rfl) rfl
theorem q1278 : (Jvm.Cond.selects "BorderStones$Fixed" ({ cls := "BorderStones$Value", name := "at", desc := "(LBorderStones$Moment;)J" } : Jvm.MethodName) ({ cls := "BorderStones$Fixed", name := "at", desc := "(LBorderStones$Moment;)J" } : Jvm.MethodName)) ∈ lw_all := lw_g (lw_at lw_m5 177 rfl) rfl
theorem q2361 : (Jvm.Cond.castable "BorderStones$Fixed" "BorderStones$Value") ∈ lw_tbl := lw_at lw_m10 60 rfl
theorem q2377 : (Jvm.Cond.castable "BorderStones$Fixed" "java/lang/Object") ∈ lw_tbl := lw_at lw_m10 76 rfl
theorem in_X11 : ∀ w ∈ wsX110, w ∈ lw_all := lw_in wsX110 [1016] (by decide +kernel) (by decide +kernel)

def RX12 : String := "BorderStones$Asked"
def TX12 : u_T := fun k => match k with
  | _ => ("BorderStones$Asked", "what", "I", true)
def tyX12 : Nat → FieldType := fun k => match k with
  | _ => .int
abbrev wsX120 : List Cond := u_ws RX12 TX12 1
theorem nmX12 : ∀ a, a < 1 → ∀ b, b < 1 → a ≠ b → (TX12 a).2.1 ≠ (TX12 b).2.1 := by decide +kernel
theorem tyX12_ok : ∀ k, k < 1 → parseFieldDescriptor (TX12 k).2.2.1 = some (tyX12 k) := by decide +kernel
abbrev cX12_init : ByteArray := prog_3_method_1_code
def yX12_init : MethodName := ⟨RX12, "<init>", "(I)V"⟩
abbrev cX12_at : ByteArray := prog_3_method_2_code
def yX12_at : MethodName := ⟨RX12, "at", "(LBorderStones$Moment;)J"⟩
theorem q171 : (Jvm.Cond.initialized "BorderStones$Asked") ∈ lw_all := lw_g (lw_at lw_m1 30 rfl) rfl
theorem q397 : (Jvm.Cond.fieldLinkNest "BorderStones$Asked" (13 : Nat) "BorderStones$Moment" "of" "[I" "BorderStones") ∈ lw_tbl := lw_at lw_m2 16 rfl
theorem q887 : (Jvm.Cond.selects "BorderStones$Asked" ({ cls := "java/lang/Object", name := "getClass", desc := "()Ljava/lang/Class;" } : Jvm.MethodName) ({ cls := "java/lang/Object", name := "getClass", desc := "()Ljava/lang/Class;" } : Jvm.MethodName)) ∈ lw_all := lw_g (lw_at lw_m4 26 rfl) rfl
theorem q1022 : (Jvm.Cond.instantiable "BorderStones$Asked" (1 : Nat)) ∈ lw_all := lw_g (lw_at lw_m4 161 rfl) rfl
theorem q1024 : (Jvm.Cond.instanceMethod ({ cls := "BorderStones$Asked", name := "<init>", desc := "(I)V" } : Jvm.MethodName)) ∈ lw_all := lw_g (lw_at lw_m4 163 rfl) rfl
theorem q1025 : (Jvm.Cond.code ({ cls := "BorderStones$Asked", name := "<init>", desc := "(I)V" } : Jvm.MethodName) prog_3_method_1_code (2 : Nat) (Option.none : Option Jvm.ClassFile.FieldType)) ∈ lw_all := lw_g (lw_at lw_m4 164 rfl) rfl
theorem q1026 : (Jvm.Cond.methodLinkNest "BorderStones$Asked" (1 : Nat) ({ cls := "BorderStones$Value", name := "<init>", desc := "()V" } : Jvm.MethodName) "BorderStones") ∈ lw_tbl := lw_at lw_m4 165 rfl
theorem q1027 : (Jvm.Cond.fieldLink "BorderStones$Asked" (7 : Nat) "BorderStones$Asked" "what" "I") ∈ lw_all := lw_g (lw_at lw_m4 166 rfl) rfl
theorem q1028 : (Jvm.Cond.laysFinal "BorderStones$Asked" "BorderStones$Asked" "what" "I") ∈ lw_all := lw_g (lw_at lw_m4 167 rfl) rfl
theorem q1030 : (Jvm.Cond.superclass "BorderStones$Asked" "BorderStones$Value") ∈ lw_all := lw_g (lw_at lw_m4 169 rfl) rfl
theorem q1234 : (Jvm.Cond.selects "BorderStones$Asked" ({ cls := "BorderStones$Value", name := "at", desc := "(LBorderStones$Moment;)J" } : Jvm.MethodName) ({ cls := "BorderStones$Asked", name := "at", desc := "(LBorderStones$Moment;)J" } : Jvm.MethodName)) ∈ lw_all := lw_g (lw_at lw_m5 133 rfl) rfl
theorem q1235 : (Jvm.Cond.instanceMethod ({ cls := "BorderStones$Asked", name := "at", desc := "(LBorderStones$Moment;)J" } : Jvm.MethodName)) ∈ lw_all := lw_g (lw_at lw_m5 134 rfl) rfl
theorem q1236 : (Jvm.Cond.code ({ cls := "BorderStones$Asked", name := "at", desc := "(LBorderStones$Moment;)J" } : Jvm.MethodName) prog_3_method_2_code (2 : Nat) (Option.some Jvm.ClassFile.FieldType.long)) ∈ lw_all := lw_g (lw_at lw_m5 135 rfl) rfl
theorem q2359 : (Jvm.Cond.castable "BorderStones$Asked" "BorderStones$Value") ∈ lw_tbl := lw_at lw_m10 58 rfl
theorem q2378 : (Jvm.Cond.castable "BorderStones$Asked" "java/lang/Object") ∈ lw_tbl := lw_at lw_m10 77 rfl
theorem in_X12 : ∀ w ∈ wsX120, w ∈ lw_all := lw_in wsX120 [1028] (by decide +kernel) (by decide +kernel)

def RX13 : String := "BorderStones$Rule"
def TX13 : u_T := fun k => match k with
  | 0 => ("BorderStones$Rule", "sum", "LBorderStones$Value;", true)
  | _ => ("BorderStones$Rule", "when", "LBorderStones$Test;", true)
def tyX13 : Nat → FieldType := fun k => match k with
  | 0 => .object "BorderStones$Value"
  | _ => .object "BorderStones$Test"
abbrev wsX130 : List Cond := u_ws RX13 TX13 2
theorem nmX13 : ∀ a, a < 2 → ∀ b, b < 2 → a ≠ b → (TX13 a).2.1 ≠ (TX13 b).2.1 := by decide +kernel
theorem tyX13_ok : ∀ k, k < 2 → parseFieldDescriptor (TX13 k).2.2.1 = some (tyX13 k) := by decide +kernel
abbrev cX13_init : ByteArray := prog_14_method_1_code
def yX13_init : MethodName := ⟨RX13, "<init>", "(LBorderStones$Value;LBorderStones$Test;)V"⟩
theorem q172 : (Jvm.Cond.initialized "BorderStones$Rule") ∈ lw_all := lw_g (lw_at lw_m1 31 rfl) rfl
theorem q898 : (Jvm.Cond.selects "BorderStones$Rule" ({ cls := "java/lang/Object", name := "getClass", desc := "()Ljava/lang/Class;" } : Jvm.MethodName) ({ cls := "java/lang/Object", name := "getClass", desc := "()Ljava/lang/Class;" } : Jvm.MethodName)) ∈ lw_all := lw_g (lw_at lw_m4 37 rfl) rfl
theorem q1100 : (Jvm.Cond.instantiable "BorderStones$Rule" (2 : Nat)) ∈ lw_all := lw_g (lw_at lw_m4 239 rfl) rfl
theorem q1174 : (Jvm.Cond.instanceMethod ({ cls := "BorderStones$Rule", name := "<init>", desc := "(LBorderStones$Value;LBorderStones$Test;)V" } : Jvm.MethodName)) ∈ lw_all := lw_g (lw_at lw_m5 73 rfl) rfl
theorem q1175 : (Jvm.Cond.code ({ cls := "BorderStones$Rule", name := "<init>", desc := "(LBorderStones$Value;LBorderStones$Test;)V" } : Jvm.MethodName) prog_14_method_1_code (3 : Nat) (Option.none : Option Jvm.ClassFile.FieldType)) ∈ lw_all := lw_g (lw_at lw_m5 74 rfl) rfl
theorem q1176 : (Jvm.Cond.methodLink "BorderStones$Rule" (1 : Nat) ({ cls := "java/lang/Object", name := "<init>", desc := "()V" } : Jvm.MethodName)) ∈ lw_all := lw_g (lw_at lw_m5 75 rfl) rfl
theorem q1177 : (Jvm.Cond.fieldLink "BorderStones$Rule" (7 : Nat) "BorderStones$Rule" "sum" "LBorderStones$Value;") ∈ lw_all := lw_g (lw_at lw_m5 76 rfl) rfl
theorem q1179 : (Jvm.Cond.fieldLink "BorderStones$Rule" (13 : Nat) "BorderStones$Rule" "when" "LBorderStones$Test;") ∈ lw_all := lw_g (lw_at lw_m5 78 rfl) rfl
theorem q1181 : (Jvm.Cond.laysFinal "BorderStones$Rule" "BorderStones$Rule" "sum" "LBorderStones$Value;") ∈ lw_all := lw_g (lw_at lw_m5 80 rfl) rfl
theorem q1183 : (Jvm.Cond.laysFinal "BorderStones$Rule" "BorderStones$Rule" "when" "LBorderStones$Test;") ∈ lw_all := lw_g (lw_at lw_m5 82 rfl) rfl
theorem q1185 : (Jvm.Cond.superclass "BorderStones$Rule" "java/lang/Object") ∈ lw_all := lw_g (lw_at lw_m5 84 rfl) rfl
theorem q2379 : (Jvm.Cond.castable "BorderStones$Rule" "java/lang/Object") ∈ lw_tbl := lw_at lw_m10 78 rfl
theorem in_X13 : ∀ w ∈ wsX130, w ∈ lw_all := lw_in wsX130 [1181, 1183] (by decide +kernel) (by decide +kernel)

def RX14 : String := "BorderStones$Test"
abbrev cX14_init : ByteArray := prog_16_method_1_code
def yX14_init : MethodName := ⟨RX14, "<init>", "()V"⟩
theorem q173 : (Jvm.Cond.initialized "BorderStones$Test") ∈ lw_all := lw_g (lw_at lw_m1 32 rfl) rfl
theorem q1111 : (Jvm.Cond.instanceMethod ({ cls := "BorderStones$Test", name := "<init>", desc := "()V" } : Jvm.MethodName)) ∈ lw_all := lw_g (lw_at lw_m5 10 rfl) rfl
theorem q1112 : (Jvm.Cond.code ({ cls := "BorderStones$Test", name := "<init>", desc := "()V" } : Jvm.MethodName) prog_16_method_1_code (1 : Nat) (Option.none : Option Jvm.ClassFile.FieldType)) ∈ lw_all := lw_g (lw_at lw_m5 11 rfl) rfl
theorem q1113 : (Jvm.Cond.methodLink "BorderStones$Test" (1 : Nat) ({ cls := "java/lang/Object", name := "<init>", desc := "()V" } : Jvm.MethodName)) ∈ lw_all := lw_g (lw_at lw_m5 12 rfl) rfl
theorem q1212 : (Jvm.Cond.declares ({ cls := "BorderStones$Test", name := "holds", desc := "(LBorderStones$Moment;)Z" } : Jvm.MethodName)) ∈ lw_tbl := lw_at lw_m5 111 rfl
theorem q1213 : (Jvm.Cond.sameMethod "BorderStones$Test" "BorderStones$Test" "holds" "(LBorderStones$Moment;)Z") ∈ lw_all := lw_g (lw_at lw_m5 112 rfl) rfl

def RX15 : String := "BorderStones$Facts"
def TX15 : u_T := fun k => match k with
  | 0 => ("BorderStones$Facts", "tests", "Ljava/util/List;", true)
  | _ => ("BorderStones$Facts", "all", "Z", true)
def tyX15 : Nat → FieldType := fun k => match k with
  | 0 => .object "java/util/List"
  | _ => .boolean
abbrev wsX150 : List Cond := u_ws RX15 TX15 2
theorem nmX15 : ∀ a, a < 2 → ∀ b, b < 2 → a ≠ b → (TX15 a).2.1 ≠ (TX15 b).2.1 := by decide +kernel
theorem tyX15_ok : ∀ k, k < 2 → parseFieldDescriptor (TX15 k).2.2.1 = some (tyX15 k) := by decide +kernel
abbrev cX15_init : ByteArray := prog_6_method_1_code
def yX15_init : MethodName := ⟨RX15, "<init>", "(Z)V"⟩
abbrev cX15_holds : ByteArray := prog_6_method_2_code
def yX15_holds : MethodName := ⟨RX15, "holds", "(LBorderStones$Moment;)Z"⟩
theorem q174 : (Jvm.Cond.initialized "BorderStones$Facts") ∈ lw_all := lw_g (lw_at lw_m1 33 rfl) rfl
theorem q890 : (Jvm.Cond.selects "BorderStones$Facts" ({ cls := "java/lang/Object", name := "getClass", desc := "()Ljava/lang/Class;" } : Jvm.MethodName) ({ cls := "java/lang/Object", name := "getClass", desc := "()Ljava/lang/Class;" } : Jvm.MethodName)) ∈ lw_all := lw_g (lw_at lw_m4 29 rfl) rfl
theorem q1106 : (Jvm.Cond.instantiable "BorderStones$Facts" (2 : Nat)) ∈ lw_all := lw_g (lw_at lw_m5 5 rfl) rfl
theorem q1108 : (Jvm.Cond.instanceMethod ({ cls := "BorderStones$Facts", name := "<init>", desc := "(Z)V" } : Jvm.MethodName)) ∈ lw_all := lw_g (lw_at lw_m5 7 rfl) rfl
theorem q1109 : (Jvm.Cond.code ({ cls := "BorderStones$Facts", name := "<init>", desc := "(Z)V" } : Jvm.MethodName) prog_6_method_1_code (2 : Nat) (Option.none : Option Jvm.ClassFile.FieldType)) ∈ lw_all := lw_g (lw_at lw_m5 8 rfl) rfl
theorem q1110 : (Jvm.Cond.methodLinkNest "BorderStones$Facts" (1 : Nat) ({ cls := "BorderStones$Test", name := "<init>", desc := "()V" } : Jvm.MethodName) "BorderStones") ∈ lw_tbl := lw_at lw_m5 9 rfl
theorem q1114 : (Jvm.Cond.classLink "BorderStones$Facts" (7 : Nat) "java/util/ArrayList") ∈ lw_all := lw_g (lw_at lw_m5 13 rfl) rfl
theorem q1115 : (Jvm.Cond.methodLink "BorderStones$Facts" (9 : Nat) ({ cls := "java/util/ArrayList", name := "<init>", desc := "(I)V" } : Jvm.MethodName)) ∈ lw_all := lw_g (lw_at lw_m5 14 rfl) rfl
theorem q1116 : (Jvm.Cond.fieldLink "BorderStones$Facts" (12 : Nat) "BorderStones$Facts" "tests" "Ljava/util/List;") ∈ lw_all := lw_g (lw_at lw_m5 15 rfl) rfl
theorem q1118 : (Jvm.Cond.fieldLink "BorderStones$Facts" (18 : Nat) "BorderStones$Facts" "all" "Z") ∈ lw_all := lw_g (lw_at lw_m5 17 rfl) rfl
theorem q1119 : (Jvm.Cond.laysFinal "BorderStones$Facts" "BorderStones$Facts" "tests" "Ljava/util/List;") ∈ lw_all := lw_g (lw_at lw_m5 18 rfl) rfl
theorem q1121 : (Jvm.Cond.laysFinal "BorderStones$Facts" "BorderStones$Facts" "all" "Z") ∈ lw_all := lw_g (lw_at lw_m5 20 rfl) rfl
theorem q1123 : (Jvm.Cond.superclass "BorderStones$Facts" "BorderStones$Test") ∈ lw_all := lw_g (lw_at lw_m5 22 rfl) rfl
theorem q1217 : (Jvm.Cond.selects "BorderStones$Facts" ({ cls := "BorderStones$Test", name := "holds", desc := "(LBorderStones$Moment;)Z" } : Jvm.MethodName) ({ cls := "BorderStones$Facts", name := "holds", desc := "(LBorderStones$Moment;)Z" } : Jvm.MethodName)) ∈ lw_all := lw_g (lw_at lw_m5 116 rfl) rfl
theorem q1218 : (Jvm.Cond.instanceMethod ({ cls := "BorderStones$Facts", name := "holds", desc := "(LBorderStones$Moment;)Z" } : Jvm.MethodName)) ∈ lw_all := lw_g (lw_at lw_m5 117 rfl) rfl
theorem q1219 : (Jvm.Cond.code ({ cls := "BorderStones$Facts", name := "holds", desc := "(LBorderStones$Moment;)Z" } : Jvm.MethodName) prog_6_method_2_code (3 : Nat) (Option.some Jvm.ClassFile.FieldType.boolean)) ∈ lw_all := lw_g (lw_at lw_m5 118 rfl) rfl
theorem q1220 : (Jvm.Cond.interfaceEntry "BorderStones$Facts" (22 : Nat)) ∈ lw_tbl := lw_at lw_m5 119 rfl
theorem q1221 : (Jvm.Cond.methodLink "BorderStones$Facts" (22 : Nat) ({ cls := "java/util/List", name := "size", desc := "()I" } : Jvm.MethodName)) ∈ lw_all := lw_g (lw_at lw_m5 120 rfl) rfl
theorem q1222 : (Jvm.Cond.interfaceEntry "BorderStones$Facts" (28 : Nat)) ∈ lw_tbl := lw_at lw_m5 121 rfl
theorem q1223 : (Jvm.Cond.methodLink "BorderStones$Facts" (28 : Nat) ({ cls := "java/util/List", name := "get", desc := "(I)Ljava/lang/Object;" } : Jvm.MethodName)) ∈ lw_all := lw_g (lw_at lw_m5 122 rfl) rfl
theorem q1224 : (Jvm.Cond.classLink "BorderStones$Facts" (2 : Nat) "BorderStones$Test") ∈ lw_all := lw_g (lw_at lw_m5 123 rfl) rfl
theorem q1225 : (Jvm.Cond.methodLink "BorderStones$Facts" (32 : Nat) ({ cls := "BorderStones$Test", name := "holds", desc := "(LBorderStones$Moment;)Z" } : Jvm.MethodName)) ∈ lw_all := lw_g (lw_at lw_m5 124 rfl) rfl
theorem q2356 : (Jvm.Cond.castable "BorderStones$Facts" "BorderStones$Test") ∈ lw_tbl := lw_at lw_m10 55 rfl
theorem q2380 : (Jvm.Cond.castable "BorderStones$Facts" "java/lang/Object") ∈ lw_tbl := lw_at lw_m10 79 rfl
theorem in_X15 : ∀ w ∈ wsX150, w ∈ lw_all := lw_in wsX150 [1119, 1121] (by decide +kernel) (by decide +kernel)

def RX16 : String := "BorderStones$Not"
def TX16 : u_T := fun k => match k with
  | _ => ("BorderStones$Not", "test", "LBorderStones$Test;", true)
def tyX16 : Nat → FieldType := fun k => match k with
  | _ => .object "BorderStones$Test"
abbrev wsX160 : List Cond := u_ws RX16 TX16 1
theorem nmX16 : ∀ a, a < 1 → ∀ b, b < 1 → a ≠ b → (TX16 a).2.1 ≠ (TX16 b).2.1 := by decide +kernel
theorem tyX16_ok : ∀ k, k < 1 → parseFieldDescriptor (TX16 k).2.2.1 = some (tyX16 k) := by decide +kernel
abbrev cX16_init : ByteArray := prog_11_method_1_code
def yX16_init : MethodName := ⟨RX16, "<init>", "(LBorderStones$Test;)V"⟩
abbrev cX16_holds : ByteArray := prog_11_method_2_code
def yX16_holds : MethodName := ⟨RX16, "holds", "(LBorderStones$Moment;)Z"⟩
theorem q175 : (Jvm.Cond.initialized "BorderStones$Not") ∈ lw_all := lw_g (lw_at lw_m1 34 rfl) rfl
theorem q895 : (Jvm.Cond.selects "BorderStones$Not" ({ cls := "java/lang/Object", name := "getClass", desc := "()Ljava/lang/Class;" } : Jvm.MethodName) ({ cls := "java/lang/Object", name := "getClass", desc := "()Ljava/lang/Class;" } : Jvm.MethodName)) ∈ lw_all := lw_g (lw_at lw_m4 34 rfl) rfl
theorem q1138 : (Jvm.Cond.instantiable "BorderStones$Not" (1 : Nat)) ∈ lw_all := lw_g (lw_at lw_m5 37 rfl) rfl
theorem q1140 : (Jvm.Cond.instanceMethod ({ cls := "BorderStones$Not", name := "<init>", desc := "(LBorderStones$Test;)V" } : Jvm.MethodName)) ∈ lw_all := lw_g (lw_at lw_m5 39 rfl) rfl
theorem q1141 : (Jvm.Cond.code ({ cls := "BorderStones$Not", name := "<init>", desc := "(LBorderStones$Test;)V" } : Jvm.MethodName) prog_11_method_1_code (2 : Nat) (Option.none : Option Jvm.ClassFile.FieldType)) ∈ lw_all := lw_g (lw_at lw_m5 40 rfl) rfl
theorem q1142 : (Jvm.Cond.methodLinkNest "BorderStones$Not" (1 : Nat) ({ cls := "BorderStones$Test", name := "<init>", desc := "()V" } : Jvm.MethodName) "BorderStones") ∈ lw_tbl := lw_at lw_m5 41 rfl
theorem q1143 : (Jvm.Cond.fieldLink "BorderStones$Not" (7 : Nat) "BorderStones$Not" "test" "LBorderStones$Test;") ∈ lw_all := lw_g (lw_at lw_m5 42 rfl) rfl
theorem q1144 : (Jvm.Cond.laysFinal "BorderStones$Not" "BorderStones$Not" "test" "LBorderStones$Test;") ∈ lw_all := lw_g (lw_at lw_m5 43 rfl) rfl
theorem q1146 : (Jvm.Cond.superclass "BorderStones$Not" "BorderStones$Test") ∈ lw_all := lw_g (lw_at lw_m5 45 rfl) rfl
theorem q1226 : (Jvm.Cond.instanceMethod ({ cls := "BorderStones$Not", name := "holds", desc := "(LBorderStones$Moment;)Z" } : Jvm.MethodName)) ∈ lw_all := lw_g (lw_at lw_m5 125 rfl) rfl
theorem q1227 : (Jvm.Cond.code ({ cls := "BorderStones$Not", name := "holds", desc := "(LBorderStones$Moment;)Z" } : Jvm.MethodName) prog_11_method_2_code (2 : Nat) (Option.some Jvm.ClassFile.FieldType.boolean)) ∈ lw_all := lw_g (lw_at lw_m5 126 rfl) rfl
theorem q1228 : (Jvm.Cond.methodLink "BorderStones$Not" (13 : Nat) ({ cls := "BorderStones$Test", name := "holds", desc := "(LBorderStones$Moment;)Z" } : Jvm.MethodName)) ∈ lw_all := lw_g (lw_at lw_m5 127 rfl) rfl
theorem q1280 : (Jvm.Cond.selects "BorderStones$Not" ({ cls := "BorderStones$Test", name := "holds", desc := "(LBorderStones$Moment;)Z" } : Jvm.MethodName) ({ cls := "BorderStones$Not", name := "holds", desc := "(LBorderStones$Moment;)Z" } : Jvm.MethodName)) ∈ lw_all := lw_g (lw_at lw_m5 179 rfl) rfl
theorem q2357 : (Jvm.Cond.castable "BorderStones$Not" "BorderStones$Test") ∈ lw_tbl := lw_at lw_m10 56 rfl
theorem q2381 : (Jvm.Cond.castable "BorderStones$Not" "java/lang/Object") ∈ lw_tbl := lw_at lw_m10 80 rfl
theorem in_X16 : ∀ w ∈ wsX160, w ∈ lw_all := lw_in wsX160 [1144] (by decide +kernel) (by decide +kernel)

def RX17 : String := "BorderStones$All"
abbrev cX17_init : ByteArray := prog_2_method_1_code
def yX17_init : MethodName := ⟨RX17, "<init>", "()V"⟩
abbrev cX17_holds : ByteArray := prog_2_method_2_code
def yX17_holds : MethodName := ⟨RX17, "holds", "(LBorderStones$Moment;)Z"⟩
theorem q176 : (Jvm.Cond.initialized "BorderStones$All") ∈ lw_all := lw_g (lw_at lw_m1 35 rfl) rfl
theorem q886 : (Jvm.Cond.selects "BorderStones$All" ({ cls := "java/lang/Object", name := "getClass", desc := "()Ljava/lang/Class;" } : Jvm.MethodName) ({ cls := "java/lang/Object", name := "getClass", desc := "()Ljava/lang/Class;" } : Jvm.MethodName)) ∈ lw_all := lw_g (lw_at lw_m4 25 rfl) rfl
theorem q1149 : (Jvm.Cond.instantiable "BorderStones$All" (0 : Nat)) ∈ lw_all := lw_g (lw_at lw_m5 48 rfl) rfl
theorem q1151 : (Jvm.Cond.instanceMethod ({ cls := "BorderStones$All", name := "<init>", desc := "()V" } : Jvm.MethodName)) ∈ lw_all := lw_g (lw_at lw_m5 50 rfl) rfl
theorem q1152 : (Jvm.Cond.code ({ cls := "BorderStones$All", name := "<init>", desc := "()V" } : Jvm.MethodName) prog_2_method_1_code (1 : Nat) (Option.none : Option Jvm.ClassFile.FieldType)) ∈ lw_all := lw_g (lw_at lw_m5 51 rfl) rfl
theorem q1153 : (Jvm.Cond.methodLinkNest "BorderStones$All" (1 : Nat) ({ cls := "BorderStones$Test", name := "<init>", desc := "()V" } : Jvm.MethodName) "BorderStones") ∈ lw_tbl := lw_at lw_m5 52 rfl
theorem q1154 : (Jvm.Cond.superclass "BorderStones$All" "BorderStones$Test") ∈ lw_all := lw_g (lw_at lw_m5 53 rfl) rfl
theorem q1214 : (Jvm.Cond.selects "BorderStones$All" ({ cls := "BorderStones$Test", name := "holds", desc := "(LBorderStones$Moment;)Z" } : Jvm.MethodName) ({ cls := "BorderStones$All", name := "holds", desc := "(LBorderStones$Moment;)Z" } : Jvm.MethodName)) ∈ lw_all := lw_g (lw_at lw_m5 113 rfl) rfl
theorem q1215 : (Jvm.Cond.instanceMethod ({ cls := "BorderStones$All", name := "holds", desc := "(LBorderStones$Moment;)Z" } : Jvm.MethodName)) ∈ lw_all := lw_g (lw_at lw_m5 114 rfl) rfl
theorem q1216 : (Jvm.Cond.code ({ cls := "BorderStones$All", name := "holds", desc := "(LBorderStones$Moment;)Z" } : Jvm.MethodName) prog_2_method_2_code (2 : Nat) (Option.some Jvm.ClassFile.FieldType.boolean)) ∈ lw_all := lw_g (lw_at lw_m5 115 rfl) rfl
theorem q2355 : (Jvm.Cond.castable "BorderStones$All" "BorderStones$Test") ∈ lw_tbl := lw_at lw_m10 54 rfl
theorem q2382 : (Jvm.Cond.castable "BorderStones$All" "java/lang/Object") ∈ lw_tbl := lw_at lw_m10 81 rfl

def RX18 : String := "BorderStones$Than"
def TX18 : u_T := fun k => match k with
  | 0 => ("BorderStones$Than", "a", "LBorderStones$Value;", true)
  | 1 => ("BorderStones$Than", "b", "LBorderStones$Value;", true)
  | _ => ("BorderStones$Than", "sign", "I", true)
def tyX18 : Nat → FieldType := fun k => match k with
  | 0 => .object "BorderStones$Value"
  | 1 => .object "BorderStones$Value"
  | _ => .int
abbrev wsX180 : List Cond := u_ws RX18 TX18 3
theorem nmX18 : ∀ a, a < 3 → ∀ b, b < 3 → a ≠ b → (TX18 a).2.1 ≠ (TX18 b).2.1 := by decide +kernel
theorem tyX18_ok : ∀ k, k < 3 → parseFieldDescriptor (TX18 k).2.2.1 = some (tyX18 k) := by decide +kernel
abbrev cX18_init : ByteArray := prog_17_method_1_code
def yX18_init : MethodName := ⟨RX18, "<init>", "(LBorderStones$Value;ILBorderStones$Value;)V"⟩
abbrev cX18_holds : ByteArray := prog_17_method_2_code
def yX18_holds : MethodName := ⟨RX18, "holds", "(LBorderStones$Moment;)Z"⟩
theorem q177 : (Jvm.Cond.initialized "BorderStones$Than") ∈ lw_all := lw_g (lw_at lw_m1 36 rfl) rfl
theorem q900 : (Jvm.Cond.selects "BorderStones$Than" ({ cls := "java/lang/Object", name := "getClass", desc := "()Ljava/lang/Class;" } : Jvm.MethodName) ({ cls := "java/lang/Object", name := "getClass", desc := "()Ljava/lang/Class;" } : Jvm.MethodName)) ∈ lw_all := lw_g (lw_at lw_m4 39 rfl) rfl
theorem q1156 : (Jvm.Cond.instantiable "BorderStones$Than" (3 : Nat)) ∈ lw_all := lw_g (lw_at lw_m5 55 rfl) rfl
theorem q1158 : (Jvm.Cond.instanceMethod ({ cls := "BorderStones$Than", name := "<init>", desc := "(LBorderStones$Value;ILBorderStones$Value;)V" } : Jvm.MethodName)) ∈ lw_all := lw_g (lw_at lw_m5 57 rfl) rfl
theorem q1159 : (Jvm.Cond.code ({ cls := "BorderStones$Than", name := "<init>", desc := "(LBorderStones$Value;ILBorderStones$Value;)V" } : Jvm.MethodName) prog_17_method_1_code (4 : Nat) (Option.none : Option Jvm.ClassFile.FieldType)) ∈ lw_all := lw_g (lw_at lw_m5 58 rfl) rfl
theorem q1160 : (Jvm.Cond.methodLinkNest "BorderStones$Than" (1 : Nat) ({ cls := "BorderStones$Test", name := "<init>", desc := "()V" } : Jvm.MethodName) "BorderStones") ∈ lw_tbl := lw_at lw_m5 59 rfl
theorem q1161 : (Jvm.Cond.fieldLink "BorderStones$Than" (7 : Nat) "BorderStones$Than" "a" "LBorderStones$Value;") ∈ lw_all := lw_g (lw_at lw_m5 60 rfl) rfl
theorem q1162 : (Jvm.Cond.fieldLink "BorderStones$Than" (17 : Nat) "BorderStones$Than" "b" "LBorderStones$Value;") ∈ lw_all := lw_g (lw_at lw_m5 61 rfl) rfl
theorem q1163 : (Jvm.Cond.fieldLink "BorderStones$Than" (13 : Nat) "BorderStones$Than" "sign" "I") ∈ lw_all := lw_g (lw_at lw_m5 62 rfl) rfl
theorem q1164 : (Jvm.Cond.laysFinal "BorderStones$Than" "BorderStones$Than" "a" "LBorderStones$Value;") ∈ lw_all := lw_g (lw_at lw_m5 63 rfl) rfl
theorem q1166 : (Jvm.Cond.laysFinal "BorderStones$Than" "BorderStones$Than" "b" "LBorderStones$Value;") ∈ lw_all := lw_g (lw_at lw_m5 65 rfl) rfl
theorem q1168 : (Jvm.Cond.laysFinal "BorderStones$Than" "BorderStones$Than" "sign" "I") ∈ lw_all := lw_g (lw_at lw_m5 67 rfl) rfl
theorem q1170 : (Jvm.Cond.superclass "BorderStones$Than" "BorderStones$Test") ∈ lw_all := lw_g (lw_at lw_m5 69 rfl) rfl
theorem q1229 : (Jvm.Cond.instanceMethod ({ cls := "BorderStones$Than", name := "holds", desc := "(LBorderStones$Moment;)Z" } : Jvm.MethodName)) ∈ lw_all := lw_g (lw_at lw_m5 128 rfl) rfl
theorem q1230 : (Jvm.Cond.code ({ cls := "BorderStones$Than", name := "holds", desc := "(LBorderStones$Moment;)Z" } : Jvm.MethodName) prog_17_method_2_code (6 : Nat) (Option.some Jvm.ClassFile.FieldType.boolean)) ∈ lw_all := lw_g (lw_at lw_m5 129 rfl) rfl
theorem q1231 : (Jvm.Cond.methodLink "BorderStones$Than" (20 : Nat) ({ cls := "BorderStones$Value", name := "at", desc := "(LBorderStones$Moment;)J" } : Jvm.MethodName)) ∈ lw_all := lw_g (lw_at lw_m5 130 rfl) rfl
theorem q1281 : (Jvm.Cond.selects "BorderStones$Than" ({ cls := "BorderStones$Test", name := "holds", desc := "(LBorderStones$Moment;)Z" } : Jvm.MethodName) ({ cls := "BorderStones$Than", name := "holds", desc := "(LBorderStones$Moment;)Z" } : Jvm.MethodName)) ∈ lw_all := lw_g (lw_at lw_m5 180 rfl) rfl
theorem q2358 : (Jvm.Cond.castable "BorderStones$Than" "BorderStones$Test") ∈ lw_tbl := lw_at lw_m10 57 rfl
theorem q2383 : (Jvm.Cond.castable "BorderStones$Than" "java/lang/Object") ∈ lw_tbl := lw_at lw_m10 82 rfl
theorem in_X18 : ∀ w ∈ wsX180, w ∈ lw_all := lw_in wsX180 [1164, 1166, 1168] (by decide +kernel) (by decide +kernel)

