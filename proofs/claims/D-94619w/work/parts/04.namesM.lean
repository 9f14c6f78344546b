/-! BorderStonesModel: its name, fields, methods, words (out of the claim's names), and the M layer's tables -/
set_option maxRecDepth 100000
def RX6 : String := "BorderStonesModel"
def TX6 : u_T := fun k => match k with
  | 0 => ("BorderStonesModel", "tape", "[I", true)
  | 1 => ("BorderStonesModel", "taped", "I", false)
  | 2 => ("BorderStonesModel", "at", "I", false)
  | 3 => ("BorderStonesModel", "end", "I", false)
  | 4 => ("BorderStonesModel", "ended", "I", false)
  | 5 => ("BorderStonesModel", "bad", "I", false)
  | 6 => ("BorderStonesModel", "badPlace", "I", false)
  | 7 => ("BorderStonesModel", "fault", "I", false)
  | 8 => ("BorderStonesModel", "faultPlace", "I", false)
  | 9 => ("BorderStonesModel", "numberPlace", "I", false)
  | 10 => ("BorderStonesModel", "fieldWord", "[C", true)
  | 11 => ("BorderStonesModel", "kindWord", "[C", true)
  | 12 => ("BorderStonesModel", "reachWord", "[C", true)
  | 13 => ("BorderStonesModel", "highWord", "[C", true)
  | 14 => ("BorderStonesModel", "sunkWord", "[C", true)
  | 15 => ("BorderStonesModel", "childWord", "[C", true)
  | 16 => ("BorderStonesModel", "stoneWord", "[C", true)
  | 17 => ("BorderStonesModel", "redWord", "[C", true)
  | 18 => ("BorderStonesModel", "blueWord", "[C", true)
  | 19 => ("BorderStonesModel", "atWord", "[C", true)
  | 20 => ("BorderStonesModel", "landWord", "[C", true)
  | 21 => ("BorderStonesModel", "worthWord", "[C", true)
  | 22 => ("BorderStonesModel", "whenWord", "[C", true)
  | 23 => ("BorderStonesModel", "orWord", "[C", true)
  | 24 => ("BorderStonesModel", "andWord", "[C", true)
  | 25 => ("BorderStonesModel", "notWord", "[C", true)
  | 26 => ("BorderStonesModel", "allWord", "[C", true)
  | 27 => ("BorderStonesModel", "acrossWord", "[C", true)
  | 28 => ("BorderStonesModel", "downWord", "[C", true)
  | 29 => ("BorderStonesModel", "edgeWord", "[C", true)
  | 30 => ("BorderStonesModel", "minWord", "[C", true)
  | 31 => ("BorderStonesModel", "maxWord", "[C", true)
  | 32 => ("BorderStonesModel", "namePlace", "I", false)
  | 33 => ("BorderStonesModel", "wideTold", "I", false)
  | 34 => ("BorderStonesModel", "highTold", "I", false)
  | 35 => ("BorderStonesModel", "wide", "I", false)
  | 36 => ("BorderStonesModel", "high", "I", false)
  | 37 => ("BorderStonesModel", "many", "[I", true)
  | 38 => ("BorderStonesModel", "names", "[J", true)
  | 39 => ("BorderStonesModel", "reach", "[I", true)
  | 40 => ("BorderStonesModel", "marks", "[I", true)
  | 41 => ("BorderStonesModel", "stoneTold", "[I", true)
  | 42 => ("BorderStonesModel", "landTold", "[I", true)
  | 43 => ("BorderStonesModel", "statements", "I", false)
  | 44 => ("BorderStonesModel", "codes", "[I", true)
  | 45 => ("BorderStonesModel", "coded", "I", false)
  | 46 => ("BorderStonesModel", "wait", "[I", true)
  | 47 => ("BorderStonesModel", "waits", "I", false)
  | 48 => ("BorderStonesModel", "open", "I", false)
  | 49 => ("BorderStonesModel", "sumFrom", "[I", true)
  | 50 => ("BorderStonesModel", "sumEnd", "[I", true)
  | 51 => ("BorderStonesModel", "testEnd", "[I", true)
  | 52 => ("BorderStonesModel", "worth", "[I", true)
  | 53 => ("BorderStonesModel", "base", "I", false)
  | 54 => ("BorderStonesModel", "pile", "[J", true)
  | 55 => ("BorderStonesModel", "piled", "I", false)
  | 56 => ("BorderStonesModel", "now", "[I", true)
  | 57 => ("BorderStonesModel", "owed", "[J", true)
  | 58 => ("BorderStonesModel", "edge", "J", false)
  | 59 => ("BorderStonesModel", "lines", "I", false)
  | 60 => ("BorderStonesModel", "part", "[J", true)
  | 61 => ("BorderStonesModel", "parts", "I", false)
  | 62 => ("BorderStonesModel", "stack", "[I", true)
  | 63 => ("BorderStonesModel", "was", "[J", true)
  | 64 => ("BorderStonesModel", "wasMany", "I", false)
  | 65 => ("BorderStonesModel", "comes", "[J", true)
  | 66 => ("BorderStonesModel", "comesMany", "I", false)
  | 67 => ("BorderStonesModel", "kept", "[I", true)
  | 68 => ("BorderStonesModel", "keptOwed", "[J", true)
  | 69 => ("BorderStonesModel", "ring", "[I", true)
  | 70 => ("BorderStonesModel", "ringOwed", "[J", true)
  | 71 => ("BorderStonesModel", "undoable", "I", false)
  | 72 => ("BorderStonesModel", "newest", "I", false)
  | 73 => ("BorderStonesModel", "answered", "I", false)
  | 74 => ("BorderStonesModel", "moveAt", "[I", true)
  | 75 => ("BorderStonesModel", "bestAt", "[I", true)
  | 76 => ("BorderStonesModel", "valueAt", "[I", true)
  | 77 => ("BorderStonesModel", "rowPlace", "[I", true)
  | 78 => ("BorderStonesModel", "rowStone", "[I", true)
  | 79 => ("BorderStonesModel", "rowLand", "[I", true)
  | 80 => ("BorderStonesModel", "freePlace", "[I", true)
  | 81 => ("BorderStonesModel", "waysAt", "[I", true)
  | 82 => ("BorderStonesModel", "waysAll", "I", false)
  | 83 => ("BorderStonesModel", "seeded", "J", false)
  | 84 => ("BorderStonesModel", "octet", "[I", true)
  | _ => ("BorderStonesModel", "octets", "I", false)
def tyX6 : Nat → FieldType := fun k => match k with
  | 0 => .array .int
  | 1 => .int
  | 2 => .int
  | 3 => .int
  | 4 => .int
  | 5 => .int
  | 6 => .int
  | 7 => .int
  | 8 => .int
  | 9 => .int
  | 10 => .array .char
  | 11 => .array .char
  | 12 => .array .char
  | 13 => .array .char
  | 14 => .array .char
  | 15 => .array .char
  | 16 => .array .char
  | 17 => .array .char
  | 18 => .array .char
  | 19 => .array .char
  | 20 => .array .char
  | 21 => .array .char
  | 22 => .array .char
  | 23 => .array .char
  | 24 => .array .char
  | 25 => .array .char
  | 26 => .array .char
  | 27 => .array .char
  | 28 => .array .char
  | 29 => .array .char
  | 30 => .array .char
  | 31 => .array .char
  | 32 => .int
  | 33 => .int
  | 34 => .int
  | 35 => .int
  | 36 => .int
  | 37 => .array .int
  | 38 => .array .long
  | 39 => .array .int
  | 40 => .array .int
  | 41 => .array .int
  | 42 => .array .int
  | 43 => .int
  | 44 => .array .int
  | 45 => .int
  | 46 => .array .int
  | 47 => .int
  | 48 => .int
  | 49 => .array .int
  | 50 => .array .int
  | 51 => .array .int
  | 52 => .array .int
  | 53 => .int
  | 54 => .array .long
  | 55 => .int
  | 56 => .array .int
  | 57 => .array .long
  | 58 => .long
  | 59 => .int
  | 60 => .array .long
  | 61 => .int
  | 62 => .array .int
  | 63 => .array .long
  | 64 => .int
  | 65 => .array .long
  | 66 => .int
  | 67 => .array .int
  | 68 => .array .long
  | 69 => .array .int
  | 70 => .array .long
  | 71 => .int
  | 72 => .int
  | 73 => .int
  | 74 => .array .int
  | 75 => .array .int
  | 76 => .array .int
  | 77 => .array .int
  | 78 => .array .int
  | 79 => .array .int
  | 80 => .array .int
  | 81 => .array .int
  | 82 => .int
  | 83 => .long
  | 84 => .array .int
  | _ => .int
abbrev wsX60 : List Cond := u_ws RX6 TX6 86
theorem nmX6 : ∀ a, a < 86 → ∀ b, b < 86 → a ≠ b → (TX6 a).2.1 ≠ (TX6 b).2.1 := by decide +kernel
theorem tyX6_ok : ∀ k, k < 86 → parseFieldDescriptor (TX6 k).2.2.1 = some (tyX6 k) := by decide +kernel
abbrev cX6_init : ByteArray := prog_20_method_1_code
def yX6_init : MethodName := ⟨RX6, "<init>", "()V"⟩
abbrev cX6_feed : ByteArray := prog_20_method_3_code
def yX6_feed : MethodName := ⟨RX6, "feed", "(IIIII)I"⟩
abbrev cX6_end : ByteArray := prog_20_method_4_code
def yX6_end : MethodName := ⟨RX6, "end", "(I)Z"⟩
abbrev cX6_border : ByteArray := prog_20_method_27_code
def yX6_border : MethodName := ⟨RX6, "border", "()I"⟩
abbrev cX6_fieldTold : ByteArray := prog_20_method_19_code
def yX6_fieldTold : MethodName := ⟨RX6, "fieldTold", "()V"⟩
abbrev cX6_asks : ByteArray := prog_20_method_11_code
def yX6_asks : MethodName := ⟨RX6, "asks", "([C)V"⟩
abbrev cX6_takes : ByteArray := prog_20_method_10_code
def yX6_takes : MethodName := ⟨RX6, "takes", "([C)Z"⟩
abbrev cX6_isHere : ByteArray := prog_20_method_9_code
def yX6_isHere : MethodName := ⟨RX6, "isHere", "([C)Z"⟩
abbrev cX6_look : ByteArray := prog_20_method_8_code
def yX6_look : MethodName := ⟨RX6, "look", "()I"⟩
abbrev cX6_isLetter : ByteArray := prog_20_method_6_code
def yX6_isLetter : MethodName := ⟨RX6, "isLetter", "(I)Z"⟩
abbrev cX6_fail : ByteArray := prog_20_method_5_code
def yX6_fail : MethodName := ⟨RX6, "fail", "(II)V"⟩
abbrev cX6_number : ByteArray := prog_20_method_14_code
def yX6_number : MethodName := ⟨RX6, "number", "(II)I"⟩
abbrev cX6_isDigit : ByteArray := prog_20_method_7_code
def yX6_isDigit : MethodName := ⟨RX6, "isDigit", "(I)Z"⟩
abbrev cX6_isIn : ByteArray := prog_20_method_2_code
def yX6_isIn : MethodName := ⟨RX6, "isIn", "(JJJ)Z"⟩
abbrev cX6_asksSign : ByteArray := prog_20_method_13_code
def yX6_asksSign : MethodName := ⟨RX6, "asksSign", "(I)V"⟩
abbrev cX6_takesSign : ByteArray := prog_20_method_12_code
def yX6_takesSign : MethodName := ⟨RX6, "takesSign", "(I)Z"⟩
abbrev cX6_statementTold : ByteArray := prog_20_method_26_code
def yX6_statementTold : MethodName := ⟨RX6, "statementTold", "()V"⟩
abbrev cX6_kindTold : ByteArray := prog_20_method_20_code
def yX6_kindTold : MethodName := ⟨RX6, "kindTold", "(I)V"⟩
abbrev cX6_isFull : ByteArray := prog_20_method_17_code
def yX6_isFull : MethodName := ⟨RX6, "isFull", "(III)Z"⟩
abbrev cX6_name : ByteArray := prog_20_method_16_code
def yX6_name : MethodName := ⟨RX6, "name", "()J"⟩
abbrev cX6_isOwnHere : ByteArray := prog_20_method_15_code
def yX6_isOwnHere : MethodName := ⟨RX6, "isOwnHere", "()Z"⟩
abbrev cX6_kindOf : ByteArray := prog_20_method_18_code
def yX6_kindOf : MethodName := ⟨RX6, "kindOf", "(J)I"⟩
abbrev cX6_stoneIsTold : ByteArray := prog_20_method_23_code
def yX6_stoneIsTold : MethodName := ⟨RX6, "stoneIsTold", "(I)V"⟩
abbrev cX6_sideTold : ByteArray := prog_20_method_21_code
def yX6_sideTold : MethodName := ⟨RX6, "sideTold", "()I"⟩
abbrev cX6_placeTold : ByteArray := prog_20_method_22_code
def yX6_placeTold : MethodName := ⟨RX6, "placeTold", "(Z)I"⟩
abbrev cX6_landIsTold : ByteArray := prog_20_method_24_code
def yX6_landIsTold : MethodName := ⟨RX6, "landIsTold", "()V"⟩
abbrev cX6_worthTold : ByteArray := prog_20_method_25_code
def yX6_worthTold : MethodName := ⟨RX6, "worthTold", "(I)V"⟩
abbrev cX6_sumsTold : ByteArray := prog_20_method_38_code
def yX6_sumsTold : MethodName := ⟨RX6, "sumsTold", "()V"⟩
abbrev cX6_onePart : ByteArray := prog_20_method_36_code
def yX6_onePart : MethodName := ⟨RX6, "onePart", "()V"⟩
abbrev cX6_opens : ByteArray := prog_20_method_30_code
def yX6_opens : MethodName := ⟨RX6, "opens", "(II)V"⟩
abbrev cX6_code : ByteArray := prog_20_method_29_code
def yX6_code : MethodName := ⟨RX6, "code", "(I)V"⟩
abbrev cX6_goesOn : ByteArray := prog_20_method_37_code
def yX6_goesOn : MethodName := ⟨RX6, "goesOn", "()Z"⟩
abbrev cX6_mark : ByteArray := prog_20_method_34_code
def yX6_mark : MethodName := ⟨RX6, "mark", "()I"⟩
abbrev cX6_isMark : ByteArray := prog_20_method_33_code
def yX6_isMark : MethodName := ⟨RX6, "isMark", "(I)Z"⟩
abbrev cX6_dropsToMark : ByteArray := prog_20_method_35_code
def yX6_dropsToMark : MethodName := ⟨RX6, "dropsToMark", "()V"⟩
abbrev cX6_drops : ByteArray := prog_20_method_32_code
def yX6_drops : MethodName := ⟨RX6, "drops", "()V"⟩
abbrev cX6_isOn : ByteArray := prog_20_method_31_code
def yX6_isOn : MethodName := ⟨RX6, "isOn", "(I)Z"⟩
abbrev cX6_test : ByteArray := prog_20_method_42_code
def yX6_test : MethodName := ⟨RX6, "test", "()V"⟩
abbrev cX6_fact : ByteArray := prog_20_method_39_code
def yX6_fact : MethodName := ⟨RX6, "fact", "()V"⟩
abbrev cX6_dropsNots : ByteArray := prog_20_method_41_code
def yX6_dropsNots : MethodName := ⟨RX6, "dropsNots", "()V"⟩
abbrev cX6_goesOnTest : ByteArray := prog_20_method_43_code
def yX6_goesOnTest : MethodName := ⟨RX6, "goesOnTest", "()Z"⟩
abbrev cX6_hasSquare : ByteArray := prog_20_method_40_code
def yX6_hasSquare : MethodName := ⟨RX6, "hasSquare", "()Z"⟩
abbrev cX6_stands : ByteArray := prog_20_method_28_code
def yX6_stands : MethodName := ⟨RX6, "stands", "()V"⟩
abbrev cX6_worthOf : ByteArray := prog_20_method_52_code
def yX6_worthOf : MethodName := ⟨RX6, "worthOf", "(I)I"⟩
abbrev cX6_told : ByteArray := prog_20_method_51_code
def yX6_told : MethodName := ⟨RX6, "told", "(III)J"⟩
abbrev cX6_puts : ByteArray := prog_20_method_47_code
def yX6_puts : MethodName := ⟨RX6, "puts", "(J)V"⟩
abbrev cX6_toEdge : ByteArray := prog_20_method_50_code
def yX6_toEdge : MethodName := ⟨RX6, "toEdge", "(I)I"⟩
abbrev cX6_least : ByteArray := prog_20_method_49_code
def yX6_least : MethodName := ⟨RX6, "least", "(II)I"⟩
abbrev cX6_joins : ByteArray := prog_20_method_48_code
def yX6_joins : MethodName := ⟨RX6, "joins", "(I)V"⟩
abbrev cX6_clip : ByteArray := prog_20_method_45_code
def yX6_clip : MethodName := ⟨RX6, "clip", "(J)J"⟩
abbrev cX6_floor : ByteArray := prog_20_method_46_code
def yX6_floor : MethodName := ⟨RX6, "floor", "(JJ)J"⟩
abbrev cX6_fault : ByteArray := prog_20_method_44_code
def yX6_fault : MethodName := ⟨RX6, "fault", "(I)I"⟩
abbrev cX6_has : ByteArray := prog_20_method_81_code
def yX6_has : MethodName := ⟨RX6, "has", "(I)I"⟩
abbrev cX6_kinds : ByteArray := prog_20_method_55_code
def yX6_kinds : MethodName := ⟨RX6, "kinds", "()I"⟩
abbrev cX6_stonesOf : ByteArray := prog_20_method_79_code
def yX6_stonesOf : MethodName := ⟨RX6, "stonesOf", "(II)I"⟩
abbrev cX6_places : ByteArray := prog_20_method_53_code
def yX6_places : MethodName := ⟨RX6, "places", "()I"⟩
abbrev cX6_kindAt : ByteArray := prog_20_method_59_code
def yX6_kindAt : MethodName := ⟨RX6, "kindAt", "(I)I"⟩
abbrev cX6_allOwed : ByteArray := prog_20_method_80_code
def yX6_allOwed : MethodName := ⟨RX6, "allOwed", "()J"⟩
abbrev cX6_bits : ByteArray := prog_20_method_69_code
def yX6_bits : MethodName := ⟨RX6, "bits", "(J)I"⟩
abbrev cX6_letter : ByteArray := prog_20_method_82_code
def yX6_letter : MethodName := ⟨RX6, "letter", "(II)I"⟩
abbrev cX6_isKind : ByteArray := prog_20_method_56_code
def yX6_isKind : MethodName := ⟨RX6, "isKind", "(I)Z"⟩
abbrev cX6_kind : ByteArray := prog_20_method_83_code
def yX6_kind : MethodName := ⟨RX6, "kind", "(II)I"⟩
abbrev cX6_place : ByteArray := prog_20_method_86_code
def yX6_place : MethodName := ⟨RX6, "place", "(II)I"⟩
abbrev cX6_isPlace : ByteArray := prog_20_method_54_code
def yX6_isPlace : MethodName := ⟨RX6, "isPlace", "(I)Z"⟩
abbrev cX6_isFree : ByteArray := prog_20_method_57_code
def yX6_isFree : MethodName := ⟨RX6, "isFree", "(I)Z"⟩
abbrev cX6_edgesAt : ByteArray := prog_20_method_84_code
def yX6_edgesAt : MethodName := ⟨RX6, "edgesAt", "(I)I"⟩
abbrev cX6_edges : ByteArray := prog_20_method_64_code
def yX6_edges : MethodName := ⟨RX6, "edges", "(I)V"⟩
abbrev cX6_isOf : ByteArray := prog_20_method_58_code
def yX6_isOf : MethodName := ⟨RX6, "isOf", "(II)Z"⟩
abbrev cX6_isLine : ByteArray := prog_20_method_63_code
def yX6_isLine : MethodName := ⟨RX6, "isLine", "(II)Z"⟩
abbrev cX6_stepsBetween : ByteArray := prog_20_method_61_code
def yX6_stepsBetween : MethodName := ⟨RX6, "stepsBetween", "(II)I"⟩
abbrev cX6_hasMark : ByteArray := prog_20_method_60_code
def yX6_hasMark : MethodName := ⟨RX6, "hasMark", "(II)Z"⟩
abbrev cX6_towards : ByteArray := prog_20_method_62_code
def yX6_towards : MethodName := ⟨RX6, "towards", "(IIII)I"⟩
abbrev cX6_shutIn : ByteArray := prog_20_method_85_code
def yX6_shutIn : MethodName := ⟨RX6, "shutIn", "(I)J"⟩
abbrev cX6_shuts : ByteArray := prog_20_method_68_code
def yX6_shuts : MethodName := ⟨RX6, "shuts", "(I)V"⟩
abbrev cX6_hangs : ByteArray := prog_20_method_66_code
def yX6_hangs : MethodName := ⟨RX6, "hangs", "(I)J"⟩
abbrev cX6_isInside : ByteArray := prog_20_method_65_code
def yX6_isInside : MethodName := ⟨RX6, "isInside", "(II)Z"⟩
abbrev cX6_isAtSide : ByteArray := prog_20_method_67_code
def yX6_isAtSide : MethodName := ⟨RX6, "isAtSide", "(J)Z"⟩
abbrev cX6_side : ByteArray := prog_20_method_88_code
def yX6_side : MethodName := ⟨RX6, "side", "(II)I"⟩
abbrev cX6_landOf : ByteArray := prog_20_method_87_code
def yX6_landOf : MethodName := ⟨RX6, "landOf", "(IZ)I"⟩
abbrev cX6_set : ByteArray := prog_20_method_90_code
def yX6_set : MethodName := ⟨RX6, "set", "(II)I"⟩
abbrev cX6_canSet : ByteArray := prog_20_method_89_code
def yX6_canSet : MethodName := ⟨RX6, "canSet", "(II)Z"⟩
abbrev cX6_keepsDay : ByteArray := prog_20_method_78_code
def yX6_keepsDay : MethodName := ⟨RX6, "keepsDay", "()V"⟩
abbrev cX6_sets : ByteArray := prog_20_method_75_code
def yX6_sets : MethodName := ⟨RX6, "sets", "(II)I"⟩
abbrev cX6_todays : ByteArray := prog_20_method_73_code
def yX6_todays : MethodName := ⟨RX6, "todays", "()I"⟩
abbrev cX6_loses : ByteArray := prog_20_method_74_code
def yX6_loses : MethodName := ⟨RX6, "loses", "(I)V"⟩
abbrev cX6_keepsParts : ByteArray := prog_20_method_71_code
def yX6_keepsParts : MethodName := ⟨RX6, "keepsParts", "(I)V"⟩
abbrev cX6_newParts : ByteArray := prog_20_method_72_code
def yX6_newParts : MethodName := ⟨RX6, "newParts", "(I)V"⟩
abbrev cX6_isAllLand : ByteArray := prog_20_method_70_code
def yX6_isAllLand : MethodName := ⟨RX6, "isAllLand", "(JI)Z"⟩
abbrev cX6_undo : ByteArray := prog_20_method_91_code
def yX6_undo : MethodName := ⟨RX6, "undo", "()Z"⟩
abbrev cX6_threat : ByteArray := prog_20_method_94_code
def yX6_threat : MethodName := ⟨RX6, "threat", "(III)I"⟩
abbrev cX6_tries : ByteArray := prog_20_method_92_code
def yX6_tries : MethodName := ⟨RX6, "tries", "(III)V"⟩
abbrev cX6_keeps : ByteArray := prog_20_method_76_code
def yX6_keeps : MethodName := ⟨RX6, "keeps", "(I)V"⟩
abbrev cX6_back : ByteArray := prog_20_method_77_code
def yX6_back : MethodName := ⟨RX6, "back", "(I)V"⟩
abbrev cX6_comesPlaces : ByteArray := prog_20_method_93_code
def yX6_comesPlaces : MethodName := ⟨RX6, "comesPlaces", "()I"⟩
abbrev cX6_answer : ByteArray := prog_20_method_95_code
def yX6_answer : MethodName := ⟨RX6, "answer", "(I)I"⟩
abbrev cX6_fork : ByteArray := prog_20_method_96_code
def yX6_fork : MethodName := ⟨RX6, "fork", "(I)I"⟩
abbrev cX6_line : ByteArray := prog_20_method_97_code
def yX6_line : MethodName := ⟨RX6, "line", "(II)I"⟩
abbrev cX6_play : ByteArray := prog_20_method_103_code
def yX6_play : MethodName := ⟨RX6, "play", "(II)I"⟩
abbrev cX6_canPlay : ByteArray := prog_20_method_102_code
def yX6_canPlay : MethodName := ⟨RX6, "canPlay", "(I)Z"⟩
abbrev cX6_plays : ByteArray := prog_20_method_101_code
def yX6_plays : MethodName := ⟨RX6, "plays", "(II)I"⟩
abbrev cX6_opens_2 : ByteArray := prog_20_method_100_code
def yX6_opens_2 : MethodName := ⟨RX6, "opens", "(I)V"⟩
abbrev cX6_weighs : ByteArray := prog_20_method_99_code
def yX6_weighs : MethodName := ⟨RX6, "weighs", "(III)V"⟩
abbrev cX6_valueFor : ByteArray := prog_20_method_98_code
def yX6_valueFor : MethodName := ⟨RX6, "valueFor", "(I)I"⟩
abbrev cX6_thumb : ByteArray := prog_20_method_106_code
def yX6_thumb : MethodName := ⟨RX6, "thumb", "(III)I"⟩
abbrev cX6_thumbOf : ByteArray := prog_20_method_105_code
def yX6_thumbOf : MethodName := ⟨RX6, "thumbOf", "(I)I"⟩
abbrev cX6_thumbWorth : ByteArray := prog_20_method_104_code
def yX6_thumbWorth : MethodName := ⟨RX6, "thumbWorth", "(II)I"⟩
abbrev cX6_truce : ByteArray := prog_20_method_107_code
def yX6_truce : MethodName := ⟨RX6, "truce", "(I)I"⟩
abbrev cX6_rows : ByteArray := prog_20_method_110_code
def yX6_rows : MethodName := ⟨RX6, "rows", "()I"⟩
abbrev cX6_nextStone : ByteArray := prog_20_method_108_code
def yX6_nextStone : MethodName := ⟨RX6, "nextStone", "(II)I"⟩
abbrev cX6_endsAlike : ByteArray := prog_20_method_109_code
def yX6_endsAlike : MethodName := ⟨RX6, "endsAlike", "(I)Z"⟩
abbrev cX6_hidden : ByteArray := prog_20_method_113_code
def yX6_hidden : MethodName := ⟨RX6, "hidden", "(JIIII)I"⟩
abbrev cX6_isHidden : ByteArray := prog_20_method_112_code
def yX6_isHidden : MethodName := ⟨RX6, "isHidden", "(JIII)Z"⟩
abbrev cX6_bitsOf : ByteArray := prog_20_method_111_code
def yX6_bitsOf : MethodName := ⟨RX6, "bitsOf", "(I)I"⟩
abbrev cX6_look_2 : ByteArray := prog_20_method_114_code
def yX6_look_2 : MethodName := ⟨RX6, "look", "(JIII)I"⟩
abbrev cX6_seed : ByteArray := prog_20_method_115_code
def yX6_seed : MethodName := ⟨RX6, "seed", "(I)Z"⟩
abbrev cX6_year : ByteArray := prog_20_method_117_code
def yX6_year : MethodName := ⟨RX6, "year", "(I)I"⟩
abbrev cX6_drawOf : ByteArray := prog_20_method_116_code
def yX6_drawOf : MethodName := ⟨RX6, "drawOf", "(I)I"⟩
abbrev cX6_image : ByteArray := prog_20_method_119_code
def yX6_image : MethodName := ⟨RX6, "image", "()I"⟩
abbrev cX6_writes : ByteArray := prog_20_method_118_code
def yX6_writes : MethodName := ⟨RX6, "writes", "(I)V"⟩
abbrev cX6_octet : ByteArray := prog_20_method_120_code
def yX6_octet : MethodName := ⟨RX6, "octet", "(I)I"⟩
theorem q154 : (Jvm.Cond.initialized "BorderStonesModel") ∈ lw_all := lw_g (lw_at lw_m1 13 rfl) rfl
theorem q901 : (Jvm.Cond.selects "BorderStonesModel" ({ cls := "java/lang/Object", name := "getClass", desc := "()Ljava/lang/Class;" } : Jvm.MethodName) ({ cls := "java/lang/Object", name := "getClass", desc := "()Ljava/lang/Class;" } : Jvm.MethodName)) ∈ lw_all := lw_g (lw_at lw_m4 40 rfl) rfl
theorem q1597 : (Jvm.Cond.instantiable "BorderStonesModel" (86 : Nat)) ∈ lw_all := lw_g (lw_at lw_m7 16 rfl) rfl
theorem q1599 : (Jvm.Cond.instanceMethod ({ cls := "BorderStonesModel", name := "<init>", desc := "()V" } : Jvm.MethodName)) ∈ lw_all := lw_g (lw_at lw_m7 18 rfl) rfl
theorem q1600 : (Jvm.Cond.code ({ cls := "BorderStonesModel", name := "<init>", desc := "()V" } : Jvm.MethodName) prog_20_method_1_code (1 : Nat) (Option.none : Option Jvm.ClassFile.FieldType)) ∈ lw_all := lw_g (lw_at lw_m7 19 rfl) rfl
theorem q1601 : (Jvm.Cond.methodLink "BorderStonesModel" (1 : Nat) ({ cls := "java/lang/Object", name := "<init>", desc := "()V" } : Jvm.MethodName)) ∈ lw_all := lw_g (lw_at lw_m7 20 rfl) rfl
theorem q1602 : (Jvm.Cond.fieldLink "BorderStonesModel" (7 : Nat) "BorderStonesModel" "tape" "[I") ∈ lw_all := lw_g (lw_at lw_m7 21 rfl) rfl
theorem q1603 : (Jvm.Cond.fieldLink "BorderStonesModel" (185 : Nat) "BorderStonesModel" "taped" "I") ∈ lw_all := lw_g (lw_at lw_m7 22 rfl) rfl
theorem q1604 : (Jvm.Cond.fieldLink "BorderStonesModel" (194 : Nat) "BorderStonesModel" "at" "I") ∈ lw_all := lw_g (lw_at lw_m7 23 rfl) rfl
theorem q1605 : (Jvm.Cond.fieldLink "BorderStonesModel" (197 : Nat) "BorderStonesModel" "end" "I") ∈ lw_all := lw_g (lw_at lw_m7 24 rfl) rfl
theorem q1606 : (Jvm.Cond.fieldLink "BorderStonesModel" (208 : Nat) "BorderStonesModel" "ended" "I") ∈ lw_all := lw_g (lw_at lw_m7 25 rfl) rfl
theorem q1607 : (Jvm.Cond.fieldLink "BorderStonesModel" (188 : Nat) "BorderStonesModel" "bad" "I") ∈ lw_all := lw_g (lw_at lw_m7 26 rfl) rfl
theorem q1608 : (Jvm.Cond.fieldLink "BorderStonesModel" (191 : Nat) "BorderStonesModel" "badPlace" "I") ∈ lw_all := lw_g (lw_at lw_m7 27 rfl) rfl
theorem q1609 : (Jvm.Cond.fieldLink "BorderStonesModel" (322 : Nat) "BorderStonesModel" "fault" "I") ∈ lw_all := lw_g (lw_at lw_m7 28 rfl) rfl
theorem q1610 : (Jvm.Cond.fieldLink "BorderStonesModel" (13 : Nat) "BorderStonesModel" "faultPlace" "I") ∈ lw_all := lw_g (lw_at lw_m7 29 rfl) rfl
theorem q1611 : (Jvm.Cond.fieldLink "BorderStonesModel" (228 : Nat) "BorderStonesModel" "numberPlace" "I") ∈ lw_all := lw_g (lw_at lw_m7 30 rfl) rfl
theorem q1612 : (Jvm.Cond.fieldLink "BorderStonesModel" (17 : Nat) "BorderStonesModel" "fieldWord" "[C") ∈ lw_all := lw_g (lw_at lw_m7 31 rfl) rfl
theorem q1613 : (Jvm.Cond.fieldLink "BorderStonesModel" (21 : Nat) "BorderStonesModel" "kindWord" "[C") ∈ lw_all := lw_g (lw_at lw_m7 32 rfl) rfl
theorem q1614 : (Jvm.Cond.fieldLink "BorderStonesModel" (24 : Nat) "BorderStonesModel" "reachWord" "[C") ∈ lw_all := lw_g (lw_at lw_m7 33 rfl) rfl
theorem q1615 : (Jvm.Cond.fieldLink "BorderStonesModel" (27 : Nat) "BorderStonesModel" "highWord" "[C") ∈ lw_all := lw_g (lw_at lw_m7 34 rfl) rfl
theorem q1616 : (Jvm.Cond.fieldLink "BorderStonesModel" (30 : Nat) "BorderStonesModel" "sunkWord" "[C") ∈ lw_all := lw_g (lw_at lw_m7 35 rfl) rfl
theorem q1617 : (Jvm.Cond.fieldLink "BorderStonesModel" (33 : Nat) "BorderStonesModel" "childWord" "[C") ∈ lw_all := lw_g (lw_at lw_m7 36 rfl) rfl
theorem q1618 : (Jvm.Cond.fieldLink "BorderStonesModel" (36 : Nat) "BorderStonesModel" "stoneWord" "[C") ∈ lw_all := lw_g (lw_at lw_m7 37 rfl) rfl
theorem q1619 : (Jvm.Cond.fieldLink "BorderStonesModel" (39 : Nat) "BorderStonesModel" "redWord" "[C") ∈ lw_all := lw_g (lw_at lw_m7 38 rfl) rfl
theorem q1620 : (Jvm.Cond.fieldLink "BorderStonesModel" (42 : Nat) "BorderStonesModel" "blueWord" "[C") ∈ lw_all := lw_g (lw_at lw_m7 39 rfl) rfl
theorem q1621 : (Jvm.Cond.fieldLink "BorderStonesModel" (45 : Nat) "BorderStonesModel" "atWord" "[C") ∈ lw_all := lw_g (lw_at lw_m7 40 rfl) rfl
theorem q1622 : (Jvm.Cond.fieldLink "BorderStonesModel" (48 : Nat) "BorderStonesModel" "landWord" "[C") ∈ lw_all := lw_g (lw_at lw_m7 41 rfl) rfl
theorem q1623 : (Jvm.Cond.fieldLink "BorderStonesModel" (51 : Nat) "BorderStonesModel" "worthWord" "[C") ∈ lw_all := lw_g (lw_at lw_m7 42 rfl) rfl
theorem q1624 : (Jvm.Cond.fieldLink "BorderStonesModel" (54 : Nat) "BorderStonesModel" "whenWord" "[C") ∈ lw_all := lw_g (lw_at lw_m7 43 rfl) rfl
theorem q1625 : (Jvm.Cond.fieldLink "BorderStonesModel" (57 : Nat) "BorderStonesModel" "orWord" "[C") ∈ lw_all := lw_g (lw_at lw_m7 44 rfl) rfl
theorem q1626 : (Jvm.Cond.fieldLink "BorderStonesModel" (60 : Nat) "BorderStonesModel" "andWord" "[C") ∈ lw_all := lw_g (lw_at lw_m7 45 rfl) rfl
theorem q1627 : (Jvm.Cond.fieldLink "BorderStonesModel" (63 : Nat) "BorderStonesModel" "notWord" "[C") ∈ lw_all := lw_g (lw_at lw_m7 46 rfl) rfl
theorem q1628 : (Jvm.Cond.fieldLink "BorderStonesModel" (66 : Nat) "BorderStonesModel" "allWord" "[C") ∈ lw_all := lw_g (lw_at lw_m7 47 rfl) rfl
theorem q1629 : (Jvm.Cond.fieldLink "BorderStonesModel" (69 : Nat) "BorderStonesModel" "acrossWord" "[C") ∈ lw_all := lw_g (lw_at lw_m7 48 rfl) rfl
theorem q1630 : (Jvm.Cond.fieldLink "BorderStonesModel" (72 : Nat) "BorderStonesModel" "downWord" "[C") ∈ lw_all := lw_g (lw_at lw_m7 49 rfl) rfl
theorem q1631 : (Jvm.Cond.fieldLink "BorderStonesModel" (75 : Nat) "BorderStonesModel" "edgeWord" "[C") ∈ lw_all := lw_g (lw_at lw_m7 50 rfl) rfl
theorem q1632 : (Jvm.Cond.fieldLink "BorderStonesModel" (78 : Nat) "BorderStonesModel" "minWord" "[C") ∈ lw_all := lw_g (lw_at lw_m7 51 rfl) rfl
theorem q1633 : (Jvm.Cond.fieldLink "BorderStonesModel" (81 : Nat) "BorderStonesModel" "maxWord" "[C") ∈ lw_all := lw_g (lw_at lw_m7 52 rfl) rfl
theorem q1634 : (Jvm.Cond.fieldLink "BorderStonesModel" (239 : Nat) "BorderStonesModel" "namePlace" "I") ∈ lw_all := lw_g (lw_at lw_m7 53 rfl) rfl
theorem q1635 : (Jvm.Cond.fieldLink "BorderStonesModel" (254 : Nat) "BorderStonesModel" "wideTold" "I") ∈ lw_all := lw_g (lw_at lw_m7 54 rfl) rfl
theorem q1636 : (Jvm.Cond.fieldLink "BorderStonesModel" (257 : Nat) "BorderStonesModel" "highTold" "I") ∈ lw_all := lw_g (lw_at lw_m7 55 rfl) rfl
theorem q1637 : (Jvm.Cond.fieldLink "BorderStonesModel" (328 : Nat) "BorderStonesModel" "wide" "I") ∈ lw_all := lw_g (lw_at lw_m7 56 rfl) rfl
theorem q1638 : (Jvm.Cond.fieldLink "BorderStonesModel" (331 : Nat) "BorderStonesModel" "high" "I") ∈ lw_all := lw_g (lw_at lw_m7 57 rfl) rfl
theorem q1639 : (Jvm.Cond.fieldLink "BorderStonesModel" (84 : Nat) "BorderStonesModel" "many" "[I") ∈ lw_all := lw_g (lw_at lw_m7 58 rfl) rfl
theorem q1640 : (Jvm.Cond.fieldLink "BorderStonesModel" (87 : Nat) "BorderStonesModel" "names" "[J") ∈ lw_all := lw_g (lw_at lw_m7 59 rfl) rfl
theorem q1641 : (Jvm.Cond.fieldLink "BorderStonesModel" (91 : Nat) "BorderStonesModel" "reach" "[I") ∈ lw_all := lw_g (lw_at lw_m7 60 rfl) rfl
theorem q1642 : (Jvm.Cond.fieldLink "BorderStonesModel" (94 : Nat) "BorderStonesModel" "marks" "[I") ∈ lw_all := lw_g (lw_at lw_m7 61 rfl) rfl
theorem q1643 : (Jvm.Cond.fieldLink "BorderStonesModel" (97 : Nat) "BorderStonesModel" "stoneTold" "[I") ∈ lw_all := lw_g (lw_at lw_m7 62 rfl) rfl
theorem q1644 : (Jvm.Cond.fieldLink "BorderStonesModel" (100 : Nat) "BorderStonesModel" "landTold" "[I") ∈ lw_all := lw_g (lw_at lw_m7 63 rfl) rfl
theorem q1645 : (Jvm.Cond.fieldLink "BorderStonesModel" (264 : Nat) "BorderStonesModel" "statements" "I") ∈ lw_all := lw_g (lw_at lw_m7 64 rfl) rfl
theorem q1646 : (Jvm.Cond.fieldLink "BorderStonesModel" (103 : Nat) "BorderStonesModel" "codes" "[I") ∈ lw_all := lw_g (lw_at lw_m7 65 rfl) rfl
theorem q1647 : (Jvm.Cond.fieldLink "BorderStonesModel" (286 : Nat) "BorderStonesModel" "coded" "I") ∈ lw_all := lw_g (lw_at lw_m7 66 rfl) rfl
theorem q1648 : (Jvm.Cond.fieldLink "BorderStonesModel" (106 : Nat) "BorderStonesModel" "wait" "[I") ∈ lw_all := lw_g (lw_at lw_m7 67 rfl) rfl
theorem q1649 : (Jvm.Cond.fieldLink "BorderStonesModel" (289 : Nat) "BorderStonesModel" "waits" "I") ∈ lw_all := lw_g (lw_at lw_m7 68 rfl) rfl
theorem q1650 : (Jvm.Cond.fieldLink "BorderStonesModel" (292 : Nat) "BorderStonesModel" "open" "I") ∈ lw_all := lw_g (lw_at lw_m7 69 rfl) rfl
theorem q1651 : (Jvm.Cond.fieldLink "BorderStonesModel" (109 : Nat) "BorderStonesModel" "sumFrom" "[I") ∈ lw_all := lw_g (lw_at lw_m7 70 rfl) rfl
theorem q1652 : (Jvm.Cond.fieldLink "BorderStonesModel" (112 : Nat) "BorderStonesModel" "sumEnd" "[I") ∈ lw_all := lw_g (lw_at lw_m7 71 rfl) rfl
theorem q1653 : (Jvm.Cond.fieldLink "BorderStonesModel" (115 : Nat) "BorderStonesModel" "testEnd" "[I") ∈ lw_all := lw_g (lw_at lw_m7 72 rfl) rfl
theorem q1654 : (Jvm.Cond.fieldLink "BorderStonesModel" (118 : Nat) "BorderStonesModel" "worth" "[I") ∈ lw_all := lw_g (lw_at lw_m7 73 rfl) rfl
theorem q1655 : (Jvm.Cond.fieldLink "BorderStonesModel" (295 : Nat) "BorderStonesModel" "base" "I") ∈ lw_all := lw_g (lw_at lw_m7 74 rfl) rfl
theorem q1656 : (Jvm.Cond.fieldLink "BorderStonesModel" (121 : Nat) "BorderStonesModel" "pile" "[J") ∈ lw_all := lw_g (lw_at lw_m7 75 rfl) rfl
theorem q1657 : (Jvm.Cond.fieldLink "BorderStonesModel" (384 : Nat) "BorderStonesModel" "piled" "I") ∈ lw_all := lw_g (lw_at lw_m7 76 rfl) rfl
theorem q1658 : (Jvm.Cond.fieldLink "BorderStonesModel" (124 : Nat) "BorderStonesModel" "now" "[I") ∈ lw_all := lw_g (lw_at lw_m7 77 rfl) rfl
theorem q1659 : (Jvm.Cond.fieldLink "BorderStonesModel" (127 : Nat) "BorderStonesModel" "owed" "[J") ∈ lw_all := lw_g (lw_at lw_m7 78 rfl) rfl
theorem q1660 : (Jvm.Cond.fieldLink "BorderStonesModel" (441 : Nat) "BorderStonesModel" "edge" "J") ∈ lw_all := lw_g (lw_at lw_m7 79 rfl) rfl
theorem q1661 : (Jvm.Cond.fieldLink "BorderStonesModel" (444 : Nat) "BorderStonesModel" "lines" "I") ∈ lw_all := lw_g (lw_at lw_m7 80 rfl) rfl
theorem q1662 : (Jvm.Cond.fieldLink "BorderStonesModel" (130 : Nat) "BorderStonesModel" "part" "[J") ∈ lw_all := lw_g (lw_at lw_m7 81 rfl) rfl
theorem q1663 : (Jvm.Cond.fieldLink "BorderStonesModel" (459 : Nat) "BorderStonesModel" "parts" "I") ∈ lw_all := lw_g (lw_at lw_m7 82 rfl) rfl
theorem q1664 : (Jvm.Cond.fieldLink "BorderStonesModel" (133 : Nat) "BorderStonesModel" "stack" "[I") ∈ lw_all := lw_g (lw_at lw_m7 83 rfl) rfl
theorem q1665 : (Jvm.Cond.fieldLink "BorderStonesModel" (136 : Nat) "BorderStonesModel" "was" "[J") ∈ lw_all := lw_g (lw_at lw_m7 84 rfl) rfl
theorem q1666 : (Jvm.Cond.fieldLink "BorderStonesModel" (473 : Nat) "BorderStonesModel" "wasMany" "I") ∈ lw_all := lw_g (lw_at lw_m7 85 rfl) rfl
theorem q1667 : (Jvm.Cond.fieldLink "BorderStonesModel" (139 : Nat) "BorderStonesModel" "comes" "[J") ∈ lw_all := lw_g (lw_at lw_m7 86 rfl) rfl
theorem q1668 : (Jvm.Cond.fieldLink "BorderStonesModel" (476 : Nat) "BorderStonesModel" "comesMany" "I") ∈ lw_all := lw_g (lw_at lw_m7 87 rfl) rfl
theorem q1669 : (Jvm.Cond.fieldLink "BorderStonesModel" (142 : Nat) "BorderStonesModel" "kept" "[I") ∈ lw_all := lw_g (lw_at lw_m7 88 rfl) rfl
theorem q1670 : (Jvm.Cond.fieldLink "BorderStonesModel" (145 : Nat) "BorderStonesModel" "keptOwed" "[J") ∈ lw_all := lw_g (lw_at lw_m7 89 rfl) rfl
theorem q1671 : (Jvm.Cond.fieldLink "BorderStonesModel" (148 : Nat) "BorderStonesModel" "ring" "[I") ∈ lw_all := lw_g (lw_at lw_m7 90 rfl) rfl
theorem q1672 : (Jvm.Cond.fieldLink "BorderStonesModel" (151 : Nat) "BorderStonesModel" "ringOwed" "[J") ∈ lw_all := lw_g (lw_at lw_m7 91 rfl) rfl
theorem q1673 : (Jvm.Cond.fieldLink "BorderStonesModel" (334 : Nat) "BorderStonesModel" "undoable" "I") ∈ lw_all := lw_g (lw_at lw_m7 92 rfl) rfl
theorem q1674 : (Jvm.Cond.fieldLink "BorderStonesModel" (498 : Nat) "BorderStonesModel" "newest" "I") ∈ lw_all := lw_g (lw_at lw_m7 93 rfl) rfl
theorem q1675 : (Jvm.Cond.fieldLink "BorderStonesModel" (537 : Nat) "BorderStonesModel" "answered" "I") ∈ lw_all := lw_g (lw_at lw_m7 94 rfl) rfl
theorem q1676 : (Jvm.Cond.fieldLink "BorderStonesModel" (154 : Nat) "BorderStonesModel" "moveAt" "[I") ∈ lw_all := lw_g (lw_at lw_m7 95 rfl) rfl
theorem q1677 : (Jvm.Cond.fieldLink "BorderStonesModel" (157 : Nat) "BorderStonesModel" "bestAt" "[I") ∈ lw_all := lw_g (lw_at lw_m7 96 rfl) rfl
theorem q1678 : (Jvm.Cond.fieldLink "BorderStonesModel" (160 : Nat) "BorderStonesModel" "valueAt" "[I") ∈ lw_all := lw_g (lw_at lw_m7 97 rfl) rfl
theorem q1679 : (Jvm.Cond.fieldLink "BorderStonesModel" (163 : Nat) "BorderStonesModel" "rowPlace" "[I") ∈ lw_all := lw_g (lw_at lw_m7 98 rfl) rfl
theorem q1680 : (Jvm.Cond.fieldLink "BorderStonesModel" (166 : Nat) "BorderStonesModel" "rowStone" "[I") ∈ lw_all := lw_g (lw_at lw_m7 99 rfl) rfl
theorem q1681 : (Jvm.Cond.fieldLink "BorderStonesModel" (169 : Nat) "BorderStonesModel" "rowLand" "[I") ∈ lw_all := lw_g (lw_at lw_m7 100 rfl) rfl
theorem q1682 : (Jvm.Cond.fieldLink "BorderStonesModel" (172 : Nat) "BorderStonesModel" "freePlace" "[I") ∈ lw_all := lw_g (lw_at lw_m7 101 rfl) rfl
theorem q1683 : (Jvm.Cond.fieldLink "BorderStonesModel" (175 : Nat) "BorderStonesModel" "waysAt" "[I") ∈ lw_all := lw_g (lw_at lw_m7 102 rfl) rfl
theorem q1684 : (Jvm.Cond.fieldLink "BorderStonesModel" (585 : Nat) "BorderStonesModel" "waysAll" "I") ∈ lw_all := lw_g (lw_at lw_m7 103 rfl) rfl
theorem q1685 : (Jvm.Cond.fieldLink "BorderStonesModel" (178 : Nat) "BorderStonesModel" "seeded" "J") ∈ lw_all := lw_g (lw_at lw_m7 104 rfl) rfl
theorem q1686 : (Jvm.Cond.fieldLink "BorderStonesModel" (182 : Nat) "BorderStonesModel" "octet" "[I") ∈ lw_all := lw_g (lw_at lw_m7 105 rfl) rfl
theorem q1687 : (Jvm.Cond.fieldLink "BorderStonesModel" (608 : Nat) "BorderStonesModel" "octets" "I") ∈ lw_all := lw_g (lw_at lw_m7 106 rfl) rfl
theorem q1862 : (Jvm.Cond.instanceMethod ({ cls := "BorderStonesModel", name := "feed", desc := "(IIIII)I" } : Jvm.MethodName)) ∈ lw_all := lw_g (lw_at lw_m8 41 rfl) rfl
theorem q1863 : (Jvm.Cond.selects "BorderStonesModel" ({ cls := "BorderStonesModel", name := "feed", desc := "(IIIII)I" } : Jvm.MethodName) ({ cls := "BorderStonesModel", name := "feed", desc := "(IIIII)I" } : Jvm.MethodName)) ∈ lw_all := lw_g (lw_at lw_m8 42 rfl) rfl
theorem q1864 : (Jvm.Cond.code ({ cls := "BorderStonesModel", name := "feed", desc := "(IIIII)I" } : Jvm.MethodName) prog_20_method_3_code (8 : Nat) (Option.some Jvm.ClassFile.FieldType.int)) ∈ lw_all := lw_g (lw_at lw_m8 43 rfl) rfl
theorem q1866 : (Jvm.Cond.instanceMethod ({ cls := "BorderStonesModel", name := "end", desc := "(I)Z" } : Jvm.MethodName)) ∈ lw_all := lw_g (lw_at lw_m8 45 rfl) rfl
theorem q1867 : (Jvm.Cond.selects "BorderStonesModel" ({ cls := "BorderStonesModel", name := "end", desc := "(I)Z" } : Jvm.MethodName) ({ cls := "BorderStonesModel", name := "end", desc := "(I)Z" } : Jvm.MethodName)) ∈ lw_all := lw_g (lw_at lw_m8 46 rfl) rfl
theorem q1868 : (Jvm.Cond.code ({ cls := "BorderStonesModel", name := "end", desc := "(I)Z" } : Jvm.MethodName) prog_20_method_4_code (2 : Nat) (Option.some Jvm.ClassFile.FieldType.boolean)) ∈ lw_all := lw_g (lw_at lw_m8 47 rfl) rfl
theorem q1870 : (Jvm.Cond.instanceMethod ({ cls := "BorderStonesModel", name := "border", desc := "()I" } : Jvm.MethodName)) ∈ lw_all := lw_g (lw_at lw_m8 49 rfl) rfl
theorem q1871 : (Jvm.Cond.selects "BorderStonesModel" ({ cls := "BorderStonesModel", name := "border", desc := "()I" } : Jvm.MethodName) ({ cls := "BorderStonesModel", name := "border", desc := "()I" } : Jvm.MethodName)) ∈ lw_all := lw_g (lw_at lw_m8 50 rfl) rfl
theorem q1872 : (Jvm.Cond.code ({ cls := "BorderStonesModel", name := "border", desc := "()I" } : Jvm.MethodName) prog_20_method_27_code (2 : Nat) (Option.some Jvm.ClassFile.FieldType.int)) ∈ lw_all := lw_g (lw_at lw_m8 51 rfl) rfl
theorem q1873 : (Jvm.Cond.methodLink "BorderStonesModel" (316 : Nat) ({ cls := "BorderStonesModel", name := "fieldTold", desc := "()V" } : Jvm.MethodName)) ∈ lw_all := lw_g (lw_at lw_m8 52 rfl) rfl
theorem q1875 : (Jvm.Cond.instanceMethod ({ cls := "BorderStonesModel", name := "fieldTold", desc := "()V" } : Jvm.MethodName)) ∈ lw_all := lw_g (lw_at lw_m8 54 rfl) rfl
theorem q1876 : (Jvm.Cond.code ({ cls := "BorderStonesModel", name := "fieldTold", desc := "()V" } : Jvm.MethodName) prog_20_method_19_code (1 : Nat) (Option.none : Option Jvm.ClassFile.FieldType)) ∈ lw_all := lw_g (lw_at lw_m8 55 rfl) rfl
theorem q1877 : (Jvm.Cond.methodLink "BorderStonesModel" (246 : Nat) ({ cls := "BorderStonesModel", name := "asks", desc := "([C)V" } : Jvm.MethodName)) ∈ lw_all := lw_g (lw_at lw_m8 56 rfl) rfl
theorem q1879 : (Jvm.Cond.instanceMethod ({ cls := "BorderStonesModel", name := "asks", desc := "([C)V" } : Jvm.MethodName)) ∈ lw_all := lw_g (lw_at lw_m8 58 rfl) rfl
theorem q1880 : (Jvm.Cond.code ({ cls := "BorderStonesModel", name := "asks", desc := "([C)V" } : Jvm.MethodName) prog_20_method_11_code (2 : Nat) (Option.none : Option Jvm.ClassFile.FieldType)) ∈ lw_all := lw_g (lw_at lw_m8 59 rfl) rfl
theorem q1881 : (Jvm.Cond.methodLink "BorderStonesModel" (215 : Nat) ({ cls := "BorderStonesModel", name := "takes", desc := "([C)Z" } : Jvm.MethodName)) ∈ lw_all := lw_g (lw_at lw_m8 60 rfl) rfl
theorem q1883 : (Jvm.Cond.instanceMethod ({ cls := "BorderStonesModel", name := "takes", desc := "([C)Z" } : Jvm.MethodName)) ∈ lw_all := lw_g (lw_at lw_m8 62 rfl) rfl
theorem q1884 : (Jvm.Cond.code ({ cls := "BorderStonesModel", name := "takes", desc := "([C)Z" } : Jvm.MethodName) prog_20_method_10_code (2 : Nat) (Option.some Jvm.ClassFile.FieldType.boolean)) ∈ lw_all := lw_g (lw_at lw_m8 63 rfl) rfl
theorem q1885 : (Jvm.Cond.methodLink "BorderStonesModel" (211 : Nat) ({ cls := "BorderStonesModel", name := "isHere", desc := "([C)Z" } : Jvm.MethodName)) ∈ lw_all := lw_g (lw_at lw_m8 64 rfl) rfl
theorem q1887 : (Jvm.Cond.instanceMethod ({ cls := "BorderStonesModel", name := "isHere", desc := "([C)Z" } : Jvm.MethodName)) ∈ lw_all := lw_g (lw_at lw_m8 66 rfl) rfl
theorem q1888 : (Jvm.Cond.code ({ cls := "BorderStonesModel", name := "isHere", desc := "([C)Z" } : Jvm.MethodName) prog_20_method_9_code (4 : Nat) (Option.some Jvm.ClassFile.FieldType.boolean)) ∈ lw_all := lw_g (lw_at lw_m8 67 rfl) rfl
theorem q1889 : (Jvm.Cond.methodLink "BorderStonesModel" (200 : Nat) ({ cls := "BorderStonesModel", name := "look", desc := "()I" } : Jvm.MethodName)) ∈ lw_all := lw_g (lw_at lw_m8 68 rfl) rfl
theorem q1891 : (Jvm.Cond.instanceMethod ({ cls := "BorderStonesModel", name := "look", desc := "()I" } : Jvm.MethodName)) ∈ lw_all := lw_g (lw_at lw_m8 70 rfl) rfl
theorem q1892 : (Jvm.Cond.code ({ cls := "BorderStonesModel", name := "look", desc := "()I" } : Jvm.MethodName) prog_20_method_8_code (1 : Nat) (Option.some Jvm.ClassFile.FieldType.int)) ∈ lw_all := lw_g (lw_at lw_m8 71 rfl) rfl
theorem q1893 : (Jvm.Cond.methodLink "BorderStonesModel" (204 : Nat) ({ cls := "BorderStonesModel", name := "isLetter", desc := "(I)Z" } : Jvm.MethodName)) ∈ lw_all := lw_g (lw_at lw_m8 72 rfl) rfl
theorem q1894 : (Jvm.Cond.static ({ cls := "BorderStonesModel", name := "isLetter", desc := "(I)Z" } : Jvm.MethodName)) ∈ lw_all := lw_g (lw_at lw_m8 73 rfl) rfl
theorem q1895 : (Jvm.Cond.code ({ cls := "BorderStonesModel", name := "isLetter", desc := "(I)Z" } : Jvm.MethodName) prog_20_method_6_code (1 : Nat) (Option.some Jvm.ClassFile.FieldType.boolean)) ∈ lw_all := lw_g (lw_at lw_m8 74 rfl) rfl
theorem q1896 : (Jvm.Cond.methodLink "BorderStonesModel" (218 : Nat) ({ cls := "BorderStonesModel", name := "fail", desc := "(II)V" } : Jvm.MethodName)) ∈ lw_all := lw_g (lw_at lw_m8 75 rfl) rfl
theorem q1898 : (Jvm.Cond.instanceMethod ({ cls := "BorderStonesModel", name := "fail", desc := "(II)V" } : Jvm.MethodName)) ∈ lw_all := lw_g (lw_at lw_m8 77 rfl) rfl
theorem q1899 : (Jvm.Cond.code ({ cls := "BorderStonesModel", name := "fail", desc := "(II)V" } : Jvm.MethodName) prog_20_method_5_code (3 : Nat) (Option.none : Option Jvm.ClassFile.FieldType)) ∈ lw_all := lw_g (lw_at lw_m8 78 rfl) rfl
theorem q1900 : (Jvm.Cond.methodLink "BorderStonesModel" (250 : Nat) ({ cls := "BorderStonesModel", name := "number", desc := "(II)I" } : Jvm.MethodName)) ∈ lw_all := lw_g (lw_at lw_m8 79 rfl) rfl
theorem q1902 : (Jvm.Cond.instanceMethod ({ cls := "BorderStonesModel", name := "number", desc := "(II)I" } : Jvm.MethodName)) ∈ lw_all := lw_g (lw_at lw_m8 81 rfl) rfl
theorem q1903 : (Jvm.Cond.code ({ cls := "BorderStonesModel", name := "number", desc := "(II)I" } : Jvm.MethodName) prog_20_method_14_code (4 : Nat) (Option.some Jvm.ClassFile.FieldType.int)) ∈ lw_all := lw_g (lw_at lw_m8 82 rfl) rfl
theorem q1904 : (Jvm.Cond.methodLink "BorderStonesModel" (225 : Nat) ({ cls := "BorderStonesModel", name := "isDigit", desc := "(I)Z" } : Jvm.MethodName)) ∈ lw_all := lw_g (lw_at lw_m8 83 rfl) rfl
theorem q1905 : (Jvm.Cond.static ({ cls := "BorderStonesModel", name := "isDigit", desc := "(I)Z" } : Jvm.MethodName)) ∈ lw_all := lw_g (lw_at lw_m8 84 rfl) rfl
theorem q1906 : (Jvm.Cond.code ({ cls := "BorderStonesModel", name := "isDigit", desc := "(I)Z" } : Jvm.MethodName) prog_20_method_7_code (1 : Nat) (Option.some Jvm.ClassFile.FieldType.boolean)) ∈ lw_all := lw_g (lw_at lw_m8 85 rfl) rfl
theorem q1907 : (Jvm.Cond.methodLink "BorderStonesModel" (231 : Nat) ({ cls := "BorderStonesModel", name := "isIn", desc := "(JJJ)Z" } : Jvm.MethodName)) ∈ lw_all := lw_g (lw_at lw_m8 86 rfl) rfl
theorem q1908 : (Jvm.Cond.static ({ cls := "BorderStonesModel", name := "isIn", desc := "(JJJ)Z" } : Jvm.MethodName)) ∈ lw_all := lw_g (lw_at lw_m8 87 rfl) rfl
theorem q1909 : (Jvm.Cond.code ({ cls := "BorderStonesModel", name := "isIn", desc := "(JJJ)Z" } : Jvm.MethodName) prog_20_method_2_code (6 : Nat) (Option.some Jvm.ClassFile.FieldType.boolean)) ∈ lw_all := lw_g (lw_at lw_m8 88 rfl) rfl
theorem q1910 : (Jvm.Cond.methodLink "BorderStonesModel" (260 : Nat) ({ cls := "BorderStonesModel", name := "asksSign", desc := "(I)V" } : Jvm.MethodName)) ∈ lw_all := lw_g (lw_at lw_m8 89 rfl) rfl
theorem q1912 : (Jvm.Cond.instanceMethod ({ cls := "BorderStonesModel", name := "asksSign", desc := "(I)V" } : Jvm.MethodName)) ∈ lw_all := lw_g (lw_at lw_m8 91 rfl) rfl
theorem q1913 : (Jvm.Cond.code ({ cls := "BorderStonesModel", name := "asksSign", desc := "(I)V" } : Jvm.MethodName) prog_20_method_13_code (2 : Nat) (Option.none : Option Jvm.ClassFile.FieldType)) ∈ lw_all := lw_g (lw_at lw_m8 92 rfl) rfl
theorem q1914 : (Jvm.Cond.methodLink "BorderStonesModel" (222 : Nat) ({ cls := "BorderStonesModel", name := "takesSign", desc := "(I)Z" } : Jvm.MethodName)) ∈ lw_all := lw_g (lw_at lw_m8 93 rfl) rfl
theorem q1916 : (Jvm.Cond.instanceMethod ({ cls := "BorderStonesModel", name := "takesSign", desc := "(I)Z" } : Jvm.MethodName)) ∈ lw_all := lw_g (lw_at lw_m8 95 rfl) rfl
theorem q1917 : (Jvm.Cond.code ({ cls := "BorderStonesModel", name := "takesSign", desc := "(I)Z" } : Jvm.MethodName) prog_20_method_12_code (2 : Nat) (Option.some Jvm.ClassFile.FieldType.boolean)) ∈ lw_all := lw_g (lw_at lw_m8 96 rfl) rfl
theorem q1918 : (Jvm.Cond.methodLink "BorderStonesModel" (319 : Nat) ({ cls := "BorderStonesModel", name := "statementTold", desc := "()V" } : Jvm.MethodName)) ∈ lw_all := lw_g (lw_at lw_m8 97 rfl) rfl
theorem q1920 : (Jvm.Cond.instanceMethod ({ cls := "BorderStonesModel", name := "statementTold", desc := "()V" } : Jvm.MethodName)) ∈ lw_all := lw_g (lw_at lw_m8 99 rfl) rfl
theorem q1921 : (Jvm.Cond.code ({ cls := "BorderStonesModel", name := "statementTold", desc := "()V" } : Jvm.MethodName) prog_20_method_26_code (2 : Nat) (Option.none : Option Jvm.ClassFile.FieldType)) ∈ lw_all := lw_g (lw_at lw_m8 100 rfl) rfl
theorem q1922 : (Jvm.Cond.methodLink "BorderStonesModel" (304 : Nat) ({ cls := "BorderStonesModel", name := "kindTold", desc := "(I)V" } : Jvm.MethodName)) ∈ lw_all := lw_g (lw_at lw_m8 101 rfl) rfl
theorem q1924 : (Jvm.Cond.instanceMethod ({ cls := "BorderStonesModel", name := "kindTold", desc := "(I)V" } : Jvm.MethodName)) ∈ lw_all := lw_g (lw_at lw_m8 103 rfl) rfl
theorem q1925 : (Jvm.Cond.code ({ cls := "BorderStonesModel", name := "kindTold", desc := "(I)V" } : Jvm.MethodName) prog_20_method_20_code (8 : Nat) (Option.none : Option Jvm.ClassFile.FieldType)) ∈ lw_all := lw_g (lw_at lw_m8 104 rfl) rfl
theorem q1926 : (Jvm.Cond.methodLink "BorderStonesModel" (267 : Nat) ({ cls := "BorderStonesModel", name := "isFull", desc := "(III)Z" } : Jvm.MethodName)) ∈ lw_all := lw_g (lw_at lw_m8 105 rfl) rfl
theorem q1928 : (Jvm.Cond.instanceMethod ({ cls := "BorderStonesModel", name := "isFull", desc := "(III)Z" } : Jvm.MethodName)) ∈ lw_all := lw_g (lw_at lw_m8 107 rfl) rfl
theorem q1929 : (Jvm.Cond.code ({ cls := "BorderStonesModel", name := "isFull", desc := "(III)Z" } : Jvm.MethodName) prog_20_method_17_code (4 : Nat) (Option.some Jvm.ClassFile.FieldType.boolean)) ∈ lw_all := lw_g (lw_at lw_m8 108 rfl) rfl
theorem q1930 : (Jvm.Cond.methodLink "BorderStonesModel" (271 : Nat) ({ cls := "BorderStonesModel", name := "name", desc := "()J" } : Jvm.MethodName)) ∈ lw_all := lw_g (lw_at lw_m8 109 rfl) rfl
theorem q1932 : (Jvm.Cond.instanceMethod ({ cls := "BorderStonesModel", name := "name", desc := "()J" } : Jvm.MethodName)) ∈ lw_all := lw_g (lw_at lw_m8 111 rfl) rfl
theorem q1933 : (Jvm.Cond.code ({ cls := "BorderStonesModel", name := "name", desc := "()J" } : Jvm.MethodName) prog_20_method_16_code (3 : Nat) (Option.some Jvm.ClassFile.FieldType.long)) ∈ lw_all := lw_g (lw_at lw_m8 112 rfl) rfl
theorem q1934 : (Jvm.Cond.methodLink "BorderStonesModel" (235 : Nat) ({ cls := "BorderStonesModel", name := "isOwnHere", desc := "()Z" } : Jvm.MethodName)) ∈ lw_all := lw_g (lw_at lw_m8 113 rfl) rfl
theorem q1936 : (Jvm.Cond.instanceMethod ({ cls := "BorderStonesModel", name := "isOwnHere", desc := "()Z" } : Jvm.MethodName)) ∈ lw_all := lw_g (lw_at lw_m8 115 rfl) rfl
theorem q1937 : (Jvm.Cond.code ({ cls := "BorderStonesModel", name := "isOwnHere", desc := "()Z" } : Jvm.MethodName) prog_20_method_15_code (2 : Nat) (Option.some Jvm.ClassFile.FieldType.boolean)) ∈ lw_all := lw_g (lw_at lw_m8 116 rfl) rfl
theorem q1938 : (Jvm.Cond.constantLong "BorderStonesModel" (242 : Nat) (27 : Int64)) ∈ lw_all := lw_g (lw_at lw_m8 117 rfl) rfl
theorem q1939 : (Jvm.Cond.constantLong "BorderStonesModel" (244 : Nat) (97 : Int64)) ∈ lw_all := lw_g (lw_at lw_m8 118 rfl) rfl
theorem q1940 : (Jvm.Cond.methodLink "BorderStonesModel" (275 : Nat) ({ cls := "BorderStonesModel", name := "kindOf", desc := "(J)I" } : Jvm.MethodName)) ∈ lw_all := lw_g (lw_at lw_m8 119 rfl) rfl
theorem q1942 : (Jvm.Cond.instanceMethod ({ cls := "BorderStonesModel", name := "kindOf", desc := "(J)I" } : Jvm.MethodName)) ∈ lw_all := lw_g (lw_at lw_m8 121 rfl) rfl
theorem q1943 : (Jvm.Cond.code ({ cls := "BorderStonesModel", name := "kindOf", desc := "(J)I" } : Jvm.MethodName) prog_20_method_18_code (4 : Nat) (Option.some Jvm.ClassFile.FieldType.int)) ∈ lw_all := lw_g (lw_at lw_m8 122 rfl) rfl
theorem q1944 : (Jvm.Cond.methodLink "BorderStonesModel" (307 : Nat) ({ cls := "BorderStonesModel", name := "stoneIsTold", desc := "(I)V" } : Jvm.MethodName)) ∈ lw_all := lw_g (lw_at lw_m8 123 rfl) rfl
theorem q1946 : (Jvm.Cond.instanceMethod ({ cls := "BorderStonesModel", name := "stoneIsTold", desc := "(I)V" } : Jvm.MethodName)) ∈ lw_all := lw_g (lw_at lw_m8 125 rfl) rfl
theorem q1947 : (Jvm.Cond.code ({ cls := "BorderStonesModel", name := "stoneIsTold", desc := "(I)V" } : Jvm.MethodName) prog_20_method_23_code (7 : Nat) (Option.none : Option Jvm.ClassFile.FieldType)) ∈ lw_all := lw_g (lw_at lw_m8 126 rfl) rfl
theorem q1948 : (Jvm.Cond.methodLink "BorderStonesModel" (279 : Nat) ({ cls := "BorderStonesModel", name := "sideTold", desc := "()I" } : Jvm.MethodName)) ∈ lw_all := lw_g (lw_at lw_m8 127 rfl) rfl
theorem q1950 : (Jvm.Cond.instanceMethod ({ cls := "BorderStonesModel", name := "sideTold", desc := "()I" } : Jvm.MethodName)) ∈ lw_all := lw_g (lw_at lw_m8 129 rfl) rfl
theorem q1951 : (Jvm.Cond.code ({ cls := "BorderStonesModel", name := "sideTold", desc := "()I" } : Jvm.MethodName) prog_20_method_21_code (1 : Nat) (Option.some Jvm.ClassFile.FieldType.int)) ∈ lw_all := lw_g (lw_at lw_m8 130 rfl) rfl
theorem q1952 : (Jvm.Cond.methodLink "BorderStonesModel" (282 : Nat) ({ cls := "BorderStonesModel", name := "placeTold", desc := "(Z)I" } : Jvm.MethodName)) ∈ lw_all := lw_g (lw_at lw_m8 131 rfl) rfl
theorem q1954 : (Jvm.Cond.instanceMethod ({ cls := "BorderStonesModel", name := "placeTold", desc := "(Z)I" } : Jvm.MethodName)) ∈ lw_all := lw_g (lw_at lw_m8 133 rfl) rfl
theorem q1955 : (Jvm.Cond.code ({ cls := "BorderStonesModel", name := "placeTold", desc := "(Z)I" } : Jvm.MethodName) prog_20_method_22_code (4 : Nat) (Option.some Jvm.ClassFile.FieldType.int)) ∈ lw_all := lw_g (lw_at lw_m8 134 rfl) rfl
theorem q1956 : (Jvm.Cond.methodLink "BorderStonesModel" (310 : Nat) ({ cls := "BorderStonesModel", name := "landIsTold", desc := "()V" } : Jvm.MethodName)) ∈ lw_all := lw_g (lw_at lw_m8 135 rfl) rfl
theorem q1958 : (Jvm.Cond.instanceMethod ({ cls := "BorderStonesModel", name := "landIsTold", desc := "()V" } : Jvm.MethodName)) ∈ lw_all := lw_g (lw_at lw_m8 137 rfl) rfl
theorem q1959 : (Jvm.Cond.code ({ cls := "BorderStonesModel", name := "landIsTold", desc := "()V" } : Jvm.MethodName) prog_20_method_24_code (3 : Nat) (Option.none : Option Jvm.ClassFile.FieldType)) ∈ lw_all := lw_g (lw_at lw_m8 138 rfl) rfl
theorem q1960 : (Jvm.Cond.methodLink "BorderStonesModel" (313 : Nat) ({ cls := "BorderStonesModel", name := "worthTold", desc := "(I)V" } : Jvm.MethodName)) ∈ lw_all := lw_g (lw_at lw_m8 139 rfl) rfl
theorem q1962 : (Jvm.Cond.instanceMethod ({ cls := "BorderStonesModel", name := "worthTold", desc := "(I)V" } : Jvm.MethodName)) ∈ lw_all := lw_g (lw_at lw_m8 141 rfl) rfl
theorem q1963 : (Jvm.Cond.code ({ cls := "BorderStonesModel", name := "worthTold", desc := "(I)V" } : Jvm.MethodName) prog_20_method_25_code (3 : Nat) (Option.none : Option Jvm.ClassFile.FieldType)) ∈ lw_all := lw_g (lw_at lw_m8 142 rfl) rfl
theorem q1964 : (Jvm.Cond.methodLink "BorderStonesModel" (298 : Nat) ({ cls := "BorderStonesModel", name := "sumsTold", desc := "()V" } : Jvm.MethodName)) ∈ lw_all := lw_g (lw_at lw_m8 143 rfl) rfl
theorem q1966 : (Jvm.Cond.instanceMethod ({ cls := "BorderStonesModel", name := "sumsTold", desc := "()V" } : Jvm.MethodName)) ∈ lw_all := lw_g (lw_at lw_m8 145 rfl) rfl
theorem q1967 : (Jvm.Cond.code ({ cls := "BorderStonesModel", name := "sumsTold", desc := "()V" } : Jvm.MethodName) prog_20_method_38_code (3 : Nat) (Option.none : Option Jvm.ClassFile.FieldType)) ∈ lw_all := lw_g (lw_at lw_m8 146 rfl) rfl
theorem q1968 : (Jvm.Cond.methodLink "BorderStonesModel" (362 : Nat) ({ cls := "BorderStonesModel", name := "onePart", desc := "()V" } : Jvm.MethodName)) ∈ lw_all := lw_g (lw_at lw_m8 147 rfl) rfl
theorem q1970 : (Jvm.Cond.instanceMethod ({ cls := "BorderStonesModel", name := "onePart", desc := "()V" } : Jvm.MethodName)) ∈ lw_all := lw_g (lw_at lw_m8 149 rfl) rfl
theorem q1971 : (Jvm.Cond.code ({ cls := "BorderStonesModel", name := "onePart", desc := "()V" } : Jvm.MethodName) prog_20_method_36_code (5 : Nat) (Option.none : Option Jvm.ClassFile.FieldType)) ∈ lw_all := lw_g (lw_at lw_m8 150 rfl) rfl
theorem q1972 : (Jvm.Cond.methodLink "BorderStonesModel" (350 : Nat) ({ cls := "BorderStonesModel", name := "opens", desc := "(II)V" } : Jvm.MethodName)) ∈ lw_all := lw_g (lw_at lw_m8 151 rfl) rfl
theorem q1974 : (Jvm.Cond.instanceMethod ({ cls := "BorderStonesModel", name := "opens", desc := "(II)V" } : Jvm.MethodName)) ∈ lw_all := lw_g (lw_at lw_m8 153 rfl) rfl
theorem q1975 : (Jvm.Cond.code ({ cls := "BorderStonesModel", name := "opens", desc := "(II)V" } : Jvm.MethodName) prog_20_method_30_code (3 : Nat) (Option.none : Option Jvm.ClassFile.FieldType)) ∈ lw_all := lw_g (lw_at lw_m8 154 rfl) rfl
theorem q1976 : (Jvm.Cond.methodLink "BorderStonesModel" (341 : Nat) ({ cls := "BorderStonesModel", name := "code", desc := "(I)V" } : Jvm.MethodName)) ∈ lw_all := lw_g (lw_at lw_m8 155 rfl) rfl
theorem q1978 : (Jvm.Cond.instanceMethod ({ cls := "BorderStonesModel", name := "code", desc := "(I)V" } : Jvm.MethodName)) ∈ lw_all := lw_g (lw_at lw_m8 157 rfl) rfl
theorem q1979 : (Jvm.Cond.code ({ cls := "BorderStonesModel", name := "code", desc := "(I)V" } : Jvm.MethodName) prog_20_method_29_code (2 : Nat) (Option.none : Option Jvm.ClassFile.FieldType)) ∈ lw_all := lw_g (lw_at lw_m8 158 rfl) rfl
theorem q1980 : (Jvm.Cond.methodLink "BorderStonesModel" (365 : Nat) ({ cls := "BorderStonesModel", name := "goesOn", desc := "()Z" } : Jvm.MethodName)) ∈ lw_all := lw_g (lw_at lw_m8 159 rfl) rfl
theorem q1982 : (Jvm.Cond.instanceMethod ({ cls := "BorderStonesModel", name := "goesOn", desc := "()Z" } : Jvm.MethodName)) ∈ lw_all := lw_g (lw_at lw_m8 161 rfl) rfl
theorem q1983 : (Jvm.Cond.code ({ cls := "BorderStonesModel", name := "goesOn", desc := "()Z" } : Jvm.MethodName) prog_20_method_37_code (2 : Nat) (Option.some Jvm.ClassFile.FieldType.boolean)) ∈ lw_all := lw_g (lw_at lw_m8 162 rfl) rfl
theorem q1984 : (Jvm.Cond.methodLink "BorderStonesModel" (353 : Nat) ({ cls := "BorderStonesModel", name := "mark", desc := "()I" } : Jvm.MethodName)) ∈ lw_all := lw_g (lw_at lw_m8 163 rfl) rfl
theorem q1986 : (Jvm.Cond.instanceMethod ({ cls := "BorderStonesModel", name := "mark", desc := "()I" } : Jvm.MethodName)) ∈ lw_all := lw_g (lw_at lw_m8 165 rfl) rfl
theorem q1987 : (Jvm.Cond.code ({ cls := "BorderStonesModel", name := "mark", desc := "()I" } : Jvm.MethodName) prog_20_method_34_code (2 : Nat) (Option.some Jvm.ClassFile.FieldType.int)) ∈ lw_all := lw_g (lw_at lw_m8 166 rfl) rfl
theorem q1988 : (Jvm.Cond.methodLink "BorderStonesModel" (344 : Nat) ({ cls := "BorderStonesModel", name := "isMark", desc := "(I)Z" } : Jvm.MethodName)) ∈ lw_all := lw_g (lw_at lw_m8 167 rfl) rfl
theorem q1990 : (Jvm.Cond.instanceMethod ({ cls := "BorderStonesModel", name := "isMark", desc := "(I)Z" } : Jvm.MethodName)) ∈ lw_all := lw_g (lw_at lw_m8 169 rfl) rfl
theorem q1991 : (Jvm.Cond.code ({ cls := "BorderStonesModel", name := "isMark", desc := "(I)Z" } : Jvm.MethodName) prog_20_method_33_code (2 : Nat) (Option.some Jvm.ClassFile.FieldType.boolean)) ∈ lw_all := lw_g (lw_at lw_m8 170 rfl) rfl
theorem q1992 : (Jvm.Cond.methodLink "BorderStonesModel" (356 : Nat) ({ cls := "BorderStonesModel", name := "dropsToMark", desc := "()V" } : Jvm.MethodName)) ∈ lw_all := lw_g (lw_at lw_m8 171 rfl) rfl
theorem q1994 : (Jvm.Cond.instanceMethod ({ cls := "BorderStonesModel", name := "dropsToMark", desc := "()V" } : Jvm.MethodName)) ∈ lw_all := lw_g (lw_at lw_m8 173 rfl) rfl
theorem q1995 : (Jvm.Cond.code ({ cls := "BorderStonesModel", name := "dropsToMark", desc := "()V" } : Jvm.MethodName) prog_20_method_35_code (1 : Nat) (Option.none : Option Jvm.ClassFile.FieldType)) ∈ lw_all := lw_g (lw_at lw_m8 174 rfl) rfl
theorem q1996 : (Jvm.Cond.methodLink "BorderStonesModel" (347 : Nat) ({ cls := "BorderStonesModel", name := "drops", desc := "()V" } : Jvm.MethodName)) ∈ lw_all := lw_g (lw_at lw_m8 175 rfl) rfl
theorem q1998 : (Jvm.Cond.instanceMethod ({ cls := "BorderStonesModel", name := "drops", desc := "()V" } : Jvm.MethodName)) ∈ lw_all := lw_g (lw_at lw_m8 177 rfl) rfl
theorem q1999 : (Jvm.Cond.code ({ cls := "BorderStonesModel", name := "drops", desc := "()V" } : Jvm.MethodName) prog_20_method_32_code (1 : Nat) (Option.none : Option Jvm.ClassFile.FieldType)) ∈ lw_all := lw_g (lw_at lw_m8 178 rfl) rfl
theorem q2000 : (Jvm.Cond.methodLink "BorderStonesModel" (359 : Nat) ({ cls := "BorderStonesModel", name := "isOn", desc := "(I)Z" } : Jvm.MethodName)) ∈ lw_all := lw_g (lw_at lw_m8 179 rfl) rfl
theorem q2002 : (Jvm.Cond.instanceMethod ({ cls := "BorderStonesModel", name := "isOn", desc := "(I)Z" } : Jvm.MethodName)) ∈ lw_all := lw_g (lw_at lw_m8 181 rfl) rfl
theorem q2003 : (Jvm.Cond.code ({ cls := "BorderStonesModel", name := "isOn", desc := "(I)Z" } : Jvm.MethodName) prog_20_method_31_code (2 : Nat) (Option.some Jvm.ClassFile.FieldType.boolean)) ∈ lw_all := lw_g (lw_at lw_m8 182 rfl) rfl
theorem q2004 : (Jvm.Cond.methodLink "BorderStonesModel" (301 : Nat) ({ cls := "BorderStonesModel", name := "test", desc := "()V" } : Jvm.MethodName)) ∈ lw_all := lw_g (lw_at lw_m8 183 rfl) rfl
theorem q2006 : (Jvm.Cond.instanceMethod ({ cls := "BorderStonesModel", name := "test", desc := "()V" } : Jvm.MethodName)) ∈ lw_all := lw_g (lw_at lw_m8 185 rfl) rfl
theorem q2007 : (Jvm.Cond.code ({ cls := "BorderStonesModel", name := "test", desc := "()V" } : Jvm.MethodName) prog_20_method_42_code (3 : Nat) (Option.none : Option Jvm.ClassFile.FieldType)) ∈ lw_all := lw_g (lw_at lw_m8 186 rfl) rfl
theorem q2008 : (Jvm.Cond.methodLink "BorderStonesModel" (368 : Nat) ({ cls := "BorderStonesModel", name := "fact", desc := "()V" } : Jvm.MethodName)) ∈ lw_all := lw_g (lw_at lw_m8 187 rfl) rfl
theorem q2010 : (Jvm.Cond.instanceMethod ({ cls := "BorderStonesModel", name := "fact", desc := "()V" } : Jvm.MethodName)) ∈ lw_all := lw_g (lw_at lw_m8 189 rfl) rfl
theorem q2011 : (Jvm.Cond.code ({ cls := "BorderStonesModel", name := "fact", desc := "()V" } : Jvm.MethodName) prog_20_method_39_code (2 : Nat) (Option.none : Option Jvm.ClassFile.FieldType)) ∈ lw_all := lw_g (lw_at lw_m8 190 rfl) rfl
theorem q2012 : (Jvm.Cond.methodLink "BorderStonesModel" (371 : Nat) ({ cls := "BorderStonesModel", name := "dropsNots", desc := "()V" } : Jvm.MethodName)) ∈ lw_all := lw_g (lw_at lw_m8 191 rfl) rfl
theorem q2014 : (Jvm.Cond.instanceMethod ({ cls := "BorderStonesModel", name := "dropsNots", desc := "()V" } : Jvm.MethodName)) ∈ lw_all := lw_g (lw_at lw_m8 193 rfl) rfl
theorem q2015 : (Jvm.Cond.code ({ cls := "BorderStonesModel", name := "dropsNots", desc := "()V" } : Jvm.MethodName) prog_20_method_41_code (1 : Nat) (Option.none : Option Jvm.ClassFile.FieldType)) ∈ lw_all := lw_g (lw_at lw_m8 194 rfl) rfl
theorem q2016 : (Jvm.Cond.methodLink "BorderStonesModel" (374 : Nat) ({ cls := "BorderStonesModel", name := "goesOnTest", desc := "()Z" } : Jvm.MethodName)) ∈ lw_all := lw_g (lw_at lw_m8 195 rfl) rfl
theorem q2018 : (Jvm.Cond.instanceMethod ({ cls := "BorderStonesModel", name := "goesOnTest", desc := "()Z" } : Jvm.MethodName)) ∈ lw_all := lw_g (lw_at lw_m8 197 rfl) rfl
theorem q2019 : (Jvm.Cond.code ({ cls := "BorderStonesModel", name := "goesOnTest", desc := "()Z" } : Jvm.MethodName) prog_20_method_43_code (1 : Nat) (Option.some Jvm.ClassFile.FieldType.boolean)) ∈ lw_all := lw_g (lw_at lw_m8 198 rfl) rfl
theorem q2020 : (Jvm.Cond.methodLink "BorderStonesModel" (377 : Nat) ({ cls := "BorderStonesModel", name := "hasSquare", desc := "()Z" } : Jvm.MethodName)) ∈ lw_all := lw_g (lw_at lw_m8 199 rfl) rfl
theorem q2022 : (Jvm.Cond.instanceMethod ({ cls := "BorderStonesModel", name := "hasSquare", desc := "()Z" } : Jvm.MethodName)) ∈ lw_all := lw_g (lw_at lw_m8 201 rfl) rfl
theorem q2023 : (Jvm.Cond.code ({ cls := "BorderStonesModel", name := "hasSquare", desc := "()Z" } : Jvm.MethodName) prog_20_method_40_code (2 : Nat) (Option.some Jvm.ClassFile.FieldType.boolean)) ∈ lw_all := lw_g (lw_at lw_m8 202 rfl) rfl
theorem q2024 : (Jvm.Cond.methodLink "BorderStonesModel" (325 : Nat) ({ cls := "BorderStonesModel", name := "stands", desc := "()V" } : Jvm.MethodName)) ∈ lw_all := lw_g (lw_at lw_m8 203 rfl) rfl
theorem q2026 : (Jvm.Cond.instanceMethod ({ cls := "BorderStonesModel", name := "stands", desc := "()V" } : Jvm.MethodName)) ∈ lw_all := lw_g (lw_at lw_m8 205 rfl) rfl
theorem q2027 : (Jvm.Cond.code ({ cls := "BorderStonesModel", name := "stands", desc := "()V" } : Jvm.MethodName) prog_20_method_28_code (2 : Nat) (Option.none : Option Jvm.ClassFile.FieldType)) ∈ lw_all := lw_g (lw_at lw_m8 206 rfl) rfl
theorem q2028 : (Jvm.Cond.methodLink "BorderStonesModel" (337 : Nat) ({ cls := "BorderStonesModel", name := "worthOf", desc := "(I)I" } : Jvm.MethodName)) ∈ lw_all := lw_g (lw_at lw_m8 207 rfl) rfl
theorem q2030 : (Jvm.Cond.instanceMethod ({ cls := "BorderStonesModel", name := "worthOf", desc := "(I)I" } : Jvm.MethodName)) ∈ lw_all := lw_g (lw_at lw_m8 209 rfl) rfl
theorem q2031 : (Jvm.Cond.code ({ cls := "BorderStonesModel", name := "worthOf", desc := "(I)I" } : Jvm.MethodName) prog_20_method_52_code (5 : Nat) (Option.some Jvm.ClassFile.FieldType.int)) ∈ lw_all := lw_g (lw_at lw_m8 210 rfl) rfl
theorem q2032 : (Jvm.Cond.methodLink "BorderStonesModel" (412 : Nat) ({ cls := "BorderStonesModel", name := "told", desc := "(III)J" } : Jvm.MethodName)) ∈ lw_all := lw_g (lw_at lw_m8 211 rfl) rfl
theorem q2034 : (Jvm.Cond.instanceMethod ({ cls := "BorderStonesModel", name := "told", desc := "(III)J" } : Jvm.MethodName)) ∈ lw_all := lw_g (lw_at lw_m8 213 rfl) rfl
theorem q2035 : (Jvm.Cond.code ({ cls := "BorderStonesModel", name := "told", desc := "(III)J" } : Jvm.MethodName) prog_20_method_51_code (6 : Nat) (Option.some Jvm.ClassFile.FieldType.long)) ∈ lw_all := lw_g (lw_at lw_m8 214 rfl) rfl
theorem q2036 : (Jvm.Cond.methodLink "BorderStonesModel" (391 : Nat) ({ cls := "BorderStonesModel", name := "puts", desc := "(J)V" } : Jvm.MethodName)) ∈ lw_all := lw_g (lw_at lw_m8 215 rfl) rfl
theorem q2038 : (Jvm.Cond.instanceMethod ({ cls := "BorderStonesModel", name := "puts", desc := "(J)V" } : Jvm.MethodName)) ∈ lw_all := lw_g (lw_at lw_m8 217 rfl) rfl
theorem q2039 : (Jvm.Cond.code ({ cls := "BorderStonesModel", name := "puts", desc := "(J)V" } : Jvm.MethodName) prog_20_method_47_code (3 : Nat) (Option.none : Option Jvm.ClassFile.FieldType)) ∈ lw_all := lw_g (lw_at lw_m8 218 rfl) rfl
theorem q2040 : (Jvm.Cond.constantLong "BorderStonesModel" (402 : Nat) (7 : Int64)) ∈ lw_all := lw_g (lw_at lw_m8 219 rfl) rfl
theorem q2041 : (Jvm.Cond.constantLong "BorderStonesModel" (404 : Nat) (9 : Int64)) ∈ lw_all := lw_g (lw_at lw_m8 220 rfl) rfl
theorem q2042 : (Jvm.Cond.methodLink "BorderStonesModel" (406 : Nat) ({ cls := "BorderStonesModel", name := "toEdge", desc := "(I)I" } : Jvm.MethodName)) ∈ lw_all := lw_g (lw_at lw_m8 221 rfl) rfl
theorem q2044 : (Jvm.Cond.instanceMethod ({ cls := "BorderStonesModel", name := "toEdge", desc := "(I)I" } : Jvm.MethodName)) ∈ lw_all := lw_g (lw_at lw_m8 223 rfl) rfl
theorem q2045 : (Jvm.Cond.code ({ cls := "BorderStonesModel", name := "toEdge", desc := "(I)I" } : Jvm.MethodName) prog_20_method_50_code (4 : Nat) (Option.some Jvm.ClassFile.FieldType.int)) ∈ lw_all := lw_g (lw_at lw_m8 224 rfl) rfl
theorem q2046 : (Jvm.Cond.methodLink "BorderStonesModel" (399 : Nat) ({ cls := "BorderStonesModel", name := "least", desc := "(II)I" } : Jvm.MethodName)) ∈ lw_all := lw_g (lw_at lw_m8 225 rfl) rfl
theorem q2047 : (Jvm.Cond.static ({ cls := "BorderStonesModel", name := "least", desc := "(II)I" } : Jvm.MethodName)) ∈ lw_all := lw_g (lw_at lw_m8 226 rfl) rfl
theorem q2048 : (Jvm.Cond.code ({ cls := "BorderStonesModel", name := "least", desc := "(II)I" } : Jvm.MethodName) prog_20_method_49_code (2 : Nat) (Option.some Jvm.ClassFile.FieldType.int)) ∈ lw_all := lw_g (lw_at lw_m8 227 rfl) rfl
theorem q2049 : (Jvm.Cond.methodLink "BorderStonesModel" (409 : Nat) ({ cls := "BorderStonesModel", name := "joins", desc := "(I)V" } : Jvm.MethodName)) ∈ lw_all := lw_g (lw_at lw_m8 228 rfl) rfl
theorem q2051 : (Jvm.Cond.instanceMethod ({ cls := "BorderStonesModel", name := "joins", desc := "(I)V" } : Jvm.MethodName)) ∈ lw_all := lw_g (lw_at lw_m8 230 rfl) rfl
theorem q2052 : (Jvm.Cond.code ({ cls := "BorderStonesModel", name := "joins", desc := "(I)V" } : Jvm.MethodName) prog_20_method_48_code (6 : Nat) (Option.none : Option Jvm.ClassFile.FieldType)) ∈ lw_all := lw_g (lw_at lw_m8 231 rfl) rfl
theorem q2053 : (Jvm.Cond.methodLink "BorderStonesModel" (387 : Nat) ({ cls := "BorderStonesModel", name := "clip", desc := "(J)J" } : Jvm.MethodName)) ∈ lw_all := lw_g (lw_at lw_m8 232 rfl) rfl
theorem q2054 : (Jvm.Cond.static ({ cls := "BorderStonesModel", name := "clip", desc := "(J)J" } : Jvm.MethodName)) ∈ lw_all := lw_g (lw_at lw_m8 233 rfl) rfl
theorem q2055 : (Jvm.Cond.code ({ cls := "BorderStonesModel", name := "clip", desc := "(J)J" } : Jvm.MethodName) prog_20_method_45_code (2 : Nat) (Option.some Jvm.ClassFile.FieldType.long)) ∈ lw_all := lw_g (lw_at lw_m8 234 rfl) rfl
theorem q2056 : (Jvm.Cond.constantLong "BorderStonesModel" (380 : Nat) (1000000 : Int64)) ∈ lw_all := lw_g (lw_at lw_m8 235 rfl) rfl
theorem q2057 : (Jvm.Cond.constantLong "BorderStonesModel" (382 : Nat) (-1000000 : Int64)) ∈ lw_all := lw_g (lw_at lw_m8 236 rfl) rfl
theorem q2058 : (Jvm.Cond.methodLink "BorderStonesModel" (395 : Nat) ({ cls := "BorderStonesModel", name := "floor", desc := "(JJ)J" } : Jvm.MethodName)) ∈ lw_all := lw_g (lw_at lw_m8 237 rfl) rfl
theorem q2059 : (Jvm.Cond.static ({ cls := "BorderStonesModel", name := "floor", desc := "(JJ)J" } : Jvm.MethodName)) ∈ lw_all := lw_g (lw_at lw_m8 238 rfl) rfl
theorem q2060 : (Jvm.Cond.code ({ cls := "BorderStonesModel", name := "floor", desc := "(JJ)J" } : Jvm.MethodName) prog_20_method_46_code (6 : Nat) (Option.some Jvm.ClassFile.FieldType.long)) ∈ lw_all := lw_g (lw_at lw_m8 239 rfl) rfl
theorem q2061 : (Jvm.Cond.constantLong "BorderStonesModel" (416 : Nat) (99 : Int64)) ∈ lw_all := lw_g (lw_at lw_m9 0 rfl) rfl
theorem q2063 : (Jvm.Cond.instanceMethod ({ cls := "BorderStonesModel", name := "fault", desc := "(I)I" } : Jvm.MethodName)) ∈ lw_all := lw_g (lw_at lw_m9 2 rfl) rfl
theorem q2064 : (Jvm.Cond.selects "BorderStonesModel" ({ cls := "BorderStonesModel", name := "fault", desc := "(I)I" } : Jvm.MethodName) ({ cls := "BorderStonesModel", name := "fault", desc := "(I)I" } : Jvm.MethodName)) ∈ lw_all := lw_g (lw_at lw_m9 3 rfl) rfl
theorem q2065 : (Jvm.Cond.code ({ cls := "BorderStonesModel", name := "fault", desc := "(I)I" } : Jvm.MethodName) prog_20_method_44_code (2 : Nat) (Option.some Jvm.ClassFile.FieldType.int)) ∈ lw_all := lw_g (lw_at lw_m9 4 rfl) rfl
theorem q2067 : (Jvm.Cond.instanceMethod ({ cls := "BorderStonesModel", name := "has", desc := "(I)I" } : Jvm.MethodName)) ∈ lw_all := lw_g (lw_at lw_m9 6 rfl) rfl
theorem q2068 : (Jvm.Cond.selects "BorderStonesModel" ({ cls := "BorderStonesModel", name := "has", desc := "(I)I" } : Jvm.MethodName) ({ cls := "BorderStonesModel", name := "has", desc := "(I)I" } : Jvm.MethodName)) ∈ lw_all := lw_g (lw_at lw_m9 7 rfl) rfl
theorem q2069 : (Jvm.Cond.code ({ cls := "BorderStonesModel", name := "has", desc := "(I)I" } : Jvm.MethodName) prog_20_method_81_code (2 : Nat) (Option.some Jvm.ClassFile.FieldType.int)) ∈ lw_all := lw_g (lw_at lw_m9 8 rfl) rfl
theorem q2070 : (Jvm.Cond.methodLink "BorderStonesModel" (421 : Nat) ({ cls := "BorderStonesModel", name := "kinds", desc := "()I" } : Jvm.MethodName)) ∈ lw_all := lw_g (lw_at lw_m9 9 rfl) rfl
theorem q2072 : (Jvm.Cond.instanceMethod ({ cls := "BorderStonesModel", name := "kinds", desc := "()I" } : Jvm.MethodName)) ∈ lw_all := lw_g (lw_at lw_m9 11 rfl) rfl
theorem q2073 : (Jvm.Cond.code ({ cls := "BorderStonesModel", name := "kinds", desc := "()I" } : Jvm.MethodName) prog_20_method_55_code (1 : Nat) (Option.some Jvm.ClassFile.FieldType.int)) ∈ lw_all := lw_g (lw_at lw_m9 12 rfl) rfl
theorem q2074 : (Jvm.Cond.methodLink "BorderStonesModel" (501 : Nat) ({ cls := "BorderStonesModel", name := "stonesOf", desc := "(II)I" } : Jvm.MethodName)) ∈ lw_all := lw_g (lw_at lw_m9 13 rfl) rfl
theorem q2076 : (Jvm.Cond.instanceMethod ({ cls := "BorderStonesModel", name := "stonesOf", desc := "(II)I" } : Jvm.MethodName)) ∈ lw_all := lw_g (lw_at lw_m9 15 rfl) rfl
theorem q2077 : (Jvm.Cond.code ({ cls := "BorderStonesModel", name := "stonesOf", desc := "(II)I" } : Jvm.MethodName) prog_20_method_79_code (5 : Nat) (Option.some Jvm.ClassFile.FieldType.int)) ∈ lw_all := lw_g (lw_at lw_m9 16 rfl) rfl
theorem q2078 : (Jvm.Cond.methodLink "BorderStonesModel" (418 : Nat) ({ cls := "BorderStonesModel", name := "places", desc := "()I" } : Jvm.MethodName)) ∈ lw_all := lw_g (lw_at lw_m9 17 rfl) rfl
theorem q2080 : (Jvm.Cond.instanceMethod ({ cls := "BorderStonesModel", name := "places", desc := "()I" } : Jvm.MethodName)) ∈ lw_all := lw_g (lw_at lw_m9 19 rfl) rfl
theorem q2081 : (Jvm.Cond.code ({ cls := "BorderStonesModel", name := "places", desc := "()I" } : Jvm.MethodName) prog_20_method_53_code (1 : Nat) (Option.some Jvm.ClassFile.FieldType.int)) ∈ lw_all := lw_g (lw_at lw_m9 20 rfl) rfl
theorem q2082 : (Jvm.Cond.methodLink "BorderStonesModel" (424 : Nat) ({ cls := "BorderStonesModel", name := "kindAt", desc := "(I)I" } : Jvm.MethodName)) ∈ lw_all := lw_g (lw_at lw_m9 21 rfl) rfl
theorem q2084 : (Jvm.Cond.instanceMethod ({ cls := "BorderStonesModel", name := "kindAt", desc := "(I)I" } : Jvm.MethodName)) ∈ lw_all := lw_g (lw_at lw_m9 23 rfl) rfl
theorem q2085 : (Jvm.Cond.code ({ cls := "BorderStonesModel", name := "kindAt", desc := "(I)I" } : Jvm.MethodName) prog_20_method_59_code (2 : Nat) (Option.some Jvm.ClassFile.FieldType.int)) ∈ lw_all := lw_g (lw_at lw_m9 24 rfl) rfl
theorem q2086 : (Jvm.Cond.methodLink "BorderStonesModel" (504 : Nat) ({ cls := "BorderStonesModel", name := "allOwed", desc := "()J" } : Jvm.MethodName)) ∈ lw_all := lw_g (lw_at lw_m9 25 rfl) rfl
theorem q2088 : (Jvm.Cond.instanceMethod ({ cls := "BorderStonesModel", name := "allOwed", desc := "()J" } : Jvm.MethodName)) ∈ lw_all := lw_g (lw_at lw_m9 27 rfl) rfl
theorem q2089 : (Jvm.Cond.code ({ cls := "BorderStonesModel", name := "allOwed", desc := "()J" } : Jvm.MethodName) prog_20_method_80_code (4 : Nat) (Option.some Jvm.ClassFile.FieldType.long)) ∈ lw_all := lw_g (lw_at lw_m9 28 rfl) rfl
theorem q2090 : (Jvm.Cond.methodLink "BorderStonesModel" (495 : Nat) ({ cls := "BorderStonesModel", name := "bits", desc := "(J)I" } : Jvm.MethodName)) ∈ lw_all := lw_g (lw_at lw_m9 29 rfl) rfl
theorem q2091 : (Jvm.Cond.static ({ cls := "BorderStonesModel", name := "bits", desc := "(J)I" } : Jvm.MethodName)) ∈ lw_all := lw_g (lw_at lw_m9 30 rfl) rfl
theorem q2092 : (Jvm.Cond.code ({ cls := "BorderStonesModel", name := "bits", desc := "(J)I" } : Jvm.MethodName) prog_20_method_69_code (5 : Nat) (Option.some Jvm.ClassFile.FieldType.int)) ∈ lw_all := lw_g (lw_at lw_m9 31 rfl) rfl
theorem q2094 : (Jvm.Cond.instanceMethod ({ cls := "BorderStonesModel", name := "letter", desc := "(II)I" } : Jvm.MethodName)) ∈ lw_all := lw_g (lw_at lw_m9 33 rfl) rfl
theorem q2095 : (Jvm.Cond.selects "BorderStonesModel" ({ cls := "BorderStonesModel", name := "letter", desc := "(II)I" } : Jvm.MethodName) ({ cls := "BorderStonesModel", name := "letter", desc := "(II)I" } : Jvm.MethodName)) ∈ lw_all := lw_g (lw_at lw_m9 34 rfl) rfl
theorem q2096 : (Jvm.Cond.code ({ cls := "BorderStonesModel", name := "letter", desc := "(II)I" } : Jvm.MethodName) prog_20_method_82_code (8 : Nat) (Option.some Jvm.ClassFile.FieldType.int)) ∈ lw_all := lw_g (lw_at lw_m9 35 rfl) rfl
theorem q2097 : (Jvm.Cond.methodLink "BorderStonesModel" (507 : Nat) ({ cls := "BorderStonesModel", name := "isKind", desc := "(I)Z" } : Jvm.MethodName)) ∈ lw_all := lw_g (lw_at lw_m9 36 rfl) rfl
theorem q2099 : (Jvm.Cond.instanceMethod ({ cls := "BorderStonesModel", name := "isKind", desc := "(I)Z" } : Jvm.MethodName)) ∈ lw_all := lw_g (lw_at lw_m9 38 rfl) rfl
theorem q2100 : (Jvm.Cond.code ({ cls := "BorderStonesModel", name := "isKind", desc := "(I)Z" } : Jvm.MethodName) prog_20_method_56_code (2 : Nat) (Option.some Jvm.ClassFile.FieldType.boolean)) ∈ lw_all := lw_g (lw_at lw_m9 39 rfl) rfl
theorem q2101 : (Jvm.Cond.constantLong "BorderStonesModel" (510 : Nat) (5 : Int64)) ∈ lw_all := lw_g (lw_at lw_m9 40 rfl) rfl
theorem q2103 : (Jvm.Cond.instanceMethod ({ cls := "BorderStonesModel", name := "kind", desc := "(II)I" } : Jvm.MethodName)) ∈ lw_all := lw_g (lw_at lw_m9 42 rfl) rfl
theorem q2104 : (Jvm.Cond.selects "BorderStonesModel" ({ cls := "BorderStonesModel", name := "kind", desc := "(II)I" } : Jvm.MethodName) ({ cls := "BorderStonesModel", name := "kind", desc := "(II)I" } : Jvm.MethodName)) ∈ lw_all := lw_g (lw_at lw_m9 43 rfl) rfl
theorem q2105 : (Jvm.Cond.code ({ cls := "BorderStonesModel", name := "kind", desc := "(II)I" } : Jvm.MethodName) prog_20_method_83_code (3 : Nat) (Option.some Jvm.ClassFile.FieldType.int)) ∈ lw_all := lw_g (lw_at lw_m9 44 rfl) rfl
theorem q2107 : (Jvm.Cond.instanceMethod ({ cls := "BorderStonesModel", name := "place", desc := "(II)I" } : Jvm.MethodName)) ∈ lw_all := lw_g (lw_at lw_m9 46 rfl) rfl
theorem q2108 : (Jvm.Cond.selects "BorderStonesModel" ({ cls := "BorderStonesModel", name := "place", desc := "(II)I" } : Jvm.MethodName) ({ cls := "BorderStonesModel", name := "place", desc := "(II)I" } : Jvm.MethodName)) ∈ lw_all := lw_g (lw_at lw_m9 47 rfl) rfl
theorem q2109 : (Jvm.Cond.code ({ cls := "BorderStonesModel", name := "place", desc := "(II)I" } : Jvm.MethodName) prog_20_method_86_code (3 : Nat) (Option.some Jvm.ClassFile.FieldType.int)) ∈ lw_all := lw_g (lw_at lw_m9 48 rfl) rfl
theorem q2110 : (Jvm.Cond.methodLink "BorderStonesModel" (512 : Nat) ({ cls := "BorderStonesModel", name := "isPlace", desc := "(I)Z" } : Jvm.MethodName)) ∈ lw_all := lw_g (lw_at lw_m9 49 rfl) rfl
theorem q2112 : (Jvm.Cond.instanceMethod ({ cls := "BorderStonesModel", name := "isPlace", desc := "(I)Z" } : Jvm.MethodName)) ∈ lw_all := lw_g (lw_at lw_m9 51 rfl) rfl
theorem q2113 : (Jvm.Cond.code ({ cls := "BorderStonesModel", name := "isPlace", desc := "(I)Z" } : Jvm.MethodName) prog_20_method_54_code (2 : Nat) (Option.some Jvm.ClassFile.FieldType.boolean)) ∈ lw_all := lw_g (lw_at lw_m9 52 rfl) rfl
theorem q2114 : (Jvm.Cond.methodLink "BorderStonesModel" (438 : Nat) ({ cls := "BorderStonesModel", name := "isFree", desc := "(I)Z" } : Jvm.MethodName)) ∈ lw_all := lw_g (lw_at lw_m9 53 rfl) rfl
theorem q2116 : (Jvm.Cond.instanceMethod ({ cls := "BorderStonesModel", name := "isFree", desc := "(I)Z" } : Jvm.MethodName)) ∈ lw_all := lw_g (lw_at lw_m9 55 rfl) rfl
theorem q2117 : (Jvm.Cond.code ({ cls := "BorderStonesModel", name := "isFree", desc := "(I)Z" } : Jvm.MethodName) prog_20_method_57_code (2 : Nat) (Option.some Jvm.ClassFile.FieldType.boolean)) ∈ lw_all := lw_g (lw_at lw_m9 56 rfl) rfl
theorem q2118 : (Jvm.Cond.methodLink "BorderStonesModel" (515 : Nat) ({ cls := "BorderStonesModel", name := "edgesAt", desc := "(I)I" } : Jvm.MethodName)) ∈ lw_all := lw_g (lw_at lw_m9 57 rfl) rfl
theorem q2120 : (Jvm.Cond.instanceMethod ({ cls := "BorderStonesModel", name := "edgesAt", desc := "(I)I" } : Jvm.MethodName)) ∈ lw_all := lw_g (lw_at lw_m9 59 rfl) rfl
theorem q2121 : (Jvm.Cond.code ({ cls := "BorderStonesModel", name := "edgesAt", desc := "(I)I" } : Jvm.MethodName) prog_20_method_84_code (4 : Nat) (Option.some Jvm.ClassFile.FieldType.int)) ∈ lw_all := lw_g (lw_at lw_m9 60 rfl) rfl
theorem q2122 : (Jvm.Cond.methodLink "BorderStonesModel" (456 : Nat) ({ cls := "BorderStonesModel", name := "edges", desc := "(I)V" } : Jvm.MethodName)) ∈ lw_all := lw_g (lw_at lw_m9 61 rfl) rfl
theorem q2124 : (Jvm.Cond.instanceMethod ({ cls := "BorderStonesModel", name := "edges", desc := "(I)V" } : Jvm.MethodName)) ∈ lw_all := lw_g (lw_at lw_m9 63 rfl) rfl
theorem q2125 : (Jvm.Cond.code ({ cls := "BorderStonesModel", name := "edges", desc := "(I)V" } : Jvm.MethodName) prog_20_method_64_code (6 : Nat) (Option.none : Option Jvm.ClassFile.FieldType)) ∈ lw_all := lw_g (lw_at lw_m9 64 rfl) rfl
theorem q2126 : (Jvm.Cond.methodLink "BorderStonesModel" (447 : Nat) ({ cls := "BorderStonesModel", name := "isOf", desc := "(II)Z" } : Jvm.MethodName)) ∈ lw_all := lw_g (lw_at lw_m9 65 rfl) rfl
theorem q2128 : (Jvm.Cond.instanceMethod ({ cls := "BorderStonesModel", name := "isOf", desc := "(II)Z" } : Jvm.MethodName)) ∈ lw_all := lw_g (lw_at lw_m9 67 rfl) rfl
theorem q2129 : (Jvm.Cond.code ({ cls := "BorderStonesModel", name := "isOf", desc := "(II)Z" } : Jvm.MethodName) prog_20_method_58_code (3 : Nat) (Option.some Jvm.ClassFile.FieldType.boolean)) ∈ lw_all := lw_g (lw_at lw_m9 68 rfl) rfl
theorem q2130 : (Jvm.Cond.methodLink "BorderStonesModel" (450 : Nat) ({ cls := "BorderStonesModel", name := "isLine", desc := "(II)Z" } : Jvm.MethodName)) ∈ lw_all := lw_g (lw_at lw_m9 69 rfl) rfl
theorem q2132 : (Jvm.Cond.instanceMethod ({ cls := "BorderStonesModel", name := "isLine", desc := "(II)Z" } : Jvm.MethodName)) ∈ lw_all := lw_g (lw_at lw_m9 71 rfl) rfl
theorem q2133 : (Jvm.Cond.code ({ cls := "BorderStonesModel", name := "isLine", desc := "(II)Z" } : Jvm.MethodName) prog_20_method_63_code (6 : Nat) (Option.some Jvm.ClassFile.FieldType.boolean)) ∈ lw_all := lw_g (lw_at lw_m9 72 rfl) rfl
theorem q2134 : (Jvm.Cond.methodLink "BorderStonesModel" (427 : Nat) ({ cls := "BorderStonesModel", name := "stepsBetween", desc := "(II)I" } : Jvm.MethodName)) ∈ lw_all := lw_g (lw_at lw_m9 73 rfl) rfl
theorem q2136 : (Jvm.Cond.instanceMethod ({ cls := "BorderStonesModel", name := "stepsBetween", desc := "(II)I" } : Jvm.MethodName)) ∈ lw_all := lw_g (lw_at lw_m9 75 rfl) rfl
theorem q2137 : (Jvm.Cond.code ({ cls := "BorderStonesModel", name := "stepsBetween", desc := "(II)I" } : Jvm.MethodName) prog_20_method_61_code (5 : Nat) (Option.some Jvm.ClassFile.FieldType.int)) ∈ lw_all := lw_g (lw_at lw_m9 76 rfl) rfl
theorem q2138 : (Jvm.Cond.methodLink "BorderStonesModel" (430 : Nat) ({ cls := "BorderStonesModel", name := "hasMark", desc := "(II)Z" } : Jvm.MethodName)) ∈ lw_all := lw_g (lw_at lw_m9 77 rfl) rfl
theorem q2140 : (Jvm.Cond.instanceMethod ({ cls := "BorderStonesModel", name := "hasMark", desc := "(II)Z" } : Jvm.MethodName)) ∈ lw_all := lw_g (lw_at lw_m9 79 rfl) rfl
theorem q2141 : (Jvm.Cond.code ({ cls := "BorderStonesModel", name := "hasMark", desc := "(II)Z" } : Jvm.MethodName) prog_20_method_60_code (3 : Nat) (Option.some Jvm.ClassFile.FieldType.boolean)) ∈ lw_all := lw_g (lw_at lw_m9 80 rfl) rfl
theorem q2142 : (Jvm.Cond.methodLink "BorderStonesModel" (434 : Nat) ({ cls := "BorderStonesModel", name := "towards", desc := "(IIII)I" } : Jvm.MethodName)) ∈ lw_all := lw_g (lw_at lw_m9 81 rfl) rfl
theorem q2144 : (Jvm.Cond.instanceMethod ({ cls := "BorderStonesModel", name := "towards", desc := "(IIII)I" } : Jvm.MethodName)) ∈ lw_all := lw_g (lw_at lw_m9 83 rfl) rfl
theorem q2145 : (Jvm.Cond.code ({ cls := "BorderStonesModel", name := "towards", desc := "(IIII)I" } : Jvm.MethodName) prog_20_method_62_code (7 : Nat) (Option.some Jvm.ClassFile.FieldType.int)) ∈ lw_all := lw_g (lw_at lw_m9 84 rfl) rfl
theorem q2146 : (Jvm.Cond.methodLink "BorderStonesModel" (518 : Nat) ({ cls := "BorderStonesModel", name := "shutIn", desc := "(I)J" } : Jvm.MethodName)) ∈ lw_all := lw_g (lw_at lw_m9 85 rfl) rfl
theorem q2148 : (Jvm.Cond.instanceMethod ({ cls := "BorderStonesModel", name := "shutIn", desc := "(I)J" } : Jvm.MethodName)) ∈ lw_all := lw_g (lw_at lw_m9 87 rfl) rfl
theorem q2149 : (Jvm.Cond.code ({ cls := "BorderStonesModel", name := "shutIn", desc := "(I)J" } : Jvm.MethodName) prog_20_method_85_code (5 : Nat) (Option.some Jvm.ClassFile.FieldType.long)) ∈ lw_all := lw_g (lw_at lw_m9 88 rfl) rfl
theorem q2150 : (Jvm.Cond.methodLink "BorderStonesModel" (470 : Nat) ({ cls := "BorderStonesModel", name := "shuts", desc := "(I)V" } : Jvm.MethodName)) ∈ lw_all := lw_g (lw_at lw_m9 89 rfl) rfl
theorem q2152 : (Jvm.Cond.instanceMethod ({ cls := "BorderStonesModel", name := "shuts", desc := "(I)V" } : Jvm.MethodName)) ∈ lw_all := lw_g (lw_at lw_m9 91 rfl) rfl
theorem q2153 : (Jvm.Cond.code ({ cls := "BorderStonesModel", name := "shuts", desc := "(I)V" } : Jvm.MethodName) prog_20_method_68_code (7 : Nat) (Option.none : Option Jvm.ClassFile.FieldType)) ∈ lw_all := lw_g (lw_at lw_m9 92 rfl) rfl
theorem q2154 : (Jvm.Cond.methodLink "BorderStonesModel" (462 : Nat) ({ cls := "BorderStonesModel", name := "hangs", desc := "(I)J" } : Jvm.MethodName)) ∈ lw_all := lw_g (lw_at lw_m9 93 rfl) rfl
theorem q2156 : (Jvm.Cond.instanceMethod ({ cls := "BorderStonesModel", name := "hangs", desc := "(I)J" } : Jvm.MethodName)) ∈ lw_all := lw_g (lw_at lw_m9 95 rfl) rfl
theorem q2157 : (Jvm.Cond.code ({ cls := "BorderStonesModel", name := "hangs", desc := "(I)J" } : Jvm.MethodName) prog_20_method_66_code (10 : Nat) (Option.some Jvm.ClassFile.FieldType.long)) ∈ lw_all := lw_g (lw_at lw_m9 96 rfl) rfl
theorem q2158 : (Jvm.Cond.methodLink "BorderStonesModel" (453 : Nat) ({ cls := "BorderStonesModel", name := "isInside", desc := "(II)Z" } : Jvm.MethodName)) ∈ lw_all := lw_g (lw_at lw_m9 97 rfl) rfl
theorem q2160 : (Jvm.Cond.instanceMethod ({ cls := "BorderStonesModel", name := "isInside", desc := "(II)Z" } : Jvm.MethodName)) ∈ lw_all := lw_g (lw_at lw_m9 99 rfl) rfl
theorem q2161 : (Jvm.Cond.code ({ cls := "BorderStonesModel", name := "isInside", desc := "(II)Z" } : Jvm.MethodName) prog_20_method_65_code (3 : Nat) (Option.some Jvm.ClassFile.FieldType.boolean)) ∈ lw_all := lw_g (lw_at lw_m9 100 rfl) rfl
theorem q2162 : (Jvm.Cond.methodLink "BorderStonesModel" (466 : Nat) ({ cls := "BorderStonesModel", name := "isAtSide", desc := "(J)Z" } : Jvm.MethodName)) ∈ lw_all := lw_g (lw_at lw_m9 101 rfl) rfl
theorem q2164 : (Jvm.Cond.instanceMethod ({ cls := "BorderStonesModel", name := "isAtSide", desc := "(J)Z" } : Jvm.MethodName)) ∈ lw_all := lw_g (lw_at lw_m9 103 rfl) rfl
theorem q2165 : (Jvm.Cond.code ({ cls := "BorderStonesModel", name := "isAtSide", desc := "(J)Z" } : Jvm.MethodName) prog_20_method_67_code (4 : Nat) (Option.some Jvm.ClassFile.FieldType.boolean)) ∈ lw_all := lw_g (lw_at lw_m9 104 rfl) rfl
theorem q2167 : (Jvm.Cond.instanceMethod ({ cls := "BorderStonesModel", name := "side", desc := "(II)I" } : Jvm.MethodName)) ∈ lw_all := lw_g (lw_at lw_m9 106 rfl) rfl
theorem q2168 : (Jvm.Cond.selects "BorderStonesModel" ({ cls := "BorderStonesModel", name := "side", desc := "(II)I" } : Jvm.MethodName) ({ cls := "BorderStonesModel", name := "side", desc := "(II)I" } : Jvm.MethodName)) ∈ lw_all := lw_g (lw_at lw_m9 107 rfl) rfl
theorem q2169 : (Jvm.Cond.code ({ cls := "BorderStonesModel", name := "side", desc := "(II)I" } : Jvm.MethodName) prog_20_method_88_code (5 : Nat) (Option.some Jvm.ClassFile.FieldType.int)) ∈ lw_all := lw_g (lw_at lw_m9 108 rfl) rfl
theorem q2170 : (Jvm.Cond.methodLink "BorderStonesModel" (521 : Nat) ({ cls := "BorderStonesModel", name := "landOf", desc := "(IZ)I" } : Jvm.MethodName)) ∈ lw_all := lw_g (lw_at lw_m9 109 rfl) rfl
theorem q2172 : (Jvm.Cond.instanceMethod ({ cls := "BorderStonesModel", name := "landOf", desc := "(IZ)I" } : Jvm.MethodName)) ∈ lw_all := lw_g (lw_at lw_m9 111 rfl) rfl
theorem q2173 : (Jvm.Cond.code ({ cls := "BorderStonesModel", name := "landOf", desc := "(IZ)I" } : Jvm.MethodName) prog_20_method_87_code (5 : Nat) (Option.some Jvm.ClassFile.FieldType.int)) ∈ lw_all := lw_g (lw_at lw_m9 112 rfl) rfl
theorem q2175 : (Jvm.Cond.instanceMethod ({ cls := "BorderStonesModel", name := "set", desc := "(II)I" } : Jvm.MethodName)) ∈ lw_all := lw_g (lw_at lw_m9 114 rfl) rfl
theorem q2176 : (Jvm.Cond.selects "BorderStonesModel" ({ cls := "BorderStonesModel", name := "set", desc := "(II)I" } : Jvm.MethodName) ({ cls := "BorderStonesModel", name := "set", desc := "(II)I" } : Jvm.MethodName)) ∈ lw_all := lw_g (lw_at lw_m9 115 rfl) rfl
theorem q2177 : (Jvm.Cond.code ({ cls := "BorderStonesModel", name := "set", desc := "(II)I" } : Jvm.MethodName) prog_20_method_90_code (3 : Nat) (Option.some Jvm.ClassFile.FieldType.int)) ∈ lw_all := lw_g (lw_at lw_m9 116 rfl) rfl
theorem q2178 : (Jvm.Cond.methodLink "BorderStonesModel" (525 : Nat) ({ cls := "BorderStonesModel", name := "canSet", desc := "(II)Z" } : Jvm.MethodName)) ∈ lw_all := lw_g (lw_at lw_m9 117 rfl) rfl
theorem q2180 : (Jvm.Cond.instanceMethod ({ cls := "BorderStonesModel", name := "canSet", desc := "(II)Z" } : Jvm.MethodName)) ∈ lw_all := lw_g (lw_at lw_m9 119 rfl) rfl
theorem q2181 : (Jvm.Cond.code ({ cls := "BorderStonesModel", name := "canSet", desc := "(II)Z" } : Jvm.MethodName) prog_20_method_89_code (3 : Nat) (Option.some Jvm.ClassFile.FieldType.boolean)) ∈ lw_all := lw_g (lw_at lw_m9 120 rfl) rfl
theorem q2182 : (Jvm.Cond.methodLink "BorderStonesModel" (528 : Nat) ({ cls := "BorderStonesModel", name := "keepsDay", desc := "()V" } : Jvm.MethodName)) ∈ lw_all := lw_g (lw_at lw_m9 121 rfl) rfl
theorem q2184 : (Jvm.Cond.instanceMethod ({ cls := "BorderStonesModel", name := "keepsDay", desc := "()V" } : Jvm.MethodName)) ∈ lw_all := lw_g (lw_at lw_m9 123 rfl) rfl
theorem q2185 : (Jvm.Cond.code ({ cls := "BorderStonesModel", name := "keepsDay", desc := "()V" } : Jvm.MethodName) prog_20_method_78_code (2 : Nat) (Option.none : Option Jvm.ClassFile.FieldType)) ∈ lw_all := lw_g (lw_at lw_m9 124 rfl) rfl
theorem q2186 : (Jvm.Cond.methodLink "BorderStonesModel" (531 : Nat) ({ cls := "BorderStonesModel", name := "sets", desc := "(II)I" } : Jvm.MethodName)) ∈ lw_all := lw_g (lw_at lw_m9 125 rfl) rfl
theorem q2188 : (Jvm.Cond.instanceMethod ({ cls := "BorderStonesModel", name := "sets", desc := "(II)I" } : Jvm.MethodName)) ∈ lw_all := lw_g (lw_at lw_m9 127 rfl) rfl
theorem q2189 : (Jvm.Cond.code ({ cls := "BorderStonesModel", name := "sets", desc := "(II)I" } : Jvm.MethodName) prog_20_method_75_code (6 : Nat) (Option.some Jvm.ClassFile.FieldType.int)) ∈ lw_all := lw_g (lw_at lw_m9 128 rfl) rfl
theorem q2190 : (Jvm.Cond.methodLink "BorderStonesModel" (483 : Nat) ({ cls := "BorderStonesModel", name := "todays", desc := "()I" } : Jvm.MethodName)) ∈ lw_all := lw_g (lw_at lw_m9 129 rfl) rfl
theorem q2192 : (Jvm.Cond.instanceMethod ({ cls := "BorderStonesModel", name := "todays", desc := "()I" } : Jvm.MethodName)) ∈ lw_all := lw_g (lw_at lw_m9 131 rfl) rfl
theorem q2193 : (Jvm.Cond.code ({ cls := "BorderStonesModel", name := "todays", desc := "()I" } : Jvm.MethodName) prog_20_method_73_code (1 : Nat) (Option.some Jvm.ClassFile.FieldType.int)) ∈ lw_all := lw_g (lw_at lw_m9 132 rfl) rfl
theorem q2194 : (Jvm.Cond.methodLink "BorderStonesModel" (486 : Nat) ({ cls := "BorderStonesModel", name := "loses", desc := "(I)V" } : Jvm.MethodName)) ∈ lw_all := lw_g (lw_at lw_m9 133 rfl) rfl
theorem q2196 : (Jvm.Cond.instanceMethod ({ cls := "BorderStonesModel", name := "loses", desc := "(I)V" } : Jvm.MethodName)) ∈ lw_all := lw_g (lw_at lw_m9 135 rfl) rfl
theorem q2197 : (Jvm.Cond.code ({ cls := "BorderStonesModel", name := "loses", desc := "(I)V" } : Jvm.MethodName) prog_20_method_74_code (5 : Nat) (Option.none : Option Jvm.ClassFile.FieldType)) ∈ lw_all := lw_g (lw_at lw_m9 136 rfl) rfl
theorem q2198 : (Jvm.Cond.methodLink "BorderStonesModel" (489 : Nat) ({ cls := "BorderStonesModel", name := "keepsParts", desc := "(I)V" } : Jvm.MethodName)) ∈ lw_all := lw_g (lw_at lw_m9 137 rfl) rfl
theorem q2200 : (Jvm.Cond.instanceMethod ({ cls := "BorderStonesModel", name := "keepsParts", desc := "(I)V" } : Jvm.MethodName)) ∈ lw_all := lw_g (lw_at lw_m9 139 rfl) rfl
theorem q2201 : (Jvm.Cond.code ({ cls := "BorderStonesModel", name := "keepsParts", desc := "(I)V" } : Jvm.MethodName) prog_20_method_71_code (3 : Nat) (Option.none : Option Jvm.ClassFile.FieldType)) ∈ lw_all := lw_g (lw_at lw_m9 140 rfl) rfl
theorem q2202 : (Jvm.Cond.methodLink "BorderStonesModel" (492 : Nat) ({ cls := "BorderStonesModel", name := "newParts", desc := "(I)V" } : Jvm.MethodName)) ∈ lw_all := lw_g (lw_at lw_m9 141 rfl) rfl
theorem q2204 : (Jvm.Cond.instanceMethod ({ cls := "BorderStonesModel", name := "newParts", desc := "(I)V" } : Jvm.MethodName)) ∈ lw_all := lw_g (lw_at lw_m9 143 rfl) rfl
theorem q2205 : (Jvm.Cond.code ({ cls := "BorderStonesModel", name := "newParts", desc := "(I)V" } : Jvm.MethodName) prog_20_method_72_code (5 : Nat) (Option.none : Option Jvm.ClassFile.FieldType)) ∈ lw_all := lw_g (lw_at lw_m9 144 rfl) rfl
theorem q2206 : (Jvm.Cond.methodLink "BorderStonesModel" (479 : Nat) ({ cls := "BorderStonesModel", name := "isAllLand", desc := "(JI)Z" } : Jvm.MethodName)) ∈ lw_all := lw_g (lw_at lw_m9 145 rfl) rfl
theorem q2208 : (Jvm.Cond.instanceMethod ({ cls := "BorderStonesModel", name := "isAllLand", desc := "(JI)Z" } : Jvm.MethodName)) ∈ lw_all := lw_g (lw_at lw_m9 147 rfl) rfl
theorem q2209 : (Jvm.Cond.code ({ cls := "BorderStonesModel", name := "isAllLand", desc := "(JI)Z" } : Jvm.MethodName) prog_20_method_70_code (5 : Nat) (Option.some Jvm.ClassFile.FieldType.boolean)) ∈ lw_all := lw_g (lw_at lw_m9 148 rfl) rfl
theorem q2211 : (Jvm.Cond.instanceMethod ({ cls := "BorderStonesModel", name := "undo", desc := "()Z" } : Jvm.MethodName)) ∈ lw_all := lw_g (lw_at lw_m9 150 rfl) rfl
theorem q2212 : (Jvm.Cond.selects "BorderStonesModel" ({ cls := "BorderStonesModel", name := "undo", desc := "()Z" } : Jvm.MethodName) ({ cls := "BorderStonesModel", name := "undo", desc := "()Z" } : Jvm.MethodName)) ∈ lw_all := lw_g (lw_at lw_m9 151 rfl) rfl
theorem q2213 : (Jvm.Cond.code ({ cls := "BorderStonesModel", name := "undo", desc := "()Z" } : Jvm.MethodName) prog_20_method_91_code (2 : Nat) (Option.some Jvm.ClassFile.FieldType.boolean)) ∈ lw_all := lw_g (lw_at lw_m9 152 rfl) rfl
theorem q2215 : (Jvm.Cond.instanceMethod ({ cls := "BorderStonesModel", name := "threat", desc := "(III)I" } : Jvm.MethodName)) ∈ lw_all := lw_g (lw_at lw_m9 154 rfl) rfl
theorem q2216 : (Jvm.Cond.selects "BorderStonesModel" ({ cls := "BorderStonesModel", name := "threat", desc := "(III)I" } : Jvm.MethodName) ({ cls := "BorderStonesModel", name := "threat", desc := "(III)I" } : Jvm.MethodName)) ∈ lw_all := lw_g (lw_at lw_m9 155 rfl) rfl
theorem q2217 : (Jvm.Cond.code ({ cls := "BorderStonesModel", name := "threat", desc := "(III)I" } : Jvm.MethodName) prog_20_method_94_code (4 : Nat) (Option.some Jvm.ClassFile.FieldType.int)) ∈ lw_all := lw_g (lw_at lw_m9 156 rfl) rfl
theorem q2218 : (Jvm.Cond.constantLong "BorderStonesModel" (543 : Nat) (2 : Int64)) ∈ lw_all := lw_g (lw_at lw_m9 157 rfl) rfl
theorem q2219 : (Jvm.Cond.methodLink "BorderStonesModel" (545 : Nat) ({ cls := "BorderStonesModel", name := "tries", desc := "(III)V" } : Jvm.MethodName)) ∈ lw_all := lw_g (lw_at lw_m9 158 rfl) rfl
theorem q2221 : (Jvm.Cond.instanceMethod ({ cls := "BorderStonesModel", name := "tries", desc := "(III)V" } : Jvm.MethodName)) ∈ lw_all := lw_g (lw_at lw_m9 160 rfl) rfl
theorem q2222 : (Jvm.Cond.code ({ cls := "BorderStonesModel", name := "tries", desc := "(III)V" } : Jvm.MethodName) prog_20_method_92_code (5 : Nat) (Option.none : Option Jvm.ClassFile.FieldType)) ∈ lw_all := lw_g (lw_at lw_m9 161 rfl) rfl
theorem q2223 : (Jvm.Cond.methodLink "BorderStonesModel" (534 : Nat) ({ cls := "BorderStonesModel", name := "keeps", desc := "(I)V" } : Jvm.MethodName)) ∈ lw_all := lw_g (lw_at lw_m9 162 rfl) rfl
theorem q2225 : (Jvm.Cond.instanceMethod ({ cls := "BorderStonesModel", name := "keeps", desc := "(I)V" } : Jvm.MethodName)) ∈ lw_all := lw_g (lw_at lw_m9 164 rfl) rfl
theorem q2226 : (Jvm.Cond.code ({ cls := "BorderStonesModel", name := "keeps", desc := "(I)V" } : Jvm.MethodName) prog_20_method_76_code (3 : Nat) (Option.none : Option Jvm.ClassFile.FieldType)) ∈ lw_all := lw_g (lw_at lw_m9 165 rfl) rfl
theorem q2227 : (Jvm.Cond.methodLink "BorderStonesModel" (540 : Nat) ({ cls := "BorderStonesModel", name := "back", desc := "(I)V" } : Jvm.MethodName)) ∈ lw_all := lw_g (lw_at lw_m9 166 rfl) rfl
theorem q2229 : (Jvm.Cond.instanceMethod ({ cls := "BorderStonesModel", name := "back", desc := "(I)V" } : Jvm.MethodName)) ∈ lw_all := lw_g (lw_at lw_m9 168 rfl) rfl
theorem q2230 : (Jvm.Cond.code ({ cls := "BorderStonesModel", name := "back", desc := "(I)V" } : Jvm.MethodName) prog_20_method_77_code (3 : Nat) (Option.none : Option Jvm.ClassFile.FieldType)) ∈ lw_all := lw_g (lw_at lw_m9 169 rfl) rfl
theorem q2231 : (Jvm.Cond.methodLink "BorderStonesModel" (549 : Nat) ({ cls := "BorderStonesModel", name := "comesPlaces", desc := "()I" } : Jvm.MethodName)) ∈ lw_all := lw_g (lw_at lw_m9 170 rfl) rfl
theorem q2233 : (Jvm.Cond.instanceMethod ({ cls := "BorderStonesModel", name := "comesPlaces", desc := "()I" } : Jvm.MethodName)) ∈ lw_all := lw_g (lw_at lw_m9 172 rfl) rfl
theorem q2234 : (Jvm.Cond.code ({ cls := "BorderStonesModel", name := "comesPlaces", desc := "()I" } : Jvm.MethodName) prog_20_method_93_code (3 : Nat) (Option.some Jvm.ClassFile.FieldType.int)) ∈ lw_all := lw_g (lw_at lw_m9 173 rfl) rfl
theorem q2236 : (Jvm.Cond.instanceMethod ({ cls := "BorderStonesModel", name := "answer", desc := "(I)I" } : Jvm.MethodName)) ∈ lw_all := lw_g (lw_at lw_m9 175 rfl) rfl
theorem q2237 : (Jvm.Cond.selects "BorderStonesModel" ({ cls := "BorderStonesModel", name := "answer", desc := "(I)I" } : Jvm.MethodName) ({ cls := "BorderStonesModel", name := "answer", desc := "(I)I" } : Jvm.MethodName)) ∈ lw_all := lw_g (lw_at lw_m9 176 rfl) rfl
theorem q2238 : (Jvm.Cond.code ({ cls := "BorderStonesModel", name := "answer", desc := "(I)I" } : Jvm.MethodName) prog_20_method_95_code (6 : Nat) (Option.some Jvm.ClassFile.FieldType.int)) ∈ lw_all := lw_g (lw_at lw_m9 177 rfl) rfl
theorem q2240 : (Jvm.Cond.instanceMethod ({ cls := "BorderStonesModel", name := "fork", desc := "(I)I" } : Jvm.MethodName)) ∈ lw_all := lw_g (lw_at lw_m9 179 rfl) rfl
theorem q2241 : (Jvm.Cond.selects "BorderStonesModel" ({ cls := "BorderStonesModel", name := "fork", desc := "(I)I" } : Jvm.MethodName) ({ cls := "BorderStonesModel", name := "fork", desc := "(I)I" } : Jvm.MethodName)) ∈ lw_all := lw_g (lw_at lw_m9 180 rfl) rfl
theorem q2242 : (Jvm.Cond.code ({ cls := "BorderStonesModel", name := "fork", desc := "(I)I" } : Jvm.MethodName) prog_20_method_96_code (3 : Nat) (Option.some Jvm.ClassFile.FieldType.int)) ∈ lw_all := lw_g (lw_at lw_m9 181 rfl) rfl
theorem q2244 : (Jvm.Cond.instanceMethod ({ cls := "BorderStonesModel", name := "line", desc := "(II)I" } : Jvm.MethodName)) ∈ lw_all := lw_g (lw_at lw_m9 183 rfl) rfl
theorem q2245 : (Jvm.Cond.selects "BorderStonesModel" ({ cls := "BorderStonesModel", name := "line", desc := "(II)I" } : Jvm.MethodName) ({ cls := "BorderStonesModel", name := "line", desc := "(II)I" } : Jvm.MethodName)) ∈ lw_all := lw_g (lw_at lw_m9 184 rfl) rfl
theorem q2246 : (Jvm.Cond.code ({ cls := "BorderStonesModel", name := "line", desc := "(II)I" } : Jvm.MethodName) prog_20_method_97_code (3 : Nat) (Option.some Jvm.ClassFile.FieldType.int)) ∈ lw_all := lw_g (lw_at lw_m9 185 rfl) rfl
theorem q2248 : (Jvm.Cond.instanceMethod ({ cls := "BorderStonesModel", name := "play", desc := "(II)I" } : Jvm.MethodName)) ∈ lw_all := lw_g (lw_at lw_m9 187 rfl) rfl
theorem q2249 : (Jvm.Cond.selects "BorderStonesModel" ({ cls := "BorderStonesModel", name := "play", desc := "(II)I" } : Jvm.MethodName) ({ cls := "BorderStonesModel", name := "play", desc := "(II)I" } : Jvm.MethodName)) ∈ lw_all := lw_g (lw_at lw_m9 188 rfl) rfl
theorem q2250 : (Jvm.Cond.code ({ cls := "BorderStonesModel", name := "play", desc := "(II)I" } : Jvm.MethodName) prog_20_method_103_code (4 : Nat) (Option.some Jvm.ClassFile.FieldType.int)) ∈ lw_all := lw_g (lw_at lw_m9 189 rfl) rfl
theorem q2251 : (Jvm.Cond.methodLink "BorderStonesModel" (563 : Nat) ({ cls := "BorderStonesModel", name := "canPlay", desc := "(I)Z" } : Jvm.MethodName)) ∈ lw_all := lw_g (lw_at lw_m9 190 rfl) rfl
theorem q2253 : (Jvm.Cond.instanceMethod ({ cls := "BorderStonesModel", name := "canPlay", desc := "(I)Z" } : Jvm.MethodName)) ∈ lw_all := lw_g (lw_at lw_m9 192 rfl) rfl
theorem q2254 : (Jvm.Cond.code ({ cls := "BorderStonesModel", name := "canPlay", desc := "(I)Z" } : Jvm.MethodName) prog_20_method_102_code (2 : Nat) (Option.some Jvm.ClassFile.FieldType.boolean)) ∈ lw_all := lw_g (lw_at lw_m9 193 rfl) rfl
theorem q2255 : (Jvm.Cond.constantLong "BorderStonesModel" (561 : Nat) (3 : Int64)) ∈ lw_all := lw_g (lw_at lw_m9 194 rfl) rfl
theorem q2256 : (Jvm.Cond.constant "BorderStonesModel" (552 : Nat) (-1000000000 : Int32)) ∈ lw_all := lw_g (lw_at lw_m9 195 rfl) rfl
theorem q2257 : (Jvm.Cond.methodLink "BorderStonesModel" (566 : Nat) ({ cls := "BorderStonesModel", name := "plays", desc := "(II)I" } : Jvm.MethodName)) ∈ lw_all := lw_g (lw_at lw_m9 196 rfl) rfl
theorem q2259 : (Jvm.Cond.instanceMethod ({ cls := "BorderStonesModel", name := "plays", desc := "(II)I" } : Jvm.MethodName)) ∈ lw_all := lw_g (lw_at lw_m9 198 rfl) rfl
theorem q2260 : (Jvm.Cond.code ({ cls := "BorderStonesModel", name := "plays", desc := "(II)I" } : Jvm.MethodName) prog_20_method_101_code (6 : Nat) (Option.some Jvm.ClassFile.FieldType.int)) ∈ lw_all := lw_g (lw_at lw_m9 199 rfl) rfl
theorem q2261 : (Jvm.Cond.methodLink "BorderStonesModel" (553 : Nat) ({ cls := "BorderStonesModel", name := "opens", desc := "(I)V" } : Jvm.MethodName)) ∈ lw_all := lw_g (lw_at lw_m9 200 rfl) rfl
theorem q2263 : (Jvm.Cond.instanceMethod ({ cls := "BorderStonesModel", name := "opens", desc := "(I)V" } : Jvm.MethodName)) ∈ lw_all := lw_g (lw_at lw_m9 202 rfl) rfl
theorem q2264 : (Jvm.Cond.code ({ cls := "BorderStonesModel", name := "opens", desc := "(I)V" } : Jvm.MethodName) prog_20_method_100_code (2 : Nat) (Option.none : Option Jvm.ClassFile.FieldType)) ∈ lw_all := lw_g (lw_at lw_m9 203 rfl) rfl
theorem q2265 : (Jvm.Cond.methodLink "BorderStonesModel" (555 : Nat) ({ cls := "BorderStonesModel", name := "weighs", desc := "(III)V" } : Jvm.MethodName)) ∈ lw_all := lw_g (lw_at lw_m9 204 rfl) rfl
theorem q2267 : (Jvm.Cond.instanceMethod ({ cls := "BorderStonesModel", name := "weighs", desc := "(III)V" } : Jvm.MethodName)) ∈ lw_all := lw_g (lw_at lw_m9 206 rfl) rfl
theorem q2268 : (Jvm.Cond.code ({ cls := "BorderStonesModel", name := "weighs", desc := "(III)V" } : Jvm.MethodName) prog_20_method_99_code (5 : Nat) (Option.none : Option Jvm.ClassFile.FieldType)) ∈ lw_all := lw_g (lw_at lw_m9 207 rfl) rfl
theorem q2269 : (Jvm.Cond.methodLink "BorderStonesModel" (558 : Nat) ({ cls := "BorderStonesModel", name := "valueFor", desc := "(I)I" } : Jvm.MethodName)) ∈ lw_all := lw_g (lw_at lw_m9 208 rfl) rfl
theorem q2271 : (Jvm.Cond.instanceMethod ({ cls := "BorderStonesModel", name := "valueFor", desc := "(I)I" } : Jvm.MethodName)) ∈ lw_all := lw_g (lw_at lw_m9 210 rfl) rfl
theorem q2272 : (Jvm.Cond.code ({ cls := "BorderStonesModel", name := "valueFor", desc := "(I)I" } : Jvm.MethodName) prog_20_method_98_code (2 : Nat) (Option.some Jvm.ClassFile.FieldType.int)) ∈ lw_all := lw_g (lw_at lw_m9 211 rfl) rfl
theorem q2274 : (Jvm.Cond.instanceMethod ({ cls := "BorderStonesModel", name := "thumb", desc := "(III)I" } : Jvm.MethodName)) ∈ lw_all := lw_g (lw_at lw_m9 213 rfl) rfl
theorem q2275 : (Jvm.Cond.selects "BorderStonesModel" ({ cls := "BorderStonesModel", name := "thumb", desc := "(III)I" } : Jvm.MethodName) ({ cls := "BorderStonesModel", name := "thumb", desc := "(III)I" } : Jvm.MethodName)) ∈ lw_all := lw_g (lw_at lw_m9 214 rfl) rfl
theorem q2276 : (Jvm.Cond.code ({ cls := "BorderStonesModel", name := "thumb", desc := "(III)I" } : Jvm.MethodName) prog_20_method_106_code (9 : Nat) (Option.some Jvm.ClassFile.FieldType.int)) ∈ lw_all := lw_g (lw_at lw_m9 215 rfl) rfl
theorem q2277 : (Jvm.Cond.methodLink "BorderStonesModel" (572 : Nat) ({ cls := "BorderStonesModel", name := "thumbOf", desc := "(I)I" } : Jvm.MethodName)) ∈ lw_all := lw_g (lw_at lw_m9 216 rfl) rfl
theorem q2279 : (Jvm.Cond.instanceMethod ({ cls := "BorderStonesModel", name := "thumbOf", desc := "(I)I" } : Jvm.MethodName)) ∈ lw_all := lw_g (lw_at lw_m9 218 rfl) rfl
theorem q2280 : (Jvm.Cond.code ({ cls := "BorderStonesModel", name := "thumbOf", desc := "(I)I" } : Jvm.MethodName) prog_20_method_105_code (6 : Nat) (Option.some Jvm.ClassFile.FieldType.int)) ∈ lw_all := lw_g (lw_at lw_m9 219 rfl) rfl
theorem q2281 : (Jvm.Cond.methodLink "BorderStonesModel" (569 : Nat) ({ cls := "BorderStonesModel", name := "thumbWorth", desc := "(II)I" } : Jvm.MethodName)) ∈ lw_all := lw_g (lw_at lw_m9 220 rfl) rfl
theorem q2283 : (Jvm.Cond.instanceMethod ({ cls := "BorderStonesModel", name := "thumbWorth", desc := "(II)I" } : Jvm.MethodName)) ∈ lw_all := lw_g (lw_at lw_m9 222 rfl) rfl
theorem q2284 : (Jvm.Cond.code ({ cls := "BorderStonesModel", name := "thumbWorth", desc := "(II)I" } : Jvm.MethodName) prog_20_method_104_code (4 : Nat) (Option.some Jvm.ClassFile.FieldType.int)) ∈ lw_all := lw_g (lw_at lw_m9 223 rfl) rfl
theorem q2286 : (Jvm.Cond.instanceMethod ({ cls := "BorderStonesModel", name := "truce", desc := "(I)I" } : Jvm.MethodName)) ∈ lw_all := lw_g (lw_at lw_m9 225 rfl) rfl
theorem q2287 : (Jvm.Cond.selects "BorderStonesModel" ({ cls := "BorderStonesModel", name := "truce", desc := "(I)I" } : Jvm.MethodName) ({ cls := "BorderStonesModel", name := "truce", desc := "(I)I" } : Jvm.MethodName)) ∈ lw_all := lw_g (lw_at lw_m9 226 rfl) rfl
theorem q2288 : (Jvm.Cond.code ({ cls := "BorderStonesModel", name := "truce", desc := "(I)I" } : Jvm.MethodName) prog_20_method_107_code (5 : Nat) (Option.some Jvm.ClassFile.FieldType.int)) ∈ lw_all := lw_g (lw_at lw_m9 227 rfl) rfl
theorem q2289 : (Jvm.Cond.constantLong "BorderStonesModel" (575 : Nat) (-1 : Int64)) ∈ lw_all := lw_g (lw_at lw_m9 228 rfl) rfl
theorem q2291 : (Jvm.Cond.instanceMethod ({ cls := "BorderStonesModel", name := "rows", desc := "()I" } : Jvm.MethodName)) ∈ lw_all := lw_g (lw_at lw_m9 230 rfl) rfl
theorem q2292 : (Jvm.Cond.selects "BorderStonesModel" ({ cls := "BorderStonesModel", name := "rows", desc := "()I" } : Jvm.MethodName) ({ cls := "BorderStonesModel", name := "rows", desc := "()I" } : Jvm.MethodName)) ∈ lw_all := lw_g (lw_at lw_m9 231 rfl) rfl
theorem q2293 : (Jvm.Cond.code ({ cls := "BorderStonesModel", name := "rows", desc := "()I" } : Jvm.MethodName) prog_20_method_110_code (6 : Nat) (Option.some Jvm.ClassFile.FieldType.int)) ∈ lw_all := lw_g (lw_at lw_m9 232 rfl) rfl
theorem q2294 : (Jvm.Cond.constantLong "BorderStonesModel" (577 : Nat) (8 : Int64)) ∈ lw_all := lw_g (lw_at lw_m9 233 rfl) rfl
theorem q2295 : (Jvm.Cond.methodLink "BorderStonesModel" (579 : Nat) ({ cls := "BorderStonesModel", name := "nextStone", desc := "(II)I" } : Jvm.MethodName)) ∈ lw_all := lw_g (lw_at lw_m9 234 rfl) rfl
theorem q2297 : (Jvm.Cond.instanceMethod ({ cls := "BorderStonesModel", name := "nextStone", desc := "(II)I" } : Jvm.MethodName)) ∈ lw_all := lw_g (lw_at lw_m9 236 rfl) rfl
theorem q2298 : (Jvm.Cond.code ({ cls := "BorderStonesModel", name := "nextStone", desc := "(II)I" } : Jvm.MethodName) prog_20_method_108_code (6 : Nat) (Option.some Jvm.ClassFile.FieldType.int)) ∈ lw_all := lw_g (lw_at lw_m9 237 rfl) rfl
theorem q2299 : (Jvm.Cond.methodLink "BorderStonesModel" (582 : Nat) ({ cls := "BorderStonesModel", name := "endsAlike", desc := "(I)Z" } : Jvm.MethodName)) ∈ lw_all := lw_g (lw_at lw_m9 238 rfl) rfl
theorem q2301 : (Jvm.Cond.instanceMethod ({ cls := "BorderStonesModel", name := "endsAlike", desc := "(I)Z" } : Jvm.MethodName)) ∈ lw_all := lw_g (lw_at lw_m10 0 rfl) rfl
theorem q2302 : (Jvm.Cond.code ({ cls := "BorderStonesModel", name := "endsAlike", desc := "(I)Z" } : Jvm.MethodName) prog_20_method_109_code (4 : Nat) (Option.some Jvm.ClassFile.FieldType.boolean)) ∈ lw_all := lw_g (lw_at lw_m10 1 rfl) rfl
theorem q2304 : (Jvm.Cond.instanceMethod ({ cls := "BorderStonesModel", name := "hidden", desc := "(JIIII)I" } : Jvm.MethodName)) ∈ lw_all := lw_g (lw_at lw_m10 3 rfl) rfl
theorem q2305 : (Jvm.Cond.selects "BorderStonesModel" ({ cls := "BorderStonesModel", name := "hidden", desc := "(JIIII)I" } : Jvm.MethodName) ({ cls := "BorderStonesModel", name := "hidden", desc := "(JIIII)I" } : Jvm.MethodName)) ∈ lw_all := lw_g (lw_at lw_m10 4 rfl) rfl
theorem q2306 : (Jvm.Cond.code ({ cls := "BorderStonesModel", name := "hidden", desc := "(JIIII)I" } : Jvm.MethodName) prog_20_method_113_code (7 : Nat) (Option.some Jvm.ClassFile.FieldType.int)) ∈ lw_all := lw_g (lw_at lw_m10 5 rfl) rfl
theorem q2307 : (Jvm.Cond.methodLink "BorderStonesModel" (591 : Nat) ({ cls := "BorderStonesModel", name := "isHidden", desc := "(JIII)Z" } : Jvm.MethodName)) ∈ lw_all := lw_g (lw_at lw_m10 6 rfl) rfl
theorem q2309 : (Jvm.Cond.instanceMethod ({ cls := "BorderStonesModel", name := "isHidden", desc := "(JIII)Z" } : Jvm.MethodName)) ∈ lw_all := lw_g (lw_at lw_m10 8 rfl) rfl
theorem q2310 : (Jvm.Cond.code ({ cls := "BorderStonesModel", name := "isHidden", desc := "(JIII)Z" } : Jvm.MethodName) prog_20_method_112_code (10 : Nat) (Option.some Jvm.ClassFile.FieldType.boolean)) ∈ lw_all := lw_g (lw_at lw_m10 9 rfl) rfl
theorem q2311 : (Jvm.Cond.methodLink "BorderStonesModel" (588 : Nat) ({ cls := "BorderStonesModel", name := "bitsOf", desc := "(I)I" } : Jvm.MethodName)) ∈ lw_all := lw_g (lw_at lw_m10 10 rfl) rfl
theorem q2312 : (Jvm.Cond.static ({ cls := "BorderStonesModel", name := "bitsOf", desc := "(I)I" } : Jvm.MethodName)) ∈ lw_all := lw_g (lw_at lw_m10 11 rfl) rfl
theorem q2313 : (Jvm.Cond.code ({ cls := "BorderStonesModel", name := "bitsOf", desc := "(I)I" } : Jvm.MethodName) prog_20_method_111_code (3 : Nat) (Option.some Jvm.ClassFile.FieldType.int)) ∈ lw_all := lw_g (lw_at lw_m10 12 rfl) rfl
theorem q2315 : (Jvm.Cond.instanceMethod ({ cls := "BorderStonesModel", name := "look", desc := "(JIII)I" } : Jvm.MethodName)) ∈ lw_all := lw_g (lw_at lw_m10 14 rfl) rfl
theorem q2316 : (Jvm.Cond.selects "BorderStonesModel" ({ cls := "BorderStonesModel", name := "look", desc := "(JIII)I" } : Jvm.MethodName) ({ cls := "BorderStonesModel", name := "look", desc := "(JIII)I" } : Jvm.MethodName)) ∈ lw_all := lw_g (lw_at lw_m10 15 rfl) rfl
theorem q2317 : (Jvm.Cond.code ({ cls := "BorderStonesModel", name := "look", desc := "(JIII)I" } : Jvm.MethodName) prog_20_method_114_code (8 : Nat) (Option.some Jvm.ClassFile.FieldType.int)) ∈ lw_all := lw_g (lw_at lw_m10 16 rfl) rfl
theorem q2319 : (Jvm.Cond.instanceMethod ({ cls := "BorderStonesModel", name := "seed", desc := "(I)Z" } : Jvm.MethodName)) ∈ lw_all := lw_g (lw_at lw_m10 18 rfl) rfl
theorem q2320 : (Jvm.Cond.selects "BorderStonesModel" ({ cls := "BorderStonesModel", name := "seed", desc := "(I)Z" } : Jvm.MethodName) ({ cls := "BorderStonesModel", name := "seed", desc := "(I)Z" } : Jvm.MethodName)) ∈ lw_all := lw_g (lw_at lw_m10 19 rfl) rfl
theorem q2321 : (Jvm.Cond.code ({ cls := "BorderStonesModel", name := "seed", desc := "(I)Z" } : Jvm.MethodName) prog_20_method_115_code (2 : Nat) (Option.some Jvm.ClassFile.FieldType.boolean)) ∈ lw_all := lw_g (lw_at lw_m10 20 rfl) rfl
theorem q2323 : (Jvm.Cond.instanceMethod ({ cls := "BorderStonesModel", name := "year", desc := "(I)I" } : Jvm.MethodName)) ∈ lw_all := lw_g (lw_at lw_m10 22 rfl) rfl
theorem q2324 : (Jvm.Cond.selects "BorderStonesModel" ({ cls := "BorderStonesModel", name := "year", desc := "(I)I" } : Jvm.MethodName) ({ cls := "BorderStonesModel", name := "year", desc := "(I)I" } : Jvm.MethodName)) ∈ lw_all := lw_g (lw_at lw_m10 23 rfl) rfl
theorem q2325 : (Jvm.Cond.code ({ cls := "BorderStonesModel", name := "year", desc := "(I)I" } : Jvm.MethodName) prog_20_method_117_code (7 : Nat) (Option.some Jvm.ClassFile.FieldType.int)) ∈ lw_all := lw_g (lw_at lw_m10 24 rfl) rfl
theorem q2326 : (Jvm.Cond.constantLong "BorderStonesModel" (603 : Nat) (100 : Int64)) ∈ lw_all := lw_g (lw_at lw_m10 25 rfl) rfl
theorem q2327 : (Jvm.Cond.methodLink "BorderStonesModel" (605 : Nat) ({ cls := "BorderStonesModel", name := "drawOf", desc := "(I)I" } : Jvm.MethodName)) ∈ lw_all := lw_g (lw_at lw_m10 26 rfl) rfl
theorem q2329 : (Jvm.Cond.instanceMethod ({ cls := "BorderStonesModel", name := "drawOf", desc := "(I)I" } : Jvm.MethodName)) ∈ lw_all := lw_g (lw_at lw_m10 28 rfl) rfl
theorem q2330 : (Jvm.Cond.code ({ cls := "BorderStonesModel", name := "drawOf", desc := "(I)I" } : Jvm.MethodName) prog_20_method_116_code (2 : Nat) (Option.some Jvm.ClassFile.FieldType.int)) ∈ lw_all := lw_g (lw_at lw_m10 29 rfl) rfl
theorem q2331 : (Jvm.Cond.constantLong "BorderStonesModel" (595 : Nat) (1103515245 : Int64)) ∈ lw_all := lw_g (lw_at lw_m10 30 rfl) rfl
theorem q2332 : (Jvm.Cond.constantLong "BorderStonesModel" (597 : Nat) (12345 : Int64)) ∈ lw_all := lw_g (lw_at lw_m10 31 rfl) rfl
theorem q2333 : (Jvm.Cond.constantLong "BorderStonesModel" (599 : Nat) (2147483648 : Int64)) ∈ lw_all := lw_g (lw_at lw_m10 32 rfl) rfl
theorem q2334 : (Jvm.Cond.constantLong "BorderStonesModel" (601 : Nat) (64 : Int64)) ∈ lw_all := lw_g (lw_at lw_m10 33 rfl) rfl
theorem q2336 : (Jvm.Cond.instanceMethod ({ cls := "BorderStonesModel", name := "image", desc := "()I" } : Jvm.MethodName)) ∈ lw_all := lw_g (lw_at lw_m10 35 rfl) rfl
theorem q2337 : (Jvm.Cond.selects "BorderStonesModel" ({ cls := "BorderStonesModel", name := "image", desc := "()I" } : Jvm.MethodName) ({ cls := "BorderStonesModel", name := "image", desc := "()I" } : Jvm.MethodName)) ∈ lw_all := lw_g (lw_at lw_m10 36 rfl) rfl
theorem q2338 : (Jvm.Cond.code ({ cls := "BorderStonesModel", name := "image", desc := "()I" } : Jvm.MethodName) prog_20_method_119_code (3 : Nat) (Option.some Jvm.ClassFile.FieldType.int)) ∈ lw_all := lw_g (lw_at lw_m10 37 rfl) rfl
theorem q2339 : (Jvm.Cond.methodLink "BorderStonesModel" (611 : Nat) ({ cls := "BorderStonesModel", name := "writes", desc := "(I)V" } : Jvm.MethodName)) ∈ lw_all := lw_g (lw_at lw_m10 38 rfl) rfl
theorem q2341 : (Jvm.Cond.instanceMethod ({ cls := "BorderStonesModel", name := "writes", desc := "(I)V" } : Jvm.MethodName)) ∈ lw_all := lw_g (lw_at lw_m10 40 rfl) rfl
theorem q2342 : (Jvm.Cond.code ({ cls := "BorderStonesModel", name := "writes", desc := "(I)V" } : Jvm.MethodName) prog_20_method_118_code (2 : Nat) (Option.none : Option Jvm.ClassFile.FieldType)) ∈ lw_all := lw_g (lw_at lw_m10 41 rfl) rfl
theorem q2344 : (Jvm.Cond.instanceMethod ({ cls := "BorderStonesModel", name := "octet", desc := "(I)I" } : Jvm.MethodName)) ∈ lw_all := lw_g (lw_at lw_m10 43 rfl) rfl
theorem q2345 : (Jvm.Cond.selects "BorderStonesModel" ({ cls := "BorderStonesModel", name := "octet", desc := "(I)I" } : Jvm.MethodName) ({ cls := "BorderStonesModel", name := "octet", desc := "(I)I" } : Jvm.MethodName)) ∈ lw_all := lw_g (lw_at lw_m10 44 rfl) rfl
theorem q2346 : (Jvm.Cond.code ({ cls := "BorderStonesModel", name := "octet", desc := "(I)I" } : Jvm.MethodName) prog_20_method_120_code (2 : Nat) (Option.some Jvm.ClassFile.FieldType.int)) ∈ lw_all := lw_g (lw_at lw_m10 45 rfl) rfl
theorem in_X6 : ∀ w ∈ wsX60, w ∈ lw_all := lw_in wsX60 [1688, 1690, 1692, 1694, 1696, 1698, 1700, 1702, 1704, 1706, 1708, 1710, 1712, 1714, 1716, 1718, 1720, 1722, 1724, 1726, 1728, 1730, 1732, 1734, 1736, 1738, 1740, 1742, 1744, 1746, 1748, 1750, 1752, 1754, 1756, 1758, 1760, 1762, 1764, 1766, 1768, 1770, 1772, 1774, 1776, 1778, 1780, 1782, 1784, 1786, 1788, 1790, 1792, 1794, 1796, 1798, 1800, 1802, 1804, 1806, 1808, 1810, 1812, 1814, 1816, 1818, 1820, 1822, 1824, 1826, 1828, 1830, 1832, 1834, 1836, 1838, 1840, 1842, 1844, 1846, 1848, 1850, 1852, 1854, 1856, 1858] (by decide +kernel) (by decide +kernel)

def mM_kdL : List Nat := [2, 0, 0, 0, 0, 0, 0, 0, 0, 0, 4, 4, 4, 4, 4, 4, 4, 4, 4, 4, 4, 4, 4, 4, 4, 4, 4, 4, 4, 4, 4, 4, 0, 0, 0, 0, 0, 2, 3, 2, 2, 2, 2, 0, 2, 0, 2, 0, 0, 2, 2, 2, 2, 0, 3, 0, 2, 3, 1, 0, 3, 0, 2, 3, 0, 3, 0, 2, 3, 2, 3, 0, 0, 0, 2, 2, 2, 2, 2, 2, 2, 2, 0, 1, 2, 0]
def mM_lnL : List Nat := [1600, 0, 0, 0, 0, 0, 0, 0, 0, 0, 5, 4, 5, 4, 4, 5, 5, 3, 4, 2, 4, 5, 4, 2, 3, 3, 3, 6, 4, 4, 3, 3, 0, 0, 0, 0, 0, 6, 10, 10, 10, 36, 36, 0, 3200, 0, 1700, 0, 0, 12, 12, 12, 36, 0, 1700, 0, 110, 16, 0, 0, 16, 0, 36, 16, 0, 16, 0, 5500, 800, 4400, 640, 0, 0, 0, 4, 4, 4, 8, 36, 36, 12, 36, 0, 0, 80, 0]
def mM_ofL : List Nat := [1, 0, 0, 0, 0, 0, 0, 0, 0, 0, 2, 3, 4, 5, 6, 7, 8, 9, 10, 11, 12, 13, 14, 15, 16, 17, 18, 19, 20, 21, 22, 23, 0, 0, 0, 0, 0, 24, 25, 26, 27, 28, 29, 0, 30, 0, 31, 0, 0, 32, 33, 34, 35, 0, 36, 0, 37, 38, 0, 0, 39, 0, 40, 41, 0, 42, 0, 43, 44, 45, 46, 0, 0, 0, 47, 48, 49, 50, 51, 52, 53, 54, 0, 0, 55, 0]
def mM_as : List Nat := [0, 10, 11, 12, 13, 14, 15, 16, 17, 18, 19, 20, 21, 22, 23, 24, 25, 26, 27, 28, 29, 30, 31, 37, 38, 39, 40, 41, 42, 44, 46, 49, 50, 51, 52, 54, 56, 57, 60, 62, 63, 65, 67, 68, 69, 70, 74, 75, 76, 77, 78, 79, 80, 81, 84]
def mM_fl : List (Nat × Nat) := [(7, 0), (13, 8), (17, 10), (21, 11), (24, 12), (27, 13), (30, 14), (33, 15), (36, 16), (39, 17), (42, 18), (45, 19), (48, 20), (51, 21), (54, 22), (57, 23), (60, 24), (63, 25), (66, 26), (69, 27), (72, 28), (75, 29), (78, 30), (81, 31), (84, 37), (87, 38), (91, 39), (94, 40), (97, 41), (100, 42), (103, 44), (106, 46), (109, 49), (112, 50), (115, 51), (118, 52), (121, 54), (124, 56), (127, 57), (130, 60), (133, 62), (136, 63), (139, 65), (142, 67), (145, 68), (148, 69), (151, 70), (154, 74), (157, 75), (160, 76), (163, 77), (166, 78), (169, 79), (172, 80), (175, 81), (178, 83), (182, 84), (185, 1), (188, 5), (191, 6), (194, 2), (197, 3), (208, 4), (228, 9), (239, 32), (254, 33), (257, 34), (264, 43), (286, 45), (289, 47), (292, 48), (295, 53), (322, 7), (328, 35), (331, 36), (334, 71), (384, 55), (441, 58), (444, 59), (459, 61), (473, 64), (476, 66), (498, 72), (537, 73), (585, 82), (608, 85)]
theorem mM_fl_ok : ∀ q ∈ mM_fl, Cond.fieldLink RX6 q.1 RX6 (TX6 q.2).2.1 (TX6 q.2).2.2.1 ∈ lw_all := by
  refine List.forall_mem_cons.mpr ⟨q1602, List.forall_mem_cons.mpr ⟨q1610, List.forall_mem_cons.mpr ⟨q1612, List.forall_mem_cons.mpr ⟨q1613, List.forall_mem_cons.mpr ⟨q1614, List.forall_mem_cons.mpr ⟨q1615, List.forall_mem_cons.mpr ⟨q1616, List.forall_mem_cons.mpr ⟨q1617, List.forall_mem_cons.mpr ⟨q1618, List.forall_mem_cons.mpr ⟨q1619, List.forall_mem_cons.mpr ⟨q1620, List.forall_mem_cons.mpr ⟨q1621, List.forall_mem_cons.mpr ⟨q1622, List.forall_mem_cons.mpr ⟨q1623, List.forall_mem_cons.mpr ⟨q1624, List.forall_mem_cons.mpr ⟨q1625, List.forall_mem_cons.mpr ⟨q1626, List.forall_mem_cons.mpr ⟨q1627, List.forall_mem_cons.mpr ⟨q1628, List.forall_mem_cons.mpr ⟨q1629, List.forall_mem_cons.mpr ⟨q1630, List.forall_mem_cons.mpr ⟨q1631, List.forall_mem_cons.mpr ⟨q1632, List.forall_mem_cons.mpr ⟨q1633, List.forall_mem_cons.mpr ⟨q1639, List.forall_mem_cons.mpr ⟨q1640, List.forall_mem_cons.mpr ⟨q1641, List.forall_mem_cons.mpr ⟨q1642, List.forall_mem_cons.mpr ⟨q1643, List.forall_mem_cons.mpr ⟨q1644, List.forall_mem_cons.mpr ⟨q1646, List.forall_mem_cons.mpr ⟨q1648, List.forall_mem_cons.mpr ⟨q1651, List.forall_mem_cons.mpr ⟨q1652, List.forall_mem_cons.mpr ⟨q1653, List.forall_mem_cons.mpr ⟨q1654, List.forall_mem_cons.mpr ⟨q1656, List.forall_mem_cons.mpr ⟨q1658, List.forall_mem_cons.mpr ⟨q1659, List.forall_mem_cons.mpr ⟨q1662, List.forall_mem_cons.mpr ⟨q1664, List.forall_mem_cons.mpr ⟨q1665, List.forall_mem_cons.mpr ⟨q1667, List.forall_mem_cons.mpr ⟨q1669, List.forall_mem_cons.mpr ⟨q1670, List.forall_mem_cons.mpr ⟨q1671, List.forall_mem_cons.mpr ⟨q1672, List.forall_mem_cons.mpr ⟨q1676, List.forall_mem_cons.mpr ⟨q1677, List.forall_mem_cons.mpr ⟨q1678, List.forall_mem_cons.mpr ⟨q1679, List.forall_mem_cons.mpr ⟨q1680, List.forall_mem_cons.mpr ⟨q1681, List.forall_mem_cons.mpr ⟨q1682, List.forall_mem_cons.mpr ⟨q1683, List.forall_mem_cons.mpr ⟨q1685, List.forall_mem_cons.mpr ⟨q1686, List.forall_mem_cons.mpr ⟨q1603, List.forall_mem_cons.mpr ⟨q1607, List.forall_mem_cons.mpr ⟨q1608, List.forall_mem_cons.mpr ⟨q1604, List.forall_mem_cons.mpr ⟨q1605, List.forall_mem_cons.mpr ⟨q1606, List.forall_mem_cons.mpr ⟨q1611, List.forall_mem_cons.mpr ⟨q1634, List.forall_mem_cons.mpr ⟨q1635, List.forall_mem_cons.mpr ⟨q1636, List.forall_mem_cons.mpr ⟨q1645, List.forall_mem_cons.mpr ⟨q1647, List.forall_mem_cons.mpr ⟨q1649, List.forall_mem_cons.mpr ⟨q1650, List.forall_mem_cons.mpr ⟨q1655, List.forall_mem_cons.mpr ⟨q1609, List.forall_mem_cons.mpr ⟨q1637, List.forall_mem_cons.mpr ⟨q1638, List.forall_mem_cons.mpr ⟨q1673, List.forall_mem_cons.mpr ⟨q1657, List.forall_mem_cons.mpr ⟨q1660, List.forall_mem_cons.mpr ⟨q1661, List.forall_mem_cons.mpr ⟨q1663, List.forall_mem_cons.mpr ⟨q1666, List.forall_mem_cons.mpr ⟨q1668, List.forall_mem_cons.mpr ⟨q1674, List.forall_mem_cons.mpr ⟨q1675, List.forall_mem_cons.mpr ⟨q1684, List.forall_mem_cons.mpr ⟨q1687, fun _ h => absurd h List.not_mem_nil⟩⟩⟩⟩⟩⟩⟩⟩⟩⟩⟩⟩⟩⟩⟩⟩⟩⟩⟩⟩⟩⟩⟩⟩⟩⟩⟩⟩⟩⟩⟩⟩⟩⟩⟩⟩⟩⟩⟩⟩⟩⟩⟩⟩⟩⟩⟩⟩⟩⟩⟩⟩⟩⟩⟩⟩⟩⟩⟩⟩⟩⟩⟩⟩⟩⟩⟩⟩⟩⟩⟩⟩⟩⟩⟩⟩⟩⟩⟩⟩⟩⟩⟩⟩⟩⟩
def mM_lc : List (Nat × Int64) := [(242, 27), (244, 97), (380, 1000000), (382, -1000000), (402, 7), (404, 9), (416, 99), (510, 5), (543, 2), (561, 3), (575, -1), (577, 8), (595, 1103515245), (597, 12345), (599, 2147483648), (601, 64), (603, 100)]
theorem mM_lc_ok : ∀ q ∈ mM_lc, Cond.constantLong RX6 q.1 q.2 ∈ lw_all := by
  refine List.forall_mem_cons.mpr ⟨q1938, List.forall_mem_cons.mpr ⟨q1939, List.forall_mem_cons.mpr ⟨q2056, List.forall_mem_cons.mpr ⟨q2057, List.forall_mem_cons.mpr ⟨q2040, List.forall_mem_cons.mpr ⟨q2041, List.forall_mem_cons.mpr ⟨q2061, List.forall_mem_cons.mpr ⟨q2101, List.forall_mem_cons.mpr ⟨q2218, List.forall_mem_cons.mpr ⟨q2255, List.forall_mem_cons.mpr ⟨q2289, List.forall_mem_cons.mpr ⟨q2294, List.forall_mem_cons.mpr ⟨q2331, List.forall_mem_cons.mpr ⟨q2332, List.forall_mem_cons.mpr ⟨q2333, List.forall_mem_cons.mpr ⟨q2334, List.forall_mem_cons.mpr ⟨q2326, fun _ h => absurd h List.not_mem_nil⟩⟩⟩⟩⟩⟩⟩⟩⟩⟩⟩⟩⟩⟩⟩⟩⟩
def mM_ic : List (Nat × Int32) := [(552, -1000000000)]
theorem mM_ic_ok : ∀ q ∈ mM_ic, Cond.constant RX6 q.1 q.2 ∈ lw_all := by
  refine List.forall_mem_cons.mpr ⟨q2256, fun _ h => absurd h List.not_mem_nil⟩
