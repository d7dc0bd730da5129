set_option maxRecDepth 100000
def RX0 : String := "SumHouse"
def TX0 : u_T := fun k => match k with
  | 0 => ("SumHouse", "parts", "LSumHouse$Parts;", true)
  | 1 => ("SumHouse", "over", "LSumHouse$Duo;", true)
  | 2 => ("SumHouse", "under", "LSumHouse$Duo;", true)
  | 3 => ("SumHouse", "both", "LSumHouse$Duo;", true)
  | 4 => ("SumHouse", "aside", "LSumHouse$Duo;", true)
  | 5 => ("SumHouse", "work", "LSumHouse$Item;", true)
  | 6 => ("SumHouse", "base", "LSumHouse$Item;", true)
  | 7 => ("SumHouse", "raised", "LSumHouse$Item;", true)
  | 8 => ("SumHouse", "lineA", "I", false)
  | 9 => ("SumHouse", "lineB", "I", false)
  | 10 => ("SumHouse", "lineC", "I", false)
  | 11 => ("SumHouse", "tape", "[B", true)
  | 12 => ("SumHouse", "tapeSize", "I", false)
  | 13 => ("SumHouse", "at", "I", false)
  | 14 => ("SumHouse", "opened", "I", false)
  | 15 => ("SumHouse", "fault", "I", false)
  | 16 => ("SumHouse", "faultAt", "I", false)
  | 17 => ("SumHouse", "told", "I", false)
  | 18 => ("SumHouse", "pile", "[LSumHouse$Item;", true)
  | 19 => ("SumHouse", "piled", "I", false)
  | 20 => ("SumHouse", "slots", "[LSumHouse$Slot;", true)
  | 21 => ("SumHouse", "result", "LSumHouse$Item;", true)
  | 22 => ("SumHouse", "draft", "[B", true)
  | 23 => ("SumHouse", "drafted", "I", false)
  | 24 => ("SumHouse", "text", "[B", true)
  | 25 => ("SumHouse", "textSize", "I", false)
  | 26 => ("SumHouse", "factorials", "[I", true)
  | 27 => ("SumHouse", "formA", "LSumHouse$Duo;", true)
  | 28 => ("SumHouse", "formB", "LSumHouse$Duo;", true)
  | 29 => ("SumHouse", "formC", "LSumHouse$Duo;", true)
  | 30 => ("SumHouse", "shifted", "LSumHouse$Duo;", true)
  | 31 => ("SumHouse", "shared", "LSumHouse$Duo;", true)
  | 32 => ("SumHouse", "rowOne", "LSumHouse$Poly;", true)
  | 33 => ("SumHouse", "rowTwo", "LSumHouse$Poly;", true)
  | 34 => ("SumHouse", "headB", "LSumHouse$Poly;", true)
  | 35 => ("SumHouse", "headC", "LSumHouse$Poly;", true)
  | 36 => ("SumHouse", "headQ", "LSumHouse$Poly;", true)
  | 37 => ("SumHouse", "board", "LSumHouse$Board;", true)
  | 38 => ("SumHouse", "asked", "[LSumHouse$Duo;", true)
  | 39 => ("SumHouse", "moved", "LSumHouse$Duo;", true)
  | 40 => ("SumHouse", "column", "LSumHouse$Duo;", true)
  | 41 => ("SumHouse", "solution", "LSumHouse$Duo;", true)
  | 42 => ("SumHouse", "long1", "LSumHouse$Duo;", true)
  | 43 => ("SumHouse", "found", "[LSumHouse$Poly;", true)
  | 44 => ("SumHouse", "common", "LSumHouse$Poly;", true)
  | 45 => ("SumHouse", "under1", "LSumHouse$Poly;", true)
  | 46 => ("SumHouse", "numberOf", "LSumHouse$Poly;", true)
  | 47 => ("SumHouse", "foundOrder", "I", false)
  | 48 => ("SumHouse", "noPoly", "LSumHouse$Poly;", true)
  | 49 => ("SumHouse", "noDuo", "LSumHouse$Duo;", true)
  | 50 => ("SumHouse", "steps", "[LSumHouse$Ratio;", true)
  | 51 => ("SumHouse", "alongK", "LSumHouse$Ratio;", true)
  | 52 => ("SumHouse", "lcm", "LSumHouse$Duo;", true)
  | 53 => ("SumHouse", "unders", "[LSumHouse$Poly;", true)
  | 54 => ("SumHouse", "delta", "LSumHouse$Poly;", true)
  | 55 => ("SumHouse", "tops", "[LSumHouse$Duo;", true)
  | 56 => ("SumHouse", "bottoms", "[LSumHouse$Duo;", true)
  | 57 => ("SumHouse", "topRows", "[LSumHouse$Poly;", true)
  | 58 => ("SumHouse", "bottomRows", "[LSumHouse$Poly;", true)
  | 59 => ("SumHouse", "topValues", "[I", true)
  | 60 => ("SumHouse", "bottomValues", "[I", true)
  | 61 => ("SumHouse", "fresh", "[LSumHouse$Poly;", true)
  | 62 => ("SumHouse", "freshOrder", "I", false)
  | 63 => ("SumHouse", "one", "LSumHouse$Shifts;", true)
  | 64 => ("SumHouse", "two", "LSumHouse$Shifts;", true)
  | 65 => ("SumHouse", "columnUnders", "[LSumHouse$Poly;", true)
  | 66 => ("SumHouse", "laid", "[I", true)
  | 67 => ("SumHouse", "scaling", "LSumHouse$Poly;", true)
  | 68 => ("SumHouse", "fed", "[I", true)
  | 69 => ("SumHouse", "fedCount", "I", false)
  | 70 => ("SumHouse", "lines", "[[I", true)
  | 71 => ("SumHouse", "pivots", "[I", true)
  | 72 => ("SumHouse", "roots", "[I", true)
  | 73 => ("SumHouse", "rootCount", "I", false)
  | 74 => ("SumHouse", "whole", "LSumHouse$Poly;", true)
  | 75 => ("SumHouse", "square", "LSumHouse$Poly;", true)
  | 76 => ("SumHouse", "pieces", "[LSumHouse$Poly;", true)
  | 77 => ("SumHouse", "pieceCount", "I", false)
  | 78 => ("SumHouse", "xs", "[I", true)
  | _ => ("SumHouse", "ys", "[I", true)
def tyX0 : Nat → FieldType := fun k => match k with
  | 0 => .object "SumHouse$Parts"
  | 1 => .object "SumHouse$Duo"
  | 2 => .object "SumHouse$Duo"
  | 3 => .object "SumHouse$Duo"
  | 4 => .object "SumHouse$Duo"
  | 5 => .object "SumHouse$Item"
  | 6 => .object "SumHouse$Item"
  | 7 => .object "SumHouse$Item"
  | 8 => .int
  | 9 => .int
  | 10 => .int
  | 11 => .array .byte
  | 12 => .int
  | 13 => .int
  | 14 => .int
  | 15 => .int
  | 16 => .int
  | 17 => .int
  | 18 => .array (.object "SumHouse$Item")
  | 19 => .int
  | 20 => .array (.object "SumHouse$Slot")
  | 21 => .object "SumHouse$Item"
  | 22 => .array .byte
  | 23 => .int
  | 24 => .array .byte
  | 25 => .int
  | 26 => .array .int
  | 27 => .object "SumHouse$Duo"
  | 28 => .object "SumHouse$Duo"
  | 29 => .object "SumHouse$Duo"
  | 30 => .object "SumHouse$Duo"
  | 31 => .object "SumHouse$Duo"
  | 32 => .object "SumHouse$Poly"
  | 33 => .object "SumHouse$Poly"
  | 34 => .object "SumHouse$Poly"
  | 35 => .object "SumHouse$Poly"
  | 36 => .object "SumHouse$Poly"
  | 37 => .object "SumHouse$Board"
  | 38 => .array (.object "SumHouse$Duo")
  | 39 => .object "SumHouse$Duo"
  | 40 => .object "SumHouse$Duo"
  | 41 => .object "SumHouse$Duo"
  | 42 => .object "SumHouse$Duo"
  | 43 => .array (.object "SumHouse$Poly")
  | 44 => .object "SumHouse$Poly"
  | 45 => .object "SumHouse$Poly"
  | 46 => .object "SumHouse$Poly"
  | 47 => .int
  | 48 => .object "SumHouse$Poly"
  | 49 => .object "SumHouse$Duo"
  | 50 => .array (.object "SumHouse$Ratio")
  | 51 => .object "SumHouse$Ratio"
  | 52 => .object "SumHouse$Duo"
  | 53 => .array (.object "SumHouse$Poly")
  | 54 => .object "SumHouse$Poly"
  | 55 => .array (.object "SumHouse$Duo")
  | 56 => .array (.object "SumHouse$Duo")
  | 57 => .array (.object "SumHouse$Poly")
  | 58 => .array (.object "SumHouse$Poly")
  | 59 => .array .int
  | 60 => .array .int
  | 61 => .array (.object "SumHouse$Poly")
  | 62 => .int
  | 63 => .object "SumHouse$Shifts"
  | 64 => .object "SumHouse$Shifts"
  | 65 => .array (.object "SumHouse$Poly")
  | 66 => .array .int
  | 67 => .object "SumHouse$Poly"
  | 68 => .array .int
  | 69 => .int
  | 70 => .array (.array .int)
  | 71 => .array .int
  | 72 => .array .int
  | 73 => .int
  | 74 => .object "SumHouse$Poly"
  | 75 => .object "SumHouse$Poly"
  | 76 => .array (.object "SumHouse$Poly")
  | 77 => .int
  | 78 => .array .int
  | _ => .array .int
abbrev wsX00 : List Cond := u_ws RX0 TX0 80
theorem nmX0 : ∀ a, a < 80 → ∀ b, b < 80 → a ≠ b → (TX0 a).2.1 ≠ (TX0 b).2.1 := by decide +kernel
theorem tyX0_ok : ∀ k, k < 80 → parseFieldDescriptor (TX0 k).2.2.1 = some (tyX0 k) := by decide +kernel
abbrev cX0_type : ByteArray := prog_1_method_19_code
def yX0_type : MethodName := ⟨RX0, "type", "(JI)I"⟩
abbrev cX0_init : ByteArray := prog_1_method_38_code
def yX0_init : MethodName := ⟨RX0, "<init>", "()V"⟩
abbrev cX0_read : ByteArray := prog_1_method_43_code
def yX0_read : MethodName := ⟨RX0, "read", "(I)I"⟩
abbrev cX0_isSlot : ByteArray := prog_1_method_39_code
def yX0_isSlot : MethodName := ⟨RX0, "isSlot", "(I)Z"⟩
abbrev cX0_lookE : ByteArray := prog_1_method_25_code
def yX0_lookE : MethodName := ⟨RX0, "lookE", "()V"⟩
abbrev cX0_isNext : ByteArray := prog_1_method_22_code
def yX0_isNext : MethodName := ⟨RX0, "isNext", "(C)Z"⟩
abbrev cX0_next : ByteArray := prog_1_method_20_code
def yX0_next : MethodName := ⟨RX0, "next", "()I"⟩
abbrev cX0_lookU : ByteArray := prog_1_method_26_code
def yX0_lookU : MethodName := ⟨RX0, "lookU", "()V"⟩
abbrev cX0_lookW : ByteArray := prog_1_method_27_code
def yX0_lookW : MethodName := ⟨RX0, "lookW", "()V"⟩
abbrev cX0_lookB : ByteArray := prog_1_method_29_code
def yX0_lookB : MethodName := ⟨RX0, "lookB", "()V"⟩
abbrev cX0_flaw : ByteArray := prog_1_method_21_code
def yX0_flaw : MethodName := ⟨RX0, "flaw", "(II)V"⟩
abbrev cX0_open : ByteArray := prog_1_method_28_code
def yX0_open : MethodName := ⟨RX0, "open", "()V"⟩
abbrev cX0_want : ByteArray := prog_1_method_23_code
def yX0_want : MethodName := ⟨RX0, "want", "(C)V"⟩
abbrev cX0_readE : ByteArray := prog_1_method_30_code
def yX0_readE : MethodName := ⟨RX0, "readE", "()V"⟩
abbrev cX0_readU : ByteArray := prog_1_method_31_code
def yX0_readU : MethodName := ⟨RX0, "readU", "()V"⟩
abbrev cX0_readW : ByteArray := prog_1_method_32_code
def yX0_readW : MethodName := ⟨RX0, "readW", "()V"⟩
abbrev cX0_readB : ByteArray := prog_1_method_36_code
def yX0_readB : MethodName := ⟨RX0, "readB", "()V"⟩
abbrev cX0_push : ByteArray := prog_1_method_24_code
def yX0_push : MethodName := ⟨RX0, "push", "()LSumHouse$Item;"⟩
abbrev cX0_readChoice : ByteArray := prog_1_method_37_code
def yX0_readChoice : MethodName := ⟨RX0, "readChoice", "()V"⟩
abbrev cX0_isLine : ByteArray := prog_1_method_16_code
def yX0_isLine : MethodName := ⟨RX0, "isLine", "(LSumHouse$Item;)Z"⟩
abbrev cX0_small : ByteArray := prog_1_method_7_code
def yX0_small : MethodName := ⟨RX0, "small", "(I)I"⟩
abbrev cX0_isLine_2 : ByteArray := prog_1_method_15_code
def yX0_isLine_2 : MethodName := ⟨RX0, "isLine", "(III)Z"⟩
abbrev cX0_within : ByteArray := prog_1_method_14_code
def yX0_within : MethodName := ⟨RX0, "within", "(III)Z"⟩
abbrev cX0_addFactorial : ByteArray := prog_1_method_18_code
def yX0_addFactorial : MethodName := ⟨RX0, "addFactorial", "(LSumHouse$Item;IIII)Z"⟩
abbrev cX0_factorial : ByteArray := prog_1_method_17_code
def yX0_factorial : MethodName := ⟨RX0, "factorial", "(I)I"⟩
abbrev cX0_times : ByteArray := prog_1_method_3_code
def yX0_times : MethodName := ⟨RX0, "times", "(II)I"⟩
abbrev cX0_inverse : ByteArray := prog_1_method_5_code
def yX0_inverse : MethodName := ⟨RX0, "inverse", "(I)I"⟩
abbrev cX0_power : ByteArray := prog_1_method_4_code
def yX0_power : MethodName := ⟨RX0, "power", "(IJ)I"⟩
abbrev cX0_readFactorial : ByteArray := prog_1_method_33_code
def yX0_readFactorial : MethodName := ⟨RX0, "readFactorial", "(LSumHouse$Item;I)V"⟩
abbrev cX0_readPower : ByteArray := prog_1_method_34_code
def yX0_readPower : MethodName := ⟨RX0, "readPower", "(LSumHouse$Item;LSumHouse$Item;I)V"⟩
abbrev cX0_raise : ByteArray := prog_1_method_13_code
def yX0_raise : MethodName := ⟨RX0, "raise", "(LSumHouse$Item;ILSumHouse$Item;)Z"⟩
abbrev cX0_multiply : ByteArray := prog_1_method_12_code
def yX0_multiply : MethodName := ⟨RX0, "multiply", "(LSumHouse$Item;LSumHouse$Item;ZLSumHouse$Item;)Z"⟩
abbrev cX0_reckon : ByteArray := prog_1_method_11_code
def yX0_reckon : MethodName := ⟨RX0, "reckon", "(ILSumHouse$Ratio;LSumHouse$Ratio;LSumHouse$Ratio;)Z"⟩
abbrev cX0_sum : ByteArray := prog_1_method_1_code
def yX0_sum : MethodName := ⟨RX0, "sum", "(II)I"⟩
abbrev cX0_give : ByteArray := prog_1_method_10_code
def yX0_give : MethodName := ⟨RX0, "give", "(LSumHouse$Ratio;)Z"⟩
abbrev cX0_reduce : ByteArray := prog_1_method_9_code
def yX0_reduce : MethodName := ⟨RX0, "reduce", "()V"⟩
abbrev cX0_less : ByteArray := prog_1_method_2_code
def yX0_less : MethodName := ⟨RX0, "less", "(II)I"⟩
abbrev cX0_fits : ByteArray := prog_1_method_8_code
def yX0_fits : MethodName := ⟨RX0, "fits", "(LSumHouse$Duo;)Z"⟩
abbrev cX0_signedPower : ByteArray := prog_1_method_35_code
def yX0_signedPower : MethodName := ⟨RX0, "signedPower", "(II)I"⟩
abbrev cX0_keep : ByteArray := prog_1_method_41_code
def yX0_keep : MethodName := ⟨RX0, "keep", "(LSumHouse$Item;I)I"⟩
abbrev cX0_place : ByteArray := prog_1_method_44_code
def yX0_place : MethodName := ⟨RX0, "place", "()I"⟩
abbrev cX0_write : ByteArray := prog_1_method_53_code
def yX0_write : MethodName := ⟨RX0, "write", "(I)I"⟩
abbrev cX0_hasItem : ByteArray := prog_1_method_40_code
def yX0_hasItem : MethodName := ⟨RX0, "hasItem", "(I)Z"⟩
abbrev cX0_say : ByteArray := prog_1_method_45_code
def yX0_say : MethodName := ⟨RX0, "say", "(I)V"⟩
abbrev cX0_sayRatio : ByteArray := prog_1_method_50_code
def yX0_sayRatio : MethodName := ⟨RX0, "sayRatio", "(LSumHouse$Ratio;)V"⟩
abbrev cX0_sayDuo : ByteArray := prog_1_method_49_code
def yX0_sayDuo : MethodName := ⟨RX0, "sayDuo", "(LSumHouse$Duo;)V"⟩
abbrev cX0_sayPart : ByteArray := prog_1_method_48_code
def yX0_sayPart : MethodName := ⟨RX0, "sayPart", "(IIIZ)V"⟩
abbrev cX0_sayNumber : ByteArray := prog_1_method_46_code
def yX0_sayNumber : MethodName := ⟨RX0, "sayNumber", "(I)V"⟩
abbrev cX0_sayPower : ByteArray := prog_1_method_47_code
def yX0_sayPower : MethodName := ⟨RX0, "sayPower", "(CI)V"⟩
abbrev cX0_sayBase : ByteArray := prog_1_method_51_code
def yX0_sayBase : MethodName := ⟨RX0, "sayBase", "(IC)V"⟩
abbrev cX0_sayFactorial : ByteArray := prog_1_method_52_code
def yX0_sayFactorial : MethodName := ⟨RX0, "sayFactorial", "(LSumHouse$Item;I)V"⟩
abbrev cX0_rest : ByteArray := prog_1_method_6_code
def yX0_rest : MethodName := ⟨RX0, "rest", "(I)I"⟩
abbrev cX0_written : ByteArray := prog_1_method_54_code
def yX0_written : MethodName := ⟨RX0, "written", "(I)I"⟩
abbrev cX0_again : ByteArray := prog_1_method_55_code
def yX0_again : MethodName := ⟨RX0, "again", "()I"⟩
abbrev cX0_kind : ByteArray := prog_1_method_56_code
def yX0_kind : MethodName := ⟨RX0, "kind", "(I)I"⟩
abbrev cX0_drop : ByteArray := prog_1_method_57_code
def yX0_drop : MethodName := ⟨RX0, "drop", "(I)I"⟩
abbrev cX0_degree : ByteArray := prog_1_method_58_code
def yX0_degree : MethodName := ⟨RX0, "degree", "(III)I"⟩
abbrev cX0_number : ByteArray := prog_1_method_59_code
def yX0_number : MethodName := ⟨RX0, "number", "(IIII)I"⟩
abbrev cX0_told : ByteArray := prog_1_method_60_code
def yX0_told : MethodName := ⟨RX0, "told", "(II)I"⟩
abbrev cX0_factorial_2 : ByteArray := prog_1_method_61_code
def yX0_factorial_2 : MethodName := ⟨RX0, "factorial", "(III)I"⟩
abbrev cX0_value : ByteArray := prog_1_method_65_code
def yX0_value : MethodName := ⟨RX0, "value", "(III)I"⟩
abbrev cX0_valueOf : ByteArray := prog_1_method_64_code
def yX0_valueOf : MethodName := ⟨RX0, "valueOf", "(LSumHouse$Item;II)I"⟩
abbrev cX0_valueOf_2 : ByteArray := prog_1_method_62_code
def yX0_valueOf_2 : MethodName := ⟨RX0, "valueOf", "(LSumHouse$Ratio;II)I"⟩
abbrev cX0_factorialOf : ByteArray := prog_1_method_63_code
def yX0_factorialOf : MethodName := ⟨RX0, "factorialOf", "(I)I"⟩
abbrev cX0_sum_2 : ByteArray := prog_1_method_68_code
def yX0_sum_2 : MethodName := ⟨RX0, "sum", "(IIII)I"⟩
abbrev cX0_arePlaces : ByteArray := prog_1_method_67_code
def yX0_arePlaces : MethodName := ⟨RX0, "arePlaces", "(III)Z"⟩
abbrev cX0_sumOf : ByteArray := prog_1_method_66_code
def yX0_sumOf : MethodName := ⟨RX0, "sumOf", "(LSumHouse$Item;III)I"⟩
abbrev cX0_quotient : ByteArray := prog_1_method_71_code
def yX0_quotient : MethodName := ⟨RX0, "quotient", "(III)I"⟩
abbrev cX0_quotientOf : ByteArray := prog_1_method_70_code
def yX0_quotientOf : MethodName := ⟨RX0, "quotientOf", "(LSumHouse$Item;IILSumHouse$Ratio;)Z"⟩
abbrev cX0_timesLines : ByteArray := prog_1_method_69_code
def yX0_timesLines : MethodName := ⟨RX0, "timesLines", "(LSumHouse$Duo;IIIII)V"⟩
abbrev cX0_keepResult : ByteArray := prog_1_method_42_code
def yX0_keepResult : MethodName := ⟨RX0, "keepResult", "(I)I"⟩
abbrev cX0_form : ByteArray := prog_1_method_78_code
def yX0_form : MethodName := ⟨RX0, "form", "(III)I"⟩
abbrev cX0_findForm : ByteArray := prog_1_method_74_code
def yX0_findForm : MethodName := ⟨RX0, "findForm", "()Z"⟩
abbrev cX0_mayShare : ByteArray := prog_1_method_73_code
def yX0_mayShare : MethodName := ⟨RX0, "mayShare", "(I)Z"⟩
abbrev cX0_take : ByteArray := prog_1_method_75_code
def yX0_take : MethodName := ⟨RX0, "take", "(I)Z"⟩
abbrev cX0_isModestForm : ByteArray := prog_1_method_77_code
def yX0_isModestForm : MethodName := ⟨RX0, "isModestForm", "()Z"⟩
abbrev cX0_layForm : ByteArray := prog_1_method_76_code
def yX0_layForm : MethodName := ⟨RX0, "layForm", "(I)V"⟩
abbrev cX0_isModest : ByteArray := prog_1_method_72_code
def yX0_isModest : MethodName := ⟨RX0, "isModest", "()Z"⟩
abbrev cX0_close : ByteArray := prog_1_method_84_code
def yX0_close : MethodName := ⟨RX0, "close", "(II)I"⟩
abbrev cX0_depth : ByteArray := prog_1_method_79_code
def yX0_depth : MethodName := ⟨RX0, "depth", "(I)I"⟩
abbrev cX0_solveFor : ByteArray := prog_1_method_81_code
def yX0_solveFor : MethodName := ⟨RX0, "solveFor", "(II)Z"⟩
abbrev cX0_layColumn : ByteArray := prog_1_method_80_code
def yX0_layColumn : MethodName := ⟨RX0, "layColumn", "(ILSumHouse$Duo;I)V"⟩
abbrev cX0_readSolution : ByteArray := prog_1_method_82_code
def yX0_readSolution : MethodName := ⟨RX0, "readSolution", "(II)V"⟩
abbrev cX0_giveSum : ByteArray := prog_1_method_83_code
def yX0_giveSum : MethodName := ⟨RX0, "giveSum", "(LSumHouse$Duo;LSumHouse$Poly;LSumHouse$Ratio;)Z"⟩
abbrev cX0_recur : ByteArray := prog_1_method_90_code
def yX0_recur : MethodName := ⟨RX0, "recur", "(III)I"⟩
abbrev cX0_findSteps : ByteArray := prog_1_method_85_code
def yX0_findSteps : MethodName := ⟨RX0, "findSteps", "(LSumHouse$Item;I)Z"⟩
abbrev cX0_tryOrder : ByteArray := prog_1_method_89_code
def yX0_tryOrder : MethodName := ⟨RX0, "tryOrder", "(I)I"⟩
abbrev cX0_findMultiple : ByteArray := prog_1_method_86_code
def yX0_findMultiple : MethodName := ⟨RX0, "findMultiple", "(I)V"⟩
abbrev cX0_findStepForm : ByteArray := prog_1_method_88_code
def yX0_findStepForm : MethodName := ⟨RX0, "findStepForm", "()Z"⟩
abbrev cX0_findAsked : ByteArray := prog_1_method_87_code
def yX0_findAsked : MethodName := ⟨RX0, "findAsked", "(I)Z"⟩
abbrev cX0_keepRecord : ByteArray := prog_1_method_91_code
def yX0_keepRecord : MethodName := ⟨RX0, "keepRecord", "(I)I"⟩
abbrev cX0_part : ByteArray := prog_1_method_92_code
def yX0_part : MethodName := ⟨RX0, "part", "(III)I"⟩
abbrev cX0_check : ByteArray := prog_1_method_96_code
def yX0_check : MethodName := ⟨RX0, "check", "(II)I"⟩
abbrev cX0_layFraction : ByteArray := prog_1_method_93_code
def yX0_layFraction : MethodName := ⟨RX0, "layFraction", "(ILSumHouse$Duo;LSumHouse$Duo;)V"⟩
abbrev cX0_areNothing : ByteArray := prog_1_method_94_code
def yX0_areNothing : MethodName := ⟨RX0, "areNothing", "(I)Z"⟩
abbrev cX0_isNothing : ByteArray := prog_1_method_95_code
def yX0_isNothing : MethodName := ⟨RX0, "isNothing", "(II)Z"⟩
abbrev cX0_poke : ByteArray := prog_1_method_97_code
def yX0_poke : MethodName := ⟨RX0, "poke", "(IIIII)I"⟩
abbrev cX0_holds : ByteArray := prog_1_method_98_code
def yX0_holds : MethodName := ⟨RX0, "holds", "(IIIII)I"⟩
abbrev cX0_certified : ByteArray := prog_1_method_99_code
def yX0_certified : MethodName := ⟨RX0, "certified", "(LSumHouse$Slot;LSumHouse$Item;II)I"⟩
abbrev cX0_row : ByteArray := prog_1_method_103_code
def yX0_row : MethodName := ⟨RX0, "row", "(II)I"⟩
abbrev cX0_tidy : ByteArray := prog_1_method_100_code
def yX0_tidy : MethodName := ⟨RX0, "tidy", "([LSumHouse$Poly;I)V"⟩
abbrev cX0_keepRow : ByteArray := prog_1_method_102_code
def yX0_keepRow : MethodName := ⟨RX0, "keepRow", "(II)I"⟩
abbrev cX0_needsOf : ByteArray := prog_1_method_101_code
def yX0_needsOf : MethodName := ⟨RX0, "needsOf", "([LSumHouse$Poly;I)I"⟩
abbrev cX0_first : ByteArray := prog_1_method_104_code
def yX0_first : MethodName := ⟨RX0, "first", "(II)I"⟩
abbrev cX0_at : ByteArray := prog_1_method_107_code
def yX0_at : MethodName := ⟨RX0, "at", "(II)I"⟩
abbrev cX0_isWhole : ByteArray := prog_1_method_105_code
def yX0_isWhole : MethodName := ⟨RX0, "isWhole", "(LSumHouse$Slot;)Z"⟩
abbrev cX0_numberAt : ByteArray := prog_1_method_106_code
def yX0_numberAt : MethodName := ⟨RX0, "numberAt", "(LSumHouse$Slot;I)I"⟩
abbrev cX0_join : ByteArray := prog_1_method_114_code
def yX0_join : MethodName := ⟨RX0, "join", "(IIII)I"⟩
abbrev cX0_isPolynomialInN : ByteArray := prog_1_method_113_code
def yX0_isPolynomialInN : MethodName := ⟨RX0, "isPolynomialInN", "(LSumHouse$Slot;)Z"⟩
abbrev cX0_findMoved : ByteArray := prog_1_method_111_code
def yX0_findMoved : MethodName := ⟨RX0, "findMoved", "(LSumHouse$Slot;Z)V"⟩
abbrev cX0_areLow : ByteArray := prog_1_method_110_code
def yX0_areLow : MethodName := ⟨RX0, "areLow", "(LSumHouse$Slot;)Z"⟩
abbrev cX0_layJoined : ByteArray := prog_1_method_108_code
def yX0_layJoined : MethodName := ⟨RX0, "layJoined", "(ILSumHouse$Slot;LSumHouse$Slot;LSumHouse$Poly;)V"⟩
abbrev cX0_findJoined : ByteArray := prog_1_method_109_code
def yX0_findJoined : MethodName := ⟨RX0, "findJoined", "()Z"⟩
abbrev cX0_keepJoined : ByteArray := prog_1_method_115_code
def yX0_keepJoined : MethodName := ⟨RX0, "keepJoined", "(ILSumHouse$Slot;LSumHouse$Slot;II)I"⟩
abbrev cX0_joinedAt : ByteArray := prog_1_method_112_code
def yX0_joinedAt : MethodName := ⟨RX0, "joinedAt", "(ILSumHouse$Slot;LSumHouse$Slot;LSumHouse$Poly;I)I"⟩
abbrev cX0_feed : ByteArray := prog_1_method_116_code
def yX0_feed : MethodName := ⟨RX0, "feed", "(I)I"⟩
abbrev cX0_clear : ByteArray := prog_1_method_117_code
def yX0_clear : MethodName := ⟨RX0, "clear", "()I"⟩
abbrev cX0_guess : ByteArray := prog_1_method_120_code
def yX0_guess : MethodName := ⟨RX0, "guess", "(I)I"⟩
abbrev cX0_hanging : ByteArray := prog_1_method_118_code
def yX0_hanging : MethodName := ⟨RX0, "hanging", "(II)I"⟩
abbrev cX0_clearColumn : ByteArray := prog_1_method_119_code
def yX0_clearColumn : MethodName := ⟨RX0, "clearColumn", "(IIII)V"⟩
abbrev cX0_keepGuess : ByteArray := prog_1_method_121_code
def yX0_keepGuess : MethodName := ⟨RX0, "keepGuess", "(IIII)I"⟩
abbrev cX0_roots : ByteArray := prog_1_method_123_code
def yX0_roots : MethodName := ⟨RX0, "roots", "(I)I"⟩
abbrev cX0_powerBy : ByteArray := prog_1_method_122_code
def yX0_powerBy : MethodName := ⟨RX0, "powerBy", "(IJLSumHouse$Poly;LSumHouse$Poly;)V"⟩
abbrev cX0_split : ByteArray := prog_1_method_124_code
def yX0_split : MethodName := ⟨RX0, "split", "(LSumHouse$Poly;)V"⟩
abbrev cX0_addRoot : ByteArray := prog_1_method_125_code
def yX0_addRoot : MethodName := ⟨RX0, "addRoot", "(I)V"⟩
abbrev cX0_sortRoots : ByteArray := prog_1_method_126_code
def yX0_sortRoots : MethodName := ⟨RX0, "sortRoots", "()V"⟩
abbrev cX0_root : ByteArray := prog_1_method_127_code
def yX0_root : MethodName := ⟨RX0, "root", "(I)I"⟩
abbrev cX0_solve : ByteArray := prog_1_method_129_code
def yX0_solve : MethodName := ⟨RX0, "solve", "(II)I"⟩
abbrev cX0_takeLines : ByteArray := prog_1_method_128_code
def yX0_takeLines : MethodName := ⟨RX0, "takeLines", "(LSumHouse$Poly;I)Z"⟩
abbrev cX0_work : ByteArray := prog_1_method_131_code
def yX0_work : MethodName := ⟨RX0, "work", "(IIII)I"⟩
abbrev cX0_isPlainPolynomial : ByteArray := prog_1_method_130_code
def yX0_isPlainPolynomial : MethodName := ⟨RX0, "isPlainPolynomial", "(LSumHouse$Item;)Z"⟩
abbrev cX0_resultant : ByteArray := prog_1_method_132_code
def yX0_resultant : MethodName := ⟨RX0, "resultant", "(LSumHouse$Duo;LSumHouse$Duo;Z)Z"⟩
abbrev cX0_resultantOf : ByteArray := prog_1_method_133_code
def yX0_resultantOf : MethodName := ⟨RX0, "resultantOf", "()I"⟩
abbrev cX0_change : ByteArray := prog_1_method_139_code
def yX0_change : MethodName := ⟨RX0, "change", "(IIII)I"⟩
abbrev cX0_moveTerm : ByteArray := prog_1_method_138_code
def yX0_moveTerm : MethodName := ⟨RX0, "moveTerm", "(LSumHouse$Item;ZI)Z"⟩
abbrev cX0_layChange : ByteArray := prog_1_method_137_code
def yX0_layChange : MethodName := ⟨RX0, "layChange", "(ILSumHouse$Ratio;I)Z"⟩
abbrev cX0_putN : ByteArray := prog_1_method_134_code
def yX0_putN : MethodName := ⟨RX0, "putN", "(LSumHouse$Duo;ILSumHouse$Duo;)V"⟩
abbrev cX0_putK : ByteArray := prog_1_method_135_code
def yX0_putK : MethodName := ⟨RX0, "putK", "(LSumHouse$Duo;ILSumHouse$Duo;)V"⟩
abbrev cX0_derive : ByteArray := prog_1_method_136_code
def yX0_derive : MethodName := ⟨RX0, "derive", "(LSumHouse$Duo;ZLSumHouse$Duo;)V"⟩
abbrev cX0_count : ByteArray := prog_1_method_140_code
def yX0_count : MethodName := ⟨RX0, "count", "(I)I"⟩
def RX1 : String := "SumHouse$Parts"
def TX1 : u_T := fun k => match k with
  | 0 => ("SumHouse$Parts", "divisors", "LSumHouse$Divisors;", true)
  | 1 => ("SumHouse$Parts", "one", "LSumHouse$Poly;", true)
  | 2 => ("SumHouse$Parts", "two", "LSumHouse$Poly;", true)
  | 3 => ("SumHouse$Parts", "gamma", "LSumHouse$Poly;", true)
  | 4 => ("SumHouse$Parts", "shared", "LSumHouse$Poly;", true)
  | 5 => ("SumHouse$Parts", "apart", "LSumHouse$Poly;", true)
  | 6 => ("SumHouse$Parts", "quotientRow", "LSumHouse$Poly;", true)
  | 7 => ("SumHouse$Parts", "product", "LSumHouse$Poly;", true)
  | 8 => ("SumHouse$Parts", "first", "LSumHouse$Duo;", true)
  | 9 => ("SumHouse$Parts", "second", "LSumHouse$Duo;", true)
  | 10 => ("SumHouse$Parts", "found", "LSumHouse$Duo;", true)
  | 11 => ("SumHouse$Parts", "left", "LSumHouse$Duo;", true)
  | 12 => ("SumHouse$Parts", "quotient", "LSumHouse$Duo;", true)
  | 13 => ("SumHouse$Parts", "spare", "LSumHouse$Duo;", true)
  | 14 => ("SumHouse$Parts", "places", "[I", true)
  | 15 => ("SumHouse$Parts", "images", "[I", true)
  | 16 => ("SumHouse$Parts", "table", "[I", true)
  | 17 => ("SumHouse$Parts", "inverses", "[I", true)
  | 18 => ("SumHouse$Parts", "many", "I", false)
  | _ => ("SumHouse$Parts", "best", "I", false)
def tyX1 : Nat → FieldType := fun k => match k with
  | 0 => .object "SumHouse$Divisors"
  | 1 => .object "SumHouse$Poly"
  | 2 => .object "SumHouse$Poly"
  | 3 => .object "SumHouse$Poly"
  | 4 => .object "SumHouse$Poly"
  | 5 => .object "SumHouse$Poly"
  | 6 => .object "SumHouse$Poly"
  | 7 => .object "SumHouse$Poly"
  | 8 => .object "SumHouse$Duo"
  | 9 => .object "SumHouse$Duo"
  | 10 => .object "SumHouse$Duo"
  | 11 => .object "SumHouse$Duo"
  | 12 => .object "SumHouse$Duo"
  | 13 => .object "SumHouse$Duo"
  | 14 => .array .int
  | 15 => .array .int
  | 16 => .array .int
  | 17 => .array .int
  | 18 => .int
  | _ => .int
abbrev wsX10 : List Cond := u_ws RX1 TX1 20
theorem nmX1 : ∀ a, a < 20 → ∀ b, b < 20 → a ≠ b → (TX1 a).2.1 ≠ (TX1 b).2.1 := by decide +kernel
theorem tyX1_ok : ∀ k, k < 20 → parseFieldDescriptor (TX1 k).2.2.1 = some (tyX1 k) := by decide +kernel
abbrev cX1_init : ByteArray := prog_6_method_1_code
def yX1_init : MethodName := ⟨RX1, "<init>", "()V"⟩
abbrev cX1_common : ByteArray := prog_6_method_7_code
def yX1_common : MethodName := ⟨RX1, "common", "(LSumHouse$Duo;LSumHouse$Duo;LSumHouse$Duo;)V"⟩
abbrev cX1_makeHead : ByteArray := prog_6_method_8_code
def yX1_makeHead : MethodName := ⟨RX1, "makeHead", "(LSumHouse$Duo;)V"⟩
abbrev cX1_primitive : ByteArray := prog_6_method_4_code
def yX1_primitive : MethodName := ⟨RX1, "primitive", "(LSumHouse$Duo;LSumHouse$Poly;)V"⟩
abbrev cX1_content : ByteArray := prog_6_method_2_code
def yX1_content : MethodName := ⟨RX1, "content", "(LSumHouse$Duo;LSumHouse$Poly;)V"⟩
abbrev cX1_divideRows : ByteArray := prog_6_method_3_code
def yX1_divideRows : MethodName := ⟨RX1, "divideRows", "(LSumHouse$Duo;LSumHouse$Poly;)V"⟩
abbrev cX1_alongK : ByteArray := prog_6_method_9_code
def yX1_alongK : MethodName := ⟨RX1, "alongK", "()Z"⟩
abbrev cX1_look : ByteArray := prog_6_method_10_code
def yX1_look : MethodName := ⟨RX1, "look", "(II)I"⟩
abbrev cX1_keep : ByteArray := prog_6_method_11_code
def yX1_keep : MethodName := ⟨RX1, "keep", "(I)V"⟩
abbrev cX1_join : ByteArray := prog_6_method_12_code
def yX1_join : MethodName := ⟨RX1, "join", "(I)V"⟩
abbrev cX1_interpolate : ByteArray := prog_6_method_14_code
def yX1_interpolate : MethodName := ⟨RX1, "interpolate", "([I[IILSumHouse$Poly;)V"⟩
abbrev cX1_parted : ByteArray := prog_6_method_13_code
def yX1_parted : MethodName := ⟨RX1, "parted", "(I)I"⟩
abbrev cX1_divides : ByteArray := prog_6_method_5_code
def yX1_divides : MethodName := ⟨RX1, "divides", "(LSumHouse$Duo;LSumHouse$Duo;LSumHouse$Duo;)Z"⟩
abbrev cX1_takeAway : ByteArray := prog_6_method_6_code
def yX1_takeAway : MethodName := ⟨RX1, "takeAway", "(LSumHouse$Duo;II)Z"⟩
def RX2 : String := "SumHouse$Divisors"
def TX2 : u_T := fun k => match k with
  | 0 => ("SumHouse$Divisors", "a", "LSumHouse$Poly;", true)
  | 1 => ("SumHouse$Divisors", "b", "LSumHouse$Poly;", true)
  | _ => ("SumHouse$Divisors", "spare", "LSumHouse$Poly;", true)
def tyX2 : Nat → FieldType := fun k => match k with
  | 0 => .object "SumHouse$Poly"
  | 1 => .object "SumHouse$Poly"
  | _ => .object "SumHouse$Poly"
abbrev wsX20 : List Cond := u_ws RX2 TX2 3
theorem nmX2 : ∀ a, a < 3 → ∀ b, b < 3 → a ≠ b → (TX2 a).2.1 ≠ (TX2 b).2.1 := by decide +kernel
theorem tyX2_ok : ∀ k, k < 3 → parseFieldDescriptor (TX2 k).2.2.1 = some (tyX2 k) := by decide +kernel
abbrev cX2_init : ByteArray := prog_3_method_1_code
def yX2_init : MethodName := ⟨RX2, "<init>", "(I)V"⟩
abbrev cX2_common : ByteArray := prog_3_method_2_code
def yX2_common : MethodName := ⟨RX2, "common", "(LSumHouse$Poly;LSumHouse$Poly;LSumHouse$Poly;)V"⟩
abbrev cX2_divideExactly : ByteArray := prog_3_method_3_code
def yX2_divideExactly : MethodName := ⟨RX2, "divideExactly", "(LSumHouse$Poly;LSumHouse$Poly;)V"⟩
def RX3 : String := "SumHouse$Poly"
def TX3 : u_T := fun k => match k with
  | 0 => ("SumHouse$Poly", "at", "[I", true)
  | _ => ("SumHouse$Poly", "size", "I", false)
def tyX3 : Nat → FieldType := fun k => match k with
  | 0 => .array .int
  | _ => .int
abbrev wsX30 : List Cond := u_ws RX3 TX3 2
theorem nmX3 : ∀ a, a < 2 → ∀ b, b < 2 → a ≠ b → (TX3 a).2.1 ≠ (TX3 b).2.1 := by decide +kernel
theorem tyX3_ok : ∀ k, k < 2 → parseFieldDescriptor (TX3 k).2.2.1 = some (tyX3 k) := by decide +kernel
abbrev cX3_init : ByteArray := prog_7_method_1_code
def yX3_init : MethodName := ⟨RX3, "<init>", "(I)V"⟩
abbrev cX3_clear : ByteArray := prog_7_method_8_code
def yX3_clear : MethodName := ⟨RX3, "clear", "()V"⟩
abbrev cX3_trim : ByteArray := prog_7_method_6_code
def yX3_trim : MethodName := ⟨RX3, "trim", "()V"⟩
abbrev cX3_copy : ByteArray := prog_7_method_9_code
def yX3_copy : MethodName := ⟨RX3, "copy", "(LSumHouse$Poly;)V"⟩
abbrev cX3_isZero : ByteArray := prog_7_method_2_code
def yX3_isZero : MethodName := ⟨RX3, "isZero", "()Z"⟩
abbrev cX3_divide : ByteArray := prog_7_method_17_code
def yX3_divide : MethodName := ⟨RX3, "divide", "(LSumHouse$Poly;LSumHouse$Poly;)V"⟩
abbrev cX3_head : ByteArray := prog_7_method_4_code
def yX3_head : MethodName := ⟨RX3, "head", "()I"⟩
abbrev cX3_monic : ByteArray := prog_7_method_18_code
def yX3_monic : MethodName := ⟨RX3, "monic", "()V"⟩
abbrev cX3_scale : ByteArray := prog_7_method_13_code
def yX3_scale : MethodName := ⟨RX3, "scale", "(I)V"⟩
abbrev cX3_get : ByteArray := prog_7_method_5_code
def yX3_get : MethodName := ⟨RX3, "get", "(I)I"⟩
abbrev cX3_degree : ByteArray := prog_7_method_3_code
def yX3_degree : MethodName := ⟨RX3, "degree", "()I"⟩
abbrev cX3_value : ByteArray := prog_7_method_12_code
def yX3_value : MethodName := ⟨RX3, "value", "(I)I"⟩
abbrev cX3_product : ByteArray := prog_7_method_16_code
def yX3_product : MethodName := ⟨RX3, "product", "(LSumHouse$Poly;LSumHouse$Poly;)V"⟩
abbrev cX3_addProduct : ByteArray := prog_7_method_15_code
def yX3_addProduct : MethodName := ⟨RX3, "addProduct", "(LSumHouse$Poly;LSumHouse$Poly;I)V"⟩
abbrev cX3_shift : ByteArray := prog_7_method_19_code
def yX3_shift : MethodName := ⟨RX3, "shift", "(I)V"⟩
abbrev cX3_isSame : ByteArray := prog_7_method_11_code
def yX3_isSame : MethodName := ⟨RX3, "isSame", "(LSumHouse$Poly;)Z"⟩
abbrev cX3_add : ByteArray := prog_7_method_14_code
def yX3_add : MethodName := ⟨RX3, "add", "(LSumHouse$Poly;II)V"⟩
abbrev cX3_set : ByteArray := prog_7_method_7_code
def yX3_set : MethodName := ⟨RX3, "set", "(I)V"⟩
abbrev cX3_put : ByteArray := prog_7_method_10_code
def yX3_put : MethodName := ⟨RX3, "put", "(II)V"⟩
def RX4 : String := "SumHouse$Duo"
def TX4 : u_T := fun k => match k with
  | 0 => ("SumHouse$Duo", "wide", "I", true)
  | 1 => ("SumHouse$Duo", "at", "[I", true)
  | 2 => ("SumHouse$Duo", "sizeN", "I", false)
  | _ => ("SumHouse$Duo", "sizeK", "I", false)
def tyX4 : Nat → FieldType := fun k => match k with
  | 0 => .int
  | 1 => .array .int
  | 2 => .int
  | _ => .int
abbrev wsX40 : List Cond := u_ws RX4 TX4 4
theorem nmX4 : ∀ a, a < 4 → ∀ b, b < 4 → a ≠ b → (TX4 a).2.1 ≠ (TX4 b).2.1 := by decide +kernel
theorem tyX4_ok : ∀ k, k < 4 → parseFieldDescriptor (TX4 k).2.2.1 = some (tyX4 k) := by decide +kernel
abbrev cX4_init : ByteArray := prog_4_method_1_code
def yX4_init : MethodName := ⟨RX4, "<init>", "(II)V"⟩
abbrev cX4_set : ByteArray := prog_4_method_10_code
def yX4_set : MethodName := ⟨RX4, "set", "(I)V"⟩
abbrev cX4_open : ByteArray := prog_4_method_7_code
def yX4_open : MethodName := ⟨RX4, "open", "(II)V"⟩
abbrev cX4_trim : ByteArray := prog_4_method_8_code
def yX4_trim : MethodName := ⟨RX4, "trim", "()V"⟩
abbrev cX4_isEmptyRow : ByteArray := prog_4_method_9_code
def yX4_isEmptyRow : MethodName := ⟨RX4, "isEmptyRow", "(I)Z"⟩
abbrev cX4_get : ByteArray := prog_4_method_5_code
def yX4_get : MethodName := ⟨RX4, "get", "(II)I"⟩
abbrev cX4_scale : ByteArray := prog_4_method_16_code
def yX4_scale : MethodName := ⟨RX4, "scale", "(I)V"⟩
abbrev cX4_isZero : ByteArray := prog_4_method_2_code
def yX4_isZero : MethodName := ⟨RX4, "isZero", "()Z"⟩
abbrev cX4_copy : ByteArray := prog_4_method_11_code
def yX4_copy : MethodName := ⟨RX4, "copy", "(LSumHouse$Duo;)V"⟩
abbrev cX4_product : ByteArray := prog_4_method_21_code
def yX4_product : MethodName := ⟨RX4, "product", "(LSumHouse$Duo;LSumHouse$Duo;)V"⟩
abbrev cX4_clear : ByteArray := prog_4_method_6_code
def yX4_clear : MethodName := ⟨RX4, "clear", "()V"⟩
abbrev cX4_addProduct : ByteArray := prog_4_method_19_code
def yX4_addProduct : MethodName := ⟨RX4, "addProduct", "(LSumHouse$Duo;LSumHouse$Duo;)V"⟩
abbrev cX4_grow : ByteArray := prog_4_method_18_code
def yX4_grow : MethodName := ⟨RX4, "grow", "(II)V"⟩
abbrev cX4_addRows : ByteArray := prog_4_method_20_code
def yX4_addRows : MethodName := ⟨RX4, "addRows", "(LSumHouse$Duo;III)V"⟩
abbrev cX4_add : ByteArray := prog_4_method_17_code
def yX4_add : MethodName := ⟨RX4, "add", "(LSumHouse$Duo;I)V"⟩
abbrev cX4_head : ByteArray := prog_4_method_15_code
def yX4_head : MethodName := ⟨RX4, "head", "()I"⟩
abbrev cX4_row : ByteArray := prog_4_method_13_code
def yX4_row : MethodName := ⟨RX4, "row", "(ILSumHouse$Poly;)V"⟩
abbrev cX4_putRow : ByteArray := prog_4_method_14_code
def yX4_putRow : MethodName := ⟨RX4, "putRow", "(ILSumHouse$Poly;)V"⟩
abbrev cX4_atN : ByteArray := prog_4_method_25_code
def yX4_atN : MethodName := ⟨RX4, "atN", "(ILSumHouse$Poly;)V"⟩
abbrev cX4_timesPoly : ByteArray := prog_4_method_22_code
def yX4_timesPoly : MethodName := ⟨RX4, "timesPoly", "(LSumHouse$Poly;LSumHouse$Duo;)V"⟩
abbrev cX4_degreeN : ByteArray := prog_4_method_3_code
def yX4_degreeN : MethodName := ⟨RX4, "degreeN", "()I"⟩
abbrev cX4_degreeK : ByteArray := prog_4_method_4_code
def yX4_degreeK : MethodName := ⟨RX4, "degreeK", "()I"⟩
abbrev cX4_value : ByteArray := prog_4_method_26_code
def yX4_value : MethodName := ⟨RX4, "value", "(II)I"⟩
abbrev cX4_shiftN : ByteArray := prog_4_method_24_code
def yX4_shiftN : MethodName := ⟨RX4, "shiftN", "(I)V"⟩
abbrev cX4_shiftK : ByteArray := prog_4_method_23_code
def yX4_shiftK : MethodName := ⟨RX4, "shiftK", "(I)V"⟩
abbrev cX4_turn : ByteArray := prog_4_method_27_code
def yX4_turn : MethodName := ⟨RX4, "turn", "(LSumHouse$Duo;)V"⟩
def RX5 : String := "SumHouse$Item"
def TX5 : u_T := fun k => match k with
  | 0 => ("SumHouse$Item", "ratio", "LSumHouse$Ratio;", true)
  | 1 => ("SumHouse$Item", "x", "I", false)
  | 2 => ("SumHouse$Item", "y", "I", false)
  | 3 => ("SumHouse$Item", "count", "I", false)
  | 4 => ("SumHouse$Item", "a", "[I", true)
  | 5 => ("SumHouse$Item", "b", "[I", true)
  | 6 => ("SumHouse$Item", "c", "[I", true)
  | _ => ("SumHouse$Item", "e", "[I", true)
def tyX5 : Nat → FieldType := fun k => match k with
  | 0 => .object "SumHouse$Ratio"
  | 1 => .int
  | 2 => .int
  | 3 => .int
  | 4 => .array .int
  | 5 => .array .int
  | 6 => .array .int
  | _ => .array .int
abbrev wsX50 : List Cond := u_ws RX5 TX5 8
theorem nmX5 : ∀ a, a < 8 → ∀ b, b < 8 → a ≠ b → (TX5 a).2.1 ≠ (TX5 b).2.1 := by decide +kernel
theorem tyX5_ok : ∀ k, k < 8 → parseFieldDescriptor (TX5 k).2.2.1 = some (tyX5 k) := by decide +kernel
abbrev cX5_init : ByteArray := prog_5_method_1_code
def yX5_init : MethodName := ⟨RX5, "<init>", "()V"⟩
abbrev cX5_set : ByteArray := prog_5_method_3_code
def yX5_set : MethodName := ⟨RX5, "set", "(I)V"⟩
abbrev cX5_plain : ByteArray := prog_5_method_2_code
def yX5_plain : MethodName := ⟨RX5, "plain", "()V"⟩
abbrev cX5_isTerm : ByteArray := prog_5_method_6_code
def yX5_isTerm : MethodName := ⟨RX5, "isTerm", "()Z"⟩
abbrev cX5_add : ByteArray := prog_5_method_7_code
def yX5_add : MethodName := ⟨RX5, "add", "(IIII)V"⟩
abbrev cX5_move : ByteArray := prog_5_method_8_code
def yX5_move : MethodName := ⟨RX5, "move", "(II)V"⟩
abbrev cX5_copy : ByteArray := prog_5_method_4_code
def yX5_copy : MethodName := ⟨RX5, "copy", "(LSumHouse$Item;)V"⟩
abbrev cX5_copyParts : ByteArray := prog_5_method_5_code
def yX5_copyParts : MethodName := ⟨RX5, "copyParts", "(LSumHouse$Item;)V"⟩
abbrev cX5_sizes : ByteArray := prog_5_method_9_code
def yX5_sizes : MethodName := ⟨RX5, "sizes", "()I"⟩
def RX6 : String := "SumHouse$Ratio"
def TX6 : u_T := fun k => match k with
  | 0 => ("SumHouse$Ratio", "top", "LSumHouse$Duo;", true)
  | _ => ("SumHouse$Ratio", "bottom", "LSumHouse$Duo;", true)
def tyX6 : Nat → FieldType := fun k => match k with
  | 0 => .object "SumHouse$Duo"
  | _ => .object "SumHouse$Duo"
abbrev wsX60 : List Cond := u_ws RX6 TX6 2
theorem nmX6 : ∀ a, a < 2 → ∀ b, b < 2 → a ≠ b → (TX6 a).2.1 ≠ (TX6 b).2.1 := by decide +kernel
theorem tyX6_ok : ∀ k, k < 2 → parseFieldDescriptor (TX6 k).2.2.1 = some (tyX6 k) := by decide +kernel
abbrev cX6_init : ByteArray := prog_8_method_1_code
def yX6_init : MethodName := ⟨RX6, "<init>", "()V"⟩
abbrev cX6_set : ByteArray := prog_8_method_2_code
def yX6_set : MethodName := ⟨RX6, "set", "(I)V"⟩
abbrev cX6_isPolynomial : ByteArray := prog_8_method_5_code
def yX6_isPolynomial : MethodName := ⟨RX6, "isPolynomial", "()Z"⟩
abbrev cX6_isZero : ByteArray := prog_8_method_4_code
def yX6_isZero : MethodName := ⟨RX6, "isZero", "()Z"⟩
abbrev cX6_copy : ByteArray := prog_8_method_3_code
def yX6_copy : MethodName := ⟨RX6, "copy", "(LSumHouse$Ratio;)V"⟩
def RX7 : String := "SumHouse$Board"
def TX7 : u_T := fun k => match k with
  | 0 => ("SumHouse$Board", "parts", "LSumHouse$Parts;", true)
  | 1 => ("SumHouse$Board", "at", "[[LSumHouse$Poly;", true)
  | 2 => ("SumHouse$Board", "one", "LSumHouse$Poly;", true)
  | 3 => ("SumHouse$Board", "two", "LSumHouse$Poly;", true)
  | 4 => ("SumHouse$Board", "last", "LSumHouse$Poly;", true)
  | 5 => ("SumHouse$Board", "lines", "I", false)
  | 6 => ("SumHouse$Board", "columns", "I", false)
  | 7 => ("SumHouse$Board", "rows", "[I", true)
  | _ => ("SumHouse$Board", "rank", "I", false)
def tyX7 : Nat → FieldType := fun k => match k with
  | 0 => .object "SumHouse$Parts"
  | 1 => .array (.array (.object "SumHouse$Poly"))
  | 2 => .object "SumHouse$Poly"
  | 3 => .object "SumHouse$Poly"
  | 4 => .object "SumHouse$Poly"
  | 5 => .int
  | 6 => .int
  | 7 => .array .int
  | _ => .int
abbrev wsX70 : List Cond := u_ws RX7 TX7 9
theorem nmX7 : ∀ a, a < 9 → ∀ b, b < 9 → a ≠ b → (TX7 a).2.1 ≠ (TX7 b).2.1 := by decide +kernel
theorem tyX7_ok : ∀ k, k < 9 → parseFieldDescriptor (TX7 k).2.2.1 = some (tyX7 k) := by decide +kernel
abbrev cX7_init : ByteArray := prog_2_method_1_code
def yX7_init : MethodName := ⟨RX7, "<init>", "(LSumHouse$Parts;)V"⟩
abbrev cX7_open : ByteArray := prog_2_method_2_code
def yX7_open : MethodName := ⟨RX7, "open", "(II)V"⟩
abbrev cX7_clear : ByteArray := prog_2_method_4_code
def yX7_clear : MethodName := ⟨RX7, "clear", "(I)I"⟩
abbrev cX7_tidy : ByteArray := prog_2_method_3_code
def yX7_tidy : MethodName := ⟨RX7, "tidy", "()V"⟩
abbrev cX7_pivot : ByteArray := prog_2_method_5_code
def yX7_pivot : MethodName := ⟨RX7, "pivot", "(I)I"⟩
abbrev cX7_takeAway : ByteArray := prog_2_method_6_code
def yX7_takeAway : MethodName := ⟨RX7, "takeAway", "(II)V"⟩
abbrev cX7_number : ByteArray := prog_2_method_7_code
def yX7_number : MethodName := ⟨RX7, "number", "(IILSumHouse$Poly;)V"⟩
def RX8 : String := "SumHouse$Shifts"
def TX8 : u_T := fun k => match k with
  | 0 => ("SumHouse$Shifts", "tops", "[[LSumHouse$Poly;", true)
  | 1 => ("SumHouse$Shifts", "bottoms", "[LSumHouse$Poly;", true)
  | 2 => ("SumHouse$Shifts", "moved", "[LSumHouse$Poly;", true)
  | 3 => ("SumHouse$Shifts", "spare", "LSumHouse$Poly;", true)
  | 4 => ("SumHouse$Shifts", "order", "I", false)
  | 5 => ("SumHouse$Shifts", "longer", "LSumHouse$Poly;", true)
  | _ => ("SumHouse$Shifts", "this$0", "LSumHouse;", true)
def tyX8 : Nat → FieldType := fun k => match k with
  | 0 => .array (.array (.object "SumHouse$Poly"))
  | 1 => .array (.object "SumHouse$Poly")
  | 2 => .array (.object "SumHouse$Poly")
  | 3 => .object "SumHouse$Poly"
  | 4 => .int
  | 5 => .object "SumHouse$Poly"
  | _ => .object "SumHouse"
abbrev wsX80 : List Cond := u_ws RX8 TX8 7
theorem nmX8 : ∀ a, a < 7 → ∀ b, b < 7 → a ≠ b → (TX8 a).2.1 ≠ (TX8 b).2.1 := by decide +kernel
theorem tyX8_ok : ∀ k, k < 7 → parseFieldDescriptor (TX8 k).2.2.1 = some (tyX8 k) := by decide +kernel
abbrev cX8_init : ByteArray := prog_9_method_1_code
def yX8_init : MethodName := ⟨RX8, "<init>", "(LSumHouse;)V"⟩
abbrev cX8_find : ByteArray := prog_9_method_2_code
def yX8_find : MethodName := ⟨RX8, "find", "(LSumHouse$Slot;)V"⟩
abbrev cX8_findShift : ByteArray := prog_9_method_3_code
def yX8_findShift : MethodName := ⟨RX8, "findShift", "(LSumHouse$Slot;I)V"⟩
abbrev cX8_lower : ByteArray := prog_9_method_4_code
def yX8_lower : MethodName := ⟨RX8, "lower", "(I)V"⟩
def RX9 : String := "SumHouse$Slot"
def TX9 : u_T := fun k => match k with
  | 0 => ("SumHouse$Slot", "kind", "I", false)
  | 1 => ("SumHouse$Slot", "item", "LSumHouse$Item;", true)
  | 2 => ("SumHouse$Slot", "a", "[LSumHouse$Poly;", true)
  | 3 => ("SumHouse$Slot", "order", "I", false)
  | 4 => ("SumHouse$Slot", "needs", "I", false)
  | 5 => ("SumHouse$Slot", "firsts", "I", false)
  | 6 => ("SumHouse$Slot", "numbers", "[I", true)
  | _ => ("SumHouse$Slot", "known", "I", false)
def tyX9 : Nat → FieldType := fun k => match k with
  | 0 => .int
  | 1 => .object "SumHouse$Item"
  | 2 => .array (.object "SumHouse$Poly")
  | 3 => .int
  | 4 => .int
  | 5 => .int
  | 6 => .array .int
  | _ => .int
abbrev wsX90 : List Cond := u_ws RX9 TX9 8
theorem nmX9 : ∀ a, a < 8 → ∀ b, b < 8 → a ≠ b → (TX9 a).2.1 ≠ (TX9 b).2.1 := by decide +kernel
theorem tyX9_ok : ∀ k, k < 8 → parseFieldDescriptor (TX9 k).2.2.1 = some (tyX9 k) := by decide +kernel
abbrev cX9_init : ByteArray := prog_10_method_1_code
def yX9_init : MethodName := ⟨RX9, "<init>", "()V"⟩
def RX10 : String := "SumHouseModel"
def TX10 : u_T := fun k => match k with
  | 0 => ("SumHouseModel", "us", "[LSumHouseModel$U;", true)
  | 1 => ("SumHouseModel", "ut", "I", false)
  | 2 => ("SumHouseModel", "bs", "[LSumHouseModel$B;", true)
  | 3 => ("SumHouseModel", "bt", "I", false)
  | 4 => ("SumHouseModel", "xs", "[I", true)
  | 5 => ("SumHouseModel", "ys", "[[I", true)
  | 6 => ("SumHouseModel", "spare", "LSumHouseModel$Thing;", true)
  | 7 => ("SumHouseModel", "done", "[Z", true)
  | 8 => ("SumHouseModel", "stop", "LSumHouseModel$Stop;", true)
  | 9 => ("SumHouseModel", "fault", "I", false)
  | 10 => ("SumHouseModel", "faultAt", "I", false)
  | 11 => ("SumHouseModel", "tape", "[B", true)
  | 12 => ("SumHouseModel", "length", "I", false)
  | 13 => ("SumHouseModel", "at", "I", false)
  | 14 => ("SumHouseModel", "open", "I", false)
  | 15 => ("SumHouseModel", "pile", "[LSumHouseModel$Thing;", true)
  | 16 => ("SumHouseModel", "piled", "I", false)
  | 17 => ("SumHouseModel", "la", "I", false)
  | 18 => ("SumHouseModel", "lb", "I", false)
  | 19 => ("SumHouseModel", "lc", "I", false)
  | 20 => ("SumHouseModel", "slots", "[LSumHouseModel$Thing;", true)
  | 21 => ("SumHouseModel", "made", "LSumHouseModel$Thing;", true)
  | 22 => ("SumHouseModel", "place", "I", false)
  | 23 => ("SumHouseModel", "out", "[B", true)
  | 24 => ("SumHouseModel", "outSize", "I", false)
  | 25 => ("SumHouseModel", "outWanted", "I", false)
  | 26 => ("SumHouseModel", "line", "[B", true)
  | 27 => ("SumHouseModel", "first", "Z", false)
  | 28 => ("SumHouseModel", "fed", "[I", true)
  | 29 => ("SumHouseModel", "fedCount", "I", false)
  | 30 => ("SumHouseModel", "rootOf", "[I", true)
  | 31 => ("SumHouseModel", "rootCount", "I", false)
  | 32 => ("SumHouseModel", "qa", "[I", true)
  | 33 => ("SumHouseModel", "qb", "[I", true)
  | 34 => ("SumHouseModel", "qc", "[I", true)
  | 35 => ("SumHouseModel", "qe", "[I", true)
  | 36 => ("SumHouseModel", "lines", "I", false)
  | 37 => ("SumHouseModel", "linesNumber", "I", false)
  | 38 => ("SumHouseModel", "rows", "[[I", true)
  | 39 => ("SumHouseModel", "formA", "LSumHouseModel$B;", false)
  | 40 => ("SumHouseModel", "formB", "LSumHouseModel$B;", false)
  | 41 => ("SumHouseModel", "formC", "LSumHouseModel$B;", false)
  | 42 => ("SumHouseModel", "alphaUp", "LSumHouseModel$U;", false)
  | 43 => ("SumHouseModel", "alphaDown", "LSumHouseModel$U;", false)
  | 44 => ("SumHouseModel", "board", "[[LSumHouseModel$U;", true)
  | 45 => ("SumHouseModel", "solution", "[LSumHouseModel$U;", true)
  | 46 => ("SumHouseModel", "isPivot", "[Z", true)
  | 47 => ("SumHouseModel", "pivotOf", "[I", true)
  | 48 => ("SumHouseModel", "boardRows", "I", false)
  | 49 => ("SumHouseModel", "parts", "[LSumHouseModel$B;", true)
  | 50 => ("SumHouseModel", "partDown", "[LSumHouseModel$U;", true)
  | 51 => ("SumHouseModel", "sNum", "[[I", true)
  | 52 => ("SumHouseModel", "sDen", "[[I", true)
  | 53 => ("SumHouseModel", "tops", "[LSumHouseModel$B;", true)
  | 54 => ("SumHouseModel", "unders", "[LSumHouseModel$B;", true)
  | 55 => ("SumHouseModel", "rowOf", "[LSumHouseModel$U;", true)
  | 56 => ("SumHouseModel", "ways", "[[LSumHouseModel$U;", true)
  | 57 => ("SumHouseModel", "others", "[[LSumHouseModel$U;", true)
  | 58 => ("SumHouseModel", "wayDown", "[LSumHouseModel$U;", true)
  | 59 => ("SumHouseModel", "otherDown", "[LSumHouseModel$U;", true)
  | 60 => ("SumHouseModel", "lineOf", "[[I", true)
  | 61 => ("SumHouseModel", "unknown", "[I", true)
  | 62 => ("SumHouseModel", "found", "[I", true)
  | 63 => ("SumHouseModel", "foundCount", "I", false)
  | _ => ("SumHouseModel", "howOften", "[I", true)
def tyX10 : Nat → FieldType := fun k => match k with
  | 0 => .array (.object "SumHouseModel$U")
  | 1 => .int
  | 2 => .array (.object "SumHouseModel$B")
  | 3 => .int
  | 4 => .array .int
  | 5 => .array (.array .int)
  | 6 => .object "SumHouseModel$Thing"
  | 7 => .array .boolean
  | 8 => .object "SumHouseModel$Stop"
  | 9 => .int
  | 10 => .int
  | 11 => .array .byte
  | 12 => .int
  | 13 => .int
  | 14 => .int
  | 15 => .array (.object "SumHouseModel$Thing")
  | 16 => .int
  | 17 => .int
  | 18 => .int
  | 19 => .int
  | 20 => .array (.object "SumHouseModel$Thing")
  | 21 => .object "SumHouseModel$Thing"
  | 22 => .int
  | 23 => .array .byte
  | 24 => .int
  | 25 => .int
  | 26 => .array .byte
  | 27 => .boolean
  | 28 => .array .int
  | 29 => .int
  | 30 => .array .int
  | 31 => .int
  | 32 => .array .int
  | 33 => .array .int
  | 34 => .array .int
  | 35 => .array .int
  | 36 => .int
  | 37 => .int
  | 38 => .array (.array .int)
  | 39 => .object "SumHouseModel$B"
  | 40 => .object "SumHouseModel$B"
  | 41 => .object "SumHouseModel$B"
  | 42 => .object "SumHouseModel$U"
  | 43 => .object "SumHouseModel$U"
  | 44 => .array (.array (.object "SumHouseModel$U"))
  | 45 => .array (.object "SumHouseModel$U")
  | 46 => .array .boolean
  | 47 => .array .int
  | 48 => .int
  | 49 => .array (.object "SumHouseModel$B")
  | 50 => .array (.object "SumHouseModel$U")
  | 51 => .array (.array .int)
  | 52 => .array (.array .int)
  | 53 => .array (.object "SumHouseModel$B")
  | 54 => .array (.object "SumHouseModel$B")
  | 55 => .array (.object "SumHouseModel$U")
  | 56 => .array (.array (.object "SumHouseModel$U"))
  | 57 => .array (.array (.object "SumHouseModel$U"))
  | 58 => .array (.object "SumHouseModel$U")
  | 59 => .array (.object "SumHouseModel$U")
  | 60 => .array (.array .int)
  | 61 => .array .int
  | 62 => .array .int
  | 63 => .int
  | _ => .array .int
abbrev wsX100 : List Cond := u_ws RX10 TX10 65
theorem nmX10 : ∀ a, a < 65 → ∀ b, b < 65 → a ≠ b → (TX10 a).2.1 ≠ (TX10 b).2.1 := by decide +kernel
theorem tyX10_ok : ∀ k, k < 65 → parseFieldDescriptor (TX10 k).2.2.1 = some (tyX10 k) := by decide +kernel
abbrev cX10_init : ByteArray := prog_12_method_83_code
def yX10_init : MethodName := ⟨RX10, "<init>", "()V"⟩
abbrev cX10_type : ByteArray := prog_12_method_87_code
def yX10_type : MethodName := ⟨RX10, "type", "(JI)I"⟩
abbrev cX10_read : ByteArray := prog_12_method_88_code
def yX10_read : MethodName := ⟨RX10, "read", "(I)I"⟩
abbrev cX10_isSlot : ByteArray := prog_12_method_84_code
def yX10_isSlot : MethodName := ⟨RX10, "isSlot", "(I)Z"⟩
abbrev cX10_begin : ByteArray := prog_12_method_85_code
def yX10_begin : MethodName := ⟨RX10, "begin", "()V"⟩
abbrev cX10_readE : ByteArray := prog_12_method_68_code
def yX10_readE : MethodName := ⟨RX10, "readE", "()V"⟩
abbrev cX10_look : ByteArray := prog_12_method_66_code
def yX10_look : MethodName := ⟨RX10, "look", "()I"⟩
abbrev cX10_readU : ByteArray := prog_12_method_69_code
def yX10_readU : MethodName := ⟨RX10, "readU", "()V"⟩
abbrev cX10_readW : ByteArray := prog_12_method_70_code
def yX10_readW : MethodName := ⟨RX10, "readW", "()V"⟩
abbrev cX10_readB : ByteArray := prog_12_method_72_code
def yX10_readB : MethodName := ⟨RX10, "readB", "()V"⟩
abbrev cX10_fail : ByteArray := prog_12_method_65_code
def yX10_fail : MethodName := ⟨RX10, "fail", "(II)LSumHouseModel$Stop;"⟩
abbrev cX10_bracket : ByteArray := prog_12_method_71_code
def yX10_bracket : MethodName := ⟨RX10, "bracket", "()V"⟩
abbrev cX10_must : ByteArray := prog_12_method_67_code
def yX10_must : MethodName := ⟨RX10, "must", "(I)V"⟩
abbrev cX10_valueE : ByteArray := prog_12_method_74_code
def yX10_valueE : MethodName := ⟨RX10, "valueE", "()LSumHouseModel$Thing;"⟩
abbrev cX10_valueU : ByteArray := prog_12_method_75_code
def yX10_valueU : MethodName := ⟨RX10, "valueU", "()LSumHouseModel$Thing;"⟩
abbrev cX10_valueW : ByteArray := prog_12_method_79_code
def yX10_valueW : MethodName := ⟨RX10, "valueW", "()LSumHouseModel$Thing;"⟩
abbrev cX10_valueB : ByteArray := prog_12_method_81_code
def yX10_valueB : MethodName := ⟨RX10, "valueB", "()LSumHouseModel$Thing;"⟩
abbrev cX10_choose : ByteArray := prog_12_method_82_code
def yX10_choose : MethodName := ⟨RX10, "choose", "()LSumHouseModel$Thing;"⟩
abbrev cX10_isLine : ByteArray := prog_12_method_76_code
def yX10_isLine : MethodName := ⟨RX10, "isLine", "(LSumHouseModel$Thing;)Z"⟩
abbrev cX10_isOne : ByteArray := prog_12_method_53_code
def yX10_isOne : MethodName := ⟨RX10, "isOne", "([I)Z"⟩
abbrev cX10_small : ByteArray := prog_12_method_7_code
def yX10_small : MethodName := ⟨RX10, "small", "(I)I"⟩
abbrev cX10_isLine_2 : ByteArray := prog_12_method_77_code
def yX10_isLine_2 : MethodName := ⟨RX10, "isLine", "(III)Z"⟩
abbrev cX10_number : ByteArray := prog_12_method_51_code
def yX10_number : MethodName := ⟨RX10, "number", "(LSumHouseModel$Thing;I)V"⟩
abbrev cX10_newB : ByteArray := prog_12_method_20_code
def yX10_newB : MethodName := ⟨RX10, "newB", "()LSumHouseModel$B;"⟩
abbrev cX10_plain : ByteArray := prog_12_method_50_code
def yX10_plain : MethodName := ⟨RX10, "plain", "(LSumHouseModel$Thing;)V"⟩
abbrev cX10_put : ByteArray := prog_12_method_49_code
def yX10_put : MethodName := ⟨RX10, "put", "(LSumHouseModel$Thing;LSumHouseModel$B;LSumHouseModel$B;)Z"⟩
abbrev cX10_fits : ByteArray := prog_12_method_38_code
def yX10_fits : MethodName := ⟨RX10, "fits", "(LSumHouseModel$B;)Z"⟩
abbrev cX10_store : ByteArray := prog_12_method_46_code
def yX10_store : MethodName := ⟨RX10, "store", "([ILSumHouseModel$B;)V"⟩
abbrev cX10_factorial : ByteArray := prog_12_method_78_code
def yX10_factorial : MethodName := ⟨RX10, "factorial", "(LSumHouseModel$Thing;IIII)V"⟩
abbrev cX10_factor : ByteArray := prog_12_method_55_code
def yX10_factor : MethodName := ⟨RX10, "factor", "(LSumHouseModel$Thing;IIII)V"⟩
abbrev cX10_move : ByteArray := prog_12_method_56_code
def yX10_move : MethodName := ⟨RX10, "move", "(LSumHouseModel$Thing;II)V"⟩
abbrev cX10_mul : ByteArray := prog_12_method_3_code
def yX10_mul : MethodName := ⟨RX10, "mul", "(II)I"⟩
abbrev cX10_inv : ByteArray := prog_12_method_5_code
def yX10_inv : MethodName := ⟨RX10, "inv", "(I)I"⟩
abbrev cX10_pow : ByteArray := prog_12_method_4_code
def yX10_pow : MethodName := ⟨RX10, "pow", "(IJ)I"⟩
abbrev cX10_name : ByteArray := prog_12_method_58_code
def yX10_name : MethodName := ⟨RX10, "name", "(LSumHouseModel$Thing;)V"⟩
abbrev cX10_newThing : ByteArray := prog_12_method_73_code
def yX10_newThing : MethodName := ⟨RX10, "newThing", "()LSumHouseModel$Thing;"⟩
abbrev cX10_raiseText : ByteArray := prog_12_method_80_code
def yX10_raiseText : MethodName := ⟨RX10, "raiseText", "(LSumHouseModel$Thing;I)V"⟩
abbrev cX10_isZero : ByteArray := prog_12_method_52_code
def yX10_isZero : MethodName := ⟨RX10, "isZero", "(LSumHouseModel$Thing;)Z"⟩
abbrev cX10_raise : ByteArray := prog_12_method_63_code
def yX10_raise : MethodName := ⟨RX10, "raise", "(LSumHouseModel$Thing;I)Z"⟩
abbrev cX10_load : ByteArray := prog_12_method_45_code
def yX10_load : MethodName := ⟨RX10, "load", "(LSumHouseModel$B;[I)V"⟩
abbrev cX10_weight : ByteArray := prog_12_method_57_code
def yX10_weight : MethodName := ⟨RX10, "weight", "(LSumHouseModel$Thing;)I"⟩
abbrev cX10_times : ByteArray := prog_12_method_24_code
def yX10_times : MethodName := ⟨RX10, "times", "(LSumHouseModel$B;LSumHouseModel$B;LSumHouseModel$B;)V"⟩
abbrev cX10_newU : ByteArray := prog_12_method_9_code
def yX10_newU : MethodName := ⟨RX10, "newU", "()LSumHouseModel$U;"⟩
abbrev cX10_times_2 : ByteArray := prog_12_method_13_code
def yX10_times_2 : MethodName := ⟨RX10, "times", "(LSumHouseModel$U;LSumHouseModel$U;LSumHouseModel$U;)V"⟩
abbrev cX10_plus : ByteArray := prog_12_method_11_code
def yX10_plus : MethodName := ⟨RX10, "plus", "(LSumHouseModel$U;LSumHouseModel$U;LSumHouseModel$U;Z)V"⟩
abbrev cX10_sub : ByteArray := prog_12_method_2_code
def yX10_sub : MethodName := ⟨RX10, "sub", "(II)I"⟩
abbrev cX10_add : ByteArray := prog_12_method_1_code
def yX10_add : MethodName := ⟨RX10, "add", "(II)I"⟩
abbrev cX10_set : ByteArray := prog_12_method_21_code
def yX10_set : MethodName := ⟨RX10, "set", "(LSumHouseModel$B;LSumHouseModel$B;)V"⟩
abbrev cX10_set_2 : ByteArray := prog_12_method_10_code
def yX10_set_2 : MethodName := ⟨RX10, "set", "(LSumHouseModel$U;LSumHouseModel$U;)V"⟩
abbrev cX10_settle : ByteArray := prog_12_method_39_code
def yX10_settle : MethodName := ⟨RX10, "settle", "(LSumHouseModel$B;LSumHouseModel$B;)V"⟩
abbrev cX10_scale : ByteArray := prog_12_method_23_code
def yX10_scale : MethodName := ⟨RX10, "scale", "(LSumHouseModel$B;LSumHouseModel$B;I)V"⟩
abbrev cX10_scale_2 : ByteArray := prog_12_method_12_code
def yX10_scale_2 : MethodName := ⟨RX10, "scale", "(LSumHouseModel$U;LSumHouseModel$U;I)V"⟩
abbrev cX10_power : ByteArray := prog_12_method_8_code
def yX10_power : MethodName := ⟨RX10, "power", "(II)I"⟩
abbrev cX10_isNumber : ByteArray := prog_12_method_54_code
def yX10_isNumber : MethodName := ⟨RX10, "isNumber", "(LSumHouseModel$Thing;)Z"⟩
abbrev cX10_multiply : ByteArray := prog_12_method_61_code
def yX10_multiply : MethodName := ⟨RX10, "multiply", "(LSumHouseModel$Thing;LSumHouseModel$Thing;Z)Z"⟩
abbrev cX10_multiply_2 : ByteArray := prog_12_method_41_code
def yX10_multiply_2 : MethodName := ⟨RX10, "multiply", "(LSumHouseModel$B;LSumHouseModel$B;LSumHouseModel$B;LSumHouseModel$B;LSumHouseModel$B;LSumHouseModel$B;)V"⟩
abbrev cX10_cancel : ByteArray := prog_12_method_42_code
def yX10_cancel : MethodName := ⟨RX10, "cancel", "(LSumHouseModel$B;LSumHouseModel$B;)V"⟩
abbrev cX10_gcd : ByteArray := prog_12_method_37_code
def yX10_gcd : MethodName := ⟨RX10, "gcd", "(LSumHouseModel$B;LSumHouseModel$B;LSumHouseModel$B;)V"⟩
abbrev cX10_primitive : ByteArray := prog_12_method_31_code
def yX10_primitive : MethodName := ⟨RX10, "primitive", "(LSumHouseModel$B;LSumHouseModel$B;LSumHouseModel$U;)V"⟩
abbrev cX10_content : ByteArray := prog_12_method_30_code
def yX10_content : MethodName := ⟨RX10, "content", "(LSumHouseModel$U;LSumHouseModel$B;)V"⟩
abbrev cX10_gcd_2 : ByteArray := prog_12_method_16_code
def yX10_gcd_2 : MethodName := ⟨RX10, "gcd", "(LSumHouseModel$U;LSumHouseModel$U;LSumHouseModel$U;)V"⟩
abbrev cX10_divide : ByteArray := prog_12_method_14_code
def yX10_divide : MethodName := ⟨RX10, "divide", "(LSumHouseModel$U;LSumHouseModel$U;LSumHouseModel$U;LSumHouseModel$U;)V"⟩
abbrev cX10_monic : ByteArray := prog_12_method_15_code
def yX10_monic : MethodName := ⟨RX10, "monic", "(LSumHouseModel$U;)V"⟩
abbrev cX10_byU : ByteArray := prog_12_method_26_code
def yX10_byU : MethodName := ⟨RX10, "byU", "(LSumHouseModel$B;LSumHouseModel$B;LSumHouseModel$U;)V"⟩
abbrev cX10_exact : ByteArray := prog_12_method_17_code
def yX10_exact : MethodName := ⟨RX10, "exact", "(LSumHouseModel$U;LSumHouseModel$U;LSumHouseModel$U;)V"⟩
abbrev cX10_gcdK : ByteArray := prog_12_method_36_code
def yX10_gcdK : MethodName := ⟨RX10, "gcdK", "(LSumHouseModel$B;LSumHouseModel$B;LSumHouseModel$B;)V"⟩
abbrev cX10_eval : ByteArray := prog_12_method_18_code
def yX10_eval : MethodName := ⟨RX10, "eval", "(LSumHouseModel$U;I)I"⟩
abbrev cX10_atN : ByteArray := prog_12_method_32_code
def yX10_atN : MethodName := ⟨RX10, "atN", "(LSumHouseModel$U;LSumHouseModel$B;I)V"⟩
abbrev cX10_through : ByteArray := prog_12_method_35_code
def yX10_through : MethodName := ⟨RX10, "through", "(LSumHouseModel$U;[II)V"⟩
abbrev cX10_divides : ByteArray := prog_12_method_34_code
def yX10_divides : MethodName := ⟨RX10, "divides", "(LSumHouseModel$B;LSumHouseModel$B;LSumHouseModel$B;)Z"⟩
abbrev cX10_timesU : ByteArray := prog_12_method_25_code
def yX10_timesU : MethodName := ⟨RX10, "timesU", "(LSumHouseModel$B;LSumHouseModel$B;LSumHouseModel$U;)V"⟩
abbrev cX10_joined : ByteArray := prog_12_method_60_code
def yX10_joined : MethodName := ⟨RX10, "joined", "(LSumHouseModel$Thing;LSumHouseModel$Thing;I)I"⟩
abbrev cX10_mergeAll : ByteArray := prog_12_method_62_code
def yX10_mergeAll : MethodName := ⟨RX10, "mergeAll", "(LSumHouseModel$Thing;LSumHouseModel$Thing;I)V"⟩
abbrev cX10_add_2 : ByteArray := prog_12_method_64_code
def yX10_add_2 : MethodName := ⟨RX10, "add", "(LSumHouseModel$Thing;LSumHouseModel$Thing;Z)Z"⟩
abbrev cX10_sum : ByteArray := prog_12_method_43_code
def yX10_sum : MethodName := ⟨RX10, "sum", "(LSumHouseModel$B;LSumHouseModel$B;LSumHouseModel$B;LSumHouseModel$B;LSumHouseModel$B;LSumHouseModel$B;Z)V"⟩
abbrev cX10_plus_2 : ByteArray := prog_12_method_22_code
def yX10_plus_2 : MethodName := ⟨RX10, "plus", "(LSumHouseModel$B;LSumHouseModel$B;LSumHouseModel$B;Z)V"⟩
abbrev cX10_copy : ByteArray := prog_12_method_44_code
def yX10_copy : MethodName := ⟨RX10, "copy", "(LSumHouseModel$Thing;LSumHouseModel$Thing;)V"⟩
abbrev cX10_keep : ByteArray := prog_12_method_86_code
def yX10_keep : MethodName := ⟨RX10, "keep", "(I)I"⟩
abbrev cX10_place : ByteArray := prog_12_method_89_code
def yX10_place : MethodName := ⟨RX10, "place", "()I"⟩
abbrev cX10_write : ByteArray := prog_12_method_96_code
def yX10_write : MethodName := ⟨RX10, "write", "(I)I"⟩
abbrev cX10_sayRatio : ByteArray := prog_12_method_95_code
def yX10_sayRatio : MethodName := ⟨RX10, "sayRatio", "(LSumHouseModel$Thing;)V"⟩
abbrev cX10_say : ByteArray := prog_12_method_90_code
def yX10_say : MethodName := ⟨RX10, "say", "(I)V"⟩
abbrev cX10_sayCells : ByteArray := prog_12_method_94_code
def yX10_sayCells : MethodName := ⟨RX10, "sayCells", "([I)V"⟩
abbrev cX10_sayPart : ByteArray := prog_12_method_92_code
def yX10_sayPart : MethodName := ⟨RX10, "sayPart", "(III)V"⟩
abbrev cX10_sayNumber : ByteArray := prog_12_method_91_code
def yX10_sayNumber : MethodName := ⟨RX10, "sayNumber", "(J)V"⟩
abbrev cX10_sayLetter : ByteArray := prog_12_method_93_code
def yX10_sayLetter : MethodName := ⟨RX10, "sayLetter", "(IIZ)V"⟩
abbrev cX10_sayBase : ByteArray := prog_12_method_98_code
def yX10_sayBase : MethodName := ⟨RX10, "sayBase", "(II)V"⟩
abbrev cX10_sayLine : ByteArray := prog_12_method_97_code
def yX10_sayLine : MethodName := ⟨RX10, "sayLine", "(III)V"⟩
abbrev cX10_rest : ByteArray := prog_12_method_6_code
def yX10_rest : MethodName := ⟨RX10, "rest", "(I)I"⟩
abbrev cX10_written : ByteArray := prog_12_method_99_code
def yX10_written : MethodName := ⟨RX10, "written", "(I)I"⟩
abbrev cX10_again : ByteArray := prog_12_method_100_code
def yX10_again : MethodName := ⟨RX10, "again", "()I"⟩
abbrev cX10_kind : ByteArray := prog_12_method_101_code
def yX10_kind : MethodName := ⟨RX10, "kind", "(I)I"⟩
abbrev cX10_drop : ByteArray := prog_12_method_102_code
def yX10_drop : MethodName := ⟨RX10, "drop", "(I)I"⟩
abbrev cX10_degree : ByteArray := prog_12_method_104_code
def yX10_degree : MethodName := ⟨RX10, "degree", "(III)I"⟩
abbrev cX10_degree_2 : ByteArray := prog_12_method_103_code
def yX10_degree_2 : MethodName := ⟨RX10, "degree", "([II)I"⟩
abbrev cX10_number_2 : ByteArray := prog_12_method_105_code
def yX10_number_2 : MethodName := ⟨RX10, "number", "(IIII)I"⟩
abbrev cX10_told : ByteArray := prog_12_method_106_code
def yX10_told : MethodName := ⟨RX10, "told", "(II)I"⟩
abbrev cX10_factorial_2 : ByteArray := prog_12_method_107_code
def yX10_factorial_2 : MethodName := ⟨RX10, "factorial", "(III)I"⟩
abbrev cX10_count : ByteArray := prog_12_method_108_code
def yX10_count : MethodName := ⟨RX10, "count", "(I)I"⟩
abbrev cX10_quotient : ByteArray := prog_12_method_112_code
def yX10_quotient : MethodName := ⟨RX10, "quotient", "(III)I"⟩
abbrev cX10_quotient_2 : ByteArray := prog_12_method_110_code
def yX10_quotient_2 : MethodName := ⟨RX10, "quotient", "(LSumHouseModel$B;LSumHouseModel$B;LSumHouseModel$Thing;II)Z"⟩
abbrev cX10_lineFactor : ByteArray := prog_12_method_109_code
def yX10_lineFactor : MethodName := ⟨RX10, "lineFactor", "(IIII)V"⟩
abbrev cX10_shiftN : ByteArray := prog_12_method_28_code
def yX10_shiftN : MethodName := ⟨RX10, "shiftN", "(LSumHouseModel$B;LSumHouseModel$B;I)V"⟩
abbrev cX10_shift : ByteArray := prog_12_method_19_code
def yX10_shift : MethodName := ⟨RX10, "shift", "(LSumHouseModel$U;LSumHouseModel$U;I)V"⟩
abbrev cX10_shiftK : ByteArray := prog_12_method_27_code
def yX10_shiftK : MethodName := ⟨RX10, "shiftK", "(LSumHouseModel$B;LSumHouseModel$B;I)V"⟩
abbrev cX10_lineInto : ByteArray := prog_12_method_111_code
def yX10_lineInto : MethodName := ⟨RX10, "lineInto", "(LSumHouseModel$B;LSumHouseModel$B;I)Z"⟩
abbrev cX10_work : ByteArray := prog_12_method_114_code
def yX10_work : MethodName := ⟨RX10, "work", "(IIII)I"⟩
abbrev cX10_isPolynomial : ByteArray := prog_12_method_113_code
def yX10_isPolynomial : MethodName := ⟨RX10, "isPolynomial", "(LSumHouseModel$Thing;)Z"⟩
abbrev cX10_resultant : ByteArray := prog_12_method_115_code
def yX10_resultant : MethodName := ⟨RX10, "resultant", "(LSumHouseModel$B;LSumHouseModel$B;LSumHouseModel$B;Z)Z"⟩
abbrev cX10_turn : ByteArray := prog_12_method_29_code
def yX10_turn : MethodName := ⟨RX10, "turn", "(LSumHouseModel$B;LSumHouseModel$B;)V"⟩
abbrev cX10_sylvester : ByteArray := prog_12_method_116_code
def yX10_sylvester : MethodName := ⟨RX10, "sylvester", "(LSumHouseModel$B;LSumHouseModel$B;III)I"⟩
abbrev cX10_change : ByteArray := prog_12_method_117_code
def yX10_change : MethodName := ⟨RX10, "change", "(IIII)I"⟩
abbrev cX10_moved : ByteArray := prog_12_method_118_code
def yX10_moved : MethodName := ⟨RX10, "moved", "(ILSumHouseModel$B;LSumHouseModel$B;II)I"⟩
abbrev cX10_fixed : ByteArray := prog_12_method_119_code
def yX10_fixed : MethodName := ⟨RX10, "fixed", "(LSumHouseModel$B;LSumHouseModel$B;IZ)V"⟩
abbrev cX10_reduce : ByteArray := prog_12_method_40_code
def yX10_reduce : MethodName := ⟨RX10, "reduce", "(LSumHouseModel$B;LSumHouseModel$B;)V"⟩
abbrev cX10_derivative : ByteArray := prog_12_method_121_code
def yX10_derivative : MethodName := ⟨RX10, "derivative", "(LSumHouseModel$B;LSumHouseModel$B;LSumHouseModel$B;LSumHouseModel$B;Z)V"⟩
abbrev cX10_slope : ByteArray := prog_12_method_120_code
def yX10_slope : MethodName := ⟨RX10, "slope", "(LSumHouseModel$B;LSumHouseModel$B;Z)V"⟩
abbrev cX10_value : ByteArray := prog_12_method_127_code
def yX10_value : MethodName := ⟨RX10, "value", "(III)I"⟩
abbrev cX10_valueAt : ByteArray := prog_12_method_126_code
def yX10_valueAt : MethodName := ⟨RX10, "valueAt", "(LSumHouseModel$Thing;II)I"⟩
abbrev cX10_ratioAt : ByteArray := prog_12_method_124_code
def yX10_ratioAt : MethodName := ⟨RX10, "ratioAt", "(LSumHouseModel$Thing;II)I"⟩
abbrev cX10_cells : ByteArray := prog_12_method_123_code
def yX10_cells : MethodName := ⟨RX10, "cells", "([III)I"⟩
abbrev cX10_isWhole : ByteArray := prog_12_method_125_code
def yX10_isWhole : MethodName := ⟨RX10, "isWhole", "(I)Z"⟩
abbrev cX10_factorialOf : ByteArray := prog_12_method_122_code
def yX10_factorialOf : MethodName := ⟨RX10, "factorialOf", "(I)I"⟩
abbrev cX10_sum_2 : ByteArray := prog_12_method_129_code
def yX10_sum_2 : MethodName := ⟨RX10, "sum", "(IIII)I"⟩
abbrev cX10_sumOf : ByteArray := prog_12_method_128_code
def yX10_sumOf : MethodName := ⟨RX10, "sumOf", "(LSumHouseModel$Thing;III)I"⟩
abbrev cX10_form : ByteArray := prog_12_method_131_code
def yX10_form : MethodName := ⟨RX10, "form", "(III)I"⟩
abbrev cX10_form_2 : ByteArray := prog_12_method_130_code
def yX10_form_2 : MethodName := ⟨RX10, "form", "(LSumHouseModel$B;LSumHouseModel$B;)Z"⟩
abbrev cX10_close : ByteArray := prog_12_method_139_code
def yX10_close : MethodName := ⟨RX10, "close", "(II)I"⟩
abbrev cX10_depth : ByteArray := prog_12_method_133_code
def yX10_depth : MethodName := ⟨RX10, "depth", "(I)I"⟩
abbrev cX10_areSame : ByteArray := prog_12_method_132_code
def yX10_areSame : MethodName := ⟨RX10, "areSame", "(LSumHouseModel$U;LSumHouseModel$U;)Z"⟩
abbrev cX10_lay : ByteArray := prog_12_method_135_code
def yX10_lay : MethodName := ⟨RX10, "lay", "(I[LSumHouseModel$B;I)I"⟩
abbrev cX10_column : ByteArray := prog_12_method_134_code
def yX10_column : MethodName := ⟨RX10, "column", "(ILSumHouseModel$B;Z)V"⟩
abbrev cX10_clear : ByteArray := prog_12_method_136_code
def yX10_clear : MethodName := ⟨RX10, "clear", "(I)LSumHouseModel$U;"⟩
abbrev cX10_solveBy : ByteArray := prog_12_method_137_code
def yX10_solveBy : MethodName := ⟨RX10, "solveBy", "(IILSumHouseModel$U;)V"⟩
abbrev cX10_certificate : ByteArray := prog_12_method_138_code
def yX10_certificate : MethodName := ⟨RX10, "certificate", "(LSumHouseModel$B;LSumHouseModel$B;ILSumHouseModel$U;LSumHouseModel$U;LSumHouseModel$B;)Z"⟩
abbrev cX10_recur : ByteArray := prog_12_method_140_code
def yX10_recur : MethodName := ⟨RX10, "recur", "(III)I"⟩
abbrev cX10_recurAt : ByteArray := prog_12_method_142_code
def yX10_recurAt : MethodName := ⟨RX10, "recurAt", "(ILSumHouseModel$B;LSumHouseModel$B;LSumHouseModel$B;)I"⟩
abbrev cX10_part : ByteArray := prog_12_method_143_code
def yX10_part : MethodName := ⟨RX10, "part", "(LSumHouseModel$B;LSumHouseModel$U;ILSumHouseModel$B;)Z"⟩
abbrev cX10_makeRecord : ByteArray := prog_12_method_144_code
def yX10_makeRecord : MethodName := ⟨RX10, "makeRecord", "(IILSumHouseModel$B;)Z"⟩
abbrev cX10_store_2 : ByteArray := prog_12_method_48_code
def yX10_store_2 : MethodName := ⟨RX10, "store", "([IILSumHouseModel$U;)V"⟩
abbrev cX10_keepRecord : ByteArray := prog_12_method_141_code
def yX10_keepRecord : MethodName := ⟨RX10, "keepRecord", "(I)I"⟩
abbrev cX10_part_2 : ByteArray := prog_12_method_145_code
def yX10_part_2 : MethodName := ⟨RX10, "part", "(III)I"⟩
abbrev cX10_check : ByteArray := prog_12_method_146_code
def yX10_check : MethodName := ⟨RX10, "check", "(II)I"⟩
abbrev cX10_isRight : ByteArray := prog_12_method_147_code
def yX10_isRight : MethodName := ⟨RX10, "isRight", "(LSumHouseModel$Thing;IILSumHouseModel$B;LSumHouseModel$B;LSumHouseModel$B;LSumHouseModel$B;)Z"⟩
abbrev cX10_eval_2 : ByteArray := prog_12_method_33_code
def yX10_eval_2 : MethodName := ⟨RX10, "eval", "(LSumHouseModel$B;II)I"⟩
abbrev cX10_polynomialAt : ByteArray := prog_12_method_148_code
def yX10_polynomialAt : MethodName := ⟨RX10, "polynomialAt", "([III)I"⟩
abbrev cX10_poke : ByteArray := prog_12_method_149_code
def yX10_poke : MethodName := ⟨RX10, "poke", "(IIIII)I"⟩
abbrev cX10_holds : ByteArray := prog_12_method_150_code
def yX10_holds : MethodName := ⟨RX10, "holds", "(IIIII)I"⟩
abbrev cX10_row : ByteArray := prog_12_method_154_code
def yX10_row : MethodName := ⟨RX10, "row", "(II)I"⟩
abbrev cX10_load_2 : ByteArray := prog_12_method_47_code
def yX10_load_2 : MethodName := ⟨RX10, "load", "(LSumHouseModel$U;[II)V"⟩
abbrev cX10_makeRow : ByteArray := prog_12_method_152_code
def yX10_makeRow : MethodName := ⟨RX10, "makeRow", "([LSumHouseModel$U;I)Z"⟩
abbrev cX10_needsOf : ByteArray := prog_12_method_151_code
def yX10_needsOf : MethodName := ⟨RX10, "needsOf", "([III)I"⟩
abbrev cX10_first : ByteArray := prog_12_method_155_code
def yX10_first : MethodName := ⟨RX10, "first", "(II)I"⟩
abbrev cX10_fill : ByteArray := prog_12_method_153_code
def yX10_fill : MethodName := ⟨RX10, "fill", "(LSumHouseModel$Thing;)V"⟩
abbrev cX10_at : ByteArray := prog_12_method_156_code
def yX10_at : MethodName := ⟨RX10, "at", "(II)I"⟩
abbrev cX10_join : ByteArray := prog_12_method_160_code
def yX10_join : MethodName := ⟨RX10, "join", "(IIII)I"⟩
abbrev cX10_simple : ByteArray := prog_12_method_161_code
def yX10_simple : MethodName := ⟨RX10, "simple", "(LSumHouseModel$Thing;Z)V"⟩
abbrev cX10_degreeOf : ByteArray := prog_12_method_157_code
def yX10_degreeOf : MethodName := ⟨RX10, "degreeOf", "(LSumHouseModel$Thing;)I"⟩
abbrev cX10_combine : ByteArray := prog_12_method_162_code
def yX10_combine : MethodName := ⟨RX10, "combine", "(ILSumHouseModel$Thing;LSumHouseModel$Thing;I)I"⟩
abbrev cX10_unroll : ByteArray := prog_12_method_158_code
def yX10_unroll : MethodName := ⟨RX10, "unroll", "(LSumHouseModel$Thing;[[LSumHouseModel$U;[LSumHouseModel$U;)V"⟩
abbrev cX10_lighten : ByteArray := prog_12_method_159_code
def yX10_lighten : MethodName := ⟨RX10, "lighten", "([LSumHouseModel$U;LSumHouseModel$U;I)V"⟩
abbrev cX10_feed : ByteArray := prog_12_method_163_code
def yX10_feed : MethodName := ⟨RX10, "feed", "(I)I"⟩
abbrev cX10_clear_2 : ByteArray := prog_12_method_164_code
def yX10_clear_2 : MethodName := ⟨RX10, "clear", "()I"⟩
abbrev cX10_guess : ByteArray := prog_12_method_166_code
def yX10_guess : MethodName := ⟨RX10, "guess", "(I)I"⟩
abbrev cX10_tries : ByteArray := prog_12_method_165_code
def yX10_tries : MethodName := ⟨RX10, "tries", "(II)Z"⟩
abbrev cX10_guessed : ByteArray := prog_12_method_167_code
def yX10_guessed : MethodName := ⟨RX10, "guessed", "(III)I"⟩
abbrev cX10_roots : ByteArray := prog_12_method_170_code
def yX10_roots : MethodName := ⟨RX10, "roots", "(I)I"⟩
abbrev cX10_powerOf : ByteArray := prog_12_method_168_code
def yX10_powerOf : MethodName := ⟨RX10, "powerOf", "(LSumHouseModel$U;LSumHouseModel$U;JLSumHouseModel$U;)V"⟩
abbrev cX10_split : ByteArray := prog_12_method_169_code
def yX10_split : MethodName := ⟨RX10, "split", "(LSumHouseModel$U;I)V"⟩
abbrev cX10_root : ByteArray := prog_12_method_171_code
def yX10_root : MethodName := ⟨RX10, "root", "(I)I"⟩
abbrev cX10_solve : ByteArray := prog_12_method_172_code
def yX10_solve : MethodName := ⟨RX10, "solve", "(II)I"⟩
abbrev cX10_strip : ByteArray := prog_12_method_173_code
def yX10_strip : MethodName := ⟨RX10, "strip", "(LSumHouseModel$U;I)I"⟩
def RX11 : String := "SumHouseModel$Thing"
def TX11 : u_T := fun k => match k with
  | 0 => ("SumHouseModel$Thing", "kind", "I", false)
  | 1 => ("SumHouseModel$Thing", "num", "[I", true)
  | 2 => ("SumHouseModel$Thing", "den", "[I", true)
  | 3 => ("SumHouseModel$Thing", "x", "I", false)
  | 4 => ("SumHouseModel$Thing", "y", "I", false)
  | 5 => ("SumHouseModel$Thing", "many", "I", false)
  | 6 => ("SumHouseModel$Thing", "fa", "[I", true)
  | 7 => ("SumHouseModel$Thing", "fb", "[I", true)
  | 8 => ("SumHouseModel$Thing", "fc", "[I", true)
  | 9 => ("SumHouseModel$Thing", "fe", "[I", true)
  | 10 => ("SumHouseModel$Thing", "order", "I", false)
  | 11 => ("SumHouseModel$Thing", "a", "[I", true)
  | 12 => ("SumHouseModel$Thing", "needs", "I", false)
  | 13 => ("SumHouseModel$Thing", "has", "I", false)
  | _ => ("SumHouseModel$Thing", "u", "[I", true)
def tyX11 : Nat → FieldType := fun k => match k with
  | 0 => .int
  | 1 => .array .int
  | 2 => .array .int
  | 3 => .int
  | 4 => .int
  | 5 => .int
  | 6 => .array .int
  | 7 => .array .int
  | 8 => .array .int
  | 9 => .array .int
  | 10 => .int
  | 11 => .array .int
  | 12 => .int
  | 13 => .int
  | _ => .array .int
abbrev wsX110 : List Cond := u_ws RX11 TX11 15
theorem nmX11 : ∀ a, a < 15 → ∀ b, b < 15 → a ≠ b → (TX11 a).2.1 ≠ (TX11 b).2.1 := by decide +kernel
theorem tyX11_ok : ∀ k, k < 15 → parseFieldDescriptor (TX11 k).2.2.1 = some (tyX11 k) := by decide +kernel
abbrev cX11_init : ByteArray := prog_15_method_1_code
def yX11_init : MethodName := ⟨RX11, "<init>", "()V"⟩
def RX12 : String := "SumHouseModel$Stop"
def TX12 : u_T := fun k => match k with
  | 0 => ("java/lang/Throwable", "cause", "Ljava/lang/Throwable;", false)
  | 1 => ("java/lang/Throwable", "stackTrace", "[Ljava/lang/StackTraceElement;", false)
  | 2 => ("java/lang/Throwable", "suppressedExceptions", "Ljava/util/List;", false)
  | 3 => ("java/lang/Throwable", "detailMessage", "Ljava/lang/String;", false)
  | 4 => ("java/lang/Throwable", "backtrace", "Ljava/lang/Object;", false)
  | _ => ("java/lang/Throwable", "depth", "I", false)
def tyX12 : Nat → FieldType := fun k => match k with
  | 0 => .object "java/lang/Throwable"
  | 1 => .array (.object "java/lang/StackTraceElement")
  | 2 => .object "java/util/List"
  | 3 => .object "java/lang/String"
  | 4 => .object "java/lang/Object"
  | _ => .int
abbrev wsX120 : List Cond := u_ws RX12 TX12 6
theorem nmX12 : ∀ a, a < 6 → ∀ b, b < 6 → a ≠ b → (TX12 a).2.1 ≠ (TX12 b).2.1 := by decide +kernel
theorem tyX12_ok : ∀ k, k < 6 → parseFieldDescriptor (TX12 k).2.2.1 = some (tyX12 k) := by decide +kernel
abbrev cX12_init : ByteArray := prog_14_method_1_code
def yX12_init : MethodName := ⟨RX12, "<init>", "()V"⟩
def RX13 : String := "SumHouseModel$U"
def TX13 : u_T := fun k => match k with
  | 0 => ("SumHouseModel$U", "c", "[I", true)
  | _ => ("SumHouseModel$U", "n", "I", false)
def tyX13 : Nat → FieldType := fun k => match k with
  | 0 => .array .int
  | _ => .int
abbrev wsX130 : List Cond := u_ws RX13 TX13 2
theorem nmX13 : ∀ a, a < 2 → ∀ b, b < 2 → a ≠ b → (TX13 a).2.1 ≠ (TX13 b).2.1 := by decide +kernel
theorem tyX13_ok : ∀ k, k < 2 → parseFieldDescriptor (TX13 k).2.2.1 = some (tyX13 k) := by decide +kernel
abbrev cX13_init : ByteArray := prog_16_method_1_code
def yX13_init : MethodName := ⟨RX13, "<init>", "(I)V"⟩
abbrev cX13_number : ByteArray := prog_16_method_3_code
def yX13_number : MethodName := ⟨RX13, "number", "(I)V"⟩
abbrev cX13_at : ByteArray := prog_16_method_5_code
def yX13_at : MethodName := ⟨RX13, "at", "(I)I"⟩
abbrev cX13_trim : ByteArray := prog_16_method_2_code
def yX13_trim : MethodName := ⟨RX13, "trim", "()V"⟩
abbrev cX13_head : ByteArray := prog_16_method_4_code
def yX13_head : MethodName := ⟨RX13, "head", "()I"⟩
def RX14 : String := "SumHouseModel$B"
def TX14 : u_T := fun k => match k with
  | 0 => ("SumHouseModel$B", "\x72", "[LSumHouseModel$U;", true)
  | _ => ("SumHouseModel$B", "rows", "I", false)
def tyX14 : Nat → FieldType := fun k => match k with
  | 0 => .array (.object "SumHouseModel$U")
  | _ => .int
abbrev wsX140 : List Cond := u_ws RX14 TX14 2
theorem nmX14 : ∀ a, a < 2 → ∀ b, b < 2 → a ≠ b → (TX14 a).2.1 ≠ (TX14 b).2.1 := by decide +kernel
theorem tyX14_ok : ∀ k, k < 2 → parseFieldDescriptor (TX14 k).2.2.1 = some (tyX14 k) := by decide +kernel
abbrev cX14_init : ByteArray := prog_13_method_1_code
def yX14_init : MethodName := ⟨RX14, "<init>", "()V"⟩
abbrev cX14_number : ByteArray := prog_13_method_3_code
def yX14_number : MethodName := ⟨RX14, "number", "(I)V"⟩
abbrev cX14_trim : ByteArray := prog_13_method_2_code
def yX14_trim : MethodName := ⟨RX14, "trim", "()V"⟩
abbrev cX14_degreeN : ByteArray := prog_13_method_6_code
def yX14_degreeN : MethodName := ⟨RX14, "degreeN", "()I"⟩
abbrev cX14_degreeK : ByteArray := prog_13_method_7_code
def yX14_degreeK : MethodName := ⟨RX14, "degreeK", "()I"⟩
abbrev cX14_head : ByteArray := prog_13_method_5_code
def yX14_head : MethodName := ⟨RX14, "head", "()I"⟩
abbrev cX14_lead : ByteArray := prog_13_method_4_code
def yX14_lead : MethodName := ⟨RX14, "lead", "()LSumHouseModel$U;"⟩
abbrev cX14_isNumber : ByteArray := prog_13_method_8_code
def yX14_isNumber : MethodName := ⟨RX14, "isNumber", "()Z"⟩
def RJ0 : String := "java/lang/Throwable"
def TJ0 : u_T := fun k => match k with
  | 0 => ("java/lang/Throwable", "cause", "Ljava/lang/Throwable;", false)
  | 1 => ("java/lang/Throwable", "stackTrace", "[Ljava/lang/StackTraceElement;", false)
  | 2 => ("java/lang/Throwable", "suppressedExceptions", "Ljava/util/List;", false)
  | 3 => ("java/lang/Throwable", "detailMessage", "Ljava/lang/String;", false)
  | _ => ("java/lang/Throwable", "backtrace", "Ljava/lang/Object;", false)
def tyJ0 : Nat → FieldType := fun k => match k with
  | 0 => .object "java/lang/Throwable"
  | 1 => .array (.object "java/lang/StackTraceElement")
  | 2 => .object "java/util/List"
  | 3 => .object "java/lang/String"
  | _ => .object "java/lang/Object"
abbrev wsJ00 : List Cond := u_ws RJ0 TJ0 5
theorem nmJ0 : ∀ a, a < 5 → ∀ b, b < 5 → a ≠ b → (TJ0 a).2.1 ≠ (TJ0 b).2.1 := by decide +kernel
theorem tyJ0_ok : ∀ k, k < 5 → parseFieldDescriptor (TJ0 k).2.2.1 = some (tyJ0 k) := by decide +kernel
abbrev cJ0_init : ByteArray := prog_21_method_1_code
def yJ0_init : MethodName := ⟨RJ0, "<init>", "()V"⟩
abbrev cJ0_init_2 : ByteArray := prog_21_method_5_code
def yJ0_init_2 : MethodName := ⟨RJ0, "<init>", "(Ljava/lang/String;Ljava/lang/Throwable;ZZ)V"⟩
def RJ1 : String := "java/lang/Exception"
abbrev cJ1_init : ByteArray := prog_17_method_5_code
def yJ1_init : MethodName := ⟨RJ1, "<init>", "(Ljava/lang/String;Ljava/lang/Throwable;ZZ)V"⟩
def RJ2 : String := "java/lang/RuntimeException"
abbrev cJ2_init : ByteArray := prog_19_method_5_code
def yJ2_init : MethodName := ⟨RJ2, "<init>", "(Ljava/lang/String;Ljava/lang/Throwable;ZZ)V"⟩
def RJ3 : String := "java/lang/Math"
abbrev cJ3_abs : ByteArray := prog_18_method_59_code
def yJ3_abs : MethodName := ⟨RJ3, "abs", "(I)I"⟩
abbrev cJ3_max : ByteArray := prog_18_method_65_code
def yJ3_max : MethodName := ⟨RJ3, "max", "(II)I"⟩
abbrev cJ3_min : ByteArray := prog_18_method_69_code
def yJ3_min : MethodName := ⟨RJ3, "min", "(II)I"⟩
abbrev cJ3_floorMod : ByteArray := prog_18_method_50_code
def yJ3_floorMod : MethodName := ⟨RJ3, "floorMod", "(II)I"⟩
def RJ4 : String := "java/lang/Object"
abbrev cJ4_init : ByteArray := object_method_1_code
def yJ4_init : MethodName := ⟨RJ4, "<init>", "()V"⟩
theorem q199 : (Jvm.Cond.initialized "java/lang/Throwable") ∈ lw_all := lw_g (lw_at lw_m1 13 rfl) rfl
theorem q1824 : (Jvm.Cond.declares ({ cls := "java/lang/Throwable", name := "<init>", desc := "()V" } : Jvm.MethodName)) ∈ lw_tbl := lw_at lw_m7 198 rfl
theorem q1825 : (Jvm.Cond.declares ({ cls := "java/lang/Throwable", name := "<init>", desc := "(Ljava/lang/String;)V" } : Jvm.MethodName)) ∈ lw_tbl := lw_at lw_m7 199 rfl
theorem q1829 : (Jvm.Cond.lays "java/lang/Throwable" "java/lang/Throwable" "cause" "Ljava/lang/Throwable;") ∈ lw_all := lw_g (lw_at lw_m7 203 rfl) rfl
theorem q1831 : (Jvm.Cond.lays "java/lang/Throwable" "java/lang/Throwable" "stackTrace" "[Ljava/lang/StackTraceElement;") ∈ lw_all := lw_g (lw_at lw_m7 205 rfl) rfl
theorem q1833 : (Jvm.Cond.lays "java/lang/Throwable" "java/lang/Throwable" "suppressedExceptions" "Ljava/util/List;") ∈ lw_all := lw_g (lw_at lw_m7 207 rfl) rfl
theorem q1835 : (Jvm.Cond.lays "java/lang/Throwable" "java/lang/Throwable" "detailMessage" "Ljava/lang/String;") ∈ lw_all := lw_g (lw_at lw_m7 209 rfl) rfl
theorem q1837 : (Jvm.Cond.lays "java/lang/Throwable" "java/lang/Throwable" "backtrace" "Ljava/lang/Object;") ∈ lw_all := lw_g (lw_at lw_m7 211 rfl) rfl
theorem q1868 : (Jvm.Cond.fieldLink "java/lang/Throwable" (198 : Nat) "java/lang/Throwable" "backtrace" "Ljava/lang/Object;") ∈ lw_all := lw_g (lw_at lw_m8 2 rfl) rfl
theorem q1839 : (Jvm.Cond.superclass "java/lang/Throwable" "java/lang/Object") ∈ lw_all := lw_g (lw_at lw_m7 213 rfl) rfl
theorem q1840 : (Jvm.Cond.instanceMethod ({ cls := "java/lang/Throwable", name := "<init>", desc := "()V" } : Jvm.MethodName)) ∈ lw_all := lw_g (lw_at lw_m7 214 rfl) rfl
theorem q1841 : (Jvm.Cond.code ({ cls := "java/lang/Throwable", name := "<init>", desc := "()V" } : Jvm.MethodName) prog_21_method_1_code (1 : Nat) (Option.none : Option Jvm.ClassFile.FieldType)) ∈ lw_all := lw_g (lw_at lw_m7 215 rfl) rfl
theorem q1842 : (Jvm.Cond.methodLink "java/lang/Throwable" (1 : Nat) ({ cls := "java/lang/Object", name := "<init>", desc := "()V" } : Jvm.MethodName)) ∈ lw_all := lw_g (lw_at lw_m7 216 rfl) rfl
theorem q1843 : (Jvm.Cond.fieldLink "java/lang/Throwable" (13 : Nat) "java/lang/Throwable" "UNASSIGNED_STACK" "[Ljava/lang/StackTraceElement;") ∈ lw_all := lw_g (lw_at lw_m7 217 rfl) rfl
theorem q1844 : (Jvm.Cond.laysStatic "java/lang/Throwable" "UNASSIGNED_STACK" "[Ljava/lang/StackTraceElement;") ∈ lw_tbl := lw_at lw_m7 218 rfl
theorem q1845 : (Jvm.Cond.fieldLink "java/lang/Throwable" (20 : Nat) "java/lang/Throwable" "SUPPRESSED_SENTINEL" "Ljava/util/List;") ∈ lw_all := lw_g (lw_at lw_m7 219 rfl) rfl
theorem q1846 : (Jvm.Cond.laysStatic "java/lang/Throwable" "SUPPRESSED_SENTINEL" "Ljava/util/List;") ∈ lw_tbl := lw_at lw_m7 220 rfl
theorem q1847 : (Jvm.Cond.methodLink "java/lang/Throwable" (27 : Nat) ({ cls := "java/lang/Throwable", name := "fillInStackTrace", desc := "()Ljava/lang/Throwable;" } : Jvm.MethodName)) ∈ lw_all := lw_g (lw_at lw_m7 221 rfl) rfl
theorem q1848 : (Jvm.Cond.instanceMethod ({ cls := "java/lang/Throwable", name := "fillInStackTrace", desc := "()Ljava/lang/Throwable;" } : Jvm.MethodName)) ∈ lw_all := lw_g (lw_at lw_m7 222 rfl) rfl
theorem q1849 : (Jvm.Cond.sameMethod "java/lang/Throwable" "java/lang/Throwable" "fillInStackTrace" "()Ljava/lang/Throwable;") ∈ lw_all := lw_g (lw_at lw_m7 223 rfl) rfl
theorem q1850 : (Jvm.Cond.codeSync ({ cls := "java/lang/Throwable", name := "fillInStackTrace", desc := "()Ljava/lang/Throwable;" } : Jvm.MethodName) prog_21_method_18_code (1 : Nat) (Option.some (Jvm.ClassFile.FieldType.object "java/lang/Throwable"))) ∈ lw_all := lw_g (lw_at lw_m7 224 rfl) rfl
theorem q1851 : (Jvm.Cond.methodLink "java/lang/Throwable" (202 : Nat) ({ cls := "java/lang/Throwable", name := "fillInStackTrace", desc := "(I)Ljava/lang/Throwable;" } : Jvm.MethodName)) ∈ lw_all := lw_g (lw_at lw_m7 225 rfl) rfl
theorem q1852 : (Jvm.Cond.privateMethod ({ cls := "java/lang/Throwable", name := "fillInStackTrace", desc := "(I)Ljava/lang/Throwable;" } : Jvm.MethodName)) ∈ lw_tbl := lw_at lw_m7 226 rfl
theorem q1853 : (Jvm.Cond.instanceMethod ({ cls := "java/lang/Throwable", name := "fillInStackTrace", desc := "(I)Ljava/lang/Throwable;" } : Jvm.MethodName)) ∈ lw_all := lw_g (lw_at lw_m7 227 rfl) rfl
theorem q1854 : (Jvm.Cond.instantiable "java/lang/Throwable" (6 : Nat)) ∈ lw_all := lw_g (lw_at lw_m7 228 rfl) rfl
theorem q1855 : (Jvm.Cond.native ({ cls := "java/lang/Throwable", name := "fillInStackTrace", desc := "(I)Ljava/lang/Throwable;" } : Jvm.MethodName)) ∈ lw_all := lw_g (lw_at lw_m7 229 rfl) rfl
theorem q1866 : (Jvm.Cond.instanceMethod ({ cls := "java/lang/Throwable", name := "<init>", desc := "(Ljava/lang/String;Ljava/lang/Throwable;ZZ)V" } : Jvm.MethodName)) ∈ lw_all := lw_g (lw_at lw_m8 0 rfl) rfl
theorem q1867 : (Jvm.Cond.code ({ cls := "java/lang/Throwable", name := "<init>", desc := "(Ljava/lang/String;Ljava/lang/Throwable;ZZ)V" } : Jvm.MethodName) prog_21_method_5_code (5 : Nat) (Option.none : Option Jvm.ClassFile.FieldType)) ∈ lw_all := lw_g (lw_at lw_m8 1 rfl) rfl
theorem q1869 : (Jvm.Cond.fieldLink "java/lang/Throwable" (31 : Nat) "java/lang/Throwable" "detailMessage" "Ljava/lang/String;") ∈ lw_all := lw_g (lw_at lw_m8 3 rfl) rfl
theorem q1870 : (Jvm.Cond.fieldLink "java/lang/Throwable" (7 : Nat) "java/lang/Throwable" "cause" "Ljava/lang/Throwable;") ∈ lw_all := lw_g (lw_at lw_m8 4 rfl) rfl
theorem q1871 : (Jvm.Cond.fieldLink "java/lang/Throwable" (17 : Nat) "java/lang/Throwable" "stackTrace" "[Ljava/lang/StackTraceElement;") ∈ lw_all := lw_g (lw_at lw_m8 5 rfl) rfl
theorem q1872 : (Jvm.Cond.fieldLink "java/lang/Throwable" (24 : Nat) "java/lang/Throwable" "suppressedExceptions" "Ljava/util/List;") ∈ lw_all := lw_g (lw_at lw_m8 6 rfl) rfl
theorem q1873 : (Jvm.Cond.soleField "java/lang/Throwable" "backtrace") ∈ lw_all := lw_g (lw_at lw_m8 7 rfl) rfl
theorem q1874 : (Jvm.Cond.soleField "java/lang/Throwable" "detailMessage") ∈ lw_all := lw_g (lw_at lw_m8 8 rfl) rfl
theorem q1875 : (Jvm.Cond.soleField "java/lang/Throwable" "cause") ∈ lw_all := lw_g (lw_at lw_m8 9 rfl) rfl
theorem q1876 : (Jvm.Cond.soleField "java/lang/Throwable" "stackTrace") ∈ lw_all := lw_g (lw_at lw_m8 10 rfl) rfl
theorem q1878 : (Jvm.Cond.soleField "java/lang/Throwable" "depth") ∈ lw_all := lw_g (lw_at lw_m8 12 rfl) rfl
theorem q1879 : (Jvm.Cond.soleField "java/lang/Throwable" "suppressedExceptions") ∈ lw_all := lw_g (lw_at lw_m8 13 rfl) rfl
theorem q2808 : (Jvm.Cond.sameMethod "java/lang/Throwable" "java/lang/Throwable" "fillInStackTrace" "(I)Ljava/lang/Throwable;") ∈ lw_all := lw_g (lw_at lw_m11 222 rfl) rfl
theorem q200 : (Jvm.Cond.initialized "java/lang/Exception") ∈ lw_all := lw_g (lw_at lw_m1 14 rfl) rfl
theorem q1822 : (Jvm.Cond.declares ({ cls := "java/lang/Exception", name := "<init>", desc := "()V" } : Jvm.MethodName)) ∈ lw_tbl := lw_at lw_m7 196 rfl
theorem q1823 : (Jvm.Cond.declares ({ cls := "java/lang/Exception", name := "<init>", desc := "(Ljava/lang/String;)V" } : Jvm.MethodName)) ∈ lw_tbl := lw_at lw_m7 197 rfl
theorem q1863 : (Jvm.Cond.instanceMethod ({ cls := "java/lang/Exception", name := "<init>", desc := "(Ljava/lang/String;Ljava/lang/Throwable;ZZ)V" } : Jvm.MethodName)) ∈ lw_all := lw_g (lw_at lw_m7 237 rfl) rfl
theorem q1864 : (Jvm.Cond.code ({ cls := "java/lang/Exception", name := "<init>", desc := "(Ljava/lang/String;Ljava/lang/Throwable;ZZ)V" } : Jvm.MethodName) prog_17_method_5_code (5 : Nat) (Option.none : Option Jvm.ClassFile.FieldType)) ∈ lw_all := lw_g (lw_at lw_m7 238 rfl) rfl
theorem q1865 : (Jvm.Cond.methodLink "java/lang/Exception" (16 : Nat) ({ cls := "java/lang/Throwable", name := "<init>", desc := "(Ljava/lang/String;Ljava/lang/Throwable;ZZ)V" } : Jvm.MethodName)) ∈ lw_all := lw_g (lw_at lw_m7 239 rfl) rfl
theorem q201 : (Jvm.Cond.initialized "java/lang/RuntimeException") ∈ lw_all := lw_g (lw_at lw_m1 15 rfl) rfl
theorem q1820 : (Jvm.Cond.declares ({ cls := "java/lang/RuntimeException", name := "<init>", desc := "()V" } : Jvm.MethodName)) ∈ lw_tbl := lw_at lw_m7 194 rfl
theorem q1821 : (Jvm.Cond.declares ({ cls := "java/lang/RuntimeException", name := "<init>", desc := "(Ljava/lang/String;)V" } : Jvm.MethodName)) ∈ lw_tbl := lw_at lw_m7 195 rfl
theorem q1860 : (Jvm.Cond.instanceMethod ({ cls := "java/lang/RuntimeException", name := "<init>", desc := "(Ljava/lang/String;Ljava/lang/Throwable;ZZ)V" } : Jvm.MethodName)) ∈ lw_all := lw_g (lw_at lw_m7 234 rfl) rfl
theorem q1861 : (Jvm.Cond.code ({ cls := "java/lang/RuntimeException", name := "<init>", desc := "(Ljava/lang/String;Ljava/lang/Throwable;ZZ)V" } : Jvm.MethodName) prog_19_method_5_code (5 : Nat) (Option.none : Option Jvm.ClassFile.FieldType)) ∈ lw_all := lw_g (lw_at lw_m7 235 rfl) rfl
theorem q1862 : (Jvm.Cond.methodLink "java/lang/RuntimeException" (16 : Nat) ({ cls := "java/lang/Exception", name := "<init>", desc := "(Ljava/lang/String;Ljava/lang/Throwable;ZZ)V" } : Jvm.MethodName)) ∈ lw_all := lw_g (lw_at lw_m7 236 rfl) rfl
theorem q206 : (Jvm.Cond.initialized "java/lang/Math") ∈ lw_all := lw_g (lw_at lw_m1 20 rfl) rfl
theorem q985 : (Jvm.Cond.static ({ cls := "java/lang/Math", name := "abs", desc := "(I)I" } : Jvm.MethodName)) ∈ lw_all := lw_g (lw_at lw_m4 79 rfl) rfl
theorem q986 : (Jvm.Cond.code ({ cls := "java/lang/Math", name := "abs", desc := "(I)I" } : Jvm.MethodName) prog_18_method_59_code (1 : Nat) (Option.some Jvm.ClassFile.FieldType.int)) ∈ lw_all := lw_g (lw_at lw_m4 80 rfl) rfl
theorem q1013 : (Jvm.Cond.static ({ cls := "java/lang/Math", name := "max", desc := "(II)I" } : Jvm.MethodName)) ∈ lw_all := lw_g (lw_at lw_m4 107 rfl) rfl
theorem q1014 : (Jvm.Cond.code ({ cls := "java/lang/Math", name := "max", desc := "(II)I" } : Jvm.MethodName) prog_18_method_65_code (2 : Nat) (Option.some Jvm.ClassFile.FieldType.int)) ∈ lw_all := lw_g (lw_at lw_m4 108 rfl) rfl
theorem q1100 : (Jvm.Cond.static ({ cls := "java/lang/Math", name := "min", desc := "(II)I" } : Jvm.MethodName)) ∈ lw_all := lw_g (lw_at lw_m4 194 rfl) rfl
theorem q1101 : (Jvm.Cond.code ({ cls := "java/lang/Math", name := "min", desc := "(II)I" } : Jvm.MethodName) prog_18_method_69_code (2 : Nat) (Option.some Jvm.ClassFile.FieldType.int)) ∈ lw_all := lw_g (lw_at lw_m4 195 rfl) rfl
theorem q1266 : (Jvm.Cond.static ({ cls := "java/lang/Math", name := "floorMod", desc := "(II)I" } : Jvm.MethodName)) ∈ lw_all := lw_g (lw_at lw_m5 120 rfl) rfl
theorem q1267 : (Jvm.Cond.code ({ cls := "java/lang/Math", name := "floorMod", desc := "(II)I" } : Jvm.MethodName) prog_18_method_50_code (3 : Nat) (Option.some Jvm.ClassFile.FieldType.int)) ∈ lw_all := lw_g (lw_at lw_m5 121 rfl) rfl
theorem q217 : (Jvm.Cond.instanceMethod ({ cls := "java/lang/Object", name := "<init>", desc := "()V" } : Jvm.MethodName)) ∈ lw_all := lw_g (lw_at lw_m1 31 rfl) rfl
theorem q218 : (Jvm.Cond.code ({ cls := "java/lang/Object", name := "<init>", desc := "()V" } : Jvm.MethodName) object_method_1_code (1 : Nat) (Option.none : Option Jvm.ClassFile.FieldType)) ∈ lw_all := lw_g (lw_at lw_m1 32 rfl) rfl
theorem q187 : (Jvm.Cond.initialized "SumHouse") ∈ lw_all := lw_g (lw_at lw_m1 1 rfl) rfl
theorem q208 : (Jvm.Cond.instanceMethod ({ cls := "SumHouse", name := "type", desc := "(JI)I" } : Jvm.MethodName)) ∈ lw_all := lw_g (lw_at lw_m1 22 rfl) rfl
theorem q209 : (Jvm.Cond.selects "SumHouse" ({ cls := "SumHouse", name := "type", desc := "(JI)I" } : Jvm.MethodName) ({ cls := "SumHouse", name := "type", desc := "(JI)I" } : Jvm.MethodName)) ∈ lw_all := lw_g (lw_at lw_m1 23 rfl) rfl
theorem q210 : (Jvm.Cond.code ({ cls := "SumHouse", name := "type", desc := "(JI)I" } : Jvm.MethodName) prog_1_method_19_code (5 : Nat) (Option.some Jvm.ClassFile.FieldType.int)) ∈ lw_all := lw_g (lw_at lw_m1 24 rfl) rfl
theorem q212 : (Jvm.Cond.instantiable "SumHouse" (80 : Nat)) ∈ lw_all := lw_g (lw_at lw_m1 26 rfl) rfl
theorem q214 : (Jvm.Cond.instanceMethod ({ cls := "SumHouse", name := "<init>", desc := "()V" } : Jvm.MethodName)) ∈ lw_all := lw_g (lw_at lw_m1 28 rfl) rfl
theorem q215 : (Jvm.Cond.code ({ cls := "SumHouse", name := "<init>", desc := "()V" } : Jvm.MethodName) prog_1_method_38_code (2 : Nat) (Option.none : Option Jvm.ClassFile.FieldType)) ∈ lw_all := lw_g (lw_at lw_m1 29 rfl) rfl
theorem q216 : (Jvm.Cond.methodLink "SumHouse" (312 : Nat) ({ cls := "java/lang/Object", name := "<init>", desc := "()V" } : Jvm.MethodName)) ∈ lw_all := lw_g (lw_at lw_m1 30 rfl) rfl
theorem q219 : (Jvm.Cond.classLink "SumHouse" (54 : Nat) "SumHouse$Parts") ∈ lw_all := lw_g (lw_at lw_m1 33 rfl) rfl
theorem q221 : (Jvm.Cond.methodLinkNest "SumHouse" (317 : Nat) ({ cls := "SumHouse$Parts", name := "<init>", desc := "()V" } : Jvm.MethodName) "SumHouse") ∈ lw_tbl := lw_at lw_m1 35 rfl
theorem q241 : (Jvm.Cond.fieldLinkNest "SumHouse" (889 : Nat) "SumHouse$Poly" "at" "[I" "SumHouse") ∈ lw_tbl := lw_at lw_m1 55 rfl
theorem q248 : (Jvm.Cond.fieldLinkNest "SumHouse" (636 : Nat) "SumHouse$Poly" "size" "I" "SumHouse") ∈ lw_tbl := lw_at lw_m1 62 rfl
theorem q275 : (Jvm.Cond.fieldLinkNest "SumHouse" (608 : Nat) "SumHouse$Duo" "wide" "I" "SumHouse") ∈ lw_tbl := lw_at lw_m1 89 rfl
theorem q278 : (Jvm.Cond.fieldLinkNest "SumHouse" (288 : Nat) "SumHouse$Duo" "at" "[I" "SumHouse") ∈ lw_tbl := lw_at lw_m1 92 rfl
theorem q282 : (Jvm.Cond.fieldLinkNest "SumHouse" (22 : Nat) "SumHouse$Duo" "sizeN" "I" "SumHouse") ∈ lw_tbl := lw_at lw_m1 96 rfl
theorem q286 : (Jvm.Cond.fieldLinkNest "SumHouse" (28 : Nat) "SumHouse$Duo" "sizeK" "I" "SumHouse") ∈ lw_tbl := lw_at lw_m1 100 rfl
theorem q300 : (Jvm.Cond.fieldLinkNest "SumHouse" (642 : Nat) "SumHouse$Parts" "divisors" "LSumHouse$Divisors;" "SumHouse") ∈ lw_tbl := lw_at lw_m1 114 rfl
theorem q361 : (Jvm.Cond.classLink "SumHouse" (23 : Nat) "SumHouse$Duo") ∈ lw_all := lw_g (lw_at lw_m1 175 rfl) rfl
theorem q362 : (Jvm.Cond.methodLink "SumHouse" (318 : Nat) ({ cls := "SumHouse$Duo", name := "<init>", desc := "(II)V" } : Jvm.MethodName)) ∈ lw_all := lw_g (lw_at lw_m1 176 rfl) rfl
theorem q363 : (Jvm.Cond.classLink "SumHouse" (111 : Nat) "SumHouse$Item") ∈ lw_all := lw_g (lw_at lw_m1 177 rfl) rfl
theorem q365 : (Jvm.Cond.methodLinkNest "SumHouse" (320 : Nat) ({ cls := "SumHouse$Item", name := "<init>", desc := "()V" } : Jvm.MethodName) "SumHouse") ∈ lw_tbl := lw_at lw_m1 179 rfl
theorem q394 : (Jvm.Cond.fieldLinkNest "SumHouse" (89 : Nat) "SumHouse$Ratio" "top" "LSumHouse$Duo;" "SumHouse") ∈ lw_tbl := lw_at lw_m1 208 rfl
theorem q396 : (Jvm.Cond.fieldLinkNest "SumHouse" (94 : Nat) "SumHouse$Ratio" "bottom" "LSumHouse$Duo;" "SumHouse") ∈ lw_tbl := lw_at lw_m1 210 rfl
theorem q403 : (Jvm.Cond.fieldLinkNest "SumHouse" (110 : Nat) "SumHouse$Item" "ratio" "LSumHouse$Ratio;" "SumHouse") ∈ lw_tbl := lw_at lw_m1 217 rfl
theorem q405 : (Jvm.Cond.fieldLinkNest "SumHouse" (130 : Nat) "SumHouse$Item" "x" "I" "SumHouse") ∈ lw_tbl := lw_at lw_m1 219 rfl
theorem q407 : (Jvm.Cond.fieldLinkNest "SumHouse" (133 : Nat) "SumHouse$Item" "y" "I" "SumHouse") ∈ lw_tbl := lw_at lw_m1 221 rfl
theorem q409 : (Jvm.Cond.fieldLinkNest "SumHouse" (136 : Nat) "SumHouse$Item" "count" "I" "SumHouse") ∈ lw_tbl := lw_at lw_m1 223 rfl
theorem q411 : (Jvm.Cond.fieldLinkNest "SumHouse" (139 : Nat) "SumHouse$Item" "a" "[I" "SumHouse") ∈ lw_tbl := lw_at lw_m1 225 rfl
theorem q413 : (Jvm.Cond.fieldLinkNest "SumHouse" (143 : Nat) "SumHouse$Item" "b" "[I" "SumHouse") ∈ lw_tbl := lw_at lw_m1 227 rfl
theorem q415 : (Jvm.Cond.fieldLinkNest "SumHouse" (146 : Nat) "SumHouse$Item" "c" "[I" "SumHouse") ∈ lw_tbl := lw_at lw_m1 229 rfl
theorem q417 : (Jvm.Cond.fieldLinkNest "SumHouse" (149 : Nat) "SumHouse$Item" "e" "[I" "SumHouse") ∈ lw_tbl := lw_at lw_m1 231 rfl
theorem q436 : (Jvm.Cond.classLink "SumHouse" (324 : Nat) "SumHouse$Slot") ∈ lw_all := lw_g (lw_at lw_m2 10 rfl) rfl
theorem q438 : (Jvm.Cond.classLink "SumHouse" (357 : Nat) "SumHouse$Poly") ∈ lw_all := lw_g (lw_at lw_m2 12 rfl) rfl
theorem q439 : (Jvm.Cond.methodLink "SumHouse" (359 : Nat) ({ cls := "SumHouse$Poly", name := "<init>", desc := "(I)V" } : Jvm.MethodName)) ∈ lw_all := lw_g (lw_at lw_m2 13 rfl) rfl
theorem q440 : (Jvm.Cond.classLink "SumHouse" (377 : Nat) "SumHouse$Board") ∈ lw_all := lw_g (lw_at lw_m2 14 rfl) rfl
theorem q442 : (Jvm.Cond.methodLink "SumHouse" (379 : Nat) ({ cls := "SumHouse$Board", name := "<init>", desc := "(LSumHouse$Parts;)V" } : Jvm.MethodName)) ∈ lw_all := lw_g (lw_at lw_m2 16 rfl) rfl
theorem q453 : (Jvm.Cond.fieldLinkNest "SumHouse" (694 : Nat) "SumHouse$Board" "at" "[[LSumHouse$Poly;" "SumHouse") ∈ lw_tbl := lw_at lw_m2 27 rfl
theorem q482 : (Jvm.Cond.classLink "SumHouse" (90 : Nat) "SumHouse$Ratio") ∈ lw_all := lw_g (lw_at lw_m2 56 rfl) rfl
theorem q484 : (Jvm.Cond.methodLink "SumHouse" (424 : Nat) ({ cls := "SumHouse$Ratio", name := "<init>", desc := "()V" } : Jvm.MethodName)) ∈ lw_all := lw_g (lw_at lw_m2 58 rfl) rfl
theorem q485 : (Jvm.Cond.classLink "SumHouse" (458 : Nat) "SumHouse$Shifts") ∈ lw_all := lw_g (lw_at lw_m2 59 rfl) rfl
theorem q487 : (Jvm.Cond.methodLink "SumHouse" (460 : Nat) ({ cls := "SumHouse$Shifts", name := "<init>", desc := "(LSumHouse;)V" } : Jvm.MethodName)) ∈ lw_all := lw_g (lw_at lw_m2 61 rfl) rfl
theorem q495 : (Jvm.Cond.fieldLinkNest "SumHouse" (824 : Nat) "SumHouse$Shifts" "tops" "[[LSumHouse$Poly;" "SumHouse") ∈ lw_tbl := lw_at lw_m2 69 rfl
theorem q497 : (Jvm.Cond.fieldLinkNest "SumHouse" (822 : Nat) "SumHouse$Shifts" "bottoms" "[LSumHouse$Poly;" "SumHouse") ∈ lw_tbl := lw_at lw_m2 71 rfl
theorem q518 : (Jvm.Cond.classLink "SumHouse" (482 : Nat) "[[I") ∈ lw_all := lw_g (lw_at lw_m2 92 rfl) rfl
theorem q521 : (Jvm.Cond.methodLink "SumHouse" (508 : Nat) ({ cls := "SumHouse$Slot", name := "<init>", desc := "()V" } : Jvm.MethodName)) ∈ lw_all := lw_g (lw_at lw_m2 95 rfl) rfl
theorem q529 : (Jvm.Cond.fieldLinkNest "SumHouse" (509 : Nat) "SumHouse$Slot" "kind" "I" "SumHouse") ∈ lw_tbl := lw_at lw_m2 103 rfl
theorem q531 : (Jvm.Cond.fieldLinkNest "SumHouse" (512 : Nat) "SumHouse$Slot" "item" "LSumHouse$Item;" "SumHouse") ∈ lw_tbl := lw_at lw_m2 105 rfl
theorem q534 : (Jvm.Cond.fieldLinkNest "SumHouse" (578 : Nat) "SumHouse$Slot" "a" "[LSumHouse$Poly;" "SumHouse") ∈ lw_tbl := lw_at lw_m2 108 rfl
theorem q536 : (Jvm.Cond.fieldLinkNest "SumHouse" (575 : Nat) "SumHouse$Slot" "order" "I" "SumHouse") ∈ lw_tbl := lw_at lw_m2 110 rfl
theorem q537 : (Jvm.Cond.fieldLinkNest "SumHouse" (582 : Nat) "SumHouse$Slot" "needs" "I" "SumHouse") ∈ lw_tbl := lw_at lw_m2 111 rfl
theorem q538 : (Jvm.Cond.fieldLinkNest "SumHouse" (794 : Nat) "SumHouse$Slot" "firsts" "I" "SumHouse") ∈ lw_tbl := lw_at lw_m2 112 rfl
theorem q540 : (Jvm.Cond.fieldLinkNest "SumHouse" (807 : Nat) "SumHouse$Slot" "numbers" "[I" "SumHouse") ∈ lw_tbl := lw_at lw_m2 114 rfl
theorem q541 : (Jvm.Cond.fieldLinkNest "SumHouse" (797 : Nat) "SumHouse$Slot" "known" "I" "SumHouse") ∈ lw_tbl := lw_at lw_m2 115 rfl
theorem q560 : (Jvm.Cond.fieldLink "SumHouse" (46 : Nat) "SumHouse" "parts" "LSumHouse$Parts;") ∈ lw_all := lw_g (lw_at lw_m2 134 rfl) rfl
theorem q561 : (Jvm.Cond.fieldLink "SumHouse" (31 : Nat) "SumHouse" "over" "LSumHouse$Duo;") ∈ lw_all := lw_g (lw_at lw_m2 135 rfl) rfl
theorem q562 : (Jvm.Cond.fieldLink "SumHouse" (39 : Nat) "SumHouse" "under" "LSumHouse$Duo;") ∈ lw_all := lw_g (lw_at lw_m2 136 rfl) rfl
theorem q563 : (Jvm.Cond.fieldLink "SumHouse" (50 : Nat) "SumHouse" "both" "LSumHouse$Duo;") ∈ lw_all := lw_g (lw_at lw_m2 137 rfl) rfl
theorem q564 : (Jvm.Cond.fieldLink "SumHouse" (59 : Nat) "SumHouse" "aside" "LSumHouse$Duo;") ∈ lw_all := lw_g (lw_at lw_m2 138 rfl) rfl
theorem q565 : (Jvm.Cond.fieldLink "SumHouse" (116 : Nat) "SumHouse" "work" "LSumHouse$Item;") ∈ lw_all := lw_g (lw_at lw_m2 139 rfl) rfl
theorem q566 : (Jvm.Cond.fieldLink "SumHouse" (160 : Nat) "SumHouse" "base" "LSumHouse$Item;") ∈ lw_all := lw_g (lw_at lw_m2 140 rfl) rfl
theorem q567 : (Jvm.Cond.fieldLink "SumHouse" (163 : Nat) "SumHouse" "raised" "LSumHouse$Item;") ∈ lw_all := lw_g (lw_at lw_m2 141 rfl) rfl
theorem q568 : (Jvm.Cond.fieldLink "SumHouse" (189 : Nat) "SumHouse" "lineA" "I") ∈ lw_all := lw_g (lw_at lw_m2 142 rfl) rfl
theorem q569 : (Jvm.Cond.fieldLink "SumHouse" (192 : Nat) "SumHouse" "lineB" "I") ∈ lw_all := lw_g (lw_at lw_m2 143 rfl) rfl
theorem q570 : (Jvm.Cond.fieldLink "SumHouse" (195 : Nat) "SumHouse" "lineC" "I") ∈ lw_all := lw_g (lw_at lw_m2 144 rfl) rfl
theorem q571 : (Jvm.Cond.fieldLink "SumHouse" (207 : Nat) "SumHouse" "tape" "[B") ∈ lw_all := lw_g (lw_at lw_m2 145 rfl) rfl
theorem q572 : (Jvm.Cond.fieldLink "SumHouse" (204 : Nat) "SumHouse" "tapeSize" "I") ∈ lw_all := lw_g (lw_at lw_m2 146 rfl) rfl
theorem q573 : (Jvm.Cond.fieldLink "SumHouse" (211 : Nat) "SumHouse" "at" "I") ∈ lw_all := lw_g (lw_at lw_m2 147 rfl) rfl
theorem q574 : (Jvm.Cond.fieldLink "SumHouse" (247 : Nat) "SumHouse" "opened" "I") ∈ lw_all := lw_g (lw_at lw_m2 148 rfl) rfl
theorem q575 : (Jvm.Cond.fieldLink "SumHouse" (214 : Nat) "SumHouse" "fault" "I") ∈ lw_all := lw_g (lw_at lw_m2 149 rfl) rfl
theorem q576 : (Jvm.Cond.fieldLink "SumHouse" (217 : Nat) "SumHouse" "faultAt" "I") ∈ lw_all := lw_g (lw_at lw_m2 150 rfl) rfl
theorem q577 : (Jvm.Cond.fieldLink "SumHouse" (321 : Nat) "SumHouse" "told" "I") ∈ lw_all := lw_g (lw_at lw_m2 151 rfl) rfl
theorem q578 : (Jvm.Cond.fieldLink "SumHouse" (234 : Nat) "SumHouse" "pile" "[LSumHouse$Item;") ∈ lw_all := lw_g (lw_at lw_m2 152 rfl) rfl
theorem q579 : (Jvm.Cond.fieldLink "SumHouse" (231 : Nat) "SumHouse" "piled" "I") ∈ lw_all := lw_g (lw_at lw_m2 153 rfl) rfl
theorem q580 : (Jvm.Cond.fieldLink "SumHouse" (326 : Nat) "SumHouse" "slots" "[LSumHouse$Slot;") ∈ lw_all := lw_g (lw_at lw_m2 154 rfl) rfl
theorem q581 : (Jvm.Cond.fieldLink "SumHouse" (330 : Nat) "SumHouse" "result" "LSumHouse$Item;") ∈ lw_all := lw_g (lw_at lw_m2 155 rfl) rfl
theorem q582 : (Jvm.Cond.fieldLink "SumHouse" (333 : Nat) "SumHouse" "draft" "[B") ∈ lw_all := lw_g (lw_at lw_m2 156 rfl) rfl
theorem q583 : (Jvm.Cond.fieldLink "SumHouse" (523 : Nat) "SumHouse" "drafted" "I") ∈ lw_all := lw_g (lw_at lw_m2 157 rfl) rfl
theorem q584 : (Jvm.Cond.fieldLink "SumHouse" (336 : Nat) "SumHouse" "text" "[B") ∈ lw_all := lw_g (lw_at lw_m2 158 rfl) rfl
theorem q585 : (Jvm.Cond.fieldLink "SumHouse" (566 : Nat) "SumHouse" "textSize" "I") ∈ lw_all := lw_g (lw_at lw_m2 159 rfl) rfl
theorem q586 : (Jvm.Cond.fieldLink "SumHouse" (339 : Nat) "SumHouse" "factorials" "[I") ∈ lw_all := lw_g (lw_at lw_m2 160 rfl) rfl
theorem q587 : (Jvm.Cond.fieldLink "SumHouse" (342 : Nat) "SumHouse" "formA" "LSumHouse$Duo;") ∈ lw_all := lw_g (lw_at lw_m2 161 rfl) rfl
theorem q588 : (Jvm.Cond.fieldLink "SumHouse" (345 : Nat) "SumHouse" "formB" "LSumHouse$Duo;") ∈ lw_all := lw_g (lw_at lw_m2 162 rfl) rfl
theorem q589 : (Jvm.Cond.fieldLink "SumHouse" (348 : Nat) "SumHouse" "formC" "LSumHouse$Duo;") ∈ lw_all := lw_g (lw_at lw_m2 163 rfl) rfl
theorem q590 : (Jvm.Cond.fieldLink "SumHouse" (351 : Nat) "SumHouse" "shifted" "LSumHouse$Duo;") ∈ lw_all := lw_g (lw_at lw_m2 164 rfl) rfl
theorem q591 : (Jvm.Cond.fieldLink "SumHouse" (354 : Nat) "SumHouse" "shared" "LSumHouse$Duo;") ∈ lw_all := lw_g (lw_at lw_m2 165 rfl) rfl
theorem q593 : (Jvm.Cond.fieldLink "SumHouse" (361 : Nat) "SumHouse" "rowOne" "LSumHouse$Poly;") ∈ lw_all := lw_g (lw_at lw_m2 167 rfl) rfl
theorem q594 : (Jvm.Cond.fieldLink "SumHouse" (365 : Nat) "SumHouse" "rowTwo" "LSumHouse$Poly;") ∈ lw_all := lw_g (lw_at lw_m2 168 rfl) rfl
theorem q595 : (Jvm.Cond.fieldLink "SumHouse" (368 : Nat) "SumHouse" "headB" "LSumHouse$Poly;") ∈ lw_all := lw_g (lw_at lw_m2 169 rfl) rfl
theorem q596 : (Jvm.Cond.fieldLink "SumHouse" (371 : Nat) "SumHouse" "headC" "LSumHouse$Poly;") ∈ lw_all := lw_g (lw_at lw_m2 170 rfl) rfl
theorem q597 : (Jvm.Cond.fieldLink "SumHouse" (374 : Nat) "SumHouse" "headQ" "LSumHouse$Poly;") ∈ lw_all := lw_g (lw_at lw_m2 171 rfl) rfl
theorem q598 : (Jvm.Cond.fieldLink "SumHouse" (382 : Nat) "SumHouse" "board" "LSumHouse$Board;") ∈ lw_all := lw_g (lw_at lw_m2 172 rfl) rfl
theorem q599 : (Jvm.Cond.fieldLink "SumHouse" (386 : Nat) "SumHouse" "asked" "[LSumHouse$Duo;") ∈ lw_all := lw_g (lw_at lw_m2 173 rfl) rfl
theorem q600 : (Jvm.Cond.fieldLink "SumHouse" (390 : Nat) "SumHouse" "moved" "LSumHouse$Duo;") ∈ lw_all := lw_g (lw_at lw_m2 174 rfl) rfl
theorem q601 : (Jvm.Cond.fieldLink "SumHouse" (393 : Nat) "SumHouse" "column" "LSumHouse$Duo;") ∈ lw_all := lw_g (lw_at lw_m2 175 rfl) rfl
theorem q602 : (Jvm.Cond.fieldLink "SumHouse" (396 : Nat) "SumHouse" "solution" "LSumHouse$Duo;") ∈ lw_all := lw_g (lw_at lw_m2 176 rfl) rfl
theorem q603 : (Jvm.Cond.fieldLink "SumHouse" (399 : Nat) "SumHouse" "long1" "LSumHouse$Duo;") ∈ lw_all := lw_g (lw_at lw_m2 177 rfl) rfl
theorem q604 : (Jvm.Cond.fieldLink "SumHouse" (402 : Nat) "SumHouse" "found" "[LSumHouse$Poly;") ∈ lw_all := lw_g (lw_at lw_m2 178 rfl) rfl
theorem q605 : (Jvm.Cond.fieldLink "SumHouse" (406 : Nat) "SumHouse" "common" "LSumHouse$Poly;") ∈ lw_all := lw_g (lw_at lw_m2 179 rfl) rfl
theorem q606 : (Jvm.Cond.fieldLink "SumHouse" (408 : Nat) "SumHouse" "under1" "LSumHouse$Poly;") ∈ lw_all := lw_g (lw_at lw_m2 180 rfl) rfl
theorem q607 : (Jvm.Cond.fieldLink "SumHouse" (411 : Nat) "SumHouse" "numberOf" "LSumHouse$Poly;") ∈ lw_all := lw_g (lw_at lw_m2 181 rfl) rfl
theorem q608 : (Jvm.Cond.fieldLink "SumHouse" (706 : Nat) "SumHouse" "foundOrder" "I") ∈ lw_all := lw_g (lw_at lw_m2 182 rfl) rfl
theorem q609 : (Jvm.Cond.fieldLink "SumHouse" (414 : Nat) "SumHouse" "noPoly" "LSumHouse$Poly;") ∈ lw_all := lw_g (lw_at lw_m2 183 rfl) rfl
theorem q610 : (Jvm.Cond.fieldLink "SumHouse" (417 : Nat) "SumHouse" "noDuo" "LSumHouse$Duo;") ∈ lw_all := lw_g (lw_at lw_m2 184 rfl) rfl
theorem q611 : (Jvm.Cond.fieldLink "SumHouse" (420 : Nat) "SumHouse" "steps" "[LSumHouse$Ratio;") ∈ lw_all := lw_g (lw_at lw_m2 185 rfl) rfl
theorem q612 : (Jvm.Cond.fieldLink "SumHouse" (425 : Nat) "SumHouse" "alongK" "LSumHouse$Ratio;") ∈ lw_all := lw_g (lw_at lw_m2 186 rfl) rfl
theorem q613 : (Jvm.Cond.fieldLink "SumHouse" (428 : Nat) "SumHouse" "lcm" "LSumHouse$Duo;") ∈ lw_all := lw_g (lw_at lw_m2 187 rfl) rfl
theorem q614 : (Jvm.Cond.fieldLink "SumHouse" (431 : Nat) "SumHouse" "unders" "[LSumHouse$Poly;") ∈ lw_all := lw_g (lw_at lw_m2 188 rfl) rfl
theorem q615 : (Jvm.Cond.fieldLink "SumHouse" (434 : Nat) "SumHouse" "delta" "LSumHouse$Poly;") ∈ lw_all := lw_g (lw_at lw_m2 189 rfl) rfl
theorem q616 : (Jvm.Cond.fieldLink "SumHouse" (437 : Nat) "SumHouse" "tops" "[LSumHouse$Duo;") ∈ lw_all := lw_g (lw_at lw_m2 190 rfl) rfl
theorem q617 : (Jvm.Cond.fieldLink "SumHouse" (440 : Nat) "SumHouse" "bottoms" "[LSumHouse$Duo;") ∈ lw_all := lw_g (lw_at lw_m2 191 rfl) rfl
theorem q618 : (Jvm.Cond.fieldLink "SumHouse" (443 : Nat) "SumHouse" "topRows" "[LSumHouse$Poly;") ∈ lw_all := lw_g (lw_at lw_m2 192 rfl) rfl
theorem q619 : (Jvm.Cond.fieldLink "SumHouse" (446 : Nat) "SumHouse" "bottomRows" "[LSumHouse$Poly;") ∈ lw_all := lw_g (lw_at lw_m2 193 rfl) rfl
theorem q620 : (Jvm.Cond.fieldLink "SumHouse" (449 : Nat) "SumHouse" "topValues" "[I") ∈ lw_all := lw_g (lw_at lw_m2 194 rfl) rfl
theorem q621 : (Jvm.Cond.fieldLink "SumHouse" (452 : Nat) "SumHouse" "bottomValues" "[I") ∈ lw_all := lw_g (lw_at lw_m2 195 rfl) rfl
theorem q622 : (Jvm.Cond.fieldLink "SumHouse" (455 : Nat) "SumHouse" "fresh" "[LSumHouse$Poly;") ∈ lw_all := lw_g (lw_at lw_m2 196 rfl) rfl
theorem q623 : (Jvm.Cond.fieldLink "SumHouse" (787 : Nat) "SumHouse" "freshOrder" "I") ∈ lw_all := lw_g (lw_at lw_m2 197 rfl) rfl
theorem q624 : (Jvm.Cond.fieldLink "SumHouse" (463 : Nat) "SumHouse" "one" "LSumHouse$Shifts;") ∈ lw_all := lw_g (lw_at lw_m2 198 rfl) rfl
theorem q625 : (Jvm.Cond.fieldLink "SumHouse" (467 : Nat) "SumHouse" "two" "LSumHouse$Shifts;") ∈ lw_all := lw_g (lw_at lw_m2 199 rfl) rfl
theorem q626 : (Jvm.Cond.fieldLink "SumHouse" (470 : Nat) "SumHouse" "columnUnders" "[LSumHouse$Poly;") ∈ lw_all := lw_g (lw_at lw_m2 200 rfl) rfl
theorem q627 : (Jvm.Cond.fieldLink "SumHouse" (473 : Nat) "SumHouse" "laid" "[I") ∈ lw_all := lw_g (lw_at lw_m2 201 rfl) rfl
theorem q628 : (Jvm.Cond.fieldLink "SumHouse" (476 : Nat) "SumHouse" "scaling" "LSumHouse$Poly;") ∈ lw_all := lw_g (lw_at lw_m2 202 rfl) rfl
theorem q629 : (Jvm.Cond.fieldLink "SumHouse" (479 : Nat) "SumHouse" "fed" "[I") ∈ lw_all := lw_g (lw_at lw_m2 203 rfl) rfl
theorem q630 : (Jvm.Cond.fieldLink "SumHouse" (854 : Nat) "SumHouse" "fedCount" "I") ∈ lw_all := lw_g (lw_at lw_m2 204 rfl) rfl
theorem q631 : (Jvm.Cond.fieldLink "SumHouse" (484 : Nat) "SumHouse" "lines" "[[I") ∈ lw_all := lw_g (lw_at lw_m2 205 rfl) rfl
theorem q632 : (Jvm.Cond.fieldLink "SumHouse" (487 : Nat) "SumHouse" "pivots" "[I") ∈ lw_all := lw_g (lw_at lw_m2 206 rfl) rfl
theorem q633 : (Jvm.Cond.fieldLink "SumHouse" (490 : Nat) "SumHouse" "roots" "[I") ∈ lw_all := lw_g (lw_at lw_m2 207 rfl) rfl
theorem q634 : (Jvm.Cond.fieldLink "SumHouse" (873 : Nat) "SumHouse" "rootCount" "I") ∈ lw_all := lw_g (lw_at lw_m2 208 rfl) rfl
theorem q635 : (Jvm.Cond.fieldLink "SumHouse" (493 : Nat) "SumHouse" "whole" "LSumHouse$Poly;") ∈ lw_all := lw_g (lw_at lw_m2 209 rfl) rfl
theorem q636 : (Jvm.Cond.fieldLink "SumHouse" (496 : Nat) "SumHouse" "square" "LSumHouse$Poly;") ∈ lw_all := lw_g (lw_at lw_m2 210 rfl) rfl
theorem q637 : (Jvm.Cond.fieldLink "SumHouse" (499 : Nat) "SumHouse" "pieces" "[LSumHouse$Poly;") ∈ lw_all := lw_g (lw_at lw_m2 211 rfl) rfl
theorem q638 : (Jvm.Cond.fieldLink "SumHouse" (876 : Nat) "SumHouse" "pieceCount" "I") ∈ lw_all := lw_g (lw_at lw_m2 212 rfl) rfl
theorem q639 : (Jvm.Cond.fieldLink "SumHouse" (502 : Nat) "SumHouse" "xs" "[I") ∈ lw_all := lw_g (lw_at lw_m2 213 rfl) rfl
theorem q640 : (Jvm.Cond.fieldLink "SumHouse" (505 : Nat) "SumHouse" "ys" "[I") ∈ lw_all := lw_g (lw_at lw_m2 214 rfl) rfl
theorem q641 : (Jvm.Cond.laysFinal "SumHouse" "SumHouse" "parts" "LSumHouse$Parts;") ∈ lw_all := lw_g (lw_at lw_m2 215 rfl) rfl
theorem q642 : (Jvm.Cond.soleField "SumHouse" "parts") ∈ lw_all := lw_g (lw_at lw_m2 216 rfl) rfl
theorem q643 : (Jvm.Cond.laysFinal "SumHouse" "SumHouse" "over" "LSumHouse$Duo;") ∈ lw_all := lw_g (lw_at lw_m2 217 rfl) rfl
theorem q644 : (Jvm.Cond.soleField "SumHouse" "over") ∈ lw_all := lw_g (lw_at lw_m2 218 rfl) rfl
theorem q645 : (Jvm.Cond.laysFinal "SumHouse" "SumHouse" "under" "LSumHouse$Duo;") ∈ lw_all := lw_g (lw_at lw_m2 219 rfl) rfl
theorem q646 : (Jvm.Cond.soleField "SumHouse" "under") ∈ lw_all := lw_g (lw_at lw_m2 220 rfl) rfl
theorem q647 : (Jvm.Cond.laysFinal "SumHouse" "SumHouse" "both" "LSumHouse$Duo;") ∈ lw_all := lw_g (lw_at lw_m2 221 rfl) rfl
theorem q648 : (Jvm.Cond.soleField "SumHouse" "both") ∈ lw_all := lw_g (lw_at lw_m2 222 rfl) rfl
theorem q649 : (Jvm.Cond.laysFinal "SumHouse" "SumHouse" "aside" "LSumHouse$Duo;") ∈ lw_all := lw_g (lw_at lw_m2 223 rfl) rfl
theorem q650 : (Jvm.Cond.soleField "SumHouse" "aside") ∈ lw_all := lw_g (lw_at lw_m2 224 rfl) rfl
theorem q651 : (Jvm.Cond.laysFinal "SumHouse" "SumHouse" "work" "LSumHouse$Item;") ∈ lw_all := lw_g (lw_at lw_m2 225 rfl) rfl
theorem q652 : (Jvm.Cond.soleField "SumHouse" "work") ∈ lw_all := lw_g (lw_at lw_m2 226 rfl) rfl
theorem q653 : (Jvm.Cond.laysFinal "SumHouse" "SumHouse" "base" "LSumHouse$Item;") ∈ lw_all := lw_g (lw_at lw_m2 227 rfl) rfl
theorem q654 : (Jvm.Cond.soleField "SumHouse" "base") ∈ lw_all := lw_g (lw_at lw_m2 228 rfl) rfl
theorem q655 : (Jvm.Cond.laysFinal "SumHouse" "SumHouse" "raised" "LSumHouse$Item;") ∈ lw_all := lw_g (lw_at lw_m2 229 rfl) rfl
theorem q656 : (Jvm.Cond.soleField "SumHouse" "raised") ∈ lw_all := lw_g (lw_at lw_m2 230 rfl) rfl
theorem q657 : (Jvm.Cond.lays "SumHouse" "SumHouse" "lineA" "I") ∈ lw_all := lw_g (lw_at lw_m2 231 rfl) rfl
theorem q658 : (Jvm.Cond.soleField "SumHouse" "lineA") ∈ lw_all := lw_g (lw_at lw_m2 232 rfl) rfl
theorem q659 : (Jvm.Cond.lays "SumHouse" "SumHouse" "lineB" "I") ∈ lw_all := lw_g (lw_at lw_m2 233 rfl) rfl
theorem q660 : (Jvm.Cond.soleField "SumHouse" "lineB") ∈ lw_all := lw_g (lw_at lw_m2 234 rfl) rfl
theorem q661 : (Jvm.Cond.lays "SumHouse" "SumHouse" "lineC" "I") ∈ lw_all := lw_g (lw_at lw_m2 235 rfl) rfl
theorem q662 : (Jvm.Cond.soleField "SumHouse" "lineC") ∈ lw_all := lw_g (lw_at lw_m2 236 rfl) rfl
theorem q663 : (Jvm.Cond.laysFinal "SumHouse" "SumHouse" "tape" "[B") ∈ lw_all := lw_g (lw_at lw_m2 237 rfl) rfl
theorem q664 : (Jvm.Cond.soleField "SumHouse" "tape") ∈ lw_all := lw_g (lw_at lw_m2 238 rfl) rfl
theorem q665 : (Jvm.Cond.lays "SumHouse" "SumHouse" "tapeSize" "I") ∈ lw_all := lw_g (lw_at lw_m2 239 rfl) rfl
theorem q666 : (Jvm.Cond.soleField "SumHouse" "tapeSize") ∈ lw_all := lw_g (lw_at lw_m3 0 rfl) rfl
theorem q667 : (Jvm.Cond.lays "SumHouse" "SumHouse" "at" "I") ∈ lw_all := lw_g (lw_at lw_m3 1 rfl) rfl
theorem q668 : (Jvm.Cond.soleField "SumHouse" "at") ∈ lw_all := lw_g (lw_at lw_m3 2 rfl) rfl
theorem q669 : (Jvm.Cond.lays "SumHouse" "SumHouse" "opened" "I") ∈ lw_all := lw_g (lw_at lw_m3 3 rfl) rfl
theorem q670 : (Jvm.Cond.soleField "SumHouse" "opened") ∈ lw_all := lw_g (lw_at lw_m3 4 rfl) rfl
theorem q671 : (Jvm.Cond.lays "SumHouse" "SumHouse" "fault" "I") ∈ lw_all := lw_g (lw_at lw_m3 5 rfl) rfl
theorem q672 : (Jvm.Cond.soleField "SumHouse" "fault") ∈ lw_all := lw_g (lw_at lw_m3 6 rfl) rfl
theorem q673 : (Jvm.Cond.lays "SumHouse" "SumHouse" "faultAt" "I") ∈ lw_all := lw_g (lw_at lw_m3 7 rfl) rfl
theorem q674 : (Jvm.Cond.soleField "SumHouse" "faultAt") ∈ lw_all := lw_g (lw_at lw_m3 8 rfl) rfl
theorem q675 : (Jvm.Cond.lays "SumHouse" "SumHouse" "told" "I") ∈ lw_all := lw_g (lw_at lw_m3 9 rfl) rfl
theorem q676 : (Jvm.Cond.soleField "SumHouse" "told") ∈ lw_all := lw_g (lw_at lw_m3 10 rfl) rfl
theorem q677 : (Jvm.Cond.laysFinal "SumHouse" "SumHouse" "pile" "[LSumHouse$Item;") ∈ lw_all := lw_g (lw_at lw_m3 11 rfl) rfl
theorem q678 : (Jvm.Cond.soleField "SumHouse" "pile") ∈ lw_all := lw_g (lw_at lw_m3 12 rfl) rfl
theorem q679 : (Jvm.Cond.lays "SumHouse" "SumHouse" "piled" "I") ∈ lw_all := lw_g (lw_at lw_m3 13 rfl) rfl
theorem q680 : (Jvm.Cond.soleField "SumHouse" "piled") ∈ lw_all := lw_g (lw_at lw_m3 14 rfl) rfl
theorem q681 : (Jvm.Cond.laysFinal "SumHouse" "SumHouse" "slots" "[LSumHouse$Slot;") ∈ lw_all := lw_g (lw_at lw_m3 15 rfl) rfl
theorem q682 : (Jvm.Cond.soleField "SumHouse" "slots") ∈ lw_all := lw_g (lw_at lw_m3 16 rfl) rfl
theorem q683 : (Jvm.Cond.laysFinal "SumHouse" "SumHouse" "result" "LSumHouse$Item;") ∈ lw_all := lw_g (lw_at lw_m3 17 rfl) rfl
theorem q684 : (Jvm.Cond.soleField "SumHouse" "result") ∈ lw_all := lw_g (lw_at lw_m3 18 rfl) rfl
theorem q685 : (Jvm.Cond.laysFinal "SumHouse" "SumHouse" "draft" "[B") ∈ lw_all := lw_g (lw_at lw_m3 19 rfl) rfl
theorem q686 : (Jvm.Cond.soleField "SumHouse" "draft") ∈ lw_all := lw_g (lw_at lw_m3 20 rfl) rfl
theorem q687 : (Jvm.Cond.lays "SumHouse" "SumHouse" "drafted" "I") ∈ lw_all := lw_g (lw_at lw_m3 21 rfl) rfl
theorem q688 : (Jvm.Cond.soleField "SumHouse" "drafted") ∈ lw_all := lw_g (lw_at lw_m3 22 rfl) rfl
theorem q689 : (Jvm.Cond.laysFinal "SumHouse" "SumHouse" "text" "[B") ∈ lw_all := lw_g (lw_at lw_m3 23 rfl) rfl
theorem q690 : (Jvm.Cond.soleField "SumHouse" "text") ∈ lw_all := lw_g (lw_at lw_m3 24 rfl) rfl
theorem q691 : (Jvm.Cond.lays "SumHouse" "SumHouse" "textSize" "I") ∈ lw_all := lw_g (lw_at lw_m3 25 rfl) rfl
theorem q692 : (Jvm.Cond.soleField "SumHouse" "textSize") ∈ lw_all := lw_g (lw_at lw_m3 26 rfl) rfl
theorem q693 : (Jvm.Cond.laysFinal "SumHouse" "SumHouse" "factorials" "[I") ∈ lw_all := lw_g (lw_at lw_m3 27 rfl) rfl
theorem q694 : (Jvm.Cond.soleField "SumHouse" "factorials") ∈ lw_all := lw_g (lw_at lw_m3 28 rfl) rfl
theorem q695 : (Jvm.Cond.laysFinal "SumHouse" "SumHouse" "formA" "LSumHouse$Duo;") ∈ lw_all := lw_g (lw_at lw_m3 29 rfl) rfl
theorem q696 : (Jvm.Cond.soleField "SumHouse" "formA") ∈ lw_all := lw_g (lw_at lw_m3 30 rfl) rfl
theorem q697 : (Jvm.Cond.laysFinal "SumHouse" "SumHouse" "formB" "LSumHouse$Duo;") ∈ lw_all := lw_g (lw_at lw_m3 31 rfl) rfl
theorem q698 : (Jvm.Cond.soleField "SumHouse" "formB") ∈ lw_all := lw_g (lw_at lw_m3 32 rfl) rfl
theorem q699 : (Jvm.Cond.laysFinal "SumHouse" "SumHouse" "formC" "LSumHouse$Duo;") ∈ lw_all := lw_g (lw_at lw_m3 33 rfl) rfl
theorem q700 : (Jvm.Cond.soleField "SumHouse" "formC") ∈ lw_all := lw_g (lw_at lw_m3 34 rfl) rfl
theorem q701 : (Jvm.Cond.laysFinal "SumHouse" "SumHouse" "shifted" "LSumHouse$Duo;") ∈ lw_all := lw_g (lw_at lw_m3 35 rfl) rfl
theorem q702 : (Jvm.Cond.soleField "SumHouse" "shifted") ∈ lw_all := lw_g (lw_at lw_m3 36 rfl) rfl
theorem q703 : (Jvm.Cond.laysFinal "SumHouse" "SumHouse" "shared" "LSumHouse$Duo;") ∈ lw_all := lw_g (lw_at lw_m3 37 rfl) rfl
theorem q704 : (Jvm.Cond.soleField "SumHouse" "shared") ∈ lw_all := lw_g (lw_at lw_m3 38 rfl) rfl
theorem q705 : (Jvm.Cond.laysFinal "SumHouse" "SumHouse" "rowOne" "LSumHouse$Poly;") ∈ lw_all := lw_g (lw_at lw_m3 39 rfl) rfl
theorem q706 : (Jvm.Cond.soleField "SumHouse" "rowOne") ∈ lw_all := lw_g (lw_at lw_m3 40 rfl) rfl
theorem q707 : (Jvm.Cond.laysFinal "SumHouse" "SumHouse" "rowTwo" "LSumHouse$Poly;") ∈ lw_all := lw_g (lw_at lw_m3 41 rfl) rfl
theorem q708 : (Jvm.Cond.soleField "SumHouse" "rowTwo") ∈ lw_all := lw_g (lw_at lw_m3 42 rfl) rfl
theorem q709 : (Jvm.Cond.laysFinal "SumHouse" "SumHouse" "headB" "LSumHouse$Poly;") ∈ lw_all := lw_g (lw_at lw_m3 43 rfl) rfl
theorem q710 : (Jvm.Cond.soleField "SumHouse" "headB") ∈ lw_all := lw_g (lw_at lw_m3 44 rfl) rfl
theorem q711 : (Jvm.Cond.laysFinal "SumHouse" "SumHouse" "headC" "LSumHouse$Poly;") ∈ lw_all := lw_g (lw_at lw_m3 45 rfl) rfl
theorem q712 : (Jvm.Cond.soleField "SumHouse" "headC") ∈ lw_all := lw_g (lw_at lw_m3 46 rfl) rfl
theorem q713 : (Jvm.Cond.laysFinal "SumHouse" "SumHouse" "headQ" "LSumHouse$Poly;") ∈ lw_all := lw_g (lw_at lw_m3 47 rfl) rfl
theorem q714 : (Jvm.Cond.soleField "SumHouse" "headQ") ∈ lw_all := lw_g (lw_at lw_m3 48 rfl) rfl
theorem q715 : (Jvm.Cond.laysFinal "SumHouse" "SumHouse" "board" "LSumHouse$Board;") ∈ lw_all := lw_g (lw_at lw_m3 49 rfl) rfl
theorem q716 : (Jvm.Cond.soleField "SumHouse" "board") ∈ lw_all := lw_g (lw_at lw_m3 50 rfl) rfl
theorem q717 : (Jvm.Cond.laysFinal "SumHouse" "SumHouse" "asked" "[LSumHouse$Duo;") ∈ lw_all := lw_g (lw_at lw_m3 51 rfl) rfl
theorem q718 : (Jvm.Cond.soleField "SumHouse" "asked") ∈ lw_all := lw_g (lw_at lw_m3 52 rfl) rfl
theorem q719 : (Jvm.Cond.laysFinal "SumHouse" "SumHouse" "moved" "LSumHouse$Duo;") ∈ lw_all := lw_g (lw_at lw_m3 53 rfl) rfl
theorem q720 : (Jvm.Cond.soleField "SumHouse" "moved") ∈ lw_all := lw_g (lw_at lw_m3 54 rfl) rfl
theorem q721 : (Jvm.Cond.laysFinal "SumHouse" "SumHouse" "column" "LSumHouse$Duo;") ∈ lw_all := lw_g (lw_at lw_m3 55 rfl) rfl
theorem q722 : (Jvm.Cond.soleField "SumHouse" "column") ∈ lw_all := lw_g (lw_at lw_m3 56 rfl) rfl
theorem q723 : (Jvm.Cond.laysFinal "SumHouse" "SumHouse" "solution" "LSumHouse$Duo;") ∈ lw_all := lw_g (lw_at lw_m3 57 rfl) rfl
theorem q724 : (Jvm.Cond.soleField "SumHouse" "solution") ∈ lw_all := lw_g (lw_at lw_m3 58 rfl) rfl
theorem q725 : (Jvm.Cond.laysFinal "SumHouse" "SumHouse" "long1" "LSumHouse$Duo;") ∈ lw_all := lw_g (lw_at lw_m3 59 rfl) rfl
theorem q726 : (Jvm.Cond.soleField "SumHouse" "long1") ∈ lw_all := lw_g (lw_at lw_m3 60 rfl) rfl
theorem q727 : (Jvm.Cond.laysFinal "SumHouse" "SumHouse" "found" "[LSumHouse$Poly;") ∈ lw_all := lw_g (lw_at lw_m3 61 rfl) rfl
theorem q728 : (Jvm.Cond.soleField "SumHouse" "found") ∈ lw_all := lw_g (lw_at lw_m3 62 rfl) rfl
theorem q729 : (Jvm.Cond.laysFinal "SumHouse" "SumHouse" "common" "LSumHouse$Poly;") ∈ lw_all := lw_g (lw_at lw_m3 63 rfl) rfl
theorem q730 : (Jvm.Cond.soleField "SumHouse" "common") ∈ lw_all := lw_g (lw_at lw_m3 64 rfl) rfl
theorem q731 : (Jvm.Cond.laysFinal "SumHouse" "SumHouse" "under1" "LSumHouse$Poly;") ∈ lw_all := lw_g (lw_at lw_m3 65 rfl) rfl
theorem q732 : (Jvm.Cond.soleField "SumHouse" "under1") ∈ lw_all := lw_g (lw_at lw_m3 66 rfl) rfl
theorem q733 : (Jvm.Cond.laysFinal "SumHouse" "SumHouse" "numberOf" "LSumHouse$Poly;") ∈ lw_all := lw_g (lw_at lw_m3 67 rfl) rfl
theorem q734 : (Jvm.Cond.soleField "SumHouse" "numberOf") ∈ lw_all := lw_g (lw_at lw_m3 68 rfl) rfl
theorem q735 : (Jvm.Cond.lays "SumHouse" "SumHouse" "foundOrder" "I") ∈ lw_all := lw_g (lw_at lw_m3 69 rfl) rfl
theorem q736 : (Jvm.Cond.soleField "SumHouse" "foundOrder") ∈ lw_all := lw_g (lw_at lw_m3 70 rfl) rfl
theorem q737 : (Jvm.Cond.laysFinal "SumHouse" "SumHouse" "noPoly" "LSumHouse$Poly;") ∈ lw_all := lw_g (lw_at lw_m3 71 rfl) rfl
theorem q738 : (Jvm.Cond.soleField "SumHouse" "noPoly") ∈ lw_all := lw_g (lw_at lw_m3 72 rfl) rfl
theorem q739 : (Jvm.Cond.laysFinal "SumHouse" "SumHouse" "noDuo" "LSumHouse$Duo;") ∈ lw_all := lw_g (lw_at lw_m3 73 rfl) rfl
theorem q740 : (Jvm.Cond.soleField "SumHouse" "noDuo") ∈ lw_all := lw_g (lw_at lw_m3 74 rfl) rfl
theorem q741 : (Jvm.Cond.laysFinal "SumHouse" "SumHouse" "steps" "[LSumHouse$Ratio;") ∈ lw_all := lw_g (lw_at lw_m3 75 rfl) rfl
theorem q742 : (Jvm.Cond.soleField "SumHouse" "steps") ∈ lw_all := lw_g (lw_at lw_m3 76 rfl) rfl
theorem q743 : (Jvm.Cond.laysFinal "SumHouse" "SumHouse" "alongK" "LSumHouse$Ratio;") ∈ lw_all := lw_g (lw_at lw_m3 77 rfl) rfl
theorem q744 : (Jvm.Cond.soleField "SumHouse" "alongK") ∈ lw_all := lw_g (lw_at lw_m3 78 rfl) rfl
theorem q745 : (Jvm.Cond.laysFinal "SumHouse" "SumHouse" "lcm" "LSumHouse$Duo;") ∈ lw_all := lw_g (lw_at lw_m3 79 rfl) rfl
theorem q746 : (Jvm.Cond.soleField "SumHouse" "lcm") ∈ lw_all := lw_g (lw_at lw_m3 80 rfl) rfl
theorem q747 : (Jvm.Cond.laysFinal "SumHouse" "SumHouse" "unders" "[LSumHouse$Poly;") ∈ lw_all := lw_g (lw_at lw_m3 81 rfl) rfl
theorem q748 : (Jvm.Cond.soleField "SumHouse" "unders") ∈ lw_all := lw_g (lw_at lw_m3 82 rfl) rfl
theorem q749 : (Jvm.Cond.laysFinal "SumHouse" "SumHouse" "delta" "LSumHouse$Poly;") ∈ lw_all := lw_g (lw_at lw_m3 83 rfl) rfl
theorem q750 : (Jvm.Cond.soleField "SumHouse" "delta") ∈ lw_all := lw_g (lw_at lw_m3 84 rfl) rfl
theorem q751 : (Jvm.Cond.laysFinal "SumHouse" "SumHouse" "tops" "[LSumHouse$Duo;") ∈ lw_all := lw_g (lw_at lw_m3 85 rfl) rfl
theorem q752 : (Jvm.Cond.soleField "SumHouse" "tops") ∈ lw_all := lw_g (lw_at lw_m3 86 rfl) rfl
theorem q753 : (Jvm.Cond.laysFinal "SumHouse" "SumHouse" "bottoms" "[LSumHouse$Duo;") ∈ lw_all := lw_g (lw_at lw_m3 87 rfl) rfl
theorem q754 : (Jvm.Cond.soleField "SumHouse" "bottoms") ∈ lw_all := lw_g (lw_at lw_m3 88 rfl) rfl
theorem q755 : (Jvm.Cond.laysFinal "SumHouse" "SumHouse" "topRows" "[LSumHouse$Poly;") ∈ lw_all := lw_g (lw_at lw_m3 89 rfl) rfl
theorem q756 : (Jvm.Cond.soleField "SumHouse" "topRows") ∈ lw_all := lw_g (lw_at lw_m3 90 rfl) rfl
theorem q757 : (Jvm.Cond.laysFinal "SumHouse" "SumHouse" "bottomRows" "[LSumHouse$Poly;") ∈ lw_all := lw_g (lw_at lw_m3 91 rfl) rfl
theorem q758 : (Jvm.Cond.soleField "SumHouse" "bottomRows") ∈ lw_all := lw_g (lw_at lw_m3 92 rfl) rfl
theorem q759 : (Jvm.Cond.laysFinal "SumHouse" "SumHouse" "topValues" "[I") ∈ lw_all := lw_g (lw_at lw_m3 93 rfl) rfl
theorem q760 : (Jvm.Cond.soleField "SumHouse" "topValues") ∈ lw_all := lw_g (lw_at lw_m3 94 rfl) rfl
theorem q761 : (Jvm.Cond.laysFinal "SumHouse" "SumHouse" "bottomValues" "[I") ∈ lw_all := lw_g (lw_at lw_m3 95 rfl) rfl
theorem q762 : (Jvm.Cond.soleField "SumHouse" "bottomValues") ∈ lw_all := lw_g (lw_at lw_m3 96 rfl) rfl
theorem q763 : (Jvm.Cond.laysFinal "SumHouse" "SumHouse" "fresh" "[LSumHouse$Poly;") ∈ lw_all := lw_g (lw_at lw_m3 97 rfl) rfl
theorem q764 : (Jvm.Cond.soleField "SumHouse" "fresh") ∈ lw_all := lw_g (lw_at lw_m3 98 rfl) rfl
theorem q765 : (Jvm.Cond.lays "SumHouse" "SumHouse" "freshOrder" "I") ∈ lw_all := lw_g (lw_at lw_m3 99 rfl) rfl
theorem q766 : (Jvm.Cond.soleField "SumHouse" "freshOrder") ∈ lw_all := lw_g (lw_at lw_m3 100 rfl) rfl
theorem q767 : (Jvm.Cond.laysFinal "SumHouse" "SumHouse" "one" "LSumHouse$Shifts;") ∈ lw_all := lw_g (lw_at lw_m3 101 rfl) rfl
theorem q768 : (Jvm.Cond.soleField "SumHouse" "one") ∈ lw_all := lw_g (lw_at lw_m3 102 rfl) rfl
theorem q769 : (Jvm.Cond.laysFinal "SumHouse" "SumHouse" "two" "LSumHouse$Shifts;") ∈ lw_all := lw_g (lw_at lw_m3 103 rfl) rfl
theorem q770 : (Jvm.Cond.soleField "SumHouse" "two") ∈ lw_all := lw_g (lw_at lw_m3 104 rfl) rfl
theorem q771 : (Jvm.Cond.laysFinal "SumHouse" "SumHouse" "columnUnders" "[LSumHouse$Poly;") ∈ lw_all := lw_g (lw_at lw_m3 105 rfl) rfl
theorem q772 : (Jvm.Cond.soleField "SumHouse" "columnUnders") ∈ lw_all := lw_g (lw_at lw_m3 106 rfl) rfl
theorem q773 : (Jvm.Cond.laysFinal "SumHouse" "SumHouse" "laid" "[I") ∈ lw_all := lw_g (lw_at lw_m3 107 rfl) rfl
theorem q774 : (Jvm.Cond.soleField "SumHouse" "laid") ∈ lw_all := lw_g (lw_at lw_m3 108 rfl) rfl
theorem q775 : (Jvm.Cond.laysFinal "SumHouse" "SumHouse" "scaling" "LSumHouse$Poly;") ∈ lw_all := lw_g (lw_at lw_m3 109 rfl) rfl
theorem q776 : (Jvm.Cond.soleField "SumHouse" "scaling") ∈ lw_all := lw_g (lw_at lw_m3 110 rfl) rfl
theorem q777 : (Jvm.Cond.laysFinal "SumHouse" "SumHouse" "fed" "[I") ∈ lw_all := lw_g (lw_at lw_m3 111 rfl) rfl
theorem q778 : (Jvm.Cond.soleField "SumHouse" "fed") ∈ lw_all := lw_g (lw_at lw_m3 112 rfl) rfl
theorem q779 : (Jvm.Cond.lays "SumHouse" "SumHouse" "fedCount" "I") ∈ lw_all := lw_g (lw_at lw_m3 113 rfl) rfl
theorem q780 : (Jvm.Cond.soleField "SumHouse" "fedCount") ∈ lw_all := lw_g (lw_at lw_m3 114 rfl) rfl
theorem q781 : (Jvm.Cond.laysFinal "SumHouse" "SumHouse" "lines" "[[I") ∈ lw_all := lw_g (lw_at lw_m3 115 rfl) rfl
theorem q782 : (Jvm.Cond.soleField "SumHouse" "lines") ∈ lw_all := lw_g (lw_at lw_m3 116 rfl) rfl
theorem q783 : (Jvm.Cond.laysFinal "SumHouse" "SumHouse" "pivots" "[I") ∈ lw_all := lw_g (lw_at lw_m3 117 rfl) rfl
theorem q784 : (Jvm.Cond.soleField "SumHouse" "pivots") ∈ lw_all := lw_g (lw_at lw_m3 118 rfl) rfl
theorem q785 : (Jvm.Cond.laysFinal "SumHouse" "SumHouse" "roots" "[I") ∈ lw_all := lw_g (lw_at lw_m3 119 rfl) rfl
theorem q786 : (Jvm.Cond.soleField "SumHouse" "roots") ∈ lw_all := lw_g (lw_at lw_m3 120 rfl) rfl
theorem q787 : (Jvm.Cond.lays "SumHouse" "SumHouse" "rootCount" "I") ∈ lw_all := lw_g (lw_at lw_m3 121 rfl) rfl
theorem q788 : (Jvm.Cond.soleField "SumHouse" "rootCount") ∈ lw_all := lw_g (lw_at lw_m3 122 rfl) rfl
theorem q789 : (Jvm.Cond.laysFinal "SumHouse" "SumHouse" "whole" "LSumHouse$Poly;") ∈ lw_all := lw_g (lw_at lw_m3 123 rfl) rfl
theorem q790 : (Jvm.Cond.soleField "SumHouse" "whole") ∈ lw_all := lw_g (lw_at lw_m3 124 rfl) rfl
theorem q791 : (Jvm.Cond.laysFinal "SumHouse" "SumHouse" "square" "LSumHouse$Poly;") ∈ lw_all := lw_g (lw_at lw_m3 125 rfl) rfl
theorem q792 : (Jvm.Cond.soleField "SumHouse" "square") ∈ lw_all := lw_g (lw_at lw_m3 126 rfl) rfl
theorem q793 : (Jvm.Cond.laysFinal "SumHouse" "SumHouse" "pieces" "[LSumHouse$Poly;") ∈ lw_all := lw_g (lw_at lw_m3 127 rfl) rfl
theorem q794 : (Jvm.Cond.soleField "SumHouse" "pieces") ∈ lw_all := lw_g (lw_at lw_m3 128 rfl) rfl
theorem q795 : (Jvm.Cond.lays "SumHouse" "SumHouse" "pieceCount" "I") ∈ lw_all := lw_g (lw_at lw_m3 129 rfl) rfl
theorem q796 : (Jvm.Cond.soleField "SumHouse" "pieceCount") ∈ lw_all := lw_g (lw_at lw_m3 130 rfl) rfl
theorem q797 : (Jvm.Cond.laysFinal "SumHouse" "SumHouse" "xs" "[I") ∈ lw_all := lw_g (lw_at lw_m3 131 rfl) rfl
theorem q798 : (Jvm.Cond.soleField "SumHouse" "xs") ∈ lw_all := lw_g (lw_at lw_m3 132 rfl) rfl
theorem q799 : (Jvm.Cond.laysFinal "SumHouse" "SumHouse" "ys" "[I") ∈ lw_all := lw_g (lw_at lw_m3 133 rfl) rfl
theorem q800 : (Jvm.Cond.soleField "SumHouse" "ys") ∈ lw_all := lw_g (lw_at lw_m3 134 rfl) rfl
theorem q801 : (Jvm.Cond.superclass "SumHouse" "java/lang/Object") ∈ lw_all := lw_g (lw_at lw_m3 135 rfl) rfl
theorem q803 : (Jvm.Cond.instanceMethod ({ cls := "SumHouse", name := "read", desc := "(I)I" } : Jvm.MethodName)) ∈ lw_all := lw_g (lw_at lw_m3 137 rfl) rfl
theorem q804 : (Jvm.Cond.selects "SumHouse" ({ cls := "SumHouse", name := "read", desc := "(I)I" } : Jvm.MethodName) ({ cls := "SumHouse", name := "read", desc := "(I)I" } : Jvm.MethodName)) ∈ lw_all := lw_g (lw_at lw_m3 138 rfl) rfl
theorem q805 : (Jvm.Cond.code ({ cls := "SumHouse", name := "read", desc := "(I)I" } : Jvm.MethodName) prog_1_method_43_code (2 : Nat) (Option.some Jvm.ClassFile.FieldType.int)) ∈ lw_all := lw_g (lw_at lw_m3 139 rfl) rfl
theorem q806 : (Jvm.Cond.methodLink "SumHouse" (519 : Nat) ({ cls := "SumHouse", name := "isSlot", desc := "(I)Z" } : Jvm.MethodName)) ∈ lw_all := lw_g (lw_at lw_m3 140 rfl) rfl
theorem q807 : (Jvm.Cond.static ({ cls := "SumHouse", name := "isSlot", desc := "(I)Z" } : Jvm.MethodName)) ∈ lw_all := lw_g (lw_at lw_m3 141 rfl) rfl
theorem q808 : (Jvm.Cond.code ({ cls := "SumHouse", name := "isSlot", desc := "(I)Z" } : Jvm.MethodName) prog_1_method_39_code (1 : Nat) (Option.some Jvm.ClassFile.FieldType.boolean)) ∈ lw_all := lw_g (lw_at lw_m3 142 rfl) rfl
theorem q809 : (Jvm.Cond.methodLink "SumHouse" (257 : Nat) ({ cls := "SumHouse", name := "lookE", desc := "()V" } : Jvm.MethodName)) ∈ lw_all := lw_g (lw_at lw_m3 143 rfl) rfl
theorem q810 : (Jvm.Cond.privateMethod ({ cls := "SumHouse", name := "lookE", desc := "()V" } : Jvm.MethodName)) ∈ lw_tbl := lw_at lw_m3 144 rfl
theorem q811 : (Jvm.Cond.instanceMethod ({ cls := "SumHouse", name := "lookE", desc := "()V" } : Jvm.MethodName)) ∈ lw_all := lw_g (lw_at lw_m3 145 rfl) rfl
theorem q812 : (Jvm.Cond.code ({ cls := "SumHouse", name := "lookE", desc := "()V" } : Jvm.MethodName) prog_1_method_25_code (1 : Nat) (Option.none : Option Jvm.ClassFile.FieldType)) ∈ lw_all := lw_g (lw_at lw_m3 146 rfl) rfl
theorem q813 : (Jvm.Cond.methodLink "SumHouse" (223 : Nat) ({ cls := "SumHouse", name := "isNext", desc := "(C)Z" } : Jvm.MethodName)) ∈ lw_all := lw_g (lw_at lw_m3 147 rfl) rfl
theorem q814 : (Jvm.Cond.privateMethod ({ cls := "SumHouse", name := "isNext", desc := "(C)Z" } : Jvm.MethodName)) ∈ lw_tbl := lw_at lw_m3 148 rfl
theorem q815 : (Jvm.Cond.instanceMethod ({ cls := "SumHouse", name := "isNext", desc := "(C)Z" } : Jvm.MethodName)) ∈ lw_all := lw_g (lw_at lw_m3 149 rfl) rfl
theorem q816 : (Jvm.Cond.code ({ cls := "SumHouse", name := "isNext", desc := "(C)Z" } : Jvm.MethodName) prog_1_method_22_code (2 : Nat) (Option.some Jvm.ClassFile.FieldType.boolean)) ∈ lw_all := lw_g (lw_at lw_m3 150 rfl) rfl
theorem q817 : (Jvm.Cond.methodLink "SumHouse" (220 : Nat) ({ cls := "SumHouse", name := "next", desc := "()I" } : Jvm.MethodName)) ∈ lw_all := lw_g (lw_at lw_m3 151 rfl) rfl
theorem q818 : (Jvm.Cond.privateMethod ({ cls := "SumHouse", name := "next", desc := "()I" } : Jvm.MethodName)) ∈ lw_tbl := lw_at lw_m3 152 rfl
theorem q819 : (Jvm.Cond.instanceMethod ({ cls := "SumHouse", name := "next", desc := "()I" } : Jvm.MethodName)) ∈ lw_all := lw_g (lw_at lw_m3 153 rfl) rfl
theorem q820 : (Jvm.Cond.code ({ cls := "SumHouse", name := "next", desc := "()I" } : Jvm.MethodName) prog_1_method_20_code (1 : Nat) (Option.some Jvm.ClassFile.FieldType.int)) ∈ lw_all := lw_g (lw_at lw_m3 154 rfl) rfl
theorem q821 : (Jvm.Cond.methodLink "SumHouse" (238 : Nat) ({ cls := "SumHouse", name := "lookU", desc := "()V" } : Jvm.MethodName)) ∈ lw_all := lw_g (lw_at lw_m3 155 rfl) rfl
theorem q822 : (Jvm.Cond.privateMethod ({ cls := "SumHouse", name := "lookU", desc := "()V" } : Jvm.MethodName)) ∈ lw_tbl := lw_at lw_m3 156 rfl
theorem q823 : (Jvm.Cond.instanceMethod ({ cls := "SumHouse", name := "lookU", desc := "()V" } : Jvm.MethodName)) ∈ lw_all := lw_g (lw_at lw_m3 157 rfl) rfl
theorem q824 : (Jvm.Cond.code ({ cls := "SumHouse", name := "lookU", desc := "()V" } : Jvm.MethodName) prog_1_method_26_code (1 : Nat) (Option.none : Option Jvm.ClassFile.FieldType)) ∈ lw_all := lw_g (lw_at lw_m3 158 rfl) rfl
theorem q825 : (Jvm.Cond.methodLink "SumHouse" (241 : Nat) ({ cls := "SumHouse", name := "lookW", desc := "()V" } : Jvm.MethodName)) ∈ lw_all := lw_g (lw_at lw_m3 159 rfl) rfl
theorem q826 : (Jvm.Cond.privateMethod ({ cls := "SumHouse", name := "lookW", desc := "()V" } : Jvm.MethodName)) ∈ lw_tbl := lw_at lw_m3 160 rfl
theorem q827 : (Jvm.Cond.instanceMethod ({ cls := "SumHouse", name := "lookW", desc := "()V" } : Jvm.MethodName)) ∈ lw_all := lw_g (lw_at lw_m3 161 rfl) rfl
theorem q828 : (Jvm.Cond.code ({ cls := "SumHouse", name := "lookW", desc := "()V" } : Jvm.MethodName) prog_1_method_27_code (1 : Nat) (Option.none : Option Jvm.ClassFile.FieldType)) ∈ lw_all := lw_g (lw_at lw_m3 162 rfl) rfl
theorem q829 : (Jvm.Cond.methodLink "SumHouse" (244 : Nat) ({ cls := "SumHouse", name := "lookB", desc := "()V" } : Jvm.MethodName)) ∈ lw_all := lw_g (lw_at lw_m3 163 rfl) rfl
theorem q830 : (Jvm.Cond.privateMethod ({ cls := "SumHouse", name := "lookB", desc := "()V" } : Jvm.MethodName)) ∈ lw_tbl := lw_at lw_m3 164 rfl
theorem q831 : (Jvm.Cond.instanceMethod ({ cls := "SumHouse", name := "lookB", desc := "()V" } : Jvm.MethodName)) ∈ lw_all := lw_g (lw_at lw_m3 165 rfl) rfl
theorem q832 : (Jvm.Cond.code ({ cls := "SumHouse", name := "lookB", desc := "()V" } : Jvm.MethodName) prog_1_method_29_code (3 : Nat) (Option.none : Option Jvm.ClassFile.FieldType)) ∈ lw_all := lw_g (lw_at lw_m3 166 rfl) rfl
theorem q833 : (Jvm.Cond.methodLink "SumHouse" (227 : Nat) ({ cls := "SumHouse", name := "flaw", desc := "(II)V" } : Jvm.MethodName)) ∈ lw_all := lw_g (lw_at lw_m3 167 rfl) rfl
theorem q834 : (Jvm.Cond.privateMethod ({ cls := "SumHouse", name := "flaw", desc := "(II)V" } : Jvm.MethodName)) ∈ lw_tbl := lw_at lw_m3 168 rfl
theorem q835 : (Jvm.Cond.instanceMethod ({ cls := "SumHouse", name := "flaw", desc := "(II)V" } : Jvm.MethodName)) ∈ lw_all := lw_g (lw_at lw_m3 169 rfl) rfl
theorem q836 : (Jvm.Cond.code ({ cls := "SumHouse", name := "flaw", desc := "(II)V" } : Jvm.MethodName) prog_1_method_21_code (3 : Nat) (Option.none : Option Jvm.ClassFile.FieldType)) ∈ lw_all := lw_g (lw_at lw_m3 170 rfl) rfl
theorem q837 : (Jvm.Cond.methodLink "SumHouse" (254 : Nat) ({ cls := "SumHouse", name := "open", desc := "()V" } : Jvm.MethodName)) ∈ lw_all := lw_g (lw_at lw_m3 171 rfl) rfl
theorem q838 : (Jvm.Cond.privateMethod ({ cls := "SumHouse", name := "open", desc := "()V" } : Jvm.MethodName)) ∈ lw_tbl := lw_at lw_m3 172 rfl
theorem q839 : (Jvm.Cond.instanceMethod ({ cls := "SumHouse", name := "open", desc := "()V" } : Jvm.MethodName)) ∈ lw_all := lw_g (lw_at lw_m3 173 rfl) rfl
theorem q840 : (Jvm.Cond.code ({ cls := "SumHouse", name := "open", desc := "()V" } : Jvm.MethodName) prog_1_method_28_code (1 : Nat) (Option.none : Option Jvm.ClassFile.FieldType)) ∈ lw_all := lw_g (lw_at lw_m3 174 rfl) rfl
theorem q841 : (Jvm.Cond.methodLink "SumHouse" (250 : Nat) ({ cls := "SumHouse", name := "want", desc := "(C)V" } : Jvm.MethodName)) ∈ lw_all := lw_g (lw_at lw_m3 175 rfl) rfl
theorem q842 : (Jvm.Cond.privateMethod ({ cls := "SumHouse", name := "want", desc := "(C)V" } : Jvm.MethodName)) ∈ lw_tbl := lw_at lw_m3 176 rfl
theorem q843 : (Jvm.Cond.instanceMethod ({ cls := "SumHouse", name := "want", desc := "(C)V" } : Jvm.MethodName)) ∈ lw_all := lw_g (lw_at lw_m3 177 rfl) rfl
theorem q844 : (Jvm.Cond.code ({ cls := "SumHouse", name := "want", desc := "(C)V" } : Jvm.MethodName) prog_1_method_23_code (2 : Nat) (Option.none : Option Jvm.ClassFile.FieldType)) ∈ lw_all := lw_g (lw_at lw_m3 178 rfl) rfl
theorem q845 : (Jvm.Cond.methodLink "SumHouse" (309 : Nat) ({ cls := "SumHouse", name := "readE", desc := "()V" } : Jvm.MethodName)) ∈ lw_all := lw_g (lw_at lw_m3 179 rfl) rfl
theorem q846 : (Jvm.Cond.privateMethod ({ cls := "SumHouse", name := "readE", desc := "()V" } : Jvm.MethodName)) ∈ lw_tbl := lw_at lw_m3 180 rfl
theorem q847 : (Jvm.Cond.instanceMethod ({ cls := "SumHouse", name := "readE", desc := "()V" } : Jvm.MethodName)) ∈ lw_all := lw_g (lw_at lw_m3 181 rfl) rfl
theorem q848 : (Jvm.Cond.code ({ cls := "SumHouse", name := "readE", desc := "()V" } : Jvm.MethodName) prog_1_method_30_code (6 : Nat) (Option.none : Option Jvm.ClassFile.FieldType)) ∈ lw_all := lw_g (lw_at lw_m3 182 rfl) rfl
theorem q849 : (Jvm.Cond.methodLink "SumHouse" (260 : Nat) ({ cls := "SumHouse", name := "readU", desc := "()V" } : Jvm.MethodName)) ∈ lw_all := lw_g (lw_at lw_m3 183 rfl) rfl
theorem q850 : (Jvm.Cond.privateMethod ({ cls := "SumHouse", name := "readU", desc := "()V" } : Jvm.MethodName)) ∈ lw_tbl := lw_at lw_m3 184 rfl
theorem q851 : (Jvm.Cond.instanceMethod ({ cls := "SumHouse", name := "readU", desc := "()V" } : Jvm.MethodName)) ∈ lw_all := lw_g (lw_at lw_m3 185 rfl) rfl
theorem q852 : (Jvm.Cond.code ({ cls := "SumHouse", name := "readU", desc := "()V" } : Jvm.MethodName) prog_1_method_31_code (5 : Nat) (Option.none : Option Jvm.ClassFile.FieldType)) ∈ lw_all := lw_g (lw_at lw_m3 186 rfl) rfl
theorem q853 : (Jvm.Cond.methodLink "SumHouse" (263 : Nat) ({ cls := "SumHouse", name := "readW", desc := "()V" } : Jvm.MethodName)) ∈ lw_all := lw_g (lw_at lw_m3 187 rfl) rfl
theorem q854 : (Jvm.Cond.privateMethod ({ cls := "SumHouse", name := "readW", desc := "()V" } : Jvm.MethodName)) ∈ lw_tbl := lw_at lw_m3 188 rfl
theorem q855 : (Jvm.Cond.instanceMethod ({ cls := "SumHouse", name := "readW", desc := "()V" } : Jvm.MethodName)) ∈ lw_all := lw_g (lw_at lw_m3 189 rfl) rfl
theorem q856 : (Jvm.Cond.code ({ cls := "SumHouse", name := "readW", desc := "()V" } : Jvm.MethodName) prog_1_method_32_code (2 : Nat) (Option.none : Option Jvm.ClassFile.FieldType)) ∈ lw_all := lw_g (lw_at lw_m3 190 rfl) rfl
theorem q857 : (Jvm.Cond.methodLink "SumHouse" (266 : Nat) ({ cls := "SumHouse", name := "readB", desc := "()V" } : Jvm.MethodName)) ∈ lw_all := lw_g (lw_at lw_m3 191 rfl) rfl
theorem q858 : (Jvm.Cond.privateMethod ({ cls := "SumHouse", name := "readB", desc := "()V" } : Jvm.MethodName)) ∈ lw_tbl := lw_at lw_m3 192 rfl
theorem q859 : (Jvm.Cond.instanceMethod ({ cls := "SumHouse", name := "readB", desc := "()V" } : Jvm.MethodName)) ∈ lw_all := lw_g (lw_at lw_m3 193 rfl) rfl
theorem q860 : (Jvm.Cond.code ({ cls := "SumHouse", name := "readB", desc := "()V" } : Jvm.MethodName) prog_1_method_36_code (4 : Nat) (Option.none : Option Jvm.ClassFile.FieldType)) ∈ lw_all := lw_g (lw_at lw_m3 194 rfl) rfl
theorem q861 : (Jvm.Cond.constantLong "SumHouse" (293 : Nat) (10 : Int64)) ∈ lw_all := lw_g (lw_at lw_m3 195 rfl) rfl
theorem q862 : (Jvm.Cond.constantLong "SumHouse" (295 : Nat) (48 : Int64)) ∈ lw_all := lw_g (lw_at lw_m3 196 rfl) rfl
theorem q863 : (Jvm.Cond.methodLink "SumHouse" (297 : Nat) ({ cls := "SumHouse", name := "push", desc := "()LSumHouse$Item;" } : Jvm.MethodName)) ∈ lw_all := lw_g (lw_at lw_m3 197 rfl) rfl
theorem q864 : (Jvm.Cond.privateMethod ({ cls := "SumHouse", name := "push", desc := "()LSumHouse$Item;" } : Jvm.MethodName)) ∈ lw_tbl := lw_at lw_m3 198 rfl
theorem q865 : (Jvm.Cond.instanceMethod ({ cls := "SumHouse", name := "push", desc := "()LSumHouse$Item;" } : Jvm.MethodName)) ∈ lw_all := lw_g (lw_at lw_m3 199 rfl) rfl
theorem q866 : (Jvm.Cond.code ({ cls := "SumHouse", name := "push", desc := "()LSumHouse$Item;" } : Jvm.MethodName) prog_1_method_24_code (1 : Nat) (Option.some (Jvm.ClassFile.FieldType.object "SumHouse$Item"))) ∈ lw_all := lw_g (lw_at lw_m3 200 rfl) rfl
theorem q867 : (Jvm.Cond.constantLong "SumHouse" (3 : Nat) (2147483647 : Int64)) ∈ lw_all := lw_g (lw_at lw_m3 201 rfl) rfl
theorem q868 : (Jvm.Cond.methodLink "SumHouse" (129 : Nat) ({ cls := "SumHouse$Item", name := "set", desc := "(I)V" } : Jvm.MethodName)) ∈ lw_all := lw_g (lw_at lw_m3 202 rfl) rfl
theorem q880 : (Jvm.Cond.methodLink "SumHouse" (301 : Nat) ({ cls := "SumHouse$Item", name := "plain", desc := "()V" } : Jvm.MethodName)) ∈ lw_all := lw_g (lw_at lw_m3 214 rfl) rfl
theorem q881 : (Jvm.Cond.methodLink "SumHouse" (42 : Nat) ({ cls := "SumHouse$Duo", name := "set", desc := "(I)V" } : Jvm.MethodName)) ∈ lw_all := lw_g (lw_at lw_m3 215 rfl) rfl
theorem q882 : (Jvm.Cond.methodLink "SumHouse" (304 : Nat) ({ cls := "SumHouse$Duo", name := "open", desc := "(II)V" } : Jvm.MethodName)) ∈ lw_all := lw_g (lw_at lw_m3 216 rfl) rfl
theorem q883 : (Jvm.Cond.methodLink "SumHouse" (306 : Nat) ({ cls := "SumHouse", name := "readChoice", desc := "()V" } : Jvm.MethodName)) ∈ lw_all := lw_g (lw_at lw_m3 217 rfl) rfl
theorem q884 : (Jvm.Cond.privateMethod ({ cls := "SumHouse", name := "readChoice", desc := "()V" } : Jvm.MethodName)) ∈ lw_tbl := lw_at lw_m3 218 rfl
theorem q885 : (Jvm.Cond.instanceMethod ({ cls := "SumHouse", name := "readChoice", desc := "()V" } : Jvm.MethodName)) ∈ lw_all := lw_g (lw_at lw_m3 219 rfl) rfl
theorem q886 : (Jvm.Cond.code ({ cls := "SumHouse", name := "readChoice", desc := "()V" } : Jvm.MethodName) prog_1_method_37_code (10 : Nat) (Option.none : Option Jvm.ClassFile.FieldType)) ∈ lw_all := lw_g (lw_at lw_m3 220 rfl) rfl
theorem q887 : (Jvm.Cond.methodLink "SumHouse" (277 : Nat) ({ cls := "SumHouse", name := "isLine", desc := "(LSumHouse$Item;)Z" } : Jvm.MethodName)) ∈ lw_all := lw_g (lw_at lw_m3 221 rfl) rfl
theorem q888 : (Jvm.Cond.privateMethod ({ cls := "SumHouse", name := "isLine", desc := "(LSumHouse$Item;)Z" } : Jvm.MethodName)) ∈ lw_tbl := lw_at lw_m3 222 rfl
theorem q889 : (Jvm.Cond.instanceMethod ({ cls := "SumHouse", name := "isLine", desc := "(LSumHouse$Item;)Z" } : Jvm.MethodName)) ∈ lw_all := lw_g (lw_at lw_m3 223 rfl) rfl
theorem q890 : (Jvm.Cond.code ({ cls := "SumHouse", name := "isLine", desc := "(LSumHouse$Item;)Z" } : Jvm.MethodName) prog_1_method_16_code (3 : Nat) (Option.some Jvm.ClassFile.FieldType.boolean)) ∈ lw_all := lw_g (lw_at lw_m3 224 rfl) rfl
theorem q891 : (Jvm.Cond.methodLink "SumHouse" (177 : Nat) ({ cls := "SumHouse$Item", name := "isTerm", desc := "()Z" } : Jvm.MethodName)) ∈ lw_all := lw_g (lw_at lw_m3 225 rfl) rfl
theorem q895 : (Jvm.Cond.methodLink "SumHouse" (180 : Nat) ({ cls := "SumHouse$Ratio", name := "isPolynomial", desc := "()Z" } : Jvm.MethodName)) ∈ lw_all := lw_g (lw_at lw_m3 229 rfl) rfl
theorem q899 : (Jvm.Cond.methodLink "SumHouse" (183 : Nat) ({ cls := "SumHouse$Duo", name := "get", desc := "(II)I" } : Jvm.MethodName)) ∈ lw_all := lw_g (lw_at lw_m3 233 rfl) rfl
theorem q903 : (Jvm.Cond.methodLink "SumHouse" (186 : Nat) ({ cls := "SumHouse", name := "small", desc := "(I)I" } : Jvm.MethodName)) ∈ lw_all := lw_g (lw_at lw_m3 237 rfl) rfl
theorem q904 : (Jvm.Cond.static ({ cls := "SumHouse", name := "small", desc := "(I)I" } : Jvm.MethodName)) ∈ lw_all := lw_g (lw_at lw_m3 238 rfl) rfl
theorem q905 : (Jvm.Cond.code ({ cls := "SumHouse", name := "small", desc := "(I)I" } : Jvm.MethodName) prog_1_method_7_code (1 : Nat) (Option.some Jvm.ClassFile.FieldType.int)) ∈ lw_all := lw_g (lw_at lw_m3 239 rfl) rfl
theorem q906 : (Jvm.Cond.constant "SumHouse" (21 : Nat) (1073741823 : Int32)) ∈ lw_all := lw_g (lw_at lw_m4 0 rfl) rfl
theorem q907 : (Jvm.Cond.constant "SumHouse" (5 : Nat) (2147483647 : Int32)) ∈ lw_all := lw_g (lw_at lw_m4 1 rfl) rfl
theorem q908 : (Jvm.Cond.methodLink "SumHouse" (198 : Nat) ({ cls := "SumHouse", name := "isLine", desc := "(III)Z" } : Jvm.MethodName)) ∈ lw_all := lw_g (lw_at lw_m4 2 rfl) rfl
theorem q909 : (Jvm.Cond.static ({ cls := "SumHouse", name := "isLine", desc := "(III)Z" } : Jvm.MethodName)) ∈ lw_all := lw_g (lw_at lw_m4 3 rfl) rfl
theorem q910 : (Jvm.Cond.code ({ cls := "SumHouse", name := "isLine", desc := "(III)Z" } : Jvm.MethodName) prog_1_method_15_code (3 : Nat) (Option.some Jvm.ClassFile.FieldType.boolean)) ∈ lw_all := lw_g (lw_at lw_m4 4 rfl) rfl
theorem q911 : (Jvm.Cond.methodLink "SumHouse" (173 : Nat) ({ cls := "SumHouse", name := "within", desc := "(III)Z" } : Jvm.MethodName)) ∈ lw_all := lw_g (lw_at lw_m4 5 rfl) rfl
theorem q912 : (Jvm.Cond.static ({ cls := "SumHouse", name := "within", desc := "(III)Z" } : Jvm.MethodName)) ∈ lw_all := lw_g (lw_at lw_m4 6 rfl) rfl
theorem q913 : (Jvm.Cond.code ({ cls := "SumHouse", name := "within", desc := "(III)Z" } : Jvm.MethodName) prog_1_method_14_code (3 : Nat) (Option.some Jvm.ClassFile.FieldType.boolean)) ∈ lw_all := lw_g (lw_at lw_m4 7 rfl) rfl
theorem q914 : (Jvm.Cond.methodLink "SumHouse" (280 : Nat) ({ cls := "SumHouse", name := "addFactorial", desc := "(LSumHouse$Item;IIII)Z" } : Jvm.MethodName)) ∈ lw_all := lw_g (lw_at lw_m4 8 rfl) rfl
theorem q915 : (Jvm.Cond.privateMethod ({ cls := "SumHouse", name := "addFactorial", desc := "(LSumHouse$Item;IIII)Z" } : Jvm.MethodName)) ∈ lw_tbl := lw_at lw_m4 9 rfl
theorem q916 : (Jvm.Cond.instanceMethod ({ cls := "SumHouse", name := "addFactorial", desc := "(LSumHouse$Item;IIII)Z" } : Jvm.MethodName)) ∈ lw_all := lw_g (lw_at lw_m4 10 rfl) rfl
theorem q917 : (Jvm.Cond.code ({ cls := "SumHouse", name := "addFactorial", desc := "(LSumHouse$Item;IIII)Z" } : Jvm.MethodName) prog_1_method_18_code (7 : Nat) (Option.some Jvm.ClassFile.FieldType.boolean)) ∈ lw_all := lw_g (lw_at lw_m4 11 rfl) rfl
theorem q918 : (Jvm.Cond.methodLink "SumHouse" (152 : Nat) ({ cls := "SumHouse$Item", name := "add", desc := "(IIII)V" } : Jvm.MethodName)) ∈ lw_all := lw_g (lw_at lw_m4 12 rfl) rfl
theorem q929 : (Jvm.Cond.methodLink "SumHouse" (201 : Nat) ({ cls := "SumHouse", name := "factorial", desc := "(I)I" } : Jvm.MethodName)) ∈ lw_all := lw_g (lw_at lw_m4 23 rfl) rfl
theorem q930 : (Jvm.Cond.static ({ cls := "SumHouse", name := "factorial", desc := "(I)I" } : Jvm.MethodName)) ∈ lw_all := lw_g (lw_at lw_m4 24 rfl) rfl
theorem q931 : (Jvm.Cond.code ({ cls := "SumHouse", name := "factorial", desc := "(I)I" } : Jvm.MethodName) prog_1_method_17_code (3 : Nat) (Option.some Jvm.ClassFile.FieldType.int)) ∈ lw_all := lw_g (lw_at lw_m4 25 rfl) rfl
theorem q932 : (Jvm.Cond.methodLink "SumHouse" (6 : Nat) ({ cls := "SumHouse", name := "times", desc := "(II)I" } : Jvm.MethodName)) ∈ lw_all := lw_g (lw_at lw_m4 26 rfl) rfl
theorem q933 : (Jvm.Cond.static ({ cls := "SumHouse", name := "times", desc := "(II)I" } : Jvm.MethodName)) ∈ lw_all := lw_g (lw_at lw_m4 27 rfl) rfl
theorem q934 : (Jvm.Cond.code ({ cls := "SumHouse", name := "times", desc := "(II)I" } : Jvm.MethodName) prog_1_method_3_code (2 : Nat) (Option.some Jvm.ClassFile.FieldType.int)) ∈ lw_all := lw_g (lw_at lw_m4 28 rfl) rfl
theorem q935 : (Jvm.Cond.methodLink "SumHouse" (74 : Nat) ({ cls := "SumHouse", name := "inverse", desc := "(I)I" } : Jvm.MethodName)) ∈ lw_all := lw_g (lw_at lw_m4 29 rfl) rfl
theorem q936 : (Jvm.Cond.static ({ cls := "SumHouse", name := "inverse", desc := "(I)I" } : Jvm.MethodName)) ∈ lw_all := lw_g (lw_at lw_m4 30 rfl) rfl
theorem q937 : (Jvm.Cond.code ({ cls := "SumHouse", name := "inverse", desc := "(I)I" } : Jvm.MethodName) prog_1_method_5_code (1 : Nat) (Option.some Jvm.ClassFile.FieldType.int)) ∈ lw_all := lw_g (lw_at lw_m4 31 rfl) rfl
theorem q938 : (Jvm.Cond.constantLong "SumHouse" (10 : Nat) (2147483645 : Int64)) ∈ lw_all := lw_g (lw_at lw_m4 32 rfl) rfl
theorem q939 : (Jvm.Cond.methodLink "SumHouse" (12 : Nat) ({ cls := "SumHouse", name := "power", desc := "(IJ)I" } : Jvm.MethodName)) ∈ lw_all := lw_g (lw_at lw_m4 33 rfl) rfl
theorem q940 : (Jvm.Cond.static ({ cls := "SumHouse", name := "power", desc := "(IJ)I" } : Jvm.MethodName)) ∈ lw_all := lw_g (lw_at lw_m4 34 rfl) rfl
theorem q941 : (Jvm.Cond.code ({ cls := "SumHouse", name := "power", desc := "(IJ)I" } : Jvm.MethodName) prog_1_method_4_code (7 : Nat) (Option.some Jvm.ClassFile.FieldType.int)) ∈ lw_all := lw_g (lw_at lw_m4 35 rfl) rfl
theorem q942 : (Jvm.Cond.methodLink "SumHouse" (78 : Nat) ({ cls := "SumHouse$Duo", name := "scale", desc := "(I)V" } : Jvm.MethodName)) ∈ lw_all := lw_g (lw_at lw_m4 36 rfl) rfl
theorem q947 : (Jvm.Cond.methodLink "SumHouse" (269 : Nat) ({ cls := "SumHouse", name := "readFactorial", desc := "(LSumHouse$Item;I)V" } : Jvm.MethodName)) ∈ lw_all := lw_g (lw_at lw_m4 41 rfl) rfl
theorem q948 : (Jvm.Cond.privateMethod ({ cls := "SumHouse", name := "readFactorial", desc := "(LSumHouse$Item;I)V" } : Jvm.MethodName)) ∈ lw_tbl := lw_at lw_m4 42 rfl
theorem q949 : (Jvm.Cond.instanceMethod ({ cls := "SumHouse", name := "readFactorial", desc := "(LSumHouse$Item;I)V" } : Jvm.MethodName)) ∈ lw_all := lw_g (lw_at lw_m4 43 rfl) rfl
theorem q950 : (Jvm.Cond.code ({ cls := "SumHouse", name := "readFactorial", desc := "(LSumHouse$Item;I)V" } : Jvm.MethodName) prog_1_method_33_code (3 : Nat) (Option.none : Option Jvm.ClassFile.FieldType)) ∈ lw_all := lw_g (lw_at lw_m4 44 rfl) rfl
theorem q951 : (Jvm.Cond.methodLink "SumHouse" (273 : Nat) ({ cls := "SumHouse", name := "readPower", desc := "(LSumHouse$Item;LSumHouse$Item;I)V" } : Jvm.MethodName)) ∈ lw_all := lw_g (lw_at lw_m4 45 rfl) rfl
theorem q952 : (Jvm.Cond.privateMethod ({ cls := "SumHouse", name := "readPower", desc := "(LSumHouse$Item;LSumHouse$Item;I)V" } : Jvm.MethodName)) ∈ lw_tbl := lw_at lw_m4 46 rfl
theorem q953 : (Jvm.Cond.instanceMethod ({ cls := "SumHouse", name := "readPower", desc := "(LSumHouse$Item;LSumHouse$Item;I)V" } : Jvm.MethodName)) ∈ lw_all := lw_g (lw_at lw_m4 47 rfl) rfl
theorem q954 : (Jvm.Cond.code ({ cls := "SumHouse", name := "readPower", desc := "(LSumHouse$Item;LSumHouse$Item;I)V" } : Jvm.MethodName) prog_1_method_34_code (10 : Nat) (Option.none : Option Jvm.ClassFile.FieldType)) ∈ lw_all := lw_g (lw_at lw_m4 48 rfl) rfl
theorem q955 : (Jvm.Cond.methodLink "SumHouse" (128 : Nat) ({ cls := "SumHouse$Ratio", name := "isZero", desc := "()Z" } : Jvm.MethodName)) ∈ lw_all := lw_g (lw_at lw_m4 49 rfl) rfl
theorem q963 : (Jvm.Cond.methodLink "SumHouse" (284 : Nat) ({ cls := "SumHouse", name := "raise", desc := "(LSumHouse$Item;ILSumHouse$Item;)Z" } : Jvm.MethodName)) ∈ lw_all := lw_g (lw_at lw_m4 57 rfl) rfl
theorem q964 : (Jvm.Cond.privateMethod ({ cls := "SumHouse", name := "raise", desc := "(LSumHouse$Item;ILSumHouse$Item;)Z" } : Jvm.MethodName)) ∈ lw_tbl := lw_at lw_m4 58 rfl
theorem q965 : (Jvm.Cond.instanceMethod ({ cls := "SumHouse", name := "raise", desc := "(LSumHouse$Item;ILSumHouse$Item;)Z" } : Jvm.MethodName)) ∈ lw_all := lw_g (lw_at lw_m4 59 rfl) rfl
theorem q966 : (Jvm.Cond.code ({ cls := "SumHouse", name := "raise", desc := "(LSumHouse$Item;ILSumHouse$Item;)Z" } : Jvm.MethodName) prog_1_method_13_code (6 : Nat) (Option.some Jvm.ClassFile.FieldType.boolean)) ∈ lw_all := lw_g (lw_at lw_m4 60 rfl) rfl
theorem q967 : (Jvm.Cond.methodLink "SumHouse" (158 : Nat) ({ cls := "SumHouse$Item", name := "copy", desc := "(LSumHouse$Item;)V" } : Jvm.MethodName)) ∈ lw_all := lw_g (lw_at lw_m4 61 rfl) rfl
theorem q984 : (Jvm.Cond.methodLink "SumHouse" (166 : Nat) ({ cls := "java/lang/Math", name := "abs", desc := "(I)I" } : Jvm.MethodName)) ∈ lw_all := lw_g (lw_at lw_m4 78 rfl) rfl
theorem q987 : (Jvm.Cond.methodLink "SumHouse" (169 : Nat) ({ cls := "SumHouse", name := "multiply", desc := "(LSumHouse$Item;LSumHouse$Item;ZLSumHouse$Item;)Z" } : Jvm.MethodName)) ∈ lw_all := lw_g (lw_at lw_m4 81 rfl) rfl
theorem q988 : (Jvm.Cond.privateMethod ({ cls := "SumHouse", name := "multiply", desc := "(LSumHouse$Item;LSumHouse$Item;ZLSumHouse$Item;)Z" } : Jvm.MethodName)) ∈ lw_tbl := lw_at lw_m4 82 rfl
theorem q989 : (Jvm.Cond.instanceMethod ({ cls := "SumHouse", name := "multiply", desc := "(LSumHouse$Item;LSumHouse$Item;ZLSumHouse$Item;)Z" } : Jvm.MethodName)) ∈ lw_all := lw_g (lw_at lw_m4 83 rfl) rfl
theorem q990 : (Jvm.Cond.code ({ cls := "SumHouse", name := "multiply", desc := "(LSumHouse$Item;LSumHouse$Item;ZLSumHouse$Item;)Z" } : Jvm.MethodName) prog_1_method_12_code (6 : Nat) (Option.some Jvm.ClassFile.FieldType.boolean)) ∈ lw_all := lw_g (lw_at lw_m4 84 rfl) rfl
theorem q991 : (Jvm.Cond.methodLink "SumHouse" (120 : Nat) ({ cls := "SumHouse", name := "reckon", desc := "(ILSumHouse$Ratio;LSumHouse$Ratio;LSumHouse$Ratio;)Z" } : Jvm.MethodName)) ∈ lw_all := lw_g (lw_at lw_m4 85 rfl) rfl
theorem q992 : (Jvm.Cond.privateMethod ({ cls := "SumHouse", name := "reckon", desc := "(ILSumHouse$Ratio;LSumHouse$Ratio;LSumHouse$Ratio;)Z" } : Jvm.MethodName)) ∈ lw_tbl := lw_at lw_m4 86 rfl
theorem q993 : (Jvm.Cond.instanceMethod ({ cls := "SumHouse", name := "reckon", desc := "(ILSumHouse$Ratio;LSumHouse$Ratio;LSumHouse$Ratio;)Z" } : Jvm.MethodName)) ∈ lw_all := lw_g (lw_at lw_m4 87 rfl) rfl
theorem q994 : (Jvm.Cond.code ({ cls := "SumHouse", name := "reckon", desc := "(ILSumHouse$Ratio;LSumHouse$Ratio;LSumHouse$Ratio;)Z" } : Jvm.MethodName) prog_1_method_11_code (5 : Nat) (Option.some Jvm.ClassFile.FieldType.boolean)) ∈ lw_all := lw_g (lw_at lw_m4 88 rfl) rfl
theorem q995 : (Jvm.Cond.methodLink "SumHouse" (97 : Nat) ({ cls := "SumHouse$Duo", name := "product", desc := "(LSumHouse$Duo;LSumHouse$Duo;)V" } : Jvm.MethodName)) ∈ lw_all := lw_g (lw_at lw_m4 89 rfl) rfl
theorem q1020 : (Jvm.Cond.static ({ cls := "SumHouse", name := "sum", desc := "(II)I" } : Jvm.MethodName)) ∈ lw_all := lw_g (lw_at lw_m4 114 rfl) rfl
theorem q1021 : (Jvm.Cond.code ({ cls := "SumHouse", name := "sum", desc := "(II)I" } : Jvm.MethodName) prog_1_method_1_code (4 : Nat) (Option.some Jvm.ClassFile.FieldType.int)) ∈ lw_all := lw_g (lw_at lw_m4 115 rfl) rfl
theorem q1022 : (Jvm.Cond.constant "SumHouse" (101 : Nat) (2147483646 : Int32)) ∈ lw_all := lw_g (lw_at lw_m4 116 rfl) rfl
theorem q1023 : (Jvm.Cond.methodLink "SumHouse" (102 : Nat) ({ cls := "SumHouse$Duo", name := "add", desc := "(LSumHouse$Duo;I)V" } : Jvm.MethodName)) ∈ lw_all := lw_g (lw_at lw_m4 117 rfl) rfl
theorem q1027 : (Jvm.Cond.methodLink "SumHouse" (106 : Nat) ({ cls := "SumHouse", name := "give", desc := "(LSumHouse$Ratio;)Z" } : Jvm.MethodName)) ∈ lw_all := lw_g (lw_at lw_m4 121 rfl) rfl
theorem q1028 : (Jvm.Cond.privateMethod ({ cls := "SumHouse", name := "give", desc := "(LSumHouse$Ratio;)Z" } : Jvm.MethodName)) ∈ lw_tbl := lw_at lw_m4 122 rfl
theorem q1029 : (Jvm.Cond.instanceMethod ({ cls := "SumHouse", name := "give", desc := "(LSumHouse$Ratio;)Z" } : Jvm.MethodName)) ∈ lw_all := lw_g (lw_at lw_m4 123 rfl) rfl
theorem q1030 : (Jvm.Cond.code ({ cls := "SumHouse", name := "give", desc := "(LSumHouse$Ratio;)Z" } : Jvm.MethodName) prog_1_method_10_code (2 : Nat) (Option.some Jvm.ClassFile.FieldType.boolean)) ∈ lw_all := lw_g (lw_at lw_m4 124 rfl) rfl
theorem q1031 : (Jvm.Cond.methodLink "SumHouse" (81 : Nat) ({ cls := "SumHouse", name := "reduce", desc := "()V" } : Jvm.MethodName)) ∈ lw_all := lw_g (lw_at lw_m4 125 rfl) rfl
theorem q1032 : (Jvm.Cond.privateMethod ({ cls := "SumHouse", name := "reduce", desc := "()V" } : Jvm.MethodName)) ∈ lw_tbl := lw_at lw_m4 126 rfl
theorem q1033 : (Jvm.Cond.instanceMethod ({ cls := "SumHouse", name := "reduce", desc := "()V" } : Jvm.MethodName)) ∈ lw_all := lw_g (lw_at lw_m4 127 rfl) rfl
theorem q1034 : (Jvm.Cond.code ({ cls := "SumHouse", name := "reduce", desc := "()V" } : Jvm.MethodName) prog_1_method_9_code (3 : Nat) (Option.none : Option Jvm.ClassFile.FieldType)) ∈ lw_all := lw_g (lw_at lw_m4 128 rfl) rfl
theorem q1035 : (Jvm.Cond.methodLink "SumHouse" (35 : Nat) ({ cls := "SumHouse$Duo", name := "isZero", desc := "()Z" } : Jvm.MethodName)) ∈ lw_all := lw_g (lw_at lw_m4 129 rfl) rfl
theorem q1036 : (Jvm.Cond.methodLink "SumHouse" (53 : Nat) ({ cls := "SumHouse$Parts", name := "common", desc := "(LSumHouse$Duo;LSumHouse$Duo;LSumHouse$Duo;)V" } : Jvm.MethodName)) ∈ lw_all := lw_g (lw_at lw_m4 130 rfl) rfl
theorem q1097 : (Jvm.Cond.static ({ cls := "SumHouse", name := "less", desc := "(II)I" } : Jvm.MethodName)) ∈ lw_all := lw_g (lw_at lw_m4 191 rfl) rfl
theorem q1098 : (Jvm.Cond.code ({ cls := "SumHouse", name := "less", desc := "(II)I" } : Jvm.MethodName) prog_1_method_2_code (2 : Nat) (Option.some Jvm.ClassFile.FieldType.int)) ∈ lw_all := lw_g (lw_at lw_m4 192 rfl) rfl
theorem q1199 : (Jvm.Cond.methodLink "SumHouse" (62 : Nat) ({ cls := "SumHouse$Parts", name := "divides", desc := "(LSumHouse$Duo;LSumHouse$Duo;LSumHouse$Duo;)Z" } : Jvm.MethodName)) ∈ lw_all := lw_g (lw_at lw_m5 53 rfl) rfl
theorem q1200 : (Jvm.Cond.methodLink "SumHouse" (66 : Nat) ({ cls := "SumHouse$Duo", name := "copy", desc := "(LSumHouse$Duo;)V" } : Jvm.MethodName)) ∈ lw_all := lw_g (lw_at lw_m5 54 rfl) rfl
theorem q1201 : (Jvm.Cond.methodLink "SumHouse" (70 : Nat) ({ cls := "SumHouse$Duo", name := "head", desc := "()I" } : Jvm.MethodName)) ∈ lw_all := lw_g (lw_at lw_m5 55 rfl) rfl
theorem q1202 : (Jvm.Cond.methodLink "SumHouse" (85 : Nat) ({ cls := "SumHouse", name := "fits", desc := "(LSumHouse$Duo;)Z" } : Jvm.MethodName)) ∈ lw_all := lw_g (lw_at lw_m5 56 rfl) rfl
theorem q1203 : (Jvm.Cond.static ({ cls := "SumHouse", name := "fits", desc := "(LSumHouse$Duo;)Z" } : Jvm.MethodName)) ∈ lw_all := lw_g (lw_at lw_m5 57 rfl) rfl
theorem q1204 : (Jvm.Cond.code ({ cls := "SumHouse", name := "fits", desc := "(LSumHouse$Duo;)Z" } : Jvm.MethodName) prog_1_method_8_code (1 : Nat) (Option.some Jvm.ClassFile.FieldType.boolean)) ∈ lw_all := lw_g (lw_at lw_m5 58 rfl) rfl
theorem q1205 : (Jvm.Cond.methodLink "SumHouse" (124 : Nat) ({ cls := "SumHouse$Item", name := "copyParts", desc := "(LSumHouse$Item;)V" } : Jvm.MethodName)) ∈ lw_all := lw_g (lw_at lw_m5 59 rfl) rfl
theorem q1206 : (Jvm.Cond.methodLink "SumHouse" (155 : Nat) ({ cls := "SumHouse$Item", name := "sizes", desc := "()I" } : Jvm.MethodName)) ∈ lw_all := lw_g (lw_at lw_m5 60 rfl) rfl
theorem q1211 : (Jvm.Cond.methodLink "SumHouse" (290 : Nat) ({ cls := "SumHouse", name := "signedPower", desc := "(II)I" } : Jvm.MethodName)) ∈ lw_all := lw_g (lw_at lw_m5 65 rfl) rfl
theorem q1212 : (Jvm.Cond.static ({ cls := "SumHouse", name := "signedPower", desc := "(II)I" } : Jvm.MethodName)) ∈ lw_all := lw_g (lw_at lw_m5 66 rfl) rfl
theorem q1213 : (Jvm.Cond.code ({ cls := "SumHouse", name := "signedPower", desc := "(II)I" } : Jvm.MethodName) prog_1_method_35_code (2 : Nat) (Option.some Jvm.ClassFile.FieldType.int)) ∈ lw_all := lw_g (lw_at lw_m5 67 rfl) rfl
theorem q1214 : (Jvm.Cond.methodLink "SumHouse" (515 : Nat) ({ cls := "SumHouse", name := "keep", desc := "(LSumHouse$Item;I)I" } : Jvm.MethodName)) ∈ lw_all := lw_g (lw_at lw_m5 68 rfl) rfl
theorem q1215 : (Jvm.Cond.privateMethod ({ cls := "SumHouse", name := "keep", desc := "(LSumHouse$Item;I)I" } : Jvm.MethodName)) ∈ lw_tbl := lw_at lw_m5 69 rfl
theorem q1216 : (Jvm.Cond.instanceMethod ({ cls := "SumHouse", name := "keep", desc := "(LSumHouse$Item;I)I" } : Jvm.MethodName)) ∈ lw_all := lw_g (lw_at lw_m5 70 rfl) rfl
theorem q1217 : (Jvm.Cond.code ({ cls := "SumHouse", name := "keep", desc := "(LSumHouse$Item;I)I" } : Jvm.MethodName) prog_1_method_41_code (3 : Nat) (Option.some Jvm.ClassFile.FieldType.int)) ∈ lw_all := lw_g (lw_at lw_m5 71 rfl) rfl
theorem q1219 : (Jvm.Cond.instanceMethod ({ cls := "SumHouse", name := "place", desc := "()I" } : Jvm.MethodName)) ∈ lw_all := lw_g (lw_at lw_m5 73 rfl) rfl
theorem q1220 : (Jvm.Cond.selects "SumHouse" ({ cls := "SumHouse", name := "place", desc := "()I" } : Jvm.MethodName) ({ cls := "SumHouse", name := "place", desc := "()I" } : Jvm.MethodName)) ∈ lw_all := lw_g (lw_at lw_m5 74 rfl) rfl
theorem q1221 : (Jvm.Cond.code ({ cls := "SumHouse", name := "place", desc := "()I" } : Jvm.MethodName) prog_1_method_44_code (1 : Nat) (Option.some Jvm.ClassFile.FieldType.int)) ∈ lw_all := lw_g (lw_at lw_m5 75 rfl) rfl
theorem q1223 : (Jvm.Cond.instanceMethod ({ cls := "SumHouse", name := "write", desc := "(I)I" } : Jvm.MethodName)) ∈ lw_all := lw_g (lw_at lw_m5 77 rfl) rfl
theorem q1224 : (Jvm.Cond.selects "SumHouse" ({ cls := "SumHouse", name := "write", desc := "(I)I" } : Jvm.MethodName) ({ cls := "SumHouse", name := "write", desc := "(I)I" } : Jvm.MethodName)) ∈ lw_all := lw_g (lw_at lw_m5 78 rfl) rfl
theorem q1225 : (Jvm.Cond.code ({ cls := "SumHouse", name := "write", desc := "(I)I" } : Jvm.MethodName) prog_1_method_53_code (4 : Nat) (Option.some Jvm.ClassFile.FieldType.int)) ∈ lw_all := lw_g (lw_at lw_m5 79 rfl) rfl
theorem q1226 : (Jvm.Cond.methodLink "SumHouse" (546 : Nat) ({ cls := "SumHouse", name := "hasItem", desc := "(I)Z" } : Jvm.MethodName)) ∈ lw_all := lw_g (lw_at lw_m5 80 rfl) rfl
theorem q1227 : (Jvm.Cond.privateMethod ({ cls := "SumHouse", name := "hasItem", desc := "(I)Z" } : Jvm.MethodName)) ∈ lw_tbl := lw_at lw_m5 81 rfl
theorem q1228 : (Jvm.Cond.instanceMethod ({ cls := "SumHouse", name := "hasItem", desc := "(I)Z" } : Jvm.MethodName)) ∈ lw_all := lw_g (lw_at lw_m5 82 rfl) rfl
theorem q1229 : (Jvm.Cond.code ({ cls := "SumHouse", name := "hasItem", desc := "(I)Z" } : Jvm.MethodName) prog_1_method_40_code (2 : Nat) (Option.some Jvm.ClassFile.FieldType.boolean)) ∈ lw_all := lw_g (lw_at lw_m5 83 rfl) rfl
theorem q1230 : (Jvm.Cond.methodLink "SumHouse" (526 : Nat) ({ cls := "SumHouse", name := "say", desc := "(I)V" } : Jvm.MethodName)) ∈ lw_all := lw_g (lw_at lw_m5 84 rfl) rfl
theorem q1231 : (Jvm.Cond.privateMethod ({ cls := "SumHouse", name := "say", desc := "(I)V" } : Jvm.MethodName)) ∈ lw_tbl := lw_at lw_m5 85 rfl
theorem q1232 : (Jvm.Cond.instanceMethod ({ cls := "SumHouse", name := "say", desc := "(I)V" } : Jvm.MethodName)) ∈ lw_all := lw_g (lw_at lw_m5 86 rfl) rfl
theorem q1233 : (Jvm.Cond.code ({ cls := "SumHouse", name := "say", desc := "(I)V" } : Jvm.MethodName) prog_1_method_45_code (2 : Nat) (Option.none : Option Jvm.ClassFile.FieldType)) ∈ lw_all := lw_g (lw_at lw_m5 87 rfl) rfl
theorem q1234 : (Jvm.Cond.methodLink "SumHouse" (549 : Nat) ({ cls := "SumHouse", name := "sayRatio", desc := "(LSumHouse$Ratio;)V" } : Jvm.MethodName)) ∈ lw_all := lw_g (lw_at lw_m5 88 rfl) rfl
theorem q1235 : (Jvm.Cond.privateMethod ({ cls := "SumHouse", name := "sayRatio", desc := "(LSumHouse$Ratio;)V" } : Jvm.MethodName)) ∈ lw_tbl := lw_at lw_m5 89 rfl
theorem q1236 : (Jvm.Cond.instanceMethod ({ cls := "SumHouse", name := "sayRatio", desc := "(LSumHouse$Ratio;)V" } : Jvm.MethodName)) ∈ lw_all := lw_g (lw_at lw_m5 90 rfl) rfl
theorem q1237 : (Jvm.Cond.code ({ cls := "SumHouse", name := "sayRatio", desc := "(LSumHouse$Ratio;)V" } : Jvm.MethodName) prog_1_method_50_code (2 : Nat) (Option.none : Option Jvm.ClassFile.FieldType)) ∈ lw_all := lw_g (lw_at lw_m5 91 rfl) rfl
theorem q1238 : (Jvm.Cond.methodLink "SumHouse" (540 : Nat) ({ cls := "SumHouse", name := "sayDuo", desc := "(LSumHouse$Duo;)V" } : Jvm.MethodName)) ∈ lw_all := lw_g (lw_at lw_m5 92 rfl) rfl
theorem q1239 : (Jvm.Cond.privateMethod ({ cls := "SumHouse", name := "sayDuo", desc := "(LSumHouse$Duo;)V" } : Jvm.MethodName)) ∈ lw_tbl := lw_at lw_m5 93 rfl
theorem q1240 : (Jvm.Cond.instanceMethod ({ cls := "SumHouse", name := "sayDuo", desc := "(LSumHouse$Duo;)V" } : Jvm.MethodName)) ∈ lw_all := lw_g (lw_at lw_m5 94 rfl) rfl
theorem q1241 : (Jvm.Cond.code ({ cls := "SumHouse", name := "sayDuo", desc := "(LSumHouse$Duo;)V" } : Jvm.MethodName) prog_1_method_49_code (5 : Nat) (Option.none : Option Jvm.ClassFile.FieldType)) ∈ lw_all := lw_g (lw_at lw_m5 95 rfl) rfl
theorem q1242 : (Jvm.Cond.methodLink "SumHouse" (536 : Nat) ({ cls := "SumHouse", name := "sayPart", desc := "(IIIZ)V" } : Jvm.MethodName)) ∈ lw_all := lw_g (lw_at lw_m5 96 rfl) rfl
theorem q1243 : (Jvm.Cond.privateMethod ({ cls := "SumHouse", name := "sayPart", desc := "(IIIZ)V" } : Jvm.MethodName)) ∈ lw_tbl := lw_at lw_m5 97 rfl
theorem q1244 : (Jvm.Cond.instanceMethod ({ cls := "SumHouse", name := "sayPart", desc := "(IIIZ)V" } : Jvm.MethodName)) ∈ lw_all := lw_g (lw_at lw_m5 98 rfl) rfl
theorem q1245 : (Jvm.Cond.code ({ cls := "SumHouse", name := "sayPart", desc := "(IIIZ)V" } : Jvm.MethodName) prog_1_method_48_code (7 : Nat) (Option.none : Option Jvm.ClassFile.FieldType)) ∈ lw_all := lw_g (lw_at lw_m5 99 rfl) rfl
theorem q1246 : (Jvm.Cond.methodLink "SumHouse" (529 : Nat) ({ cls := "SumHouse", name := "sayNumber", desc := "(I)V" } : Jvm.MethodName)) ∈ lw_all := lw_g (lw_at lw_m5 100 rfl) rfl
theorem q1247 : (Jvm.Cond.privateMethod ({ cls := "SumHouse", name := "sayNumber", desc := "(I)V" } : Jvm.MethodName)) ∈ lw_tbl := lw_at lw_m5 101 rfl
theorem q1248 : (Jvm.Cond.instanceMethod ({ cls := "SumHouse", name := "sayNumber", desc := "(I)V" } : Jvm.MethodName)) ∈ lw_all := lw_g (lw_at lw_m5 102 rfl) rfl
theorem q1249 : (Jvm.Cond.code ({ cls := "SumHouse", name := "sayNumber", desc := "(I)V" } : Jvm.MethodName) prog_1_method_46_code (3 : Nat) (Option.none : Option Jvm.ClassFile.FieldType)) ∈ lw_all := lw_g (lw_at lw_m5 103 rfl) rfl
theorem q1250 : (Jvm.Cond.methodLink "SumHouse" (532 : Nat) ({ cls := "SumHouse", name := "sayPower", desc := "(CI)V" } : Jvm.MethodName)) ∈ lw_all := lw_g (lw_at lw_m5 104 rfl) rfl
theorem q1251 : (Jvm.Cond.privateMethod ({ cls := "SumHouse", name := "sayPower", desc := "(CI)V" } : Jvm.MethodName)) ∈ lw_tbl := lw_at lw_m5 105 rfl
theorem q1252 : (Jvm.Cond.instanceMethod ({ cls := "SumHouse", name := "sayPower", desc := "(CI)V" } : Jvm.MethodName)) ∈ lw_all := lw_g (lw_at lw_m5 106 rfl) rfl
theorem q1253 : (Jvm.Cond.code ({ cls := "SumHouse", name := "sayPower", desc := "(CI)V" } : Jvm.MethodName) prog_1_method_47_code (3 : Nat) (Option.none : Option Jvm.ClassFile.FieldType)) ∈ lw_all := lw_g (lw_at lw_m5 107 rfl) rfl
theorem q1254 : (Jvm.Cond.methodLink "SumHouse" (553 : Nat) ({ cls := "SumHouse", name := "sayBase", desc := "(IC)V" } : Jvm.MethodName)) ∈ lw_all := lw_g (lw_at lw_m5 108 rfl) rfl
theorem q1255 : (Jvm.Cond.privateMethod ({ cls := "SumHouse", name := "sayBase", desc := "(IC)V" } : Jvm.MethodName)) ∈ lw_tbl := lw_at lw_m5 109 rfl
theorem q1256 : (Jvm.Cond.instanceMethod ({ cls := "SumHouse", name := "sayBase", desc := "(IC)V" } : Jvm.MethodName)) ∈ lw_all := lw_g (lw_at lw_m5 110 rfl) rfl
theorem q1257 : (Jvm.Cond.code ({ cls := "SumHouse", name := "sayBase", desc := "(IC)V" } : Jvm.MethodName) prog_1_method_51_code (3 : Nat) (Option.none : Option Jvm.ClassFile.FieldType)) ∈ lw_all := lw_g (lw_at lw_m5 111 rfl) rfl
theorem q1258 : (Jvm.Cond.methodLink "SumHouse" (557 : Nat) ({ cls := "SumHouse", name := "sayFactorial", desc := "(LSumHouse$Item;I)V" } : Jvm.MethodName)) ∈ lw_all := lw_g (lw_at lw_m5 112 rfl) rfl
theorem q1259 : (Jvm.Cond.privateMethod ({ cls := "SumHouse", name := "sayFactorial", desc := "(LSumHouse$Item;I)V" } : Jvm.MethodName)) ∈ lw_tbl := lw_at lw_m5 113 rfl
theorem q1260 : (Jvm.Cond.instanceMethod ({ cls := "SumHouse", name := "sayFactorial", desc := "(LSumHouse$Item;I)V" } : Jvm.MethodName)) ∈ lw_all := lw_g (lw_at lw_m5 114 rfl) rfl
theorem q1261 : (Jvm.Cond.code ({ cls := "SumHouse", name := "sayFactorial", desc := "(LSumHouse$Item;I)V" } : Jvm.MethodName) prog_1_method_52_code (4 : Nat) (Option.none : Option Jvm.ClassFile.FieldType)) ∈ lw_all := lw_g (lw_at lw_m5 115 rfl) rfl
theorem q1262 : (Jvm.Cond.methodLink "SumHouse" (543 : Nat) ({ cls := "SumHouse", name := "rest", desc := "(I)I" } : Jvm.MethodName)) ∈ lw_all := lw_g (lw_at lw_m5 116 rfl) rfl
theorem q1263 : (Jvm.Cond.static ({ cls := "SumHouse", name := "rest", desc := "(I)I" } : Jvm.MethodName)) ∈ lw_all := lw_g (lw_at lw_m5 117 rfl) rfl
theorem q1264 : (Jvm.Cond.code ({ cls := "SumHouse", name := "rest", desc := "(I)I" } : Jvm.MethodName) prog_1_method_6_code (1 : Nat) (Option.some Jvm.ClassFile.FieldType.int)) ∈ lw_all := lw_g (lw_at lw_m5 118 rfl) rfl
theorem q1265 : (Jvm.Cond.methodLink "SumHouse" (16 : Nat) ({ cls := "java/lang/Math", name := "floorMod", desc := "(II)I" } : Jvm.MethodName)) ∈ lw_all := lw_g (lw_at lw_m5 119 rfl) rfl
theorem q1268 : (Jvm.Cond.methodLink "SumHouse" (560 : Nat) ({ cls := "java/lang/System", name := "arraycopy", desc := "(Ljava/lang/Object;ILjava/lang/Object;II)V" } : Jvm.MethodName)) ∈ lw_all := lw_g (lw_at lw_m5 122 rfl) rfl
theorem q1270 : (Jvm.Cond.instanceMethod ({ cls := "SumHouse", name := "written", desc := "(I)I" } : Jvm.MethodName)) ∈ lw_all := lw_g (lw_at lw_m5 124 rfl) rfl
theorem q1271 : (Jvm.Cond.selects "SumHouse" ({ cls := "SumHouse", name := "written", desc := "(I)I" } : Jvm.MethodName) ({ cls := "SumHouse", name := "written", desc := "(I)I" } : Jvm.MethodName)) ∈ lw_all := lw_g (lw_at lw_m5 125 rfl) rfl
theorem q1272 : (Jvm.Cond.code ({ cls := "SumHouse", name := "written", desc := "(I)I" } : Jvm.MethodName) prog_1_method_54_code (2 : Nat) (Option.some Jvm.ClassFile.FieldType.int)) ∈ lw_all := lw_g (lw_at lw_m5 126 rfl) rfl
theorem q1274 : (Jvm.Cond.instanceMethod ({ cls := "SumHouse", name := "again", desc := "()I" } : Jvm.MethodName)) ∈ lw_all := lw_g (lw_at lw_m5 128 rfl) rfl
theorem q1275 : (Jvm.Cond.selects "SumHouse" ({ cls := "SumHouse", name := "again", desc := "()I" } : Jvm.MethodName) ({ cls := "SumHouse", name := "again", desc := "()I" } : Jvm.MethodName)) ∈ lw_all := lw_g (lw_at lw_m5 129 rfl) rfl
theorem q1276 : (Jvm.Cond.code ({ cls := "SumHouse", name := "again", desc := "()I" } : Jvm.MethodName) prog_1_method_55_code (1 : Nat) (Option.some Jvm.ClassFile.FieldType.int)) ∈ lw_all := lw_g (lw_at lw_m5 130 rfl) rfl
theorem q1278 : (Jvm.Cond.instanceMethod ({ cls := "SumHouse", name := "kind", desc := "(I)I" } : Jvm.MethodName)) ∈ lw_all := lw_g (lw_at lw_m5 132 rfl) rfl
theorem q1279 : (Jvm.Cond.selects "SumHouse" ({ cls := "SumHouse", name := "kind", desc := "(I)I" } : Jvm.MethodName) ({ cls := "SumHouse", name := "kind", desc := "(I)I" } : Jvm.MethodName)) ∈ lw_all := lw_g (lw_at lw_m5 133 rfl) rfl
theorem q1280 : (Jvm.Cond.code ({ cls := "SumHouse", name := "kind", desc := "(I)I" } : Jvm.MethodName) prog_1_method_56_code (2 : Nat) (Option.some Jvm.ClassFile.FieldType.int)) ∈ lw_all := lw_g (lw_at lw_m5 134 rfl) rfl
theorem q1282 : (Jvm.Cond.instanceMethod ({ cls := "SumHouse", name := "drop", desc := "(I)I" } : Jvm.MethodName)) ∈ lw_all := lw_g (lw_at lw_m5 136 rfl) rfl
theorem q1283 : (Jvm.Cond.selects "SumHouse" ({ cls := "SumHouse", name := "drop", desc := "(I)I" } : Jvm.MethodName) ({ cls := "SumHouse", name := "drop", desc := "(I)I" } : Jvm.MethodName)) ∈ lw_all := lw_g (lw_at lw_m5 137 rfl) rfl
theorem q1284 : (Jvm.Cond.code ({ cls := "SumHouse", name := "drop", desc := "(I)I" } : Jvm.MethodName) prog_1_method_57_code (3 : Nat) (Option.some Jvm.ClassFile.FieldType.int)) ∈ lw_all := lw_g (lw_at lw_m5 138 rfl) rfl
theorem q1286 : (Jvm.Cond.instanceMethod ({ cls := "SumHouse", name := "degree", desc := "(III)I" } : Jvm.MethodName)) ∈ lw_all := lw_g (lw_at lw_m5 140 rfl) rfl
theorem q1287 : (Jvm.Cond.selects "SumHouse" ({ cls := "SumHouse", name := "degree", desc := "(III)I" } : Jvm.MethodName) ({ cls := "SumHouse", name := "degree", desc := "(III)I" } : Jvm.MethodName)) ∈ lw_all := lw_g (lw_at lw_m5 141 rfl) rfl
theorem q1288 : (Jvm.Cond.code ({ cls := "SumHouse", name := "degree", desc := "(III)I" } : Jvm.MethodName) prog_1_method_58_code (5 : Nat) (Option.some Jvm.ClassFile.FieldType.int)) ∈ lw_all := lw_g (lw_at lw_m5 142 rfl) rfl
theorem q1289 : (Jvm.Cond.methodLink "SumHouse" (569 : Nat) ({ cls := "SumHouse$Duo", name := "degreeN", desc := "()I" } : Jvm.MethodName)) ∈ lw_all := lw_g (lw_at lw_m5 143 rfl) rfl
theorem q1293 : (Jvm.Cond.methodLink "SumHouse" (572 : Nat) ({ cls := "SumHouse$Duo", name := "degreeK", desc := "()I" } : Jvm.MethodName)) ∈ lw_all := lw_g (lw_at lw_m5 147 rfl) rfl
theorem q1298 : (Jvm.Cond.instanceMethod ({ cls := "SumHouse", name := "number", desc := "(IIII)I" } : Jvm.MethodName)) ∈ lw_all := lw_g (lw_at lw_m5 152 rfl) rfl
theorem q1299 : (Jvm.Cond.selects "SumHouse" ({ cls := "SumHouse", name := "number", desc := "(IIII)I" } : Jvm.MethodName) ({ cls := "SumHouse", name := "number", desc := "(IIII)I" } : Jvm.MethodName)) ∈ lw_all := lw_g (lw_at lw_m5 153 rfl) rfl
theorem q1300 : (Jvm.Cond.code ({ cls := "SumHouse", name := "number", desc := "(IIII)I" } : Jvm.MethodName) prog_1_method_59_code (6 : Nat) (Option.some Jvm.ClassFile.FieldType.int)) ∈ lw_all := lw_g (lw_at lw_m5 154 rfl) rfl
theorem q1301 : (Jvm.Cond.methodLink "SumHouse" (580 : Nat) ({ cls := "SumHouse$Poly", name := "get", desc := "(I)I" } : Jvm.MethodName)) ∈ lw_all := lw_g (lw_at lw_m5 155 rfl) rfl
theorem q1303 : (Jvm.Cond.instanceMethod ({ cls := "SumHouse", name := "told", desc := "(II)I" } : Jvm.MethodName)) ∈ lw_all := lw_g (lw_at lw_m5 157 rfl) rfl
theorem q1304 : (Jvm.Cond.selects "SumHouse" ({ cls := "SumHouse", name := "told", desc := "(II)I" } : Jvm.MethodName) ({ cls := "SumHouse", name := "told", desc := "(II)I" } : Jvm.MethodName)) ∈ lw_all := lw_g (lw_at lw_m5 158 rfl) rfl
theorem q1305 : (Jvm.Cond.code ({ cls := "SumHouse", name := "told", desc := "(II)I" } : Jvm.MethodName) prog_1_method_60_code (4 : Nat) (Option.some Jvm.ClassFile.FieldType.int)) ∈ lw_all := lw_g (lw_at lw_m5 159 rfl) rfl
theorem q1307 : (Jvm.Cond.instanceMethod ({ cls := "SumHouse", name := "factorial", desc := "(III)I" } : Jvm.MethodName)) ∈ lw_all := lw_g (lw_at lw_m5 161 rfl) rfl
theorem q1308 : (Jvm.Cond.selects "SumHouse" ({ cls := "SumHouse", name := "factorial", desc := "(III)I" } : Jvm.MethodName) ({ cls := "SumHouse", name := "factorial", desc := "(III)I" } : Jvm.MethodName)) ∈ lw_all := lw_g (lw_at lw_m5 162 rfl) rfl
theorem q1309 : (Jvm.Cond.code ({ cls := "SumHouse", name := "factorial", desc := "(III)I" } : Jvm.MethodName) prog_1_method_61_code (5 : Nat) (Option.some Jvm.ClassFile.FieldType.int)) ∈ lw_all := lw_g (lw_at lw_m5 163 rfl) rfl
theorem q1311 : (Jvm.Cond.instanceMethod ({ cls := "SumHouse", name := "value", desc := "(III)I" } : Jvm.MethodName)) ∈ lw_all := lw_g (lw_at lw_m5 165 rfl) rfl
theorem q1312 : (Jvm.Cond.selects "SumHouse" ({ cls := "SumHouse", name := "value", desc := "(III)I" } : Jvm.MethodName) ({ cls := "SumHouse", name := "value", desc := "(III)I" } : Jvm.MethodName)) ∈ lw_all := lw_g (lw_at lw_m5 166 rfl) rfl
theorem q1313 : (Jvm.Cond.code ({ cls := "SumHouse", name := "value", desc := "(III)I" } : Jvm.MethodName) prog_1_method_65_code (4 : Nat) (Option.some Jvm.ClassFile.FieldType.int)) ∈ lw_all := lw_g (lw_at lw_m5 167 rfl) rfl
theorem q1314 : (Jvm.Cond.methodLink "SumHouse" (595 : Nat) ({ cls := "SumHouse", name := "valueOf", desc := "(LSumHouse$Item;II)I" } : Jvm.MethodName)) ∈ lw_all := lw_g (lw_at lw_m5 168 rfl) rfl
theorem q1315 : (Jvm.Cond.privateMethod ({ cls := "SumHouse", name := "valueOf", desc := "(LSumHouse$Item;II)I" } : Jvm.MethodName)) ∈ lw_tbl := lw_at lw_m5 169 rfl
theorem q1316 : (Jvm.Cond.instanceMethod ({ cls := "SumHouse", name := "valueOf", desc := "(LSumHouse$Item;II)I" } : Jvm.MethodName)) ∈ lw_all := lw_g (lw_at lw_m5 170 rfl) rfl
theorem q1317 : (Jvm.Cond.code ({ cls := "SumHouse", name := "valueOf", desc := "(LSumHouse$Item;II)I" } : Jvm.MethodName) prog_1_method_64_code (8 : Nat) (Option.some Jvm.ClassFile.FieldType.int)) ∈ lw_all := lw_g (lw_at lw_m5 171 rfl) rfl
theorem q1318 : (Jvm.Cond.methodLink "SumHouse" (588 : Nat) ({ cls := "SumHouse", name := "valueOf", desc := "(LSumHouse$Ratio;II)I" } : Jvm.MethodName)) ∈ lw_all := lw_g (lw_at lw_m5 172 rfl) rfl
theorem q1319 : (Jvm.Cond.static ({ cls := "SumHouse", name := "valueOf", desc := "(LSumHouse$Ratio;II)I" } : Jvm.MethodName)) ∈ lw_all := lw_g (lw_at lw_m5 173 rfl) rfl
theorem q1320 : (Jvm.Cond.code ({ cls := "SumHouse", name := "valueOf", desc := "(LSumHouse$Ratio;II)I" } : Jvm.MethodName) prog_1_method_62_code (4 : Nat) (Option.some Jvm.ClassFile.FieldType.int)) ∈ lw_all := lw_g (lw_at lw_m5 174 rfl) rfl
theorem q1321 : (Jvm.Cond.methodLink "SumHouse" (585 : Nat) ({ cls := "SumHouse$Duo", name := "value", desc := "(II)I" } : Jvm.MethodName)) ∈ lw_all := lw_g (lw_at lw_m5 175 rfl) rfl
theorem q1325 : (Jvm.Cond.methodLink "SumHouse" (592 : Nat) ({ cls := "SumHouse", name := "factorialOf", desc := "(I)I" } : Jvm.MethodName)) ∈ lw_all := lw_g (lw_at lw_m5 179 rfl) rfl
theorem q1326 : (Jvm.Cond.privateMethod ({ cls := "SumHouse", name := "factorialOf", desc := "(I)I" } : Jvm.MethodName)) ∈ lw_tbl := lw_at lw_m5 180 rfl
theorem q1327 : (Jvm.Cond.instanceMethod ({ cls := "SumHouse", name := "factorialOf", desc := "(I)I" } : Jvm.MethodName)) ∈ lw_all := lw_g (lw_at lw_m5 181 rfl) rfl
theorem q1328 : (Jvm.Cond.code ({ cls := "SumHouse", name := "factorialOf", desc := "(I)I" } : Jvm.MethodName) prog_1_method_63_code (3 : Nat) (Option.some Jvm.ClassFile.FieldType.int)) ∈ lw_all := lw_g (lw_at lw_m5 182 rfl) rfl
theorem q1330 : (Jvm.Cond.instanceMethod ({ cls := "SumHouse", name := "sum", desc := "(IIII)I" } : Jvm.MethodName)) ∈ lw_all := lw_g (lw_at lw_m5 184 rfl) rfl
theorem q1331 : (Jvm.Cond.selects "SumHouse" ({ cls := "SumHouse", name := "sum", desc := "(IIII)I" } : Jvm.MethodName) ({ cls := "SumHouse", name := "sum", desc := "(IIII)I" } : Jvm.MethodName)) ∈ lw_all := lw_g (lw_at lw_m5 185 rfl) rfl
theorem q1332 : (Jvm.Cond.code ({ cls := "SumHouse", name := "sum", desc := "(IIII)I" } : Jvm.MethodName) prog_1_method_68_code (5 : Nat) (Option.some Jvm.ClassFile.FieldType.int)) ∈ lw_all := lw_g (lw_at lw_m5 186 rfl) rfl
theorem q1333 : (Jvm.Cond.methodLink "SumHouse" (601 : Nat) ({ cls := "SumHouse", name := "arePlaces", desc := "(III)Z" } : Jvm.MethodName)) ∈ lw_all := lw_g (lw_at lw_m5 187 rfl) rfl
theorem q1334 : (Jvm.Cond.static ({ cls := "SumHouse", name := "arePlaces", desc := "(III)Z" } : Jvm.MethodName)) ∈ lw_all := lw_g (lw_at lw_m5 188 rfl) rfl
theorem q1335 : (Jvm.Cond.code ({ cls := "SumHouse", name := "arePlaces", desc := "(III)Z" } : Jvm.MethodName) prog_1_method_67_code (3 : Nat) (Option.some Jvm.ClassFile.FieldType.boolean)) ∈ lw_all := lw_g (lw_at lw_m5 189 rfl) rfl
theorem q1336 : (Jvm.Cond.methodLink "SumHouse" (604 : Nat) ({ cls := "SumHouse", name := "sumOf", desc := "(LSumHouse$Item;III)I" } : Jvm.MethodName)) ∈ lw_all := lw_g (lw_at lw_m5 190 rfl) rfl
theorem q1337 : (Jvm.Cond.privateMethod ({ cls := "SumHouse", name := "sumOf", desc := "(LSumHouse$Item;III)I" } : Jvm.MethodName)) ∈ lw_tbl := lw_at lw_m5 191 rfl
theorem q1338 : (Jvm.Cond.instanceMethod ({ cls := "SumHouse", name := "sumOf", desc := "(LSumHouse$Item;III)I" } : Jvm.MethodName)) ∈ lw_all := lw_g (lw_at lw_m5 192 rfl) rfl
theorem q1339 : (Jvm.Cond.code ({ cls := "SumHouse", name := "sumOf", desc := "(LSumHouse$Item;III)I" } : Jvm.MethodName) prog_1_method_66_code (8 : Nat) (Option.some Jvm.ClassFile.FieldType.int)) ∈ lw_all := lw_g (lw_at lw_m5 193 rfl) rfl
theorem q1340 : (Jvm.Cond.methodLink "SumHouse" (598 : Nat) ({ cls := "SumHouse", name := "sum", desc := "(II)I" } : Jvm.MethodName)) ∈ lw_all := lw_g (lw_at lw_m5 194 rfl) rfl
theorem q1342 : (Jvm.Cond.instanceMethod ({ cls := "SumHouse", name := "quotient", desc := "(III)I" } : Jvm.MethodName)) ∈ lw_all := lw_g (lw_at lw_m5 196 rfl) rfl
theorem q1343 : (Jvm.Cond.selects "SumHouse" ({ cls := "SumHouse", name := "quotient", desc := "(III)I" } : Jvm.MethodName) ({ cls := "SumHouse", name := "quotient", desc := "(III)I" } : Jvm.MethodName)) ∈ lw_all := lw_g (lw_at lw_m5 197 rfl) rfl
theorem q1344 : (Jvm.Cond.code ({ cls := "SumHouse", name := "quotient", desc := "(III)I" } : Jvm.MethodName) prog_1_method_71_code (4 : Nat) (Option.some Jvm.ClassFile.FieldType.int)) ∈ lw_all := lw_g (lw_at lw_m5 198 rfl) rfl
theorem q1345 : (Jvm.Cond.methodLink "SumHouse" (624 : Nat) ({ cls := "SumHouse", name := "quotientOf", desc := "(LSumHouse$Item;IILSumHouse$Ratio;)Z" } : Jvm.MethodName)) ∈ lw_all := lw_g (lw_at lw_m5 199 rfl) rfl
theorem q1346 : (Jvm.Cond.privateMethod ({ cls := "SumHouse", name := "quotientOf", desc := "(LSumHouse$Item;IILSumHouse$Ratio;)Z" } : Jvm.MethodName)) ∈ lw_tbl := lw_at lw_m5 200 rfl
theorem q1347 : (Jvm.Cond.instanceMethod ({ cls := "SumHouse", name := "quotientOf", desc := "(LSumHouse$Item;IILSumHouse$Ratio;)Z" } : Jvm.MethodName)) ∈ lw_all := lw_g (lw_at lw_m5 201 rfl) rfl
theorem q1348 : (Jvm.Cond.code ({ cls := "SumHouse", name := "quotientOf", desc := "(LSumHouse$Item;IILSumHouse$Ratio;)Z" } : Jvm.MethodName) prog_1_method_70_code (9 : Nat) (Option.some Jvm.ClassFile.FieldType.boolean)) ∈ lw_all := lw_g (lw_at lw_m5 202 rfl) rfl
theorem q1349 : (Jvm.Cond.methodLink "SumHouse" (614 : Nat) ({ cls := "SumHouse$Duo", name := "shiftN", desc := "(I)V" } : Jvm.MethodName)) ∈ lw_all := lw_g (lw_at lw_m5 203 rfl) rfl
theorem q1353 : (Jvm.Cond.methodLink "SumHouse" (617 : Nat) ({ cls := "SumHouse$Duo", name := "shiftK", desc := "(I)V" } : Jvm.MethodName)) ∈ lw_all := lw_g (lw_at lw_m5 207 rfl) rfl
theorem q1357 : (Jvm.Cond.methodLink "SumHouse" (620 : Nat) ({ cls := "SumHouse", name := "timesLines", desc := "(LSumHouse$Duo;IIIII)V" } : Jvm.MethodName)) ∈ lw_all := lw_g (lw_at lw_m5 211 rfl) rfl
theorem q1358 : (Jvm.Cond.privateMethod ({ cls := "SumHouse", name := "timesLines", desc := "(LSumHouse$Duo;IIIII)V" } : Jvm.MethodName)) ∈ lw_tbl := lw_at lw_m5 212 rfl
theorem q1359 : (Jvm.Cond.instanceMethod ({ cls := "SumHouse", name := "timesLines", desc := "(LSumHouse$Duo;IIIII)V" } : Jvm.MethodName)) ∈ lw_all := lw_g (lw_at lw_m5 213 rfl) rfl
theorem q1360 : (Jvm.Cond.code ({ cls := "SumHouse", name := "timesLines", desc := "(LSumHouse$Duo;IIIII)V" } : Jvm.MethodName) prog_1_method_69_code (8 : Nat) (Option.none : Option Jvm.ClassFile.FieldType)) ∈ lw_all := lw_g (lw_at lw_m5 214 rfl) rfl
theorem q1361 : (Jvm.Cond.methodLink "SumHouse" (611 : Nat) ({ cls := "SumHouse$Duo", name := "trim", desc := "()V" } : Jvm.MethodName)) ∈ lw_all := lw_g (lw_at lw_m5 215 rfl) rfl
theorem q1362 : (Jvm.Cond.methodLink "SumHouse" (628 : Nat) ({ cls := "SumHouse", name := "keepResult", desc := "(I)I" } : Jvm.MethodName)) ∈ lw_all := lw_g (lw_at lw_m5 216 rfl) rfl
theorem q1363 : (Jvm.Cond.privateMethod ({ cls := "SumHouse", name := "keepResult", desc := "(I)I" } : Jvm.MethodName)) ∈ lw_tbl := lw_at lw_m5 217 rfl
theorem q1364 : (Jvm.Cond.instanceMethod ({ cls := "SumHouse", name := "keepResult", desc := "(I)I" } : Jvm.MethodName)) ∈ lw_all := lw_g (lw_at lw_m5 218 rfl) rfl
theorem q1365 : (Jvm.Cond.code ({ cls := "SumHouse", name := "keepResult", desc := "(I)I" } : Jvm.MethodName) prog_1_method_42_code (2 : Nat) (Option.some Jvm.ClassFile.FieldType.int)) ∈ lw_all := lw_g (lw_at lw_m5 219 rfl) rfl
theorem q1367 : (Jvm.Cond.instanceMethod ({ cls := "SumHouse", name := "form", desc := "(III)I" } : Jvm.MethodName)) ∈ lw_all := lw_g (lw_at lw_m5 221 rfl) rfl
theorem q1368 : (Jvm.Cond.selects "SumHouse" ({ cls := "SumHouse", name := "form", desc := "(III)I" } : Jvm.MethodName) ({ cls := "SumHouse", name := "form", desc := "(III)I" } : Jvm.MethodName)) ∈ lw_all := lw_g (lw_at lw_m5 222 rfl) rfl
theorem q1369 : (Jvm.Cond.code ({ cls := "SumHouse", name := "form", desc := "(III)I" } : Jvm.MethodName) prog_1_method_78_code (6 : Nat) (Option.some Jvm.ClassFile.FieldType.int)) ∈ lw_all := lw_g (lw_at lw_m5 223 rfl) rfl
theorem q1370 : (Jvm.Cond.methodLink "SumHouse" (673 : Nat) ({ cls := "SumHouse", name := "findForm", desc := "()Z" } : Jvm.MethodName)) ∈ lw_all := lw_g (lw_at lw_m5 224 rfl) rfl
theorem q1371 : (Jvm.Cond.privateMethod ({ cls := "SumHouse", name := "findForm", desc := "()Z" } : Jvm.MethodName)) ∈ lw_tbl := lw_at lw_m5 225 rfl
theorem q1372 : (Jvm.Cond.instanceMethod ({ cls := "SumHouse", name := "findForm", desc := "()Z" } : Jvm.MethodName)) ∈ lw_all := lw_g (lw_at lw_m5 226 rfl) rfl
theorem q1373 : (Jvm.Cond.code ({ cls := "SumHouse", name := "findForm", desc := "()Z" } : Jvm.MethodName) prog_1_method_74_code (2 : Nat) (Option.some Jvm.ClassFile.FieldType.boolean)) ∈ lw_all := lw_g (lw_at lw_m5 227 rfl) rfl
theorem q1374 : (Jvm.Cond.methodLink "SumHouse" (651 : Nat) ({ cls := "SumHouse", name := "mayShare", desc := "(I)Z" } : Jvm.MethodName)) ∈ lw_all := lw_g (lw_at lw_m5 228 rfl) rfl
theorem q1375 : (Jvm.Cond.privateMethod ({ cls := "SumHouse", name := "mayShare", desc := "(I)Z" } : Jvm.MethodName)) ∈ lw_tbl := lw_at lw_m5 229 rfl
theorem q1376 : (Jvm.Cond.instanceMethod ({ cls := "SumHouse", name := "mayShare", desc := "(I)Z" } : Jvm.MethodName)) ∈ lw_all := lw_g (lw_at lw_m5 230 rfl) rfl
theorem q1377 : (Jvm.Cond.code ({ cls := "SumHouse", name := "mayShare", desc := "(I)Z" } : Jvm.MethodName) prog_1_method_73_code (3 : Nat) (Option.some Jvm.ClassFile.FieldType.boolean)) ∈ lw_all := lw_g (lw_at lw_m5 231 rfl) rfl
theorem q1378 : (Jvm.Cond.constant "SumHouse" (631 : Nat) (1000003 : Int32)) ∈ lw_all := lw_g (lw_at lw_m5 232 rfl) rfl
theorem q1379 : (Jvm.Cond.methodLink "SumHouse" (632 : Nat) ({ cls := "SumHouse$Duo", name := "atN", desc := "(ILSumHouse$Poly;)V" } : Jvm.MethodName)) ∈ lw_all := lw_g (lw_at lw_m5 233 rfl) rfl
theorem q1380 : (Jvm.Cond.methodLink "SumHouse" (639 : Nat) ({ cls := "SumHouse$Poly", name := "shift", desc := "(I)V" } : Jvm.MethodName)) ∈ lw_all := lw_g (lw_at lw_m5 234 rfl) rfl
theorem q1384 : (Jvm.Cond.methodLink "SumHouse" (646 : Nat) ({ cls := "SumHouse$Divisors", name := "common", desc := "(LSumHouse$Poly;LSumHouse$Poly;LSumHouse$Poly;)V" } : Jvm.MethodName)) ∈ lw_all := lw_g (lw_at lw_m5 238 rfl) rfl
theorem q1385 : (Jvm.Cond.methodLink "SumHouse" (654 : Nat) ({ cls := "SumHouse$Parts", name := "primitive", desc := "(LSumHouse$Duo;LSumHouse$Poly;)V" } : Jvm.MethodName)) ∈ lw_all := lw_g (lw_at lw_m5 239 rfl) rfl
theorem q1386 : (Jvm.Cond.methodLink "SumHouse" (658 : Nat) ({ cls := "SumHouse", name := "take", desc := "(I)Z" } : Jvm.MethodName)) ∈ lw_all := lw_g (lw_at lw_m6 0 rfl) rfl
theorem q1387 : (Jvm.Cond.privateMethod ({ cls := "SumHouse", name := "take", desc := "(I)Z" } : Jvm.MethodName)) ∈ lw_tbl := lw_at lw_m6 1 rfl
theorem q1388 : (Jvm.Cond.instanceMethod ({ cls := "SumHouse", name := "take", desc := "(I)Z" } : Jvm.MethodName)) ∈ lw_all := lw_g (lw_at lw_m6 2 rfl) rfl
theorem q1389 : (Jvm.Cond.code ({ cls := "SumHouse", name := "take", desc := "(I)Z" } : Jvm.MethodName) prog_1_method_75_code (5 : Nat) (Option.some Jvm.ClassFile.FieldType.boolean)) ∈ lw_all := lw_g (lw_at lw_m6 3 rfl) rfl
theorem q1390 : (Jvm.Cond.methodLink "SumHouse" (661 : Nat) ({ cls := "SumHouse$Duo", name := "row", desc := "(ILSumHouse$Poly;)V" } : Jvm.MethodName)) ∈ lw_all := lw_g (lw_at lw_m6 4 rfl) rfl
theorem q1391 : (Jvm.Cond.methodLink "SumHouse" (676 : Nat) ({ cls := "SumHouse", name := "isModestForm", desc := "()Z" } : Jvm.MethodName)) ∈ lw_all := lw_g (lw_at lw_m6 5 rfl) rfl
theorem q1392 : (Jvm.Cond.privateMethod ({ cls := "SumHouse", name := "isModestForm", desc := "()Z" } : Jvm.MethodName)) ∈ lw_tbl := lw_at lw_m6 6 rfl
theorem q1393 : (Jvm.Cond.instanceMethod ({ cls := "SumHouse", name := "isModestForm", desc := "()Z" } : Jvm.MethodName)) ∈ lw_all := lw_g (lw_at lw_m6 7 rfl) rfl
theorem q1394 : (Jvm.Cond.code ({ cls := "SumHouse", name := "isModestForm", desc := "()Z" } : Jvm.MethodName) prog_1_method_77_code (3 : Nat) (Option.some Jvm.ClassFile.FieldType.boolean)) ∈ lw_all := lw_g (lw_at lw_m6 8 rfl) rfl
theorem q1395 : (Jvm.Cond.methodLink "SumHouse" (667 : Nat) ({ cls := "SumHouse", name := "layForm", desc := "(I)V" } : Jvm.MethodName)) ∈ lw_all := lw_g (lw_at lw_m6 9 rfl) rfl
theorem q1396 : (Jvm.Cond.privateMethod ({ cls := "SumHouse", name := "layForm", desc := "(I)V" } : Jvm.MethodName)) ∈ lw_tbl := lw_at lw_m6 10 rfl
theorem q1397 : (Jvm.Cond.instanceMethod ({ cls := "SumHouse", name := "layForm", desc := "(I)V" } : Jvm.MethodName)) ∈ lw_all := lw_g (lw_at lw_m6 11 rfl) rfl
theorem q1398 : (Jvm.Cond.code ({ cls := "SumHouse", name := "layForm", desc := "(I)V" } : Jvm.MethodName) prog_1_method_76_code (3 : Nat) (Option.none : Option Jvm.ClassFile.FieldType)) ∈ lw_all := lw_g (lw_at lw_m6 12 rfl) rfl
theorem q1399 : (Jvm.Cond.methodLink "SumHouse" (664 : Nat) ({ cls := "SumHouse$Duo", name := "putRow", desc := "(ILSumHouse$Poly;)V" } : Jvm.MethodName)) ∈ lw_all := lw_g (lw_at lw_m6 13 rfl) rfl
theorem q1400 : (Jvm.Cond.methodLink "SumHouse" (670 : Nat) ({ cls := "SumHouse", name := "isModest", desc := "()Z" } : Jvm.MethodName)) ∈ lw_all := lw_g (lw_at lw_m6 14 rfl) rfl
theorem q1401 : (Jvm.Cond.privateMethod ({ cls := "SumHouse", name := "isModest", desc := "()Z" } : Jvm.MethodName)) ∈ lw_tbl := lw_at lw_m6 15 rfl
theorem q1402 : (Jvm.Cond.instanceMethod ({ cls := "SumHouse", name := "isModest", desc := "()Z" } : Jvm.MethodName)) ∈ lw_all := lw_g (lw_at lw_m6 16 rfl) rfl
theorem q1403 : (Jvm.Cond.code ({ cls := "SumHouse", name := "isModest", desc := "()Z" } : Jvm.MethodName) prog_1_method_72_code (1 : Nat) (Option.some Jvm.ClassFile.FieldType.boolean)) ∈ lw_all := lw_g (lw_at lw_m6 17 rfl) rfl
theorem q1405 : (Jvm.Cond.instanceMethod ({ cls := "SumHouse", name := "close", desc := "(II)I" } : Jvm.MethodName)) ∈ lw_all := lw_g (lw_at lw_m6 19 rfl) rfl
theorem q1406 : (Jvm.Cond.selects "SumHouse" ({ cls := "SumHouse", name := "close", desc := "(II)I" } : Jvm.MethodName) ({ cls := "SumHouse", name := "close", desc := "(II)I" } : Jvm.MethodName)) ∈ lw_all := lw_g (lw_at lw_m6 20 rfl) rfl
theorem q1407 : (Jvm.Cond.code ({ cls := "SumHouse", name := "close", desc := "(II)I" } : Jvm.MethodName) prog_1_method_84_code (6 : Nat) (Option.some Jvm.ClassFile.FieldType.int)) ∈ lw_all := lw_g (lw_at lw_m6 21 rfl) rfl
theorem q1408 : (Jvm.Cond.methodLink "SumHouse" (727 : Nat) ({ cls := "SumHouse", name := "depth", desc := "(I)I" } : Jvm.MethodName)) ∈ lw_all := lw_g (lw_at lw_m6 22 rfl) rfl
theorem q1409 : (Jvm.Cond.privateMethod ({ cls := "SumHouse", name := "depth", desc := "(I)I" } : Jvm.MethodName)) ∈ lw_tbl := lw_at lw_m6 23 rfl
theorem q1410 : (Jvm.Cond.instanceMethod ({ cls := "SumHouse", name := "depth", desc := "(I)I" } : Jvm.MethodName)) ∈ lw_all := lw_g (lw_at lw_m6 24 rfl) rfl
theorem q1411 : (Jvm.Cond.code ({ cls := "SumHouse", name := "depth", desc := "(I)I" } : Jvm.MethodName) prog_1_method_79_code (5 : Nat) (Option.some Jvm.ClassFile.FieldType.int)) ∈ lw_all := lw_g (lw_at lw_m6 25 rfl) rfl
theorem q1412 : (Jvm.Cond.methodLink "SumHouse" (679 : Nat) ({ cls := "java/lang/Math", name := "max", desc := "(II)I" } : Jvm.MethodName)) ∈ lw_all := lw_g (lw_at lw_m6 26 rfl) rfl
theorem q1413 : (Jvm.Cond.methodLink "SumHouse" (682 : Nat) ({ cls := "SumHouse$Poly", name := "isSame", desc := "(LSumHouse$Poly;)Z" } : Jvm.MethodName)) ∈ lw_all := lw_g (lw_at lw_m6 27 rfl) rfl
theorem q1417 : (Jvm.Cond.methodLink "SumHouse" (686 : Nat) ({ cls := "SumHouse$Poly", name := "copy", desc := "(LSumHouse$Poly;)V" } : Jvm.MethodName)) ∈ lw_all := lw_g (lw_at lw_m6 31 rfl) rfl
theorem q1418 : (Jvm.Cond.methodLink "SumHouse" (689 : Nat) ({ cls := "SumHouse$Poly", name := "add", desc := "(LSumHouse$Poly;II)V" } : Jvm.MethodName)) ∈ lw_all := lw_g (lw_at lw_m6 32 rfl) rfl
theorem q1422 : (Jvm.Cond.methodLink "SumHouse" (692 : Nat) ({ cls := "SumHouse$Poly", name := "isZero", desc := "()Z" } : Jvm.MethodName)) ∈ lw_all := lw_g (lw_at lw_m6 36 rfl) rfl
theorem q1423 : (Jvm.Cond.methodLink "SumHouse" (693 : Nat) ({ cls := "SumHouse$Poly", name := "head", desc := "()I" } : Jvm.MethodName)) ∈ lw_all := lw_g (lw_at lw_m6 37 rfl) rfl
theorem q1424 : (Jvm.Cond.methodLink "SumHouse" (730 : Nat) ({ cls := "SumHouse", name := "solveFor", desc := "(II)Z" } : Jvm.MethodName)) ∈ lw_all := lw_g (lw_at lw_m6 38 rfl) rfl
theorem q1425 : (Jvm.Cond.privateMethod ({ cls := "SumHouse", name := "solveFor", desc := "(II)Z" } : Jvm.MethodName)) ∈ lw_tbl := lw_at lw_m6 39 rfl
theorem q1426 : (Jvm.Cond.instanceMethod ({ cls := "SumHouse", name := "solveFor", desc := "(II)Z" } : Jvm.MethodName)) ∈ lw_all := lw_g (lw_at lw_m6 40 rfl) rfl
theorem q1427 : (Jvm.Cond.code ({ cls := "SumHouse", name := "solveFor", desc := "(II)Z" } : Jvm.MethodName) prog_1_method_81_code (7 : Nat) (Option.some Jvm.ClassFile.FieldType.boolean)) ∈ lw_all := lw_g (lw_at lw_m6 41 rfl) rfl
theorem q1428 : (Jvm.Cond.methodLink "SumHouse" (698 : Nat) ({ cls := "SumHouse$Board", name := "open", desc := "(II)V" } : Jvm.MethodName)) ∈ lw_all := lw_g (lw_at lw_m6 42 rfl) rfl
theorem q1433 : (Jvm.Cond.methodLink "SumHouse" (699 : Nat) ({ cls := "SumHouse", name := "layColumn", desc := "(ILSumHouse$Duo;I)V" } : Jvm.MethodName)) ∈ lw_all := lw_g (lw_at lw_m6 47 rfl) rfl
theorem q1434 : (Jvm.Cond.privateMethod ({ cls := "SumHouse", name := "layColumn", desc := "(ILSumHouse$Duo;I)V" } : Jvm.MethodName)) ∈ lw_tbl := lw_at lw_m6 48 rfl
theorem q1435 : (Jvm.Cond.instanceMethod ({ cls := "SumHouse", name := "layColumn", desc := "(ILSumHouse$Duo;I)V" } : Jvm.MethodName)) ∈ lw_all := lw_g (lw_at lw_m6 49 rfl) rfl
theorem q1436 : (Jvm.Cond.code ({ cls := "SumHouse", name := "layColumn", desc := "(ILSumHouse$Duo;I)V" } : Jvm.MethodName) prog_1_method_80_code (5 : Nat) (Option.none : Option Jvm.ClassFile.FieldType)) ∈ lw_all := lw_g (lw_at lw_m6 50 rfl) rfl
theorem q1437 : (Jvm.Cond.methodLink "SumHouse" (697 : Nat) ({ cls := "SumHouse$Poly", name := "scale", desc := "(I)V" } : Jvm.MethodName)) ∈ lw_all := lw_g (lw_at lw_m6 51 rfl) rfl
theorem q1438 : (Jvm.Cond.methodLink "SumHouse" (703 : Nat) ({ cls := "SumHouse$Board", name := "clear", desc := "(I)I" } : Jvm.MethodName)) ∈ lw_all := lw_g (lw_at lw_m6 52 rfl) rfl
theorem q1466 : (Jvm.Cond.methodLink "SumHouse" (709 : Nat) ({ cls := "SumHouse$Poly", name := "clear", desc := "()V" } : Jvm.MethodName)) ∈ lw_all := lw_g (lw_at lw_m6 80 rfl) rfl
theorem q1467 : (Jvm.Cond.methodLink "SumHouse" (711 : Nat) ({ cls := "SumHouse$Board", name := "number", desc := "(IILSumHouse$Poly;)V" } : Jvm.MethodName)) ∈ lw_all := lw_g (lw_at lw_m6 81 rfl) rfl
theorem q1472 : (Jvm.Cond.methodLink "SumHouse" (715 : Nat) ({ cls := "SumHouse", name := "readSolution", desc := "(II)V" } : Jvm.MethodName)) ∈ lw_all := lw_g (lw_at lw_m6 86 rfl) rfl
theorem q1473 : (Jvm.Cond.privateMethod ({ cls := "SumHouse", name := "readSolution", desc := "(II)V" } : Jvm.MethodName)) ∈ lw_tbl := lw_at lw_m6 87 rfl
theorem q1474 : (Jvm.Cond.instanceMethod ({ cls := "SumHouse", name := "readSolution", desc := "(II)V" } : Jvm.MethodName)) ∈ lw_all := lw_g (lw_at lw_m6 88 rfl) rfl
theorem q1475 : (Jvm.Cond.code ({ cls := "SumHouse", name := "readSolution", desc := "(II)V" } : Jvm.MethodName) prog_1_method_82_code (6 : Nat) (Option.none : Option Jvm.ClassFile.FieldType)) ∈ lw_all := lw_g (lw_at lw_m6 89 rfl) rfl
theorem q1476 : (Jvm.Cond.methodLink "SumHouse" (718 : Nat) ({ cls := "SumHouse$Divisors", name := "divideExactly", desc := "(LSumHouse$Poly;LSumHouse$Poly;)V" } : Jvm.MethodName)) ∈ lw_all := lw_g (lw_at lw_m6 90 rfl) rfl
theorem q1477 : (Jvm.Cond.methodLink "SumHouse" (734 : Nat) ({ cls := "SumHouse$Poly", name := "set", desc := "(I)V" } : Jvm.MethodName)) ∈ lw_all := lw_g (lw_at lw_m6 91 rfl) rfl
theorem q1478 : (Jvm.Cond.methodLink "SumHouse" (735 : Nat) ({ cls := "SumHouse", name := "giveSum", desc := "(LSumHouse$Duo;LSumHouse$Poly;LSumHouse$Ratio;)Z" } : Jvm.MethodName)) ∈ lw_all := lw_g (lw_at lw_m6 92 rfl) rfl
theorem q1479 : (Jvm.Cond.privateMethod ({ cls := "SumHouse", name := "giveSum", desc := "(LSumHouse$Duo;LSumHouse$Poly;LSumHouse$Ratio;)Z" } : Jvm.MethodName)) ∈ lw_tbl := lw_at lw_m6 93 rfl
theorem q1480 : (Jvm.Cond.instanceMethod ({ cls := "SumHouse", name := "giveSum", desc := "(LSumHouse$Duo;LSumHouse$Poly;LSumHouse$Ratio;)Z" } : Jvm.MethodName)) ∈ lw_all := lw_g (lw_at lw_m6 94 rfl) rfl
theorem q1481 : (Jvm.Cond.code ({ cls := "SumHouse", name := "giveSum", desc := "(LSumHouse$Duo;LSumHouse$Poly;LSumHouse$Ratio;)Z" } : Jvm.MethodName) prog_1_method_83_code (4 : Nat) (Option.some Jvm.ClassFile.FieldType.boolean)) ∈ lw_all := lw_g (lw_at lw_m6 95 rfl) rfl
theorem q1482 : (Jvm.Cond.methodLink "SumHouse" (722 : Nat) ({ cls := "SumHouse$Ratio", name := "set", desc := "(I)V" } : Jvm.MethodName)) ∈ lw_all := lw_g (lw_at lw_m6 96 rfl) rfl
theorem q1483 : (Jvm.Cond.methodLink "SumHouse" (723 : Nat) ({ cls := "SumHouse$Duo", name := "timesPoly", desc := "(LSumHouse$Poly;LSumHouse$Duo;)V" } : Jvm.MethodName)) ∈ lw_all := lw_g (lw_at lw_m6 97 rfl) rfl
theorem q1485 : (Jvm.Cond.instanceMethod ({ cls := "SumHouse", name := "recur", desc := "(III)I" } : Jvm.MethodName)) ∈ lw_all := lw_g (lw_at lw_m6 99 rfl) rfl
theorem q1486 : (Jvm.Cond.selects "SumHouse" ({ cls := "SumHouse", name := "recur", desc := "(III)I" } : Jvm.MethodName) ({ cls := "SumHouse", name := "recur", desc := "(III)I" } : Jvm.MethodName)) ∈ lw_all := lw_g (lw_at lw_m6 100 rfl) rfl
theorem q1487 : (Jvm.Cond.code ({ cls := "SumHouse", name := "recur", desc := "(III)I" } : Jvm.MethodName) prog_1_method_90_code (8 : Nat) (Option.some Jvm.ClassFile.FieldType.int)) ∈ lw_all := lw_g (lw_at lw_m6 101 rfl) rfl
theorem q1488 : (Jvm.Cond.methodLink "SumHouse" (750 : Nat) ({ cls := "SumHouse", name := "findSteps", desc := "(LSumHouse$Item;I)Z" } : Jvm.MethodName)) ∈ lw_all := lw_g (lw_at lw_m6 102 rfl) rfl
theorem q1489 : (Jvm.Cond.privateMethod ({ cls := "SumHouse", name := "findSteps", desc := "(LSumHouse$Item;I)Z" } : Jvm.MethodName)) ∈ lw_tbl := lw_at lw_m6 103 rfl
theorem q1490 : (Jvm.Cond.instanceMethod ({ cls := "SumHouse", name := "findSteps", desc := "(LSumHouse$Item;I)Z" } : Jvm.MethodName)) ∈ lw_all := lw_g (lw_at lw_m6 104 rfl) rfl
theorem q1491 : (Jvm.Cond.code ({ cls := "SumHouse", name := "findSteps", desc := "(LSumHouse$Item;I)Z" } : Jvm.MethodName) prog_1_method_85_code (5 : Nat) (Option.some Jvm.ClassFile.FieldType.boolean)) ∈ lw_all := lw_g (lw_at lw_m6 105 rfl) rfl
theorem q1492 : (Jvm.Cond.methodLink "SumHouse" (754 : Nat) ({ cls := "SumHouse", name := "tryOrder", desc := "(I)I" } : Jvm.MethodName)) ∈ lw_all := lw_g (lw_at lw_m6 106 rfl) rfl
theorem q1493 : (Jvm.Cond.privateMethod ({ cls := "SumHouse", name := "tryOrder", desc := "(I)I" } : Jvm.MethodName)) ∈ lw_tbl := lw_at lw_m6 107 rfl
theorem q1494 : (Jvm.Cond.instanceMethod ({ cls := "SumHouse", name := "tryOrder", desc := "(I)I" } : Jvm.MethodName)) ∈ lw_all := lw_g (lw_at lw_m6 108 rfl) rfl
theorem q1495 : (Jvm.Cond.code ({ cls := "SumHouse", name := "tryOrder", desc := "(I)I" } : Jvm.MethodName) prog_1_method_89_code (4 : Nat) (Option.some Jvm.ClassFile.FieldType.int)) ∈ lw_all := lw_g (lw_at lw_m6 109 rfl) rfl
theorem q1496 : (Jvm.Cond.methodLink "SumHouse" (741 : Nat) ({ cls := "SumHouse", name := "findMultiple", desc := "(I)V" } : Jvm.MethodName)) ∈ lw_all := lw_g (lw_at lw_m6 110 rfl) rfl
theorem q1497 : (Jvm.Cond.privateMethod ({ cls := "SumHouse", name := "findMultiple", desc := "(I)V" } : Jvm.MethodName)) ∈ lw_tbl := lw_at lw_m6 111 rfl
theorem q1498 : (Jvm.Cond.instanceMethod ({ cls := "SumHouse", name := "findMultiple", desc := "(I)V" } : Jvm.MethodName)) ∈ lw_all := lw_g (lw_at lw_m6 112 rfl) rfl
theorem q1499 : (Jvm.Cond.code ({ cls := "SumHouse", name := "findMultiple", desc := "(I)V" } : Jvm.MethodName) prog_1_method_86_code (4 : Nat) (Option.none : Option Jvm.ClassFile.FieldType)) ∈ lw_all := lw_g (lw_at lw_m6 113 rfl) rfl
theorem q1500 : (Jvm.Cond.methodLink "SumHouse" (744 : Nat) ({ cls := "SumHouse", name := "findStepForm", desc := "()Z" } : Jvm.MethodName)) ∈ lw_all := lw_g (lw_at lw_m6 114 rfl) rfl
theorem q1501 : (Jvm.Cond.privateMethod ({ cls := "SumHouse", name := "findStepForm", desc := "()Z" } : Jvm.MethodName)) ∈ lw_tbl := lw_at lw_m6 115 rfl
theorem q1502 : (Jvm.Cond.instanceMethod ({ cls := "SumHouse", name := "findStepForm", desc := "()Z" } : Jvm.MethodName)) ∈ lw_all := lw_g (lw_at lw_m6 116 rfl) rfl
theorem q1503 : (Jvm.Cond.code ({ cls := "SumHouse", name := "findStepForm", desc := "()Z" } : Jvm.MethodName) prog_1_method_88_code (1 : Nat) (Option.some Jvm.ClassFile.FieldType.boolean)) ∈ lw_all := lw_g (lw_at lw_m6 117 rfl) rfl
theorem q1504 : (Jvm.Cond.methodLink "SumHouse" (747 : Nat) ({ cls := "SumHouse", name := "findAsked", desc := "(I)Z" } : Jvm.MethodName)) ∈ lw_all := lw_g (lw_at lw_m6 118 rfl) rfl
theorem q1505 : (Jvm.Cond.privateMethod ({ cls := "SumHouse", name := "findAsked", desc := "(I)Z" } : Jvm.MethodName)) ∈ lw_tbl := lw_at lw_m6 119 rfl
theorem q1506 : (Jvm.Cond.instanceMethod ({ cls := "SumHouse", name := "findAsked", desc := "(I)Z" } : Jvm.MethodName)) ∈ lw_all := lw_g (lw_at lw_m6 120 rfl) rfl
theorem q1507 : (Jvm.Cond.code ({ cls := "SumHouse", name := "findAsked", desc := "(I)Z" } : Jvm.MethodName) prog_1_method_87_code (3 : Nat) (Option.some Jvm.ClassFile.FieldType.boolean)) ∈ lw_all := lw_g (lw_at lw_m6 121 rfl) rfl
theorem q1508 : (Jvm.Cond.methodLink "SumHouse" (739 : Nat) ({ cls := "SumHouse$Poly", name := "product", desc := "(LSumHouse$Poly;LSumHouse$Poly;)V" } : Jvm.MethodName)) ∈ lw_all := lw_g (lw_at lw_m6 122 rfl) rfl
theorem q1509 : (Jvm.Cond.methodLink "SumHouse" (757 : Nat) ({ cls := "SumHouse", name := "keepRecord", desc := "(I)I" } : Jvm.MethodName)) ∈ lw_all := lw_g (lw_at lw_m6 123 rfl) rfl
theorem q1510 : (Jvm.Cond.privateMethod ({ cls := "SumHouse", name := "keepRecord", desc := "(I)I" } : Jvm.MethodName)) ∈ lw_tbl := lw_at lw_m6 124 rfl
theorem q1511 : (Jvm.Cond.instanceMethod ({ cls := "SumHouse", name := "keepRecord", desc := "(I)I" } : Jvm.MethodName)) ∈ lw_all := lw_g (lw_at lw_m6 125 rfl) rfl
theorem q1512 : (Jvm.Cond.code ({ cls := "SumHouse", name := "keepRecord", desc := "(I)I" } : Jvm.MethodName) prog_1_method_91_code (4 : Nat) (Option.some Jvm.ClassFile.FieldType.int)) ∈ lw_all := lw_g (lw_at lw_m6 126 rfl) rfl
theorem q1514 : (Jvm.Cond.instanceMethod ({ cls := "SumHouse", name := "part", desc := "(III)I" } : Jvm.MethodName)) ∈ lw_all := lw_g (lw_at lw_m6 128 rfl) rfl
theorem q1515 : (Jvm.Cond.selects "SumHouse" ({ cls := "SumHouse", name := "part", desc := "(III)I" } : Jvm.MethodName) ({ cls := "SumHouse", name := "part", desc := "(III)I" } : Jvm.MethodName)) ∈ lw_all := lw_g (lw_at lw_m6 129 rfl) rfl
theorem q1516 : (Jvm.Cond.code ({ cls := "SumHouse", name := "part", desc := "(III)I" } : Jvm.MethodName) prog_1_method_92_code (5 : Nat) (Option.some Jvm.ClassFile.FieldType.int)) ∈ lw_all := lw_g (lw_at lw_m6 130 rfl) rfl
theorem q1517 : (Jvm.Cond.methodLink "SumHouse" (760 : Nat) ({ cls := "SumHouse$Ratio", name := "copy", desc := "(LSumHouse$Ratio;)V" } : Jvm.MethodName)) ∈ lw_all := lw_g (lw_at lw_m6 131 rfl) rfl
theorem q1519 : (Jvm.Cond.instanceMethod ({ cls := "SumHouse", name := "check", desc := "(II)I" } : Jvm.MethodName)) ∈ lw_all := lw_g (lw_at lw_m6 133 rfl) rfl
theorem q1520 : (Jvm.Cond.selects "SumHouse" ({ cls := "SumHouse", name := "check", desc := "(II)I" } : Jvm.MethodName) ({ cls := "SumHouse", name := "check", desc := "(II)I" } : Jvm.MethodName)) ∈ lw_all := lw_g (lw_at lw_m6 134 rfl) rfl
theorem q1521 : (Jvm.Cond.code ({ cls := "SumHouse", name := "check", desc := "(II)I" } : Jvm.MethodName) prog_1_method_96_code (6 : Nat) (Option.some Jvm.ClassFile.FieldType.int)) ∈ lw_all := lw_g (lw_at lw_m6 135 rfl) rfl
theorem q1522 : (Jvm.Cond.methodLink "SumHouse" (767 : Nat) ({ cls := "SumHouse", name := "layFraction", desc := "(ILSumHouse$Duo;LSumHouse$Duo;)V" } : Jvm.MethodName)) ∈ lw_all := lw_g (lw_at lw_m6 136 rfl) rfl
theorem q1523 : (Jvm.Cond.privateMethod ({ cls := "SumHouse", name := "layFraction", desc := "(ILSumHouse$Duo;LSumHouse$Duo;)V" } : Jvm.MethodName)) ∈ lw_tbl := lw_at lw_m6 137 rfl
theorem q1524 : (Jvm.Cond.instanceMethod ({ cls := "SumHouse", name := "layFraction", desc := "(ILSumHouse$Duo;LSumHouse$Duo;)V" } : Jvm.MethodName)) ∈ lw_all := lw_g (lw_at lw_m6 138 rfl) rfl
theorem q1525 : (Jvm.Cond.code ({ cls := "SumHouse", name := "layFraction", desc := "(ILSumHouse$Duo;LSumHouse$Duo;)V" } : Jvm.MethodName) prog_1_method_93_code (4 : Nat) (Option.none : Option Jvm.ClassFile.FieldType)) ∈ lw_all := lw_g (lw_at lw_m6 139 rfl) rfl
theorem q1526 : (Jvm.Cond.methodLink "SumHouse" (771 : Nat) ({ cls := "SumHouse", name := "areNothing", desc := "(I)Z" } : Jvm.MethodName)) ∈ lw_all := lw_g (lw_at lw_m6 140 rfl) rfl
theorem q1527 : (Jvm.Cond.privateMethod ({ cls := "SumHouse", name := "areNothing", desc := "(I)Z" } : Jvm.MethodName)) ∈ lw_tbl := lw_at lw_m6 141 rfl
theorem q1528 : (Jvm.Cond.instanceMethod ({ cls := "SumHouse", name := "areNothing", desc := "(I)Z" } : Jvm.MethodName)) ∈ lw_all := lw_g (lw_at lw_m6 142 rfl) rfl
theorem q1529 : (Jvm.Cond.code ({ cls := "SumHouse", name := "areNothing", desc := "(I)Z" } : Jvm.MethodName) prog_1_method_94_code (8 : Nat) (Option.some Jvm.ClassFile.FieldType.boolean)) ∈ lw_all := lw_g (lw_at lw_m6 143 rfl) rfl
theorem q1530 : (Jvm.Cond.methodLink "SumHouse" (762 : Nat) ({ cls := "SumHouse", name := "isNothing", desc := "(II)Z" } : Jvm.MethodName)) ∈ lw_all := lw_g (lw_at lw_m6 144 rfl) rfl
theorem q1531 : (Jvm.Cond.privateMethod ({ cls := "SumHouse", name := "isNothing", desc := "(II)Z" } : Jvm.MethodName)) ∈ lw_tbl := lw_at lw_m6 145 rfl
theorem q1532 : (Jvm.Cond.instanceMethod ({ cls := "SumHouse", name := "isNothing", desc := "(II)Z" } : Jvm.MethodName)) ∈ lw_all := lw_g (lw_at lw_m6 146 rfl) rfl
theorem q1533 : (Jvm.Cond.code ({ cls := "SumHouse", name := "isNothing", desc := "(II)Z" } : Jvm.MethodName) prog_1_method_95_code (6 : Nat) (Option.some Jvm.ClassFile.FieldType.boolean)) ∈ lw_all := lw_g (lw_at lw_m6 147 rfl) rfl
theorem q1534 : (Jvm.Cond.methodLink "SumHouse" (765 : Nat) ({ cls := "SumHouse$Poly", name := "value", desc := "(I)I" } : Jvm.MethodName)) ∈ lw_all := lw_g (lw_at lw_m6 148 rfl) rfl
theorem q1536 : (Jvm.Cond.instanceMethod ({ cls := "SumHouse", name := "poke", desc := "(IIIII)I" } : Jvm.MethodName)) ∈ lw_all := lw_g (lw_at lw_m6 150 rfl) rfl
theorem q1537 : (Jvm.Cond.selects "SumHouse" ({ cls := "SumHouse", name := "poke", desc := "(IIIII)I" } : Jvm.MethodName) ({ cls := "SumHouse", name := "poke", desc := "(IIIII)I" } : Jvm.MethodName)) ∈ lw_all := lw_g (lw_at lw_m6 151 rfl) rfl
theorem q1538 : (Jvm.Cond.code ({ cls := "SumHouse", name := "poke", desc := "(IIIII)I" } : Jvm.MethodName) prog_1_method_97_code (10 : Nat) (Option.some Jvm.ClassFile.FieldType.int)) ∈ lw_all := lw_g (lw_at lw_m6 152 rfl) rfl
theorem q1539 : (Jvm.Cond.methodLink "SumHouse" (774 : Nat) ({ cls := "SumHouse$Poly", name := "put", desc := "(II)V" } : Jvm.MethodName)) ∈ lw_all := lw_g (lw_at lw_m6 153 rfl) rfl
theorem q1543 : (Jvm.Cond.methodLinkNest "SumHouse" (777 : Nat) ({ cls := "SumHouse$Duo", name := "grow", desc := "(II)V" } : Jvm.MethodName) "SumHouse") ∈ lw_tbl := lw_at lw_m6 157 rfl
theorem q1545 : (Jvm.Cond.instanceMethod ({ cls := "SumHouse", name := "holds", desc := "(IIIII)I" } : Jvm.MethodName)) ∈ lw_all := lw_g (lw_at lw_m6 159 rfl) rfl
theorem q1546 : (Jvm.Cond.selects "SumHouse" ({ cls := "SumHouse", name := "holds", desc := "(IIIII)I" } : Jvm.MethodName) ({ cls := "SumHouse", name := "holds", desc := "(IIIII)I" } : Jvm.MethodName)) ∈ lw_all := lw_g (lw_at lw_m6 160 rfl) rfl
theorem q1547 : (Jvm.Cond.code ({ cls := "SumHouse", name := "holds", desc := "(IIIII)I" } : Jvm.MethodName) prog_1_method_98_code (11 : Nat) (Option.some Jvm.ClassFile.FieldType.int)) ∈ lw_all := lw_g (lw_at lw_m6 161 rfl) rfl
theorem q1548 : (Jvm.Cond.methodLink "SumHouse" (780 : Nat) ({ cls := "SumHouse", name := "certified", desc := "(LSumHouse$Slot;LSumHouse$Item;II)I" } : Jvm.MethodName)) ∈ lw_all := lw_g (lw_at lw_m6 162 rfl) rfl
theorem q1549 : (Jvm.Cond.privateMethod ({ cls := "SumHouse", name := "certified", desc := "(LSumHouse$Slot;LSumHouse$Item;II)I" } : Jvm.MethodName)) ∈ lw_tbl := lw_at lw_m6 163 rfl
theorem q1550 : (Jvm.Cond.instanceMethod ({ cls := "SumHouse", name := "certified", desc := "(LSumHouse$Slot;LSumHouse$Item;II)I" } : Jvm.MethodName)) ∈ lw_all := lw_g (lw_at lw_m6 164 rfl) rfl
theorem q1551 : (Jvm.Cond.code ({ cls := "SumHouse", name := "certified", desc := "(LSumHouse$Slot;LSumHouse$Item;II)I" } : Jvm.MethodName) prog_1_method_99_code (7 : Nat) (Option.some Jvm.ClassFile.FieldType.int)) ∈ lw_all := lw_g (lw_at lw_m6 165 rfl) rfl
theorem q1552 : (Jvm.Cond.methodLink "SumHouse" (784 : Nat) ({ cls := "SumHouse", name := "less", desc := "(II)I" } : Jvm.MethodName)) ∈ lw_all := lw_g (lw_at lw_m6 166 rfl) rfl
theorem q1554 : (Jvm.Cond.instanceMethod ({ cls := "SumHouse", name := "row", desc := "(II)I" } : Jvm.MethodName)) ∈ lw_all := lw_g (lw_at lw_m6 168 rfl) rfl
theorem q1555 : (Jvm.Cond.selects "SumHouse" ({ cls := "SumHouse", name := "row", desc := "(II)I" } : Jvm.MethodName) ({ cls := "SumHouse", name := "row", desc := "(II)I" } : Jvm.MethodName)) ∈ lw_all := lw_g (lw_at lw_m6 169 rfl) rfl
theorem q1556 : (Jvm.Cond.code ({ cls := "SumHouse", name := "row", desc := "(II)I" } : Jvm.MethodName) prog_1_method_103_code (5 : Nat) (Option.some Jvm.ClassFile.FieldType.int)) ∈ lw_all := lw_g (lw_at lw_m6 170 rfl) rfl
theorem q1557 : (Jvm.Cond.methodLink "SumHouse" (800 : Nat) ({ cls := "SumHouse", name := "tidy", desc := "([LSumHouse$Poly;I)V" } : Jvm.MethodName)) ∈ lw_all := lw_g (lw_at lw_m6 171 rfl) rfl
theorem q1558 : (Jvm.Cond.privateMethod ({ cls := "SumHouse", name := "tidy", desc := "([LSumHouse$Poly;I)V" } : Jvm.MethodName)) ∈ lw_tbl := lw_at lw_m6 172 rfl
theorem q1559 : (Jvm.Cond.instanceMethod ({ cls := "SumHouse", name := "tidy", desc := "([LSumHouse$Poly;I)V" } : Jvm.MethodName)) ∈ lw_all := lw_g (lw_at lw_m6 173 rfl) rfl
theorem q1560 : (Jvm.Cond.code ({ cls := "SumHouse", name := "tidy", desc := "([LSumHouse$Poly;I)V" } : Jvm.MethodName) prog_1_method_100_code (5 : Nat) (Option.none : Option Jvm.ClassFile.FieldType)) ∈ lw_all := lw_g (lw_at lw_m6 174 rfl) rfl
theorem q1561 : (Jvm.Cond.methodLink "SumHouse" (804 : Nat) ({ cls := "SumHouse", name := "keepRow", desc := "(II)I" } : Jvm.MethodName)) ∈ lw_all := lw_g (lw_at lw_m6 175 rfl) rfl
theorem q1562 : (Jvm.Cond.privateMethod ({ cls := "SumHouse", name := "keepRow", desc := "(II)I" } : Jvm.MethodName)) ∈ lw_tbl := lw_at lw_m6 176 rfl
theorem q1563 : (Jvm.Cond.instanceMethod ({ cls := "SumHouse", name := "keepRow", desc := "(II)I" } : Jvm.MethodName)) ∈ lw_all := lw_g (lw_at lw_m6 177 rfl) rfl
theorem q1564 : (Jvm.Cond.code ({ cls := "SumHouse", name := "keepRow", desc := "(II)I" } : Jvm.MethodName) prog_1_method_102_code (7 : Nat) (Option.some Jvm.ClassFile.FieldType.int)) ∈ lw_all := lw_g (lw_at lw_m6 178 rfl) rfl
theorem q1565 : (Jvm.Cond.methodLink "SumHouse" (790 : Nat) ({ cls := "SumHouse", name := "needsOf", desc := "([LSumHouse$Poly;I)I" } : Jvm.MethodName)) ∈ lw_all := lw_g (lw_at lw_m6 179 rfl) rfl
theorem q1566 : (Jvm.Cond.static ({ cls := "SumHouse", name := "needsOf", desc := "([LSumHouse$Poly;I)I" } : Jvm.MethodName)) ∈ lw_all := lw_g (lw_at lw_m6 180 rfl) rfl
theorem q1567 : (Jvm.Cond.code ({ cls := "SumHouse", name := "needsOf", desc := "([LSumHouse$Poly;I)I" } : Jvm.MethodName) prog_1_method_101_code (4 : Nat) (Option.some Jvm.ClassFile.FieldType.int)) ∈ lw_all := lw_g (lw_at lw_m6 181 rfl) rfl
theorem q1569 : (Jvm.Cond.instanceMethod ({ cls := "SumHouse", name := "first", desc := "(II)I" } : Jvm.MethodName)) ∈ lw_all := lw_g (lw_at lw_m6 183 rfl) rfl
theorem q1570 : (Jvm.Cond.selects "SumHouse" ({ cls := "SumHouse", name := "first", desc := "(II)I" } : Jvm.MethodName) ({ cls := "SumHouse", name := "first", desc := "(II)I" } : Jvm.MethodName)) ∈ lw_all := lw_g (lw_at lw_m6 184 rfl) rfl
theorem q1571 : (Jvm.Cond.code ({ cls := "SumHouse", name := "first", desc := "(II)I" } : Jvm.MethodName) prog_1_method_104_code (4 : Nat) (Option.some Jvm.ClassFile.FieldType.int)) ∈ lw_all := lw_g (lw_at lw_m6 185 rfl) rfl
theorem q1573 : (Jvm.Cond.instanceMethod ({ cls := "SumHouse", name := "at", desc := "(II)I" } : Jvm.MethodName)) ∈ lw_all := lw_g (lw_at lw_m6 187 rfl) rfl
theorem q1574 : (Jvm.Cond.selects "SumHouse" ({ cls := "SumHouse", name := "at", desc := "(II)I" } : Jvm.MethodName) ({ cls := "SumHouse", name := "at", desc := "(II)I" } : Jvm.MethodName)) ∈ lw_all := lw_g (lw_at lw_m6 188 rfl) rfl
theorem q1575 : (Jvm.Cond.code ({ cls := "SumHouse", name := "at", desc := "(II)I" } : Jvm.MethodName) prog_1_method_107_code (4 : Nat) (Option.some Jvm.ClassFile.FieldType.int)) ∈ lw_all := lw_g (lw_at lw_m6 189 rfl) rfl
theorem q1576 : (Jvm.Cond.methodLink "SumHouse" (810 : Nat) ({ cls := "SumHouse", name := "isWhole", desc := "(LSumHouse$Slot;)Z" } : Jvm.MethodName)) ∈ lw_all := lw_g (lw_at lw_m6 190 rfl) rfl
theorem q1577 : (Jvm.Cond.static ({ cls := "SumHouse", name := "isWhole", desc := "(LSumHouse$Slot;)Z" } : Jvm.MethodName)) ∈ lw_all := lw_g (lw_at lw_m6 191 rfl) rfl
theorem q1578 : (Jvm.Cond.code ({ cls := "SumHouse", name := "isWhole", desc := "(LSumHouse$Slot;)Z" } : Jvm.MethodName) prog_1_method_105_code (1 : Nat) (Option.some Jvm.ClassFile.FieldType.boolean)) ∈ lw_all := lw_g (lw_at lw_m6 192 rfl) rfl
theorem q1579 : (Jvm.Cond.methodLink "SumHouse" (814 : Nat) ({ cls := "SumHouse", name := "numberAt", desc := "(LSumHouse$Slot;I)I" } : Jvm.MethodName)) ∈ lw_all := lw_g (lw_at lw_m6 193 rfl) rfl
theorem q1580 : (Jvm.Cond.privateMethod ({ cls := "SumHouse", name := "numberAt", desc := "(LSumHouse$Slot;I)I" } : Jvm.MethodName)) ∈ lw_tbl := lw_at lw_m6 194 rfl
theorem q1581 : (Jvm.Cond.instanceMethod ({ cls := "SumHouse", name := "numberAt", desc := "(LSumHouse$Slot;I)I" } : Jvm.MethodName)) ∈ lw_all := lw_g (lw_at lw_m6 195 rfl) rfl
theorem q1582 : (Jvm.Cond.code ({ cls := "SumHouse", name := "numberAt", desc := "(LSumHouse$Slot;I)I" } : Jvm.MethodName) prog_1_method_106_code (6 : Nat) (Option.some Jvm.ClassFile.FieldType.int)) ∈ lw_all := lw_g (lw_at lw_m6 196 rfl) rfl
theorem q1584 : (Jvm.Cond.instanceMethod ({ cls := "SumHouse", name := "join", desc := "(IIII)I" } : Jvm.MethodName)) ∈ lw_all := lw_g (lw_at lw_m6 198 rfl) rfl
theorem q1585 : (Jvm.Cond.selects "SumHouse" ({ cls := "SumHouse", name := "join", desc := "(IIII)I" } : Jvm.MethodName) ({ cls := "SumHouse", name := "join", desc := "(IIII)I" } : Jvm.MethodName)) ∈ lw_all := lw_g (lw_at lw_m6 199 rfl) rfl
theorem q1586 : (Jvm.Cond.code ({ cls := "SumHouse", name := "join", desc := "(IIII)I" } : Jvm.MethodName) prog_1_method_114_code (11 : Nat) (Option.some Jvm.ClassFile.FieldType.int)) ∈ lw_all := lw_g (lw_at lw_m6 200 rfl) rfl
theorem q1587 : (Jvm.Cond.methodLink "SumHouse" (829 : Nat) ({ cls := "SumHouse", name := "isPolynomialInN", desc := "(LSumHouse$Slot;)Z" } : Jvm.MethodName)) ∈ lw_all := lw_g (lw_at lw_m6 201 rfl) rfl
theorem q1588 : (Jvm.Cond.privateMethod ({ cls := "SumHouse", name := "isPolynomialInN", desc := "(LSumHouse$Slot;)Z" } : Jvm.MethodName)) ∈ lw_tbl := lw_at lw_m6 202 rfl
theorem q1589 : (Jvm.Cond.instanceMethod ({ cls := "SumHouse", name := "isPolynomialInN", desc := "(LSumHouse$Slot;)Z" } : Jvm.MethodName)) ∈ lw_all := lw_g (lw_at lw_m6 203 rfl) rfl
theorem q1590 : (Jvm.Cond.code ({ cls := "SumHouse", name := "isPolynomialInN", desc := "(LSumHouse$Slot;)Z" } : Jvm.MethodName) prog_1_method_113_code (3 : Nat) (Option.some Jvm.ClassFile.FieldType.boolean)) ∈ lw_all := lw_g (lw_at lw_m6 204 rfl) rfl
theorem q1591 : (Jvm.Cond.methodLink "SumHouse" (832 : Nat) ({ cls := "SumHouse", name := "findMoved", desc := "(LSumHouse$Slot;Z)V" } : Jvm.MethodName)) ∈ lw_all := lw_g (lw_at lw_m6 205 rfl) rfl
theorem q1592 : (Jvm.Cond.privateMethod ({ cls := "SumHouse", name := "findMoved", desc := "(LSumHouse$Slot;Z)V" } : Jvm.MethodName)) ∈ lw_tbl := lw_at lw_m6 206 rfl
theorem q1593 : (Jvm.Cond.instanceMethod ({ cls := "SumHouse", name := "findMoved", desc := "(LSumHouse$Slot;Z)V" } : Jvm.MethodName)) ∈ lw_all := lw_g (lw_at lw_m6 207 rfl) rfl
theorem q1594 : (Jvm.Cond.code ({ cls := "SumHouse", name := "findMoved", desc := "(LSumHouse$Slot;Z)V" } : Jvm.MethodName) prog_1_method_111_code (4 : Nat) (Option.none : Option Jvm.ClassFile.FieldType)) ∈ lw_all := lw_g (lw_at lw_m6 208 rfl) rfl
theorem q1595 : (Jvm.Cond.methodLink "SumHouse" (836 : Nat) ({ cls := "SumHouse", name := "areLow", desc := "(LSumHouse$Slot;)Z" } : Jvm.MethodName)) ∈ lw_all := lw_g (lw_at lw_m6 209 rfl) rfl
theorem q1596 : (Jvm.Cond.static ({ cls := "SumHouse", name := "areLow", desc := "(LSumHouse$Slot;)Z" } : Jvm.MethodName)) ∈ lw_all := lw_g (lw_at lw_m6 210 rfl) rfl
theorem q1597 : (Jvm.Cond.code ({ cls := "SumHouse", name := "areLow", desc := "(LSumHouse$Slot;)Z" } : Jvm.MethodName) prog_1_method_110_code (3 : Nat) (Option.some Jvm.ClassFile.FieldType.boolean)) ∈ lw_all := lw_g (lw_at lw_m6 211 rfl) rfl
theorem q1598 : (Jvm.Cond.methodLink "SumHouse" (826 : Nat) ({ cls := "SumHouse$Poly", name := "degree", desc := "()I" } : Jvm.MethodName)) ∈ lw_all := lw_g (lw_at lw_m6 212 rfl) rfl
theorem q1599 : (Jvm.Cond.methodLink "SumHouse" (839 : Nat) ({ cls := "SumHouse", name := "layJoined", desc := "(ILSumHouse$Slot;LSumHouse$Slot;LSumHouse$Poly;)V" } : Jvm.MethodName)) ∈ lw_all := lw_g (lw_at lw_m6 213 rfl) rfl
theorem q1600 : (Jvm.Cond.privateMethod ({ cls := "SumHouse", name := "layJoined", desc := "(ILSumHouse$Slot;LSumHouse$Slot;LSumHouse$Poly;)V" } : Jvm.MethodName)) ∈ lw_tbl := lw_at lw_m6 214 rfl
theorem q1601 : (Jvm.Cond.instanceMethod ({ cls := "SumHouse", name := "layJoined", desc := "(ILSumHouse$Slot;LSumHouse$Slot;LSumHouse$Poly;)V" } : Jvm.MethodName)) ∈ lw_all := lw_g (lw_at lw_m6 215 rfl) rfl
theorem q1602 : (Jvm.Cond.code ({ cls := "SumHouse", name := "layJoined", desc := "(ILSumHouse$Slot;LSumHouse$Slot;LSumHouse$Poly;)V" } : Jvm.MethodName) prog_1_method_108_code (9 : Nat) (Option.none : Option Jvm.ClassFile.FieldType)) ∈ lw_all := lw_g (lw_at lw_m6 216 rfl) rfl
theorem q1603 : (Jvm.Cond.methodLink "SumHouse" (818 : Nat) ({ cls := "SumHouse$Shifts", name := "find", desc := "(LSumHouse$Slot;)V" } : Jvm.MethodName)) ∈ lw_all := lw_g (lw_at lw_m6 217 rfl) rfl
theorem q1625 : (Jvm.Cond.methodLink "SumHouse" (843 : Nat) ({ cls := "SumHouse", name := "findJoined", desc := "()Z" } : Jvm.MethodName)) ∈ lw_all := lw_g (lw_at lw_m6 239 rfl) rfl
theorem q1626 : (Jvm.Cond.privateMethod ({ cls := "SumHouse", name := "findJoined", desc := "()Z" } : Jvm.MethodName)) ∈ lw_tbl := lw_at lw_m7 0 rfl
theorem q1627 : (Jvm.Cond.instanceMethod ({ cls := "SumHouse", name := "findJoined", desc := "()Z" } : Jvm.MethodName)) ∈ lw_all := lw_g (lw_at lw_m7 1 rfl) rfl
theorem q1628 : (Jvm.Cond.code ({ cls := "SumHouse", name := "findJoined", desc := "()Z" } : Jvm.MethodName) prog_1_method_109_code (3 : Nat) (Option.some Jvm.ClassFile.FieldType.boolean)) ∈ lw_all := lw_g (lw_at lw_m7 2 rfl) rfl
theorem q1629 : (Jvm.Cond.methodLink "SumHouse" (846 : Nat) ({ cls := "SumHouse", name := "keepJoined", desc := "(ILSumHouse$Slot;LSumHouse$Slot;II)I" } : Jvm.MethodName)) ∈ lw_all := lw_g (lw_at lw_m7 3 rfl) rfl
theorem q1630 : (Jvm.Cond.privateMethod ({ cls := "SumHouse", name := "keepJoined", desc := "(ILSumHouse$Slot;LSumHouse$Slot;II)I" } : Jvm.MethodName)) ∈ lw_tbl := lw_at lw_m7 4 rfl
theorem q1631 : (Jvm.Cond.instanceMethod ({ cls := "SumHouse", name := "keepJoined", desc := "(ILSumHouse$Slot;LSumHouse$Slot;II)I" } : Jvm.MethodName)) ∈ lw_all := lw_g (lw_at lw_m7 5 rfl) rfl
theorem q1632 : (Jvm.Cond.code ({ cls := "SumHouse", name := "keepJoined", desc := "(ILSumHouse$Slot;LSumHouse$Slot;II)I" } : Jvm.MethodName) prog_1_method_115_code (9 : Nat) (Option.some Jvm.ClassFile.FieldType.int)) ∈ lw_all := lw_g (lw_at lw_m7 6 rfl) rfl
theorem q1633 : (Jvm.Cond.methodLink "SumHouse" (850 : Nat) ({ cls := "SumHouse", name := "joinedAt", desc := "(ILSumHouse$Slot;LSumHouse$Slot;LSumHouse$Poly;I)I" } : Jvm.MethodName)) ∈ lw_all := lw_g (lw_at lw_m7 7 rfl) rfl
theorem q1634 : (Jvm.Cond.privateMethod ({ cls := "SumHouse", name := "joinedAt", desc := "(ILSumHouse$Slot;LSumHouse$Slot;LSumHouse$Poly;I)I" } : Jvm.MethodName)) ∈ lw_tbl := lw_at lw_m7 8 rfl
theorem q1635 : (Jvm.Cond.instanceMethod ({ cls := "SumHouse", name := "joinedAt", desc := "(ILSumHouse$Slot;LSumHouse$Slot;LSumHouse$Poly;I)I" } : Jvm.MethodName)) ∈ lw_all := lw_g (lw_at lw_m7 9 rfl) rfl
theorem q1636 : (Jvm.Cond.code ({ cls := "SumHouse", name := "joinedAt", desc := "(ILSumHouse$Slot;LSumHouse$Slot;LSumHouse$Poly;I)I" } : Jvm.MethodName) prog_1_method_112_code (7 : Nat) (Option.some Jvm.ClassFile.FieldType.int)) ∈ lw_all := lw_g (lw_at lw_m7 10 rfl) rfl
theorem q1638 : (Jvm.Cond.instanceMethod ({ cls := "SumHouse", name := "feed", desc := "(I)I" } : Jvm.MethodName)) ∈ lw_all := lw_g (lw_at lw_m7 12 rfl) rfl
theorem q1639 : (Jvm.Cond.selects "SumHouse" ({ cls := "SumHouse", name := "feed", desc := "(I)I" } : Jvm.MethodName) ({ cls := "SumHouse", name := "feed", desc := "(I)I" } : Jvm.MethodName)) ∈ lw_all := lw_g (lw_at lw_m7 13 rfl) rfl
theorem q1640 : (Jvm.Cond.code ({ cls := "SumHouse", name := "feed", desc := "(I)I" } : Jvm.MethodName) prog_1_method_116_code (2 : Nat) (Option.some Jvm.ClassFile.FieldType.int)) ∈ lw_all := lw_g (lw_at lw_m7 14 rfl) rfl
theorem q1642 : (Jvm.Cond.instanceMethod ({ cls := "SumHouse", name := "clear", desc := "()I" } : Jvm.MethodName)) ∈ lw_all := lw_g (lw_at lw_m7 16 rfl) rfl
theorem q1643 : (Jvm.Cond.selects "SumHouse" ({ cls := "SumHouse", name := "clear", desc := "()I" } : Jvm.MethodName) ({ cls := "SumHouse", name := "clear", desc := "()I" } : Jvm.MethodName)) ∈ lw_all := lw_g (lw_at lw_m7 17 rfl) rfl
theorem q1644 : (Jvm.Cond.code ({ cls := "SumHouse", name := "clear", desc := "()I" } : Jvm.MethodName) prog_1_method_117_code (2 : Nat) (Option.some Jvm.ClassFile.FieldType.int)) ∈ lw_all := lw_g (lw_at lw_m7 18 rfl) rfl
theorem q1646 : (Jvm.Cond.instanceMethod ({ cls := "SumHouse", name := "guess", desc := "(I)I" } : Jvm.MethodName)) ∈ lw_all := lw_g (lw_at lw_m7 20 rfl) rfl
theorem q1647 : (Jvm.Cond.selects "SumHouse" ({ cls := "SumHouse", name := "guess", desc := "(I)I" } : Jvm.MethodName) ({ cls := "SumHouse", name := "guess", desc := "(I)I" } : Jvm.MethodName)) ∈ lw_all := lw_g (lw_at lw_m7 21 rfl) rfl
theorem q1648 : (Jvm.Cond.code ({ cls := "SumHouse", name := "guess", desc := "(I)I" } : Jvm.MethodName) prog_1_method_120_code (5 : Nat) (Option.some Jvm.ClassFile.FieldType.int)) ∈ lw_all := lw_g (lw_at lw_m7 22 rfl) rfl
theorem q1649 : (Jvm.Cond.methodLink "SumHouse" (860 : Nat) ({ cls := "SumHouse", name := "hanging", desc := "(II)I" } : Jvm.MethodName)) ∈ lw_all := lw_g (lw_at lw_m7 23 rfl) rfl
theorem q1650 : (Jvm.Cond.privateMethod ({ cls := "SumHouse", name := "hanging", desc := "(II)I" } : Jvm.MethodName)) ∈ lw_tbl := lw_at lw_m7 24 rfl
theorem q1651 : (Jvm.Cond.instanceMethod ({ cls := "SumHouse", name := "hanging", desc := "(II)I" } : Jvm.MethodName)) ∈ lw_all := lw_g (lw_at lw_m7 25 rfl) rfl
theorem q1652 : (Jvm.Cond.code ({ cls := "SumHouse", name := "hanging", desc := "(II)I" } : Jvm.MethodName) prog_1_method_118_code (9 : Nat) (Option.some Jvm.ClassFile.FieldType.int)) ∈ lw_all := lw_g (lw_at lw_m7 26 rfl) rfl
theorem q1653 : (Jvm.Cond.methodLink "SumHouse" (857 : Nat) ({ cls := "SumHouse", name := "clearColumn", desc := "(IIII)V" } : Jvm.MethodName)) ∈ lw_all := lw_g (lw_at lw_m7 27 rfl) rfl
theorem q1654 : (Jvm.Cond.privateMethod ({ cls := "SumHouse", name := "clearColumn", desc := "(IIII)V" } : Jvm.MethodName)) ∈ lw_tbl := lw_at lw_m7 28 rfl
theorem q1655 : (Jvm.Cond.instanceMethod ({ cls := "SumHouse", name := "clearColumn", desc := "(IIII)V" } : Jvm.MethodName)) ∈ lw_all := lw_g (lw_at lw_m7 29 rfl) rfl
theorem q1656 : (Jvm.Cond.code ({ cls := "SumHouse", name := "clearColumn", desc := "(IIII)V" } : Jvm.MethodName) prog_1_method_119_code (9 : Nat) (Option.none : Option Jvm.ClassFile.FieldType)) ∈ lw_all := lw_g (lw_at lw_m7 30 rfl) rfl
theorem q1657 : (Jvm.Cond.methodLink "SumHouse" (863 : Nat) ({ cls := "SumHouse", name := "keepGuess", desc := "(IIII)I" } : Jvm.MethodName)) ∈ lw_all := lw_g (lw_at lw_m7 31 rfl) rfl
theorem q1658 : (Jvm.Cond.privateMethod ({ cls := "SumHouse", name := "keepGuess", desc := "(IIII)I" } : Jvm.MethodName)) ∈ lw_tbl := lw_at lw_m7 32 rfl
theorem q1659 : (Jvm.Cond.instanceMethod ({ cls := "SumHouse", name := "keepGuess", desc := "(IIII)I" } : Jvm.MethodName)) ∈ lw_all := lw_g (lw_at lw_m7 33 rfl) rfl
theorem q1660 : (Jvm.Cond.code ({ cls := "SumHouse", name := "keepGuess", desc := "(IIII)I" } : Jvm.MethodName) prog_1_method_121_code (8 : Nat) (Option.some Jvm.ClassFile.FieldType.int)) ∈ lw_all := lw_g (lw_at lw_m7 34 rfl) rfl
theorem q1662 : (Jvm.Cond.instanceMethod ({ cls := "SumHouse", name := "roots", desc := "(I)I" } : Jvm.MethodName)) ∈ lw_all := lw_g (lw_at lw_m7 36 rfl) rfl
theorem q1663 : (Jvm.Cond.selects "SumHouse" ({ cls := "SumHouse", name := "roots", desc := "(I)I" } : Jvm.MethodName) ({ cls := "SumHouse", name := "roots", desc := "(I)I" } : Jvm.MethodName)) ∈ lw_all := lw_g (lw_at lw_m7 37 rfl) rfl
theorem q1664 : (Jvm.Cond.code ({ cls := "SumHouse", name := "roots", desc := "(I)I" } : Jvm.MethodName) prog_1_method_123_code (2 : Nat) (Option.some Jvm.ClassFile.FieldType.int)) ∈ lw_all := lw_g (lw_at lw_m7 38 rfl) rfl
theorem q1665 : (Jvm.Cond.methodLink "SumHouse" (870 : Nat) ({ cls := "SumHouse$Poly", name := "monic", desc := "()V" } : Jvm.MethodName)) ∈ lw_all := lw_g (lw_at lw_m7 39 rfl) rfl
theorem q1666 : (Jvm.Cond.methodLink "SumHouse" (879 : Nat) ({ cls := "SumHouse", name := "powerBy", desc := "(IJLSumHouse$Poly;LSumHouse$Poly;)V" } : Jvm.MethodName)) ∈ lw_all := lw_g (lw_at lw_m7 40 rfl) rfl
theorem q1667 : (Jvm.Cond.privateMethod ({ cls := "SumHouse", name := "powerBy", desc := "(IJLSumHouse$Poly;LSumHouse$Poly;)V" } : Jvm.MethodName)) ∈ lw_tbl := lw_at lw_m7 41 rfl
theorem q1668 : (Jvm.Cond.instanceMethod ({ cls := "SumHouse", name := "powerBy", desc := "(IJLSumHouse$Poly;LSumHouse$Poly;)V" } : Jvm.MethodName)) ∈ lw_all := lw_g (lw_at lw_m7 42 rfl) rfl
theorem q1669 : (Jvm.Cond.code ({ cls := "SumHouse", name := "powerBy", desc := "(IJLSumHouse$Poly;LSumHouse$Poly;)V" } : Jvm.MethodName) prog_1_method_122_code (8 : Nat) (Option.none : Option Jvm.ClassFile.FieldType)) ∈ lw_all := lw_g (lw_at lw_m7 43 rfl) rfl
theorem q1670 : (Jvm.Cond.methodLink "SumHouse" (867 : Nat) ({ cls := "SumHouse$Poly", name := "divide", desc := "(LSumHouse$Poly;LSumHouse$Poly;)V" } : Jvm.MethodName)) ∈ lw_all := lw_g (lw_at lw_m7 44 rfl) rfl
theorem q1671 : (Jvm.Cond.methodLink "SumHouse" (883 : Nat) ({ cls := "SumHouse", name := "split", desc := "(LSumHouse$Poly;)V" } : Jvm.MethodName)) ∈ lw_all := lw_g (lw_at lw_m7 45 rfl) rfl
theorem q1672 : (Jvm.Cond.privateMethod ({ cls := "SumHouse", name := "split", desc := "(LSumHouse$Poly;)V" } : Jvm.MethodName)) ∈ lw_tbl := lw_at lw_m7 46 rfl
theorem q1673 : (Jvm.Cond.instanceMethod ({ cls := "SumHouse", name := "split", desc := "(LSumHouse$Poly;)V" } : Jvm.MethodName)) ∈ lw_all := lw_g (lw_at lw_m7 47 rfl) rfl
theorem q1674 : (Jvm.Cond.code ({ cls := "SumHouse", name := "split", desc := "(LSumHouse$Poly;)V" } : Jvm.MethodName) prog_1_method_124_code (4 : Nat) (Option.none : Option Jvm.ClassFile.FieldType)) ∈ lw_all := lw_g (lw_at lw_m7 48 rfl) rfl
theorem q1675 : (Jvm.Cond.methodLink "SumHouse" (890 : Nat) ({ cls := "SumHouse", name := "addRoot", desc := "(I)V" } : Jvm.MethodName)) ∈ lw_all := lw_g (lw_at lw_m7 49 rfl) rfl
theorem q1676 : (Jvm.Cond.privateMethod ({ cls := "SumHouse", name := "addRoot", desc := "(I)V" } : Jvm.MethodName)) ∈ lw_tbl := lw_at lw_m7 50 rfl
theorem q1677 : (Jvm.Cond.instanceMethod ({ cls := "SumHouse", name := "addRoot", desc := "(I)V" } : Jvm.MethodName)) ∈ lw_all := lw_g (lw_at lw_m7 51 rfl) rfl
theorem q1678 : (Jvm.Cond.code ({ cls := "SumHouse", name := "addRoot", desc := "(I)V" } : Jvm.MethodName) prog_1_method_125_code (2 : Nat) (Option.none : Option Jvm.ClassFile.FieldType)) ∈ lw_all := lw_g (lw_at lw_m7 52 rfl) rfl
theorem q1679 : (Jvm.Cond.constantLong "SumHouse" (893 : Nat) (1073741823 : Int64)) ∈ lw_all := lw_g (lw_at lw_m7 53 rfl) rfl
theorem q1680 : (Jvm.Cond.methodLink "SumHouse" (886 : Nat) ({ cls := "SumHouse", name := "sortRoots", desc := "()V" } : Jvm.MethodName)) ∈ lw_all := lw_g (lw_at lw_m7 54 rfl) rfl
theorem q1681 : (Jvm.Cond.privateMethod ({ cls := "SumHouse", name := "sortRoots", desc := "()V" } : Jvm.MethodName)) ∈ lw_tbl := lw_at lw_m7 55 rfl
theorem q1682 : (Jvm.Cond.instanceMethod ({ cls := "SumHouse", name := "sortRoots", desc := "()V" } : Jvm.MethodName)) ∈ lw_all := lw_g (lw_at lw_m7 56 rfl) rfl
theorem q1683 : (Jvm.Cond.code ({ cls := "SumHouse", name := "sortRoots", desc := "()V" } : Jvm.MethodName) prog_1_method_126_code (4 : Nat) (Option.none : Option Jvm.ClassFile.FieldType)) ∈ lw_all := lw_g (lw_at lw_m7 57 rfl) rfl
theorem q1685 : (Jvm.Cond.instanceMethod ({ cls := "SumHouse", name := "root", desc := "(I)I" } : Jvm.MethodName)) ∈ lw_all := lw_g (lw_at lw_m7 59 rfl) rfl
theorem q1686 : (Jvm.Cond.selects "SumHouse" ({ cls := "SumHouse", name := "root", desc := "(I)I" } : Jvm.MethodName) ({ cls := "SumHouse", name := "root", desc := "(I)I" } : Jvm.MethodName)) ∈ lw_all := lw_g (lw_at lw_m7 60 rfl) rfl
theorem q1687 : (Jvm.Cond.code ({ cls := "SumHouse", name := "root", desc := "(I)I" } : Jvm.MethodName) prog_1_method_127_code (2 : Nat) (Option.some Jvm.ClassFile.FieldType.int)) ∈ lw_all := lw_g (lw_at lw_m7 61 rfl) rfl
theorem q1689 : (Jvm.Cond.instanceMethod ({ cls := "SumHouse", name := "solve", desc := "(II)I" } : Jvm.MethodName)) ∈ lw_all := lw_g (lw_at lw_m7 63 rfl) rfl
theorem q1690 : (Jvm.Cond.selects "SumHouse" ({ cls := "SumHouse", name := "solve", desc := "(II)I" } : Jvm.MethodName) ({ cls := "SumHouse", name := "solve", desc := "(II)I" } : Jvm.MethodName)) ∈ lw_all := lw_g (lw_at lw_m7 64 rfl) rfl
theorem q1691 : (Jvm.Cond.code ({ cls := "SumHouse", name := "solve", desc := "(II)I" } : Jvm.MethodName) prog_1_method_129_code (5 : Nat) (Option.some Jvm.ClassFile.FieldType.int)) ∈ lw_all := lw_g (lw_at lw_m7 65 rfl) rfl
theorem q1692 : (Jvm.Cond.methodLink "SumHouse" (895 : Nat) ({ cls := "SumHouse", name := "takeLines", desc := "(LSumHouse$Poly;I)Z" } : Jvm.MethodName)) ∈ lw_all := lw_g (lw_at lw_m7 66 rfl) rfl
theorem q1693 : (Jvm.Cond.privateMethod ({ cls := "SumHouse", name := "takeLines", desc := "(LSumHouse$Poly;I)Z" } : Jvm.MethodName)) ∈ lw_tbl := lw_at lw_m7 67 rfl
theorem q1694 : (Jvm.Cond.instanceMethod ({ cls := "SumHouse", name := "takeLines", desc := "(LSumHouse$Poly;I)Z" } : Jvm.MethodName)) ∈ lw_all := lw_g (lw_at lw_m7 68 rfl) rfl
theorem q1695 : (Jvm.Cond.code ({ cls := "SumHouse", name := "takeLines", desc := "(LSumHouse$Poly;I)Z" } : Jvm.MethodName) prog_1_method_128_code (4 : Nat) (Option.some Jvm.ClassFile.FieldType.boolean)) ∈ lw_all := lw_g (lw_at lw_m7 69 rfl) rfl
theorem q1697 : (Jvm.Cond.instanceMethod ({ cls := "SumHouse", name := "work", desc := "(IIII)I" } : Jvm.MethodName)) ∈ lw_all := lw_g (lw_at lw_m7 71 rfl) rfl
theorem q1698 : (Jvm.Cond.selects "SumHouse" ({ cls := "SumHouse", name := "work", desc := "(IIII)I" } : Jvm.MethodName) ({ cls := "SumHouse", name := "work", desc := "(IIII)I" } : Jvm.MethodName)) ∈ lw_all := lw_g (lw_at lw_m7 72 rfl) rfl
theorem q1699 : (Jvm.Cond.code ({ cls := "SumHouse", name := "work", desc := "(IIII)I" } : Jvm.MethodName) prog_1_method_131_code (10 : Nat) (Option.some Jvm.ClassFile.FieldType.int)) ∈ lw_all := lw_g (lw_at lw_m7 73 rfl) rfl
theorem q1700 : (Jvm.Cond.methodLink "SumHouse" (899 : Nat) ({ cls := "SumHouse", name := "isPlainPolynomial", desc := "(LSumHouse$Item;)Z" } : Jvm.MethodName)) ∈ lw_all := lw_g (lw_at lw_m7 74 rfl) rfl
theorem q1701 : (Jvm.Cond.static ({ cls := "SumHouse", name := "isPlainPolynomial", desc := "(LSumHouse$Item;)Z" } : Jvm.MethodName)) ∈ lw_all := lw_g (lw_at lw_m7 75 rfl) rfl
theorem q1702 : (Jvm.Cond.code ({ cls := "SumHouse", name := "isPlainPolynomial", desc := "(LSumHouse$Item;)Z" } : Jvm.MethodName) prog_1_method_130_code (1 : Nat) (Option.some Jvm.ClassFile.FieldType.boolean)) ∈ lw_all := lw_g (lw_at lw_m7 76 rfl) rfl
theorem q1703 : (Jvm.Cond.methodLink "SumHouse" (902 : Nat) ({ cls := "SumHouse", name := "resultant", desc := "(LSumHouse$Duo;LSumHouse$Duo;Z)Z" } : Jvm.MethodName)) ∈ lw_all := lw_g (lw_at lw_m7 77 rfl) rfl
theorem q1704 : (Jvm.Cond.privateMethod ({ cls := "SumHouse", name := "resultant", desc := "(LSumHouse$Duo;LSumHouse$Duo;Z)Z" } : Jvm.MethodName)) ∈ lw_tbl := lw_at lw_m7 78 rfl
theorem q1705 : (Jvm.Cond.instanceMethod ({ cls := "SumHouse", name := "resultant", desc := "(LSumHouse$Duo;LSumHouse$Duo;Z)Z" } : Jvm.MethodName)) ∈ lw_all := lw_g (lw_at lw_m7 79 rfl) rfl
theorem q1706 : (Jvm.Cond.code ({ cls := "SumHouse", name := "resultant", desc := "(LSumHouse$Duo;LSumHouse$Duo;Z)Z" } : Jvm.MethodName) prog_1_method_132_code (9 : Nat) (Option.some Jvm.ClassFile.FieldType.boolean)) ∈ lw_all := lw_g (lw_at lw_m7 80 rfl) rfl
theorem q1707 : (Jvm.Cond.methodLink "SumHouse" (906 : Nat) ({ cls := "SumHouse$Duo", name := "turn", desc := "(LSumHouse$Duo;)V" } : Jvm.MethodName)) ∈ lw_all := lw_g (lw_at lw_m7 81 rfl) rfl
theorem q1711 : (Jvm.Cond.methodLink "SumHouse" (909 : Nat) ({ cls := "SumHouse", name := "resultantOf", desc := "()I" } : Jvm.MethodName)) ∈ lw_all := lw_g (lw_at lw_m7 85 rfl) rfl
theorem q1712 : (Jvm.Cond.privateMethod ({ cls := "SumHouse", name := "resultantOf", desc := "()I" } : Jvm.MethodName)) ∈ lw_tbl := lw_at lw_m7 86 rfl
theorem q1713 : (Jvm.Cond.instanceMethod ({ cls := "SumHouse", name := "resultantOf", desc := "()I" } : Jvm.MethodName)) ∈ lw_all := lw_g (lw_at lw_m7 87 rfl) rfl
theorem q1714 : (Jvm.Cond.code ({ cls := "SumHouse", name := "resultantOf", desc := "()I" } : Jvm.MethodName) prog_1_method_133_code (4 : Nat) (Option.some Jvm.ClassFile.FieldType.int)) ∈ lw_all := lw_g (lw_at lw_m7 88 rfl) rfl
theorem q1715 : (Jvm.Cond.methodLink "SumHouse" (912 : Nat) ({ cls := "SumHouse$Parts", name := "interpolate", desc := "([I[IILSumHouse$Poly;)V" } : Jvm.MethodName)) ∈ lw_all := lw_g (lw_at lw_m7 89 rfl) rfl
theorem q1717 : (Jvm.Cond.instanceMethod ({ cls := "SumHouse", name := "change", desc := "(IIII)I" } : Jvm.MethodName)) ∈ lw_all := lw_g (lw_at lw_m7 91 rfl) rfl
theorem q1718 : (Jvm.Cond.selects "SumHouse" ({ cls := "SumHouse", name := "change", desc := "(IIII)I" } : Jvm.MethodName) ({ cls := "SumHouse", name := "change", desc := "(IIII)I" } : Jvm.MethodName)) ∈ lw_all := lw_g (lw_at lw_m7 92 rfl) rfl
theorem q1719 : (Jvm.Cond.code ({ cls := "SumHouse", name := "change", desc := "(IIII)I" } : Jvm.MethodName) prog_1_method_139_code (8 : Nat) (Option.some Jvm.ClassFile.FieldType.int)) ∈ lw_all := lw_g (lw_at lw_m7 93 rfl) rfl
theorem q1720 : (Jvm.Cond.methodLink "SumHouse" (935 : Nat) ({ cls := "SumHouse", name := "moveTerm", desc := "(LSumHouse$Item;ZI)Z" } : Jvm.MethodName)) ∈ lw_all := lw_g (lw_at lw_m7 94 rfl) rfl
theorem q1721 : (Jvm.Cond.privateMethod ({ cls := "SumHouse", name := "moveTerm", desc := "(LSumHouse$Item;ZI)Z" } : Jvm.MethodName)) ∈ lw_tbl := lw_at lw_m7 95 rfl
theorem q1722 : (Jvm.Cond.instanceMethod ({ cls := "SumHouse", name := "moveTerm", desc := "(LSumHouse$Item;ZI)Z" } : Jvm.MethodName)) ∈ lw_all := lw_g (lw_at lw_m7 96 rfl) rfl
theorem q1723 : (Jvm.Cond.code ({ cls := "SumHouse", name := "moveTerm", desc := "(LSumHouse$Item;ZI)Z" } : Jvm.MethodName) prog_1_method_138_code (9 : Nat) (Option.some Jvm.ClassFile.FieldType.boolean)) ∈ lw_all := lw_g (lw_at lw_m7 97 rfl) rfl
theorem q1724 : (Jvm.Cond.constantLong "SumHouse" (927 : Nat) (-50 : Int64)) ∈ lw_all := lw_g (lw_at lw_m7 98 rfl) rfl
theorem q1725 : (Jvm.Cond.constantLong "SumHouse" (929 : Nat) (50 : Int64)) ∈ lw_all := lw_g (lw_at lw_m7 99 rfl) rfl
theorem q1726 : (Jvm.Cond.methodLink "SumHouse" (931 : Nat) ({ cls := "SumHouse", name := "layChange", desc := "(ILSumHouse$Ratio;I)Z" } : Jvm.MethodName)) ∈ lw_all := lw_g (lw_at lw_m7 100 rfl) rfl
theorem q1727 : (Jvm.Cond.privateMethod ({ cls := "SumHouse", name := "layChange", desc := "(ILSumHouse$Ratio;I)Z" } : Jvm.MethodName)) ∈ lw_tbl := lw_at lw_m7 101 rfl
theorem q1728 : (Jvm.Cond.instanceMethod ({ cls := "SumHouse", name := "layChange", desc := "(ILSumHouse$Ratio;I)Z" } : Jvm.MethodName)) ∈ lw_all := lw_g (lw_at lw_m7 102 rfl) rfl
theorem q1729 : (Jvm.Cond.code ({ cls := "SumHouse", name := "layChange", desc := "(ILSumHouse$Ratio;I)Z" } : Jvm.MethodName) prog_1_method_137_code (4 : Nat) (Option.some Jvm.ClassFile.FieldType.boolean)) ∈ lw_all := lw_g (lw_at lw_m7 103 rfl) rfl
theorem q1730 : (Jvm.Cond.methodLink "SumHouse" (916 : Nat) ({ cls := "SumHouse", name := "putN", desc := "(LSumHouse$Duo;ILSumHouse$Duo;)V" } : Jvm.MethodName)) ∈ lw_all := lw_g (lw_at lw_m7 104 rfl) rfl
theorem q1731 : (Jvm.Cond.privateMethod ({ cls := "SumHouse", name := "putN", desc := "(LSumHouse$Duo;ILSumHouse$Duo;)V" } : Jvm.MethodName)) ∈ lw_tbl := lw_at lw_m7 105 rfl
theorem q1732 : (Jvm.Cond.instanceMethod ({ cls := "SumHouse", name := "putN", desc := "(LSumHouse$Duo;ILSumHouse$Duo;)V" } : Jvm.MethodName)) ∈ lw_all := lw_g (lw_at lw_m7 106 rfl) rfl
theorem q1733 : (Jvm.Cond.code ({ cls := "SumHouse", name := "putN", desc := "(LSumHouse$Duo;ILSumHouse$Duo;)V" } : Jvm.MethodName) prog_1_method_134_code (5 : Nat) (Option.none : Option Jvm.ClassFile.FieldType)) ∈ lw_all := lw_g (lw_at lw_m7 107 rfl) rfl
theorem q1734 : (Jvm.Cond.methodLink "SumHouse" (920 : Nat) ({ cls := "SumHouse", name := "putK", desc := "(LSumHouse$Duo;ILSumHouse$Duo;)V" } : Jvm.MethodName)) ∈ lw_all := lw_g (lw_at lw_m7 108 rfl) rfl
theorem q1735 : (Jvm.Cond.privateMethod ({ cls := "SumHouse", name := "putK", desc := "(LSumHouse$Duo;ILSumHouse$Duo;)V" } : Jvm.MethodName)) ∈ lw_tbl := lw_at lw_m7 109 rfl
theorem q1736 : (Jvm.Cond.instanceMethod ({ cls := "SumHouse", name := "putK", desc := "(LSumHouse$Duo;ILSumHouse$Duo;)V" } : Jvm.MethodName)) ∈ lw_all := lw_g (lw_at lw_m7 110 rfl) rfl
theorem q1737 : (Jvm.Cond.code ({ cls := "SumHouse", name := "putK", desc := "(LSumHouse$Duo;ILSumHouse$Duo;)V" } : Jvm.MethodName) prog_1_method_135_code (5 : Nat) (Option.none : Option Jvm.ClassFile.FieldType)) ∈ lw_all := lw_g (lw_at lw_m7 111 rfl) rfl
theorem q1738 : (Jvm.Cond.methodLink "SumHouse" (923 : Nat) ({ cls := "SumHouse", name := "derive", desc := "(LSumHouse$Duo;ZLSumHouse$Duo;)V" } : Jvm.MethodName)) ∈ lw_all := lw_g (lw_at lw_m7 112 rfl) rfl
theorem q1739 : (Jvm.Cond.privateMethod ({ cls := "SumHouse", name := "derive", desc := "(LSumHouse$Duo;ZLSumHouse$Duo;)V" } : Jvm.MethodName)) ∈ lw_tbl := lw_at lw_m7 113 rfl
theorem q1740 : (Jvm.Cond.instanceMethod ({ cls := "SumHouse", name := "derive", desc := "(LSumHouse$Duo;ZLSumHouse$Duo;)V" } : Jvm.MethodName)) ∈ lw_all := lw_g (lw_at lw_m7 114 rfl) rfl
theorem q1741 : (Jvm.Cond.code ({ cls := "SumHouse", name := "derive", desc := "(LSumHouse$Duo;ZLSumHouse$Duo;)V" } : Jvm.MethodName) prog_1_method_136_code (7 : Nat) (Option.none : Option Jvm.ClassFile.FieldType)) ∈ lw_all := lw_g (lw_at lw_m7 115 rfl) rfl
theorem q1743 : (Jvm.Cond.instanceMethod ({ cls := "SumHouse", name := "count", desc := "(I)I" } : Jvm.MethodName)) ∈ lw_all := lw_g (lw_at lw_m7 117 rfl) rfl
theorem q1744 : (Jvm.Cond.selects "SumHouse" ({ cls := "SumHouse", name := "count", desc := "(I)I" } : Jvm.MethodName) ({ cls := "SumHouse", name := "count", desc := "(I)I" } : Jvm.MethodName)) ∈ lw_all := lw_g (lw_at lw_m7 118 rfl) rfl
theorem q1745 : (Jvm.Cond.code ({ cls := "SumHouse", name := "count", desc := "(I)I" } : Jvm.MethodName) prog_1_method_140_code (5 : Nat) (Option.some Jvm.ClassFile.FieldType.int)) ∈ lw_all := lw_g (lw_at lw_m7 119 rfl) rfl
theorem q188 : (Jvm.Cond.initialized "SumHouse$Parts") ∈ lw_all := lw_g (lw_at lw_m1 2 rfl) rfl
theorem q220 : (Jvm.Cond.instantiable "SumHouse$Parts" (20 : Nat)) ∈ lw_all := lw_g (lw_at lw_m1 34 rfl) rfl
theorem q222 : (Jvm.Cond.instanceMethod ({ cls := "SumHouse$Parts", name := "<init>", desc := "()V" } : Jvm.MethodName)) ∈ lw_all := lw_g (lw_at lw_m1 36 rfl) rfl
theorem q223 : (Jvm.Cond.code ({ cls := "SumHouse$Parts", name := "<init>", desc := "()V" } : Jvm.MethodName) prog_6_method_1_code (1 : Nat) (Option.none : Option Jvm.ClassFile.FieldType)) ∈ lw_all := lw_g (lw_at lw_m1 37 rfl) rfl
theorem q224 : (Jvm.Cond.methodLink "SumHouse$Parts" (1 : Nat) ({ cls := "java/lang/Object", name := "<init>", desc := "()V" } : Jvm.MethodName)) ∈ lw_all := lw_g (lw_at lw_m1 38 rfl) rfl
theorem q225 : (Jvm.Cond.classLink "SumHouse$Parts" (7 : Nat) "SumHouse$Divisors") ∈ lw_all := lw_g (lw_at lw_m1 39 rfl) rfl
theorem q227 : (Jvm.Cond.methodLink "SumHouse$Parts" (11 : Nat) ({ cls := "SumHouse$Divisors", name := "<init>", desc := "(I)V" } : Jvm.MethodName)) ∈ lw_all := lw_g (lw_at lw_m1 41 rfl) rfl
theorem q238 : (Jvm.Cond.fieldLinkNest "SumHouse$Parts" (99 : Nat) "SumHouse$Poly" "at" "[I" "SumHouse") ∈ lw_tbl := lw_at lw_m1 52 rfl
theorem q243 : (Jvm.Cond.fieldLinkNest "SumHouse$Parts" (88 : Nat) "SumHouse$Poly" "size" "I" "SumHouse") ∈ lw_tbl := lw_at lw_m1 57 rfl
theorem q265 : (Jvm.Cond.classLink "SumHouse$Parts" (18 : Nat) "SumHouse$Poly") ∈ lw_all := lw_g (lw_at lw_m1 79 rfl) rfl
theorem q266 : (Jvm.Cond.methodLink "SumHouse$Parts" (20 : Nat) ({ cls := "SumHouse$Poly", name := "<init>", desc := "(I)V" } : Jvm.MethodName)) ∈ lw_all := lw_g (lw_at lw_m1 80 rfl) rfl
theorem q267 : (Jvm.Cond.classLink "SumHouse$Parts" (43 : Nat) "SumHouse$Duo") ∈ lw_all := lw_g (lw_at lw_m1 81 rfl) rfl
theorem q269 : (Jvm.Cond.methodLink "SumHouse$Parts" (45 : Nat) ({ cls := "SumHouse$Duo", name := "<init>", desc := "(II)V" } : Jvm.MethodName)) ∈ lw_all := lw_g (lw_at lw_m1 83 rfl) rfl
theorem q274 : (Jvm.Cond.fieldLinkNest "SumHouse$Parts" (144 : Nat) "SumHouse$Duo" "wide" "I" "SumHouse") ∈ lw_tbl := lw_at lw_m1 88 rfl
theorem q277 : (Jvm.Cond.fieldLinkNest "SumHouse$Parts" (147 : Nat) "SumHouse$Duo" "at" "[I" "SumHouse") ∈ lw_tbl := lw_at lw_m1 91 rfl
theorem q281 : (Jvm.Cond.fieldLinkNest "SumHouse$Parts" (128 : Nat) "SumHouse$Duo" "sizeN" "I" "SumHouse") ∈ lw_tbl := lw_at lw_m1 95 rfl
theorem q284 : (Jvm.Cond.fieldLinkNest "SumHouse$Parts" (84 : Nat) "SumHouse$Duo" "sizeK" "I" "SumHouse") ∈ lw_tbl := lw_at lw_m1 98 rfl
theorem q296 : (Jvm.Cond.constant "SumHouse$Parts" (71 : Nat) (300000 : Int32)) ∈ lw_all := lw_g (lw_at lw_m1 110 rfl) rfl
theorem q297 : (Jvm.Cond.fieldLink "SumHouse$Parts" (14 : Nat) "SumHouse$Parts" "divisors" "LSumHouse$Divisors;") ∈ lw_all := lw_g (lw_at lw_m1 111 rfl) rfl
theorem q301 : (Jvm.Cond.fieldLink "SumHouse$Parts" (21 : Nat) "SumHouse$Parts" "one" "LSumHouse$Poly;") ∈ lw_all := lw_g (lw_at lw_m1 115 rfl) rfl
theorem q302 : (Jvm.Cond.fieldLink "SumHouse$Parts" (25 : Nat) "SumHouse$Parts" "two" "LSumHouse$Poly;") ∈ lw_all := lw_g (lw_at lw_m1 116 rfl) rfl
theorem q303 : (Jvm.Cond.fieldLink "SumHouse$Parts" (28 : Nat) "SumHouse$Parts" "gamma" "LSumHouse$Poly;") ∈ lw_all := lw_g (lw_at lw_m1 117 rfl) rfl
theorem q304 : (Jvm.Cond.fieldLink "SumHouse$Parts" (31 : Nat) "SumHouse$Parts" "shared" "LSumHouse$Poly;") ∈ lw_all := lw_g (lw_at lw_m1 118 rfl) rfl
theorem q305 : (Jvm.Cond.fieldLink "SumHouse$Parts" (34 : Nat) "SumHouse$Parts" "apart" "LSumHouse$Poly;") ∈ lw_all := lw_g (lw_at lw_m1 119 rfl) rfl
theorem q306 : (Jvm.Cond.fieldLink "SumHouse$Parts" (37 : Nat) "SumHouse$Parts" "quotientRow" "LSumHouse$Poly;") ∈ lw_all := lw_g (lw_at lw_m1 120 rfl) rfl
theorem q307 : (Jvm.Cond.fieldLink "SumHouse$Parts" (40 : Nat) "SumHouse$Parts" "product" "LSumHouse$Poly;") ∈ lw_all := lw_g (lw_at lw_m1 121 rfl) rfl
theorem q308 : (Jvm.Cond.fieldLink "SumHouse$Parts" (48 : Nat) "SumHouse$Parts" "first" "LSumHouse$Duo;") ∈ lw_all := lw_g (lw_at lw_m1 122 rfl) rfl
theorem q309 : (Jvm.Cond.fieldLink "SumHouse$Parts" (52 : Nat) "SumHouse$Parts" "second" "LSumHouse$Duo;") ∈ lw_all := lw_g (lw_at lw_m1 123 rfl) rfl
theorem q310 : (Jvm.Cond.fieldLink "SumHouse$Parts" (55 : Nat) "SumHouse$Parts" "found" "LSumHouse$Duo;") ∈ lw_all := lw_g (lw_at lw_m1 124 rfl) rfl
theorem q311 : (Jvm.Cond.fieldLink "SumHouse$Parts" (58 : Nat) "SumHouse$Parts" "left" "LSumHouse$Duo;") ∈ lw_all := lw_g (lw_at lw_m1 125 rfl) rfl
theorem q312 : (Jvm.Cond.fieldLink "SumHouse$Parts" (61 : Nat) "SumHouse$Parts" "quotient" "LSumHouse$Duo;") ∈ lw_all := lw_g (lw_at lw_m1 126 rfl) rfl
theorem q313 : (Jvm.Cond.fieldLink "SumHouse$Parts" (64 : Nat) "SumHouse$Parts" "spare" "LSumHouse$Duo;") ∈ lw_all := lw_g (lw_at lw_m1 127 rfl) rfl
theorem q314 : (Jvm.Cond.fieldLink "SumHouse$Parts" (67 : Nat) "SumHouse$Parts" "places" "[I") ∈ lw_all := lw_g (lw_at lw_m1 128 rfl) rfl
theorem q315 : (Jvm.Cond.fieldLink "SumHouse$Parts" (72 : Nat) "SumHouse$Parts" "images" "[I") ∈ lw_all := lw_g (lw_at lw_m1 129 rfl) rfl
theorem q316 : (Jvm.Cond.fieldLink "SumHouse$Parts" (75 : Nat) "SumHouse$Parts" "table" "[I") ∈ lw_all := lw_g (lw_at lw_m1 130 rfl) rfl
theorem q317 : (Jvm.Cond.fieldLink "SumHouse$Parts" (78 : Nat) "SumHouse$Parts" "inverses" "[I") ∈ lw_all := lw_g (lw_at lw_m1 131 rfl) rfl
theorem q318 : (Jvm.Cond.fieldLink "SumHouse$Parts" (186 : Nat) "SumHouse$Parts" "many" "I") ∈ lw_all := lw_g (lw_at lw_m1 132 rfl) rfl
theorem q319 : (Jvm.Cond.fieldLink "SumHouse$Parts" (183 : Nat) "SumHouse$Parts" "best" "I") ∈ lw_all := lw_g (lw_at lw_m1 133 rfl) rfl
theorem q320 : (Jvm.Cond.laysFinal "SumHouse$Parts" "SumHouse$Parts" "divisors" "LSumHouse$Divisors;") ∈ lw_all := lw_g (lw_at lw_m1 134 rfl) rfl
theorem q321 : (Jvm.Cond.soleField "SumHouse$Parts" "divisors") ∈ lw_all := lw_g (lw_at lw_m1 135 rfl) rfl
theorem q322 : (Jvm.Cond.laysFinal "SumHouse$Parts" "SumHouse$Parts" "one" "LSumHouse$Poly;") ∈ lw_all := lw_g (lw_at lw_m1 136 rfl) rfl
theorem q323 : (Jvm.Cond.soleField "SumHouse$Parts" "one") ∈ lw_all := lw_g (lw_at lw_m1 137 rfl) rfl
theorem q324 : (Jvm.Cond.laysFinal "SumHouse$Parts" "SumHouse$Parts" "two" "LSumHouse$Poly;") ∈ lw_all := lw_g (lw_at lw_m1 138 rfl) rfl
theorem q325 : (Jvm.Cond.soleField "SumHouse$Parts" "two") ∈ lw_all := lw_g (lw_at lw_m1 139 rfl) rfl
theorem q326 : (Jvm.Cond.laysFinal "SumHouse$Parts" "SumHouse$Parts" "gamma" "LSumHouse$Poly;") ∈ lw_all := lw_g (lw_at lw_m1 140 rfl) rfl
theorem q327 : (Jvm.Cond.soleField "SumHouse$Parts" "gamma") ∈ lw_all := lw_g (lw_at lw_m1 141 rfl) rfl
theorem q328 : (Jvm.Cond.laysFinal "SumHouse$Parts" "SumHouse$Parts" "shared" "LSumHouse$Poly;") ∈ lw_all := lw_g (lw_at lw_m1 142 rfl) rfl
theorem q329 : (Jvm.Cond.soleField "SumHouse$Parts" "shared") ∈ lw_all := lw_g (lw_at lw_m1 143 rfl) rfl
theorem q330 : (Jvm.Cond.laysFinal "SumHouse$Parts" "SumHouse$Parts" "apart" "LSumHouse$Poly;") ∈ lw_all := lw_g (lw_at lw_m1 144 rfl) rfl
theorem q331 : (Jvm.Cond.soleField "SumHouse$Parts" "apart") ∈ lw_all := lw_g (lw_at lw_m1 145 rfl) rfl
theorem q332 : (Jvm.Cond.laysFinal "SumHouse$Parts" "SumHouse$Parts" "quotientRow" "LSumHouse$Poly;") ∈ lw_all := lw_g (lw_at lw_m1 146 rfl) rfl
theorem q333 : (Jvm.Cond.soleField "SumHouse$Parts" "quotientRow") ∈ lw_all := lw_g (lw_at lw_m1 147 rfl) rfl
theorem q334 : (Jvm.Cond.laysFinal "SumHouse$Parts" "SumHouse$Parts" "product" "LSumHouse$Poly;") ∈ lw_all := lw_g (lw_at lw_m1 148 rfl) rfl
theorem q335 : (Jvm.Cond.soleField "SumHouse$Parts" "product") ∈ lw_all := lw_g (lw_at lw_m1 149 rfl) rfl
theorem q336 : (Jvm.Cond.laysFinal "SumHouse$Parts" "SumHouse$Parts" "first" "LSumHouse$Duo;") ∈ lw_all := lw_g (lw_at lw_m1 150 rfl) rfl
theorem q337 : (Jvm.Cond.soleField "SumHouse$Parts" "first") ∈ lw_all := lw_g (lw_at lw_m1 151 rfl) rfl
theorem q338 : (Jvm.Cond.laysFinal "SumHouse$Parts" "SumHouse$Parts" "second" "LSumHouse$Duo;") ∈ lw_all := lw_g (lw_at lw_m1 152 rfl) rfl
theorem q339 : (Jvm.Cond.soleField "SumHouse$Parts" "second") ∈ lw_all := lw_g (lw_at lw_m1 153 rfl) rfl
theorem q340 : (Jvm.Cond.laysFinal "SumHouse$Parts" "SumHouse$Parts" "found" "LSumHouse$Duo;") ∈ lw_all := lw_g (lw_at lw_m1 154 rfl) rfl
theorem q341 : (Jvm.Cond.soleField "SumHouse$Parts" "found") ∈ lw_all := lw_g (lw_at lw_m1 155 rfl) rfl
theorem q342 : (Jvm.Cond.laysFinal "SumHouse$Parts" "SumHouse$Parts" "left" "LSumHouse$Duo;") ∈ lw_all := lw_g (lw_at lw_m1 156 rfl) rfl
theorem q343 : (Jvm.Cond.soleField "SumHouse$Parts" "left") ∈ lw_all := lw_g (lw_at lw_m1 157 rfl) rfl
theorem q344 : (Jvm.Cond.laysFinal "SumHouse$Parts" "SumHouse$Parts" "quotient" "LSumHouse$Duo;") ∈ lw_all := lw_g (lw_at lw_m1 158 rfl) rfl
theorem q345 : (Jvm.Cond.soleField "SumHouse$Parts" "quotient") ∈ lw_all := lw_g (lw_at lw_m1 159 rfl) rfl
theorem q346 : (Jvm.Cond.laysFinal "SumHouse$Parts" "SumHouse$Parts" "spare" "LSumHouse$Duo;") ∈ lw_all := lw_g (lw_at lw_m1 160 rfl) rfl
theorem q347 : (Jvm.Cond.soleField "SumHouse$Parts" "spare") ∈ lw_all := lw_g (lw_at lw_m1 161 rfl) rfl
theorem q348 : (Jvm.Cond.laysFinal "SumHouse$Parts" "SumHouse$Parts" "places" "[I") ∈ lw_all := lw_g (lw_at lw_m1 162 rfl) rfl
theorem q349 : (Jvm.Cond.soleField "SumHouse$Parts" "places") ∈ lw_all := lw_g (lw_at lw_m1 163 rfl) rfl
theorem q350 : (Jvm.Cond.laysFinal "SumHouse$Parts" "SumHouse$Parts" "images" "[I") ∈ lw_all := lw_g (lw_at lw_m1 164 rfl) rfl
theorem q351 : (Jvm.Cond.soleField "SumHouse$Parts" "images") ∈ lw_all := lw_g (lw_at lw_m1 165 rfl) rfl
theorem q352 : (Jvm.Cond.laysFinal "SumHouse$Parts" "SumHouse$Parts" "table" "[I") ∈ lw_all := lw_g (lw_at lw_m1 166 rfl) rfl
theorem q353 : (Jvm.Cond.soleField "SumHouse$Parts" "table") ∈ lw_all := lw_g (lw_at lw_m1 167 rfl) rfl
theorem q354 : (Jvm.Cond.laysFinal "SumHouse$Parts" "SumHouse$Parts" "inverses" "[I") ∈ lw_all := lw_g (lw_at lw_m1 168 rfl) rfl
theorem q355 : (Jvm.Cond.soleField "SumHouse$Parts" "inverses") ∈ lw_all := lw_g (lw_at lw_m1 169 rfl) rfl
theorem q356 : (Jvm.Cond.lays "SumHouse$Parts" "SumHouse$Parts" "many" "I") ∈ lw_all := lw_g (lw_at lw_m1 170 rfl) rfl
theorem q357 : (Jvm.Cond.soleField "SumHouse$Parts" "many") ∈ lw_all := lw_g (lw_at lw_m1 171 rfl) rfl
theorem q358 : (Jvm.Cond.lays "SumHouse$Parts" "SumHouse$Parts" "best" "I") ∈ lw_all := lw_g (lw_at lw_m1 172 rfl) rfl
theorem q359 : (Jvm.Cond.soleField "SumHouse$Parts" "best") ∈ lw_all := lw_g (lw_at lw_m1 173 rfl) rfl
theorem q360 : (Jvm.Cond.superclass "SumHouse$Parts" "java/lang/Object") ∈ lw_all := lw_g (lw_at lw_m1 174 rfl) rfl
theorem q1037 : (Jvm.Cond.instanceMethod ({ cls := "SumHouse$Parts", name := "common", desc := "(LSumHouse$Duo;LSumHouse$Duo;LSumHouse$Duo;)V" } : Jvm.MethodName)) ∈ lw_all := lw_g (lw_at lw_m4 131 rfl) rfl
theorem q1038 : (Jvm.Cond.selects "SumHouse$Parts" ({ cls := "SumHouse$Parts", name := "common", desc := "(LSumHouse$Duo;LSumHouse$Duo;LSumHouse$Duo;)V" } : Jvm.MethodName) ({ cls := "SumHouse$Parts", name := "common", desc := "(LSumHouse$Duo;LSumHouse$Duo;LSumHouse$Duo;)V" } : Jvm.MethodName)) ∈ lw_all := lw_g (lw_at lw_m4 132 rfl) rfl
theorem q1039 : (Jvm.Cond.code ({ cls := "SumHouse$Parts", name := "common", desc := "(LSumHouse$Duo;LSumHouse$Duo;LSumHouse$Duo;)V" } : Jvm.MethodName) prog_6_method_7_code (4 : Nat) (Option.none : Option Jvm.ClassFile.FieldType)) ∈ lw_all := lw_g (lw_at lw_m4 133 rfl) rfl
theorem q1040 : (Jvm.Cond.methodLink "SumHouse$Parts" (116 : Nat) ({ cls := "SumHouse$Duo", name := "isZero", desc := "()Z" } : Jvm.MethodName)) ∈ lw_all := lw_g (lw_at lw_m4 134 rfl) rfl
theorem q1041 : (Jvm.Cond.methodLink "SumHouse$Parts" (124 : Nat) ({ cls := "SumHouse$Duo", name := "copy", desc := "(LSumHouse$Duo;)V" } : Jvm.MethodName)) ∈ lw_all := lw_g (lw_at lw_m4 135 rfl) rfl
theorem q1042 : (Jvm.Cond.methodLink "SumHouse$Parts" (154 : Nat) ({ cls := "SumHouse$Parts", name := "makeHead", desc := "(LSumHouse$Duo;)V" } : Jvm.MethodName)) ∈ lw_all := lw_g (lw_at lw_m4 136 rfl) rfl
theorem q1043 : (Jvm.Cond.instanceMethod ({ cls := "SumHouse$Parts", name := "makeHead", desc := "(LSumHouse$Duo;)V" } : Jvm.MethodName)) ∈ lw_all := lw_g (lw_at lw_m4 137 rfl) rfl
theorem q1044 : (Jvm.Cond.selects "SumHouse$Parts" ({ cls := "SumHouse$Parts", name := "makeHead", desc := "(LSumHouse$Duo;)V" } : Jvm.MethodName) ({ cls := "SumHouse$Parts", name := "makeHead", desc := "(LSumHouse$Duo;)V" } : Jvm.MethodName)) ∈ lw_all := lw_g (lw_at lw_m4 138 rfl) rfl
theorem q1045 : (Jvm.Cond.code ({ cls := "SumHouse$Parts", name := "makeHead", desc := "(LSumHouse$Duo;)V" } : Jvm.MethodName) prog_6_method_8_code (2 : Nat) (Option.none : Option Jvm.ClassFile.FieldType)) ∈ lw_all := lw_g (lw_at lw_m4 139 rfl) rfl
theorem q1046 : (Jvm.Cond.methodLink "SumHouse$Parts" (167 : Nat) ({ cls := "SumHouse$Duo", name := "head", desc := "()I" } : Jvm.MethodName)) ∈ lw_all := lw_g (lw_at lw_m4 140 rfl) rfl
theorem q1050 : (Jvm.Cond.methodLinkNest "SumHouse$Parts" (171 : Nat) ({ cls := "SumHouse", name := "inverse", desc := "(I)I" } : Jvm.MethodName) "SumHouse") ∈ lw_tbl := lw_at lw_m4 144 rfl
theorem q1051 : (Jvm.Cond.methodLink "SumHouse$Parts" (175 : Nat) ({ cls := "SumHouse$Duo", name := "scale", desc := "(I)V" } : Jvm.MethodName)) ∈ lw_all := lw_g (lw_at lw_m4 145 rfl) rfl
theorem q1052 : (Jvm.Cond.methodLink "SumHouse$Parts" (157 : Nat) ({ cls := "SumHouse$Parts", name := "primitive", desc := "(LSumHouse$Duo;LSumHouse$Poly;)V" } : Jvm.MethodName)) ∈ lw_all := lw_g (lw_at lw_m4 146 rfl) rfl
theorem q1053 : (Jvm.Cond.instanceMethod ({ cls := "SumHouse$Parts", name := "primitive", desc := "(LSumHouse$Duo;LSumHouse$Poly;)V" } : Jvm.MethodName)) ∈ lw_all := lw_g (lw_at lw_m4 147 rfl) rfl
theorem q1054 : (Jvm.Cond.selects "SumHouse$Parts" ({ cls := "SumHouse$Parts", name := "primitive", desc := "(LSumHouse$Duo;LSumHouse$Poly;)V" } : Jvm.MethodName) ({ cls := "SumHouse$Parts", name := "primitive", desc := "(LSumHouse$Duo;LSumHouse$Poly;)V" } : Jvm.MethodName)) ∈ lw_all := lw_g (lw_at lw_m4 148 rfl) rfl
theorem q1055 : (Jvm.Cond.code ({ cls := "SumHouse$Parts", name := "primitive", desc := "(LSumHouse$Duo;LSumHouse$Poly;)V" } : Jvm.MethodName) prog_6_method_4_code (3 : Nat) (Option.none : Option Jvm.ClassFile.FieldType)) ∈ lw_all := lw_g (lw_at lw_m4 149 rfl) rfl
theorem q1056 : (Jvm.Cond.methodLink "SumHouse$Parts" (112 : Nat) ({ cls := "SumHouse$Parts", name := "content", desc := "(LSumHouse$Duo;LSumHouse$Poly;)V" } : Jvm.MethodName)) ∈ lw_all := lw_g (lw_at lw_m4 150 rfl) rfl
theorem q1057 : (Jvm.Cond.instanceMethod ({ cls := "SumHouse$Parts", name := "content", desc := "(LSumHouse$Duo;LSumHouse$Poly;)V" } : Jvm.MethodName)) ∈ lw_all := lw_g (lw_at lw_m4 151 rfl) rfl
theorem q1058 : (Jvm.Cond.selects "SumHouse$Parts" ({ cls := "SumHouse$Parts", name := "content", desc := "(LSumHouse$Duo;LSumHouse$Poly;)V" } : Jvm.MethodName) ({ cls := "SumHouse$Parts", name := "content", desc := "(LSumHouse$Duo;LSumHouse$Poly;)V" } : Jvm.MethodName)) ∈ lw_all := lw_g (lw_at lw_m4 152 rfl) rfl
theorem q1059 : (Jvm.Cond.code ({ cls := "SumHouse$Parts", name := "content", desc := "(LSumHouse$Duo;LSumHouse$Poly;)V" } : Jvm.MethodName) prog_6_method_2_code (4 : Nat) (Option.none : Option Jvm.ClassFile.FieldType)) ∈ lw_all := lw_g (lw_at lw_m4 153 rfl) rfl
theorem q1060 : (Jvm.Cond.methodLink "SumHouse$Parts" (81 : Nat) ({ cls := "SumHouse$Poly", name := "clear", desc := "()V" } : Jvm.MethodName)) ∈ lw_all := lw_g (lw_at lw_m4 154 rfl) rfl
theorem q1064 : (Jvm.Cond.methodLink "SumHouse$Parts" (91 : Nat) ({ cls := "SumHouse$Duo", name := "row", desc := "(ILSumHouse$Poly;)V" } : Jvm.MethodName)) ∈ lw_all := lw_g (lw_at lw_m4 158 rfl) rfl
theorem q1072 : (Jvm.Cond.methodLink "SumHouse$Parts" (95 : Nat) ({ cls := "SumHouse$Divisors", name := "common", desc := "(LSumHouse$Poly;LSumHouse$Poly;LSumHouse$Poly;)V" } : Jvm.MethodName)) ∈ lw_all := lw_g (lw_at lw_m4 166 rfl) rfl
theorem q1111 : (Jvm.Cond.methodLink "SumHouse$Parts" (120 : Nat) ({ cls := "SumHouse$Parts", name := "divideRows", desc := "(LSumHouse$Duo;LSumHouse$Poly;)V" } : Jvm.MethodName)) ∈ lw_all := lw_g (lw_at lw_m4 205 rfl) rfl
theorem q1112 : (Jvm.Cond.instanceMethod ({ cls := "SumHouse$Parts", name := "divideRows", desc := "(LSumHouse$Duo;LSumHouse$Poly;)V" } : Jvm.MethodName)) ∈ lw_all := lw_g (lw_at lw_m4 206 rfl) rfl
theorem q1113 : (Jvm.Cond.selects "SumHouse$Parts" ({ cls := "SumHouse$Parts", name := "divideRows", desc := "(LSumHouse$Duo;LSumHouse$Poly;)V" } : Jvm.MethodName) ({ cls := "SumHouse$Parts", name := "divideRows", desc := "(LSumHouse$Duo;LSumHouse$Poly;)V" } : Jvm.MethodName)) ∈ lw_all := lw_g (lw_at lw_m4 207 rfl) rfl
theorem q1114 : (Jvm.Cond.code ({ cls := "SumHouse$Parts", name := "divideRows", desc := "(LSumHouse$Duo;LSumHouse$Poly;)V" } : Jvm.MethodName) prog_6_method_3_code (4 : Nat) (Option.none : Option Jvm.ClassFile.FieldType)) ∈ lw_all := lw_g (lw_at lw_m4 208 rfl) rfl
theorem q1115 : (Jvm.Cond.methodLink "SumHouse$Parts" (102 : Nat) ({ cls := "SumHouse$Divisors", name := "divideExactly", desc := "(LSumHouse$Poly;LSumHouse$Poly;)V" } : Jvm.MethodName)) ∈ lw_all := lw_g (lw_at lw_m4 209 rfl) rfl
theorem q1121 : (Jvm.Cond.methodLink "SumHouse$Parts" (106 : Nat) ({ cls := "SumHouse$Duo", name := "putRow", desc := "(ILSumHouse$Poly;)V" } : Jvm.MethodName)) ∈ lw_all := lw_g (lw_at lw_m4 215 rfl) rfl
theorem q1129 : (Jvm.Cond.methodLink "SumHouse$Parts" (109 : Nat) ({ cls := "SumHouse$Duo", name := "trim", desc := "()V" } : Jvm.MethodName)) ∈ lw_all := lw_g (lw_at lw_m4 223 rfl) rfl
theorem q1130 : (Jvm.Cond.methodLink "SumHouse$Parts" (160 : Nat) ({ cls := "SumHouse$Parts", name := "alongK", desc := "()Z" } : Jvm.MethodName)) ∈ lw_all := lw_g (lw_at lw_m4 224 rfl) rfl
theorem q1131 : (Jvm.Cond.privateMethod ({ cls := "SumHouse$Parts", name := "alongK", desc := "()Z" } : Jvm.MethodName)) ∈ lw_tbl := lw_at lw_m4 225 rfl
theorem q1132 : (Jvm.Cond.instanceMethod ({ cls := "SumHouse$Parts", name := "alongK", desc := "()Z" } : Jvm.MethodName)) ∈ lw_all := lw_g (lw_at lw_m4 226 rfl) rfl
theorem q1133 : (Jvm.Cond.code ({ cls := "SumHouse$Parts", name := "alongK", desc := "()Z" } : Jvm.MethodName) prog_6_method_9_code (3 : Nat) (Option.some Jvm.ClassFile.FieldType.boolean)) ∈ lw_all := lw_g (lw_at lw_m4 227 rfl) rfl
theorem q1134 : (Jvm.Cond.methodLink "SumHouse$Parts" (178 : Nat) ({ cls := "java/lang/Math", name := "min", desc := "(II)I" } : Jvm.MethodName)) ∈ lw_all := lw_g (lw_at lw_m4 228 rfl) rfl
theorem q1135 : (Jvm.Cond.methodLink "SumHouse$Parts" (189 : Nat) ({ cls := "SumHouse$Parts", name := "look", desc := "(II)I" } : Jvm.MethodName)) ∈ lw_all := lw_g (lw_at lw_m4 229 rfl) rfl
theorem q1136 : (Jvm.Cond.privateMethod ({ cls := "SumHouse$Parts", name := "look", desc := "(II)I" } : Jvm.MethodName)) ∈ lw_tbl := lw_at lw_m4 230 rfl
theorem q1137 : (Jvm.Cond.instanceMethod ({ cls := "SumHouse$Parts", name := "look", desc := "(II)I" } : Jvm.MethodName)) ∈ lw_all := lw_g (lw_at lw_m4 231 rfl) rfl
theorem q1138 : (Jvm.Cond.code ({ cls := "SumHouse$Parts", name := "look", desc := "(II)I" } : Jvm.MethodName) prog_6_method_10_code (4 : Nat) (Option.some Jvm.ClassFile.FieldType.int)) ∈ lw_all := lw_g (lw_at lw_m4 232 rfl) rfl
theorem q1139 : (Jvm.Cond.methodLink "SumHouse$Parts" (199 : Nat) ({ cls := "SumHouse$Duo", name := "atN", desc := "(ILSumHouse$Poly;)V" } : Jvm.MethodName)) ∈ lw_all := lw_g (lw_at lw_m4 233 rfl) rfl
theorem q1143 : (Jvm.Cond.methodLink "SumHouse$Parts" (202 : Nat) ({ cls := "SumHouse$Poly", name := "degree", desc := "()I" } : Jvm.MethodName)) ∈ lw_all := lw_g (lw_at lw_m4 237 rfl) rfl
theorem q1147 : (Jvm.Cond.methodLink "SumHouse$Parts" (205 : Nat) ({ cls := "SumHouse$Parts", name := "keep", desc := "(I)V" } : Jvm.MethodName)) ∈ lw_all := lw_g (lw_at lw_m5 1 rfl) rfl
theorem q1148 : (Jvm.Cond.privateMethod ({ cls := "SumHouse$Parts", name := "keep", desc := "(I)V" } : Jvm.MethodName)) ∈ lw_tbl := lw_at lw_m5 2 rfl
theorem q1149 : (Jvm.Cond.instanceMethod ({ cls := "SumHouse$Parts", name := "keep", desc := "(I)V" } : Jvm.MethodName)) ∈ lw_all := lw_g (lw_at lw_m5 3 rfl) rfl
theorem q1150 : (Jvm.Cond.code ({ cls := "SumHouse$Parts", name := "keep", desc := "(I)V" } : Jvm.MethodName) prog_6_method_11_code (4 : Nat) (Option.none : Option Jvm.ClassFile.FieldType)) ∈ lw_all := lw_g (lw_at lw_m5 4 rfl) rfl
theorem q1151 : (Jvm.Cond.methodLink "SumHouse$Parts" (208 : Nat) ({ cls := "SumHouse$Poly", name := "value", desc := "(I)I" } : Jvm.MethodName)) ∈ lw_all := lw_g (lw_at lw_m5 5 rfl) rfl
theorem q1156 : (Jvm.Cond.methodLinkNest "SumHouse$Parts" (211 : Nat) ({ cls := "SumHouse", name := "times", desc := "(II)I" } : Jvm.MethodName) "SumHouse") ∈ lw_tbl := lw_at lw_m5 10 rfl
theorem q1157 : (Jvm.Cond.methodLink "SumHouse$Parts" (192 : Nat) ({ cls := "SumHouse$Parts", name := "join", desc := "(I)V" } : Jvm.MethodName)) ∈ lw_all := lw_g (lw_at lw_m5 11 rfl) rfl
theorem q1158 : (Jvm.Cond.privateMethod ({ cls := "SumHouse$Parts", name := "join", desc := "(I)V" } : Jvm.MethodName)) ∈ lw_tbl := lw_at lw_m5 12 rfl
theorem q1159 : (Jvm.Cond.instanceMethod ({ cls := "SumHouse$Parts", name := "join", desc := "(I)V" } : Jvm.MethodName)) ∈ lw_all := lw_g (lw_at lw_m5 13 rfl) rfl
theorem q1160 : (Jvm.Cond.code ({ cls := "SumHouse$Parts", name := "join", desc := "(I)V" } : Jvm.MethodName) prog_6_method_12_code (4 : Nat) (Option.none : Option Jvm.ClassFile.FieldType)) ∈ lw_all := lw_g (lw_at lw_m5 14 rfl) rfl
theorem q1161 : (Jvm.Cond.methodLink "SumHouse$Parts" (131 : Nat) ({ cls := "SumHouse$Duo", name := "open", desc := "(II)V" } : Jvm.MethodName)) ∈ lw_all := lw_g (lw_at lw_m5 15 rfl) rfl
theorem q1162 : (Jvm.Cond.methodLink "SumHouse$Parts" (214 : Nat) ({ cls := "SumHouse$Parts", name := "interpolate", desc := "([I[IILSumHouse$Poly;)V" } : Jvm.MethodName)) ∈ lw_all := lw_g (lw_at lw_m5 16 rfl) rfl
theorem q1163 : (Jvm.Cond.instanceMethod ({ cls := "SumHouse$Parts", name := "interpolate", desc := "([I[IILSumHouse$Poly;)V" } : Jvm.MethodName)) ∈ lw_all := lw_g (lw_at lw_m5 17 rfl) rfl
theorem q1164 : (Jvm.Cond.selects "SumHouse$Parts" ({ cls := "SumHouse$Parts", name := "interpolate", desc := "([I[IILSumHouse$Poly;)V" } : Jvm.MethodName) ({ cls := "SumHouse$Parts", name := "interpolate", desc := "([I[IILSumHouse$Poly;)V" } : Jvm.MethodName)) ∈ lw_all := lw_g (lw_at lw_m5 18 rfl) rfl
theorem q1165 : (Jvm.Cond.code ({ cls := "SumHouse$Parts", name := "interpolate", desc := "([I[IILSumHouse$Poly;)V" } : Jvm.MethodName) prog_6_method_14_code (7 : Nat) (Option.none : Option Jvm.ClassFile.FieldType)) ∈ lw_all := lw_g (lw_at lw_m5 19 rfl) rfl
theorem q1166 : (Jvm.Cond.methodLinkNest "SumHouse$Parts" (148 : Nat) ({ cls := "SumHouse", name := "less", desc := "(II)I" } : Jvm.MethodName) "SumHouse") ∈ lw_tbl := lw_at lw_m5 20 rfl
theorem q1167 : (Jvm.Cond.methodLink "SumHouse$Parts" (218 : Nat) ({ cls := "SumHouse$Parts", name := "parted", desc := "(I)I" } : Jvm.MethodName)) ∈ lw_all := lw_g (lw_at lw_m5 21 rfl) rfl
theorem q1168 : (Jvm.Cond.privateMethod ({ cls := "SumHouse$Parts", name := "parted", desc := "(I)I" } : Jvm.MethodName)) ∈ lw_tbl := lw_at lw_m5 22 rfl
theorem q1169 : (Jvm.Cond.instanceMethod ({ cls := "SumHouse$Parts", name := "parted", desc := "(I)I" } : Jvm.MethodName)) ∈ lw_all := lw_g (lw_at lw_m5 23 rfl) rfl
theorem q1170 : (Jvm.Cond.code ({ cls := "SumHouse$Parts", name := "parted", desc := "(I)I" } : Jvm.MethodName) prog_6_method_13_code (2 : Nat) (Option.some Jvm.ClassFile.FieldType.int)) ∈ lw_all := lw_g (lw_at lw_m5 24 rfl) rfl
theorem q1171 : (Jvm.Cond.methodLinkNest "SumHouse$Parts" (221 : Nat) ({ cls := "SumHouse", name := "sum", desc := "(II)I" } : Jvm.MethodName) "SumHouse") ∈ lw_tbl := lw_at lw_m5 25 rfl
theorem q1172 : (Jvm.Cond.methodLink "SumHouse$Parts" (224 : Nat) ({ cls := "java/lang/Math", name := "max", desc := "(II)I" } : Jvm.MethodName)) ∈ lw_all := lw_g (lw_at lw_m5 26 rfl) rfl
theorem q1173 : (Jvm.Cond.methodLink "SumHouse$Parts" (227 : Nat) ({ cls := "SumHouse$Poly", name := "trim", desc := "()V" } : Jvm.MethodName)) ∈ lw_all := lw_g (lw_at lw_m5 27 rfl) rfl
theorem q1174 : (Jvm.Cond.methodLink "SumHouse$Parts" (195 : Nat) ({ cls := "SumHouse$Parts", name := "divides", desc := "(LSumHouse$Duo;LSumHouse$Duo;LSumHouse$Duo;)Z" } : Jvm.MethodName)) ∈ lw_all := lw_g (lw_at lw_m5 28 rfl) rfl
theorem q1175 : (Jvm.Cond.instanceMethod ({ cls := "SumHouse$Parts", name := "divides", desc := "(LSumHouse$Duo;LSumHouse$Duo;LSumHouse$Duo;)Z" } : Jvm.MethodName)) ∈ lw_all := lw_g (lw_at lw_m5 29 rfl) rfl
theorem q1176 : (Jvm.Cond.selects "SumHouse$Parts" ({ cls := "SumHouse$Parts", name := "divides", desc := "(LSumHouse$Duo;LSumHouse$Duo;LSumHouse$Duo;)Z" } : Jvm.MethodName) ({ cls := "SumHouse$Parts", name := "divides", desc := "(LSumHouse$Duo;LSumHouse$Duo;LSumHouse$Duo;)Z" } : Jvm.MethodName)) ∈ lw_all := lw_g (lw_at lw_m5 30 rfl) rfl
theorem q1177 : (Jvm.Cond.code ({ cls := "SumHouse$Parts", name := "divides", desc := "(LSumHouse$Duo;LSumHouse$Duo;LSumHouse$Duo;)Z" } : Jvm.MethodName) prog_6_method_5_code (7 : Nat) (Option.some Jvm.ClassFile.FieldType.boolean)) ∈ lw_all := lw_g (lw_at lw_m5 31 rfl) rfl
theorem q1178 : (Jvm.Cond.methodLink "SumHouse$Parts" (123 : Nat) ({ cls := "SumHouse$Duo", name := "clear", desc := "()V" } : Jvm.MethodName)) ∈ lw_all := lw_g (lw_at lw_m5 32 rfl) rfl
theorem q1179 : (Jvm.Cond.methodLink "SumHouse$Parts" (134 : Nat) ({ cls := "SumHouse$Poly", name := "divide", desc := "(LSumHouse$Poly;LSumHouse$Poly;)V" } : Jvm.MethodName)) ∈ lw_all := lw_g (lw_at lw_m5 33 rfl) rfl
theorem q1180 : (Jvm.Cond.methodLink "SumHouse$Parts" (137 : Nat) ({ cls := "SumHouse$Poly", name := "isZero", desc := "()Z" } : Jvm.MethodName)) ∈ lw_all := lw_g (lw_at lw_m5 34 rfl) rfl
theorem q1181 : (Jvm.Cond.methodLink "SumHouse$Parts" (138 : Nat) ({ cls := "SumHouse$Parts", name := "takeAway", desc := "(LSumHouse$Duo;II)Z" } : Jvm.MethodName)) ∈ lw_all := lw_g (lw_at lw_m5 35 rfl) rfl
theorem q1182 : (Jvm.Cond.privateMethod ({ cls := "SumHouse$Parts", name := "takeAway", desc := "(LSumHouse$Duo;II)Z" } : Jvm.MethodName)) ∈ lw_tbl := lw_at lw_m5 36 rfl
theorem q1183 : (Jvm.Cond.instanceMethod ({ cls := "SumHouse$Parts", name := "takeAway", desc := "(LSumHouse$Duo;II)Z" } : Jvm.MethodName)) ∈ lw_all := lw_g (lw_at lw_m5 37 rfl) rfl
theorem q1184 : (Jvm.Cond.code ({ cls := "SumHouse$Parts", name := "takeAway", desc := "(LSumHouse$Duo;II)Z" } : Jvm.MethodName) prog_6_method_6_code (6 : Nat) (Option.some Jvm.ClassFile.FieldType.boolean)) ∈ lw_all := lw_g (lw_at lw_m5 38 rfl) rfl
theorem q1185 : (Jvm.Cond.methodLink "SumHouse$Parts" (142 : Nat) ({ cls := "SumHouse$Poly", name := "product", desc := "(LSumHouse$Poly;LSumHouse$Poly;)V" } : Jvm.MethodName)) ∈ lw_all := lw_g (lw_at lw_m5 39 rfl) rfl
theorem q1193 : (Jvm.Cond.methodLink "SumHouse$Parts" (163 : Nat) ({ cls := "SumHouse$Duo", name := "timesPoly", desc := "(LSumHouse$Poly;LSumHouse$Duo;)V" } : Jvm.MethodName)) ∈ lw_all := lw_g (lw_at lw_m5 47 rfl) rfl
theorem q197 : (Jvm.Cond.initialized "SumHouseModel") ∈ lw_all := lw_g (lw_at lw_m1 11 rfl) rfl
theorem q1747 : (Jvm.Cond.instantiable "SumHouseModel" (65 : Nat)) ∈ lw_all := lw_g (lw_at lw_m7 121 rfl) rfl
theorem q1749 : (Jvm.Cond.instanceMethod ({ cls := "SumHouseModel", name := "<init>", desc := "()V" } : Jvm.MethodName)) ∈ lw_all := lw_g (lw_at lw_m7 123 rfl) rfl
theorem q1750 : (Jvm.Cond.code ({ cls := "SumHouseModel", name := "<init>", desc := "()V" } : Jvm.MethodName) prog_12_method_83_code (3 : Nat) (Option.none : Option Jvm.ClassFile.FieldType)) ∈ lw_all := lw_g (lw_at lw_m7 124 rfl) rfl
theorem q1751 : (Jvm.Cond.methodLink "SumHouseModel" (436 : Nat) ({ cls := "java/lang/Object", name := "<init>", desc := "()V" } : Jvm.MethodName)) ∈ lw_all := lw_g (lw_at lw_m7 125 rfl) rfl
theorem q1752 : (Jvm.Cond.classLink "SumHouseModel" (26 : Nat) "SumHouseModel$U") ∈ lw_all := lw_g (lw_at lw_m7 126 rfl) rfl
theorem q1754 : (Jvm.Cond.classLink "SumHouseModel" (94 : Nat) "SumHouseModel$B") ∈ lw_all := lw_g (lw_at lw_m7 128 rfl) rfl
theorem q1756 : (Jvm.Cond.classLink "SumHouseModel" (441 : Nat) "[[I") ∈ lw_all := lw_g (lw_at lw_m7 130 rfl) rfl
theorem q1757 : (Jvm.Cond.classLink "SumHouseModel" (203 : Nat) "SumHouseModel$Thing") ∈ lw_all := lw_g (lw_at lw_m7 131 rfl) rfl
theorem q1759 : (Jvm.Cond.methodLinkNest "SumHouseModel" (442 : Nat) ({ cls := "SumHouseModel$Thing", name := "<init>", desc := "()V" } : Jvm.MethodName) "SumHouseModel") ∈ lw_tbl := lw_at lw_m7 133 rfl
theorem q1763 : (Jvm.Cond.fieldLink "SumHouseModel" (202 : Nat) "SumHouseModel$Thing" "kind" "I") ∈ lw_all := lw_g (lw_at lw_m7 137 rfl) rfl
theorem q1765 : (Jvm.Cond.fieldLink "SumHouseModel" (207 : Nat) "SumHouseModel$Thing" "num" "[I") ∈ lw_all := lw_g (lw_at lw_m7 139 rfl) rfl
theorem q1767 : (Jvm.Cond.fieldLink "SumHouseModel" (210 : Nat) "SumHouseModel$Thing" "den" "[I") ∈ lw_all := lw_g (lw_at lw_m7 141 rfl) rfl
theorem q1768 : (Jvm.Cond.fieldLink "SumHouseModel" (213 : Nat) "SumHouseModel$Thing" "x" "I") ∈ lw_all := lw_g (lw_at lw_m7 142 rfl) rfl
theorem q1769 : (Jvm.Cond.fieldLink "SumHouseModel" (216 : Nat) "SumHouseModel$Thing" "y" "I") ∈ lw_all := lw_g (lw_at lw_m7 143 rfl) rfl
theorem q1770 : (Jvm.Cond.fieldLink "SumHouseModel" (219 : Nat) "SumHouseModel$Thing" "many" "I") ∈ lw_all := lw_g (lw_at lw_m7 144 rfl) rfl
theorem q1772 : (Jvm.Cond.fieldLink "SumHouseModel" (222 : Nat) "SumHouseModel$Thing" "fa" "[I") ∈ lw_all := lw_g (lw_at lw_m7 146 rfl) rfl
theorem q1774 : (Jvm.Cond.fieldLink "SumHouseModel" (225 : Nat) "SumHouseModel$Thing" "fb" "[I") ∈ lw_all := lw_g (lw_at lw_m7 148 rfl) rfl
theorem q1776 : (Jvm.Cond.fieldLink "SumHouseModel" (228 : Nat) "SumHouseModel$Thing" "fc" "[I") ∈ lw_all := lw_g (lw_at lw_m7 150 rfl) rfl
theorem q1778 : (Jvm.Cond.fieldLink "SumHouseModel" (231 : Nat) "SumHouseModel$Thing" "fe" "[I") ∈ lw_all := lw_g (lw_at lw_m7 152 rfl) rfl
theorem q1779 : (Jvm.Cond.fieldLink "SumHouseModel" (234 : Nat) "SumHouseModel$Thing" "order" "I") ∈ lw_all := lw_g (lw_at lw_m7 153 rfl) rfl
theorem q1781 : (Jvm.Cond.fieldLink "SumHouseModel" (237 : Nat) "SumHouseModel$Thing" "a" "[I") ∈ lw_all := lw_g (lw_at lw_m7 155 rfl) rfl
theorem q1782 : (Jvm.Cond.fieldLink "SumHouseModel" (240 : Nat) "SumHouseModel$Thing" "needs" "I") ∈ lw_all := lw_g (lw_at lw_m7 156 rfl) rfl
theorem q1783 : (Jvm.Cond.fieldLink "SumHouseModel" (243 : Nat) "SumHouseModel$Thing" "has" "I") ∈ lw_all := lw_g (lw_at lw_m7 157 rfl) rfl
theorem q1785 : (Jvm.Cond.fieldLink "SumHouseModel" (246 : Nat) "SumHouseModel$Thing" "u" "[I") ∈ lw_all := lw_g (lw_at lw_m7 159 rfl) rfl
theorem q1817 : (Jvm.Cond.classLink "SumHouseModel" (447 : Nat) "SumHouseModel$Stop") ∈ lw_all := lw_g (lw_at lw_m7 191 rfl) rfl
theorem q1856 : (Jvm.Cond.methodLink "SumHouseModel" (449 : Nat) ({ cls := "SumHouseModel$Stop", name := "<init>", desc := "()V" } : Jvm.MethodName)) ∈ lw_all := lw_g (lw_at lw_m7 230 rfl) rfl
theorem q1883 : (Jvm.Cond.classLink "SumHouseModel" (485 : Nat) "[[LSumHouseModel$U;") ∈ lw_all := lw_g (lw_at lw_m8 17 rfl) rfl
theorem q1886 : (Jvm.Cond.methodLink "SumHouseModel" (544 : Nat) ({ cls := "SumHouseModel$U", name := "<init>", desc := "(I)V" } : Jvm.MethodName)) ∈ lw_all := lw_g (lw_at lw_m8 20 rfl) rfl
theorem q1891 : (Jvm.Cond.fieldLink "SumHouseModel" (30 : Nat) "SumHouseModel$U" "c" "[I") ∈ lw_all := lw_g (lw_at lw_m8 25 rfl) rfl
theorem q1894 : (Jvm.Cond.fieldLink "SumHouseModel" (25 : Nat) "SumHouseModel$U" "n" "I") ∈ lw_all := lw_g (lw_at lw_m8 28 rfl) rfl
theorem q1901 : (Jvm.Cond.methodLink "SumHouseModel" (546 : Nat) ({ cls := "SumHouseModel$B", name := "<init>", desc := "()V" } : Jvm.MethodName)) ∈ lw_all := lw_g (lw_at lw_m8 35 rfl) rfl
theorem q1908 : (Jvm.Cond.fieldLink "SumHouseModel" (98 : Nat) "SumHouseModel$B" "\x72" "[LSumHouseModel$U;") ∈ lw_all := lw_g (lw_at lw_m8 42 rfl) rfl
theorem q1910 : (Jvm.Cond.fieldLink "SumHouseModel" (93 : Nat) "SumHouseModel$B" "rows" "I") ∈ lw_all := lw_g (lw_at lw_m8 44 rfl) rfl
theorem q1916 : (Jvm.Cond.fieldLink "SumHouseModel" (17 : Nat) "SumHouseModel" "us" "[LSumHouseModel$U;") ∈ lw_all := lw_g (lw_at lw_m8 50 rfl) rfl
theorem q1917 : (Jvm.Cond.fieldLink "SumHouseModel" (21 : Nat) "SumHouseModel" "ut" "I") ∈ lw_all := lw_g (lw_at lw_m8 51 rfl) rfl
theorem q1918 : (Jvm.Cond.fieldLink "SumHouseModel" (86 : Nat) "SumHouseModel" "bs" "[LSumHouseModel$B;") ∈ lw_all := lw_g (lw_at lw_m8 52 rfl) rfl
theorem q1919 : (Jvm.Cond.fieldLink "SumHouseModel" (90 : Nat) "SumHouseModel" "bt" "I") ∈ lw_all := lw_g (lw_at lw_m8 53 rfl) rfl
theorem q1920 : (Jvm.Cond.fieldLink "SumHouseModel" (151 : Nat) "SumHouseModel" "xs" "[I") ∈ lw_all := lw_g (lw_at lw_m8 54 rfl) rfl
theorem q1921 : (Jvm.Cond.fieldLink "SumHouseModel" (159 : Nat) "SumHouseModel" "ys" "[[I") ∈ lw_all := lw_g (lw_at lw_m8 55 rfl) rfl
theorem q1922 : (Jvm.Cond.fieldLink "SumHouseModel" (443 : Nat) "SumHouseModel" "spare" "LSumHouseModel$Thing;") ∈ lw_all := lw_g (lw_at lw_m8 56 rfl) rfl
theorem q1923 : (Jvm.Cond.fieldLink "SumHouseModel" (310 : Nat) "SumHouseModel" "done" "[Z") ∈ lw_all := lw_g (lw_at lw_m8 57 rfl) rfl
theorem q1924 : (Jvm.Cond.fieldLink "SumHouseModel" (330 : Nat) "SumHouseModel" "stop" "LSumHouseModel$Stop;") ∈ lw_all := lw_g (lw_at lw_m8 58 rfl) rfl
theorem q1925 : (Jvm.Cond.fieldLink "SumHouseModel" (324 : Nat) "SumHouseModel" "fault" "I") ∈ lw_all := lw_g (lw_at lw_m8 59 rfl) rfl
theorem q1926 : (Jvm.Cond.fieldLink "SumHouseModel" (327 : Nat) "SumHouseModel" "faultAt" "I") ∈ lw_all := lw_g (lw_at lw_m8 60 rfl) rfl
theorem q1927 : (Jvm.Cond.fieldLink "SumHouseModel" (339 : Nat) "SumHouseModel" "tape" "[B") ∈ lw_all := lw_g (lw_at lw_m8 61 rfl) rfl
theorem q1928 : (Jvm.Cond.fieldLink "SumHouseModel" (336 : Nat) "SumHouseModel" "length" "I") ∈ lw_all := lw_g (lw_at lw_m8 62 rfl) rfl
theorem q1929 : (Jvm.Cond.fieldLink "SumHouseModel" (334 : Nat) "SumHouseModel" "at" "I") ∈ lw_all := lw_g (lw_at lw_m8 63 rfl) rfl
theorem q1930 : (Jvm.Cond.fieldLink "SumHouseModel" (359 : Nat) "SumHouseModel" "open" "I") ∈ lw_all := lw_g (lw_at lw_m8 64 rfl) rfl
theorem q1931 : (Jvm.Cond.fieldLink "SumHouseModel" (371 : Nat) "SumHouseModel" "pile" "[LSumHouseModel$Thing;") ∈ lw_all := lw_g (lw_at lw_m8 65 rfl) rfl
theorem q1932 : (Jvm.Cond.fieldLink "SumHouseModel" (375 : Nat) "SumHouseModel" "piled" "I") ∈ lw_all := lw_g (lw_at lw_m8 66 rfl) rfl
theorem q1933 : (Jvm.Cond.fieldLink "SumHouseModel" (393 : Nat) "SumHouseModel" "la" "I") ∈ lw_all := lw_g (lw_at lw_m8 67 rfl) rfl
theorem q1934 : (Jvm.Cond.fieldLink "SumHouseModel" (396 : Nat) "SumHouseModel" "lb" "I") ∈ lw_all := lw_g (lw_at lw_m8 68 rfl) rfl
theorem q1935 : (Jvm.Cond.fieldLink "SumHouseModel" (399 : Nat) "SumHouseModel" "lc" "I") ∈ lw_all := lw_g (lw_at lw_m8 69 rfl) rfl
theorem q1936 : (Jvm.Cond.fieldLink "SumHouseModel" (450 : Nat) "SumHouseModel" "slots" "[LSumHouseModel$Thing;") ∈ lw_all := lw_g (lw_at lw_m8 70 rfl) rfl
theorem q1937 : (Jvm.Cond.fieldLink "SumHouseModel" (453 : Nat) "SumHouseModel" "made" "LSumHouseModel$Thing;") ∈ lw_all := lw_g (lw_at lw_m8 71 rfl) rfl
theorem q1938 : (Jvm.Cond.fieldLink "SumHouseModel" (456 : Nat) "SumHouseModel" "place" "I") ∈ lw_all := lw_g (lw_at lw_m8 72 rfl) rfl
theorem q1939 : (Jvm.Cond.fieldLink "SumHouseModel" (459 : Nat) "SumHouseModel" "out" "[B") ∈ lw_all := lw_g (lw_at lw_m8 73 rfl) rfl
theorem q1940 : (Jvm.Cond.fieldLink "SumHouseModel" (597 : Nat) "SumHouseModel" "outSize" "I") ∈ lw_all := lw_g (lw_at lw_m8 74 rfl) rfl
theorem q1941 : (Jvm.Cond.fieldLink "SumHouseModel" (561 : Nat) "SumHouseModel" "outWanted" "I") ∈ lw_all := lw_g (lw_at lw_m8 75 rfl) rfl
theorem q1942 : (Jvm.Cond.fieldLink "SumHouseModel" (462 : Nat) "SumHouseModel" "line" "[B") ∈ lw_all := lw_g (lw_at lw_m8 76 rfl) rfl
theorem q1943 : (Jvm.Cond.fieldLink "SumHouseModel" (567 : Nat) "SumHouseModel" "first" "Z") ∈ lw_all := lw_g (lw_at lw_m8 77 rfl) rfl
theorem q1944 : (Jvm.Cond.fieldLink "SumHouseModel" (465 : Nat) "SumHouseModel" "fed" "[I") ∈ lw_all := lw_g (lw_at lw_m8 78 rfl) rfl
theorem q1945 : (Jvm.Cond.fieldLink "SumHouseModel" (607 : Nat) "SumHouseModel" "fedCount" "I") ∈ lw_all := lw_g (lw_at lw_m8 79 rfl) rfl
theorem q1946 : (Jvm.Cond.fieldLink "SumHouseModel" (468 : Nat) "SumHouseModel" "rootOf" "[I") ∈ lw_all := lw_g (lw_at lw_m8 80 rfl) rfl
theorem q1947 : (Jvm.Cond.fieldLink "SumHouseModel" (610 : Nat) "SumHouseModel" "rootCount" "I") ∈ lw_all := lw_g (lw_at lw_m8 81 rfl) rfl
theorem q1948 : (Jvm.Cond.fieldLink "SumHouseModel" (471 : Nat) "SumHouseModel" "qa" "[I") ∈ lw_all := lw_g (lw_at lw_m8 82 rfl) rfl
theorem q1949 : (Jvm.Cond.fieldLink "SumHouseModel" (474 : Nat) "SumHouseModel" "qb" "[I") ∈ lw_all := lw_g (lw_at lw_m8 83 rfl) rfl
theorem q1950 : (Jvm.Cond.fieldLink "SumHouseModel" (477 : Nat) "SumHouseModel" "qc" "[I") ∈ lw_all := lw_g (lw_at lw_m8 84 rfl) rfl
theorem q1951 : (Jvm.Cond.fieldLink "SumHouseModel" (480 : Nat) "SumHouseModel" "qe" "[I") ∈ lw_all := lw_g (lw_at lw_m8 85 rfl) rfl
theorem q1952 : (Jvm.Cond.fieldLink "SumHouseModel" (616 : Nat) "SumHouseModel" "lines" "I") ∈ lw_all := lw_g (lw_at lw_m8 86 rfl) rfl
theorem q1953 : (Jvm.Cond.fieldLink "SumHouseModel" (613 : Nat) "SumHouseModel" "linesNumber" "I") ∈ lw_all := lw_g (lw_at lw_m8 87 rfl) rfl
theorem q1954 : (Jvm.Cond.fieldLink "SumHouseModel" (483 : Nat) "SumHouseModel" "rows" "[[I") ∈ lw_all := lw_g (lw_at lw_m8 88 rfl) rfl
theorem q1955 : (Jvm.Cond.fieldLink "SumHouseModel" (695 : Nat) "SumHouseModel" "formA" "LSumHouseModel$B;") ∈ lw_all := lw_g (lw_at lw_m8 89 rfl) rfl
theorem q1956 : (Jvm.Cond.fieldLink "SumHouseModel" (699 : Nat) "SumHouseModel" "formB" "LSumHouseModel$B;") ∈ lw_all := lw_g (lw_at lw_m8 90 rfl) rfl
theorem q1957 : (Jvm.Cond.fieldLink "SumHouseModel" (702 : Nat) "SumHouseModel" "formC" "LSumHouseModel$B;") ∈ lw_all := lw_g (lw_at lw_m8 91 rfl) rfl
theorem q1958 : (Jvm.Cond.fieldLink "SumHouseModel" (705 : Nat) "SumHouseModel" "alphaUp" "LSumHouseModel$U;") ∈ lw_all := lw_g (lw_at lw_m8 92 rfl) rfl
theorem q1959 : (Jvm.Cond.fieldLink "SumHouseModel" (709 : Nat) "SumHouseModel" "alphaDown" "LSumHouseModel$U;") ∈ lw_all := lw_g (lw_at lw_m8 93 rfl) rfl
theorem q1960 : (Jvm.Cond.fieldLink "SumHouseModel" (487 : Nat) "SumHouseModel" "board" "[[LSumHouseModel$U;") ∈ lw_all := lw_g (lw_at lw_m8 94 rfl) rfl
theorem q1961 : (Jvm.Cond.fieldLink "SumHouseModel" (490 : Nat) "SumHouseModel" "solution" "[LSumHouseModel$U;") ∈ lw_all := lw_g (lw_at lw_m8 95 rfl) rfl
theorem q1962 : (Jvm.Cond.fieldLink "SumHouseModel" (493 : Nat) "SumHouseModel" "isPivot" "[Z") ∈ lw_all := lw_g (lw_at lw_m8 96 rfl) rfl
theorem q1963 : (Jvm.Cond.fieldLink "SumHouseModel" (496 : Nat) "SumHouseModel" "pivotOf" "[I") ∈ lw_all := lw_g (lw_at lw_m8 97 rfl) rfl
theorem q1964 : (Jvm.Cond.fieldLink "SumHouseModel" (721 : Nat) "SumHouseModel" "boardRows" "I") ∈ lw_all := lw_g (lw_at lw_m8 98 rfl) rfl
theorem q1965 : (Jvm.Cond.fieldLink "SumHouseModel" (499 : Nat) "SumHouseModel" "parts" "[LSumHouseModel$B;") ∈ lw_all := lw_g (lw_at lw_m8 99 rfl) rfl
theorem q1966 : (Jvm.Cond.fieldLink "SumHouseModel" (502 : Nat) "SumHouseModel" "partDown" "[LSumHouseModel$U;") ∈ lw_all := lw_g (lw_at lw_m8 100 rfl) rfl
theorem q1967 : (Jvm.Cond.fieldLink "SumHouseModel" (505 : Nat) "SumHouseModel" "sNum" "[[I") ∈ lw_all := lw_g (lw_at lw_m8 101 rfl) rfl
theorem q1968 : (Jvm.Cond.fieldLink "SumHouseModel" (508 : Nat) "SumHouseModel" "sDen" "[[I") ∈ lw_all := lw_g (lw_at lw_m8 102 rfl) rfl
theorem q1969 : (Jvm.Cond.fieldLink "SumHouseModel" (511 : Nat) "SumHouseModel" "tops" "[LSumHouseModel$B;") ∈ lw_all := lw_g (lw_at lw_m8 103 rfl) rfl
theorem q1970 : (Jvm.Cond.fieldLink "SumHouseModel" (514 : Nat) "SumHouseModel" "unders" "[LSumHouseModel$B;") ∈ lw_all := lw_g (lw_at lw_m8 104 rfl) rfl
theorem q1971 : (Jvm.Cond.fieldLink "SumHouseModel" (517 : Nat) "SumHouseModel" "rowOf" "[LSumHouseModel$U;") ∈ lw_all := lw_g (lw_at lw_m8 105 rfl) rfl
theorem q1972 : (Jvm.Cond.fieldLink "SumHouseModel" (520 : Nat) "SumHouseModel" "ways" "[[LSumHouseModel$U;") ∈ lw_all := lw_g (lw_at lw_m8 106 rfl) rfl
theorem q1973 : (Jvm.Cond.fieldLink "SumHouseModel" (523 : Nat) "SumHouseModel" "others" "[[LSumHouseModel$U;") ∈ lw_all := lw_g (lw_at lw_m8 107 rfl) rfl
theorem q1974 : (Jvm.Cond.fieldLink "SumHouseModel" (526 : Nat) "SumHouseModel" "wayDown" "[LSumHouseModel$U;") ∈ lw_all := lw_g (lw_at lw_m8 108 rfl) rfl
theorem q1975 : (Jvm.Cond.fieldLink "SumHouseModel" (529 : Nat) "SumHouseModel" "otherDown" "[LSumHouseModel$U;") ∈ lw_all := lw_g (lw_at lw_m8 109 rfl) rfl
theorem q1976 : (Jvm.Cond.fieldLink "SumHouseModel" (532 : Nat) "SumHouseModel" "lineOf" "[[I") ∈ lw_all := lw_g (lw_at lw_m8 110 rfl) rfl
theorem q1977 : (Jvm.Cond.fieldLink "SumHouseModel" (535 : Nat) "SumHouseModel" "unknown" "[I") ∈ lw_all := lw_g (lw_at lw_m8 111 rfl) rfl
theorem q1978 : (Jvm.Cond.fieldLink "SumHouseModel" (538 : Nat) "SumHouseModel" "found" "[I") ∈ lw_all := lw_g (lw_at lw_m8 112 rfl) rfl
theorem q1979 : (Jvm.Cond.fieldLink "SumHouseModel" (814 : Nat) "SumHouseModel" "foundCount" "I") ∈ lw_all := lw_g (lw_at lw_m8 113 rfl) rfl
theorem q1980 : (Jvm.Cond.fieldLink "SumHouseModel" (541 : Nat) "SumHouseModel" "howOften" "[I") ∈ lw_all := lw_g (lw_at lw_m8 114 rfl) rfl
theorem q1981 : (Jvm.Cond.laysFinal "SumHouseModel" "SumHouseModel" "us" "[LSumHouseModel$U;") ∈ lw_all := lw_g (lw_at lw_m8 115 rfl) rfl
theorem q1982 : (Jvm.Cond.soleField "SumHouseModel" "us") ∈ lw_all := lw_g (lw_at lw_m8 116 rfl) rfl
theorem q1983 : (Jvm.Cond.lays "SumHouseModel" "SumHouseModel" "ut" "I") ∈ lw_all := lw_g (lw_at lw_m8 117 rfl) rfl
theorem q1984 : (Jvm.Cond.soleField "SumHouseModel" "ut") ∈ lw_all := lw_g (lw_at lw_m8 118 rfl) rfl
theorem q1985 : (Jvm.Cond.laysFinal "SumHouseModel" "SumHouseModel" "bs" "[LSumHouseModel$B;") ∈ lw_all := lw_g (lw_at lw_m8 119 rfl) rfl
theorem q1986 : (Jvm.Cond.soleField "SumHouseModel" "bs") ∈ lw_all := lw_g (lw_at lw_m8 120 rfl) rfl
theorem q1987 : (Jvm.Cond.lays "SumHouseModel" "SumHouseModel" "bt" "I") ∈ lw_all := lw_g (lw_at lw_m8 121 rfl) rfl
theorem q1988 : (Jvm.Cond.soleField "SumHouseModel" "bt") ∈ lw_all := lw_g (lw_at lw_m8 122 rfl) rfl
theorem q1989 : (Jvm.Cond.laysFinal "SumHouseModel" "SumHouseModel" "xs" "[I") ∈ lw_all := lw_g (lw_at lw_m8 123 rfl) rfl
theorem q1990 : (Jvm.Cond.soleField "SumHouseModel" "xs") ∈ lw_all := lw_g (lw_at lw_m8 124 rfl) rfl
theorem q1991 : (Jvm.Cond.laysFinal "SumHouseModel" "SumHouseModel" "ys" "[[I") ∈ lw_all := lw_g (lw_at lw_m8 125 rfl) rfl
theorem q1992 : (Jvm.Cond.soleField "SumHouseModel" "ys") ∈ lw_all := lw_g (lw_at lw_m8 126 rfl) rfl
theorem q1993 : (Jvm.Cond.laysFinal "SumHouseModel" "SumHouseModel" "spare" "LSumHouseModel$Thing;") ∈ lw_all := lw_g (lw_at lw_m8 127 rfl) rfl
theorem q1994 : (Jvm.Cond.soleField "SumHouseModel" "spare") ∈ lw_all := lw_g (lw_at lw_m8 128 rfl) rfl
theorem q1995 : (Jvm.Cond.laysFinal "SumHouseModel" "SumHouseModel" "done" "[Z") ∈ lw_all := lw_g (lw_at lw_m8 129 rfl) rfl
theorem q1996 : (Jvm.Cond.soleField "SumHouseModel" "done") ∈ lw_all := lw_g (lw_at lw_m8 130 rfl) rfl
theorem q1997 : (Jvm.Cond.laysFinal "SumHouseModel" "SumHouseModel" "stop" "LSumHouseModel$Stop;") ∈ lw_all := lw_g (lw_at lw_m8 131 rfl) rfl
theorem q1998 : (Jvm.Cond.soleField "SumHouseModel" "stop") ∈ lw_all := lw_g (lw_at lw_m8 132 rfl) rfl
theorem q1999 : (Jvm.Cond.lays "SumHouseModel" "SumHouseModel" "fault" "I") ∈ lw_all := lw_g (lw_at lw_m8 133 rfl) rfl
theorem q2000 : (Jvm.Cond.soleField "SumHouseModel" "fault") ∈ lw_all := lw_g (lw_at lw_m8 134 rfl) rfl
theorem q2001 : (Jvm.Cond.lays "SumHouseModel" "SumHouseModel" "faultAt" "I") ∈ lw_all := lw_g (lw_at lw_m8 135 rfl) rfl
theorem q2002 : (Jvm.Cond.soleField "SumHouseModel" "faultAt") ∈ lw_all := lw_g (lw_at lw_m8 136 rfl) rfl
theorem q2003 : (Jvm.Cond.laysFinal "SumHouseModel" "SumHouseModel" "tape" "[B") ∈ lw_all := lw_g (lw_at lw_m8 137 rfl) rfl
theorem q2004 : (Jvm.Cond.soleField "SumHouseModel" "tape") ∈ lw_all := lw_g (lw_at lw_m8 138 rfl) rfl
theorem q2005 : (Jvm.Cond.lays "SumHouseModel" "SumHouseModel" "length" "I") ∈ lw_all := lw_g (lw_at lw_m8 139 rfl) rfl
theorem q2006 : (Jvm.Cond.soleField "SumHouseModel" "length") ∈ lw_all := lw_g (lw_at lw_m8 140 rfl) rfl
theorem q2007 : (Jvm.Cond.lays "SumHouseModel" "SumHouseModel" "at" "I") ∈ lw_all := lw_g (lw_at lw_m8 141 rfl) rfl
theorem q2008 : (Jvm.Cond.soleField "SumHouseModel" "at") ∈ lw_all := lw_g (lw_at lw_m8 142 rfl) rfl
theorem q2009 : (Jvm.Cond.lays "SumHouseModel" "SumHouseModel" "open" "I") ∈ lw_all := lw_g (lw_at lw_m8 143 rfl) rfl
theorem q2010 : (Jvm.Cond.soleField "SumHouseModel" "open") ∈ lw_all := lw_g (lw_at lw_m8 144 rfl) rfl
theorem q2011 : (Jvm.Cond.laysFinal "SumHouseModel" "SumHouseModel" "pile" "[LSumHouseModel$Thing;") ∈ lw_all := lw_g (lw_at lw_m8 145 rfl) rfl
theorem q2012 : (Jvm.Cond.soleField "SumHouseModel" "pile") ∈ lw_all := lw_g (lw_at lw_m8 146 rfl) rfl
theorem q2013 : (Jvm.Cond.lays "SumHouseModel" "SumHouseModel" "piled" "I") ∈ lw_all := lw_g (lw_at lw_m8 147 rfl) rfl
theorem q2014 : (Jvm.Cond.soleField "SumHouseModel" "piled") ∈ lw_all := lw_g (lw_at lw_m8 148 rfl) rfl
theorem q2015 : (Jvm.Cond.lays "SumHouseModel" "SumHouseModel" "la" "I") ∈ lw_all := lw_g (lw_at lw_m8 149 rfl) rfl
theorem q2016 : (Jvm.Cond.soleField "SumHouseModel" "la") ∈ lw_all := lw_g (lw_at lw_m8 150 rfl) rfl
theorem q2017 : (Jvm.Cond.lays "SumHouseModel" "SumHouseModel" "lb" "I") ∈ lw_all := lw_g (lw_at lw_m8 151 rfl) rfl
theorem q2018 : (Jvm.Cond.soleField "SumHouseModel" "lb") ∈ lw_all := lw_g (lw_at lw_m8 152 rfl) rfl
theorem q2019 : (Jvm.Cond.lays "SumHouseModel" "SumHouseModel" "lc" "I") ∈ lw_all := lw_g (lw_at lw_m8 153 rfl) rfl
theorem q2020 : (Jvm.Cond.soleField "SumHouseModel" "lc") ∈ lw_all := lw_g (lw_at lw_m8 154 rfl) rfl
theorem q2021 : (Jvm.Cond.laysFinal "SumHouseModel" "SumHouseModel" "slots" "[LSumHouseModel$Thing;") ∈ lw_all := lw_g (lw_at lw_m8 155 rfl) rfl
theorem q2022 : (Jvm.Cond.soleField "SumHouseModel" "slots") ∈ lw_all := lw_g (lw_at lw_m8 156 rfl) rfl
theorem q2023 : (Jvm.Cond.laysFinal "SumHouseModel" "SumHouseModel" "made" "LSumHouseModel$Thing;") ∈ lw_all := lw_g (lw_at lw_m8 157 rfl) rfl
theorem q2024 : (Jvm.Cond.soleField "SumHouseModel" "made") ∈ lw_all := lw_g (lw_at lw_m8 158 rfl) rfl
theorem q2025 : (Jvm.Cond.lays "SumHouseModel" "SumHouseModel" "place" "I") ∈ lw_all := lw_g (lw_at lw_m8 159 rfl) rfl
theorem q2026 : (Jvm.Cond.soleField "SumHouseModel" "place") ∈ lw_all := lw_g (lw_at lw_m8 160 rfl) rfl
theorem q2027 : (Jvm.Cond.laysFinal "SumHouseModel" "SumHouseModel" "out" "[B") ∈ lw_all := lw_g (lw_at lw_m8 161 rfl) rfl
theorem q2028 : (Jvm.Cond.soleField "SumHouseModel" "out") ∈ lw_all := lw_g (lw_at lw_m8 162 rfl) rfl
theorem q2029 : (Jvm.Cond.lays "SumHouseModel" "SumHouseModel" "outSize" "I") ∈ lw_all := lw_g (lw_at lw_m8 163 rfl) rfl
theorem q2030 : (Jvm.Cond.soleField "SumHouseModel" "outSize") ∈ lw_all := lw_g (lw_at lw_m8 164 rfl) rfl
theorem q2031 : (Jvm.Cond.lays "SumHouseModel" "SumHouseModel" "outWanted" "I") ∈ lw_all := lw_g (lw_at lw_m8 165 rfl) rfl
theorem q2032 : (Jvm.Cond.soleField "SumHouseModel" "outWanted") ∈ lw_all := lw_g (lw_at lw_m8 166 rfl) rfl
theorem q2033 : (Jvm.Cond.laysFinal "SumHouseModel" "SumHouseModel" "line" "[B") ∈ lw_all := lw_g (lw_at lw_m8 167 rfl) rfl
theorem q2034 : (Jvm.Cond.soleField "SumHouseModel" "line") ∈ lw_all := lw_g (lw_at lw_m8 168 rfl) rfl
theorem q2035 : (Jvm.Cond.lays "SumHouseModel" "SumHouseModel" "first" "Z") ∈ lw_all := lw_g (lw_at lw_m8 169 rfl) rfl
theorem q2036 : (Jvm.Cond.soleField "SumHouseModel" "first") ∈ lw_all := lw_g (lw_at lw_m8 170 rfl) rfl
theorem q2037 : (Jvm.Cond.laysFinal "SumHouseModel" "SumHouseModel" "fed" "[I") ∈ lw_all := lw_g (lw_at lw_m8 171 rfl) rfl
theorem q2038 : (Jvm.Cond.soleField "SumHouseModel" "fed") ∈ lw_all := lw_g (lw_at lw_m8 172 rfl) rfl
theorem q2039 : (Jvm.Cond.lays "SumHouseModel" "SumHouseModel" "fedCount" "I") ∈ lw_all := lw_g (lw_at lw_m8 173 rfl) rfl
theorem q2040 : (Jvm.Cond.soleField "SumHouseModel" "fedCount") ∈ lw_all := lw_g (lw_at lw_m8 174 rfl) rfl
theorem q2041 : (Jvm.Cond.laysFinal "SumHouseModel" "SumHouseModel" "rootOf" "[I") ∈ lw_all := lw_g (lw_at lw_m8 175 rfl) rfl
theorem q2042 : (Jvm.Cond.soleField "SumHouseModel" "rootOf") ∈ lw_all := lw_g (lw_at lw_m8 176 rfl) rfl
theorem q2043 : (Jvm.Cond.lays "SumHouseModel" "SumHouseModel" "rootCount" "I") ∈ lw_all := lw_g (lw_at lw_m8 177 rfl) rfl
theorem q2044 : (Jvm.Cond.soleField "SumHouseModel" "rootCount") ∈ lw_all := lw_g (lw_at lw_m8 178 rfl) rfl
theorem q2045 : (Jvm.Cond.laysFinal "SumHouseModel" "SumHouseModel" "qa" "[I") ∈ lw_all := lw_g (lw_at lw_m8 179 rfl) rfl
theorem q2046 : (Jvm.Cond.soleField "SumHouseModel" "qa") ∈ lw_all := lw_g (lw_at lw_m8 180 rfl) rfl
theorem q2047 : (Jvm.Cond.laysFinal "SumHouseModel" "SumHouseModel" "qb" "[I") ∈ lw_all := lw_g (lw_at lw_m8 181 rfl) rfl
theorem q2048 : (Jvm.Cond.soleField "SumHouseModel" "qb") ∈ lw_all := lw_g (lw_at lw_m8 182 rfl) rfl
theorem q2049 : (Jvm.Cond.laysFinal "SumHouseModel" "SumHouseModel" "qc" "[I") ∈ lw_all := lw_g (lw_at lw_m8 183 rfl) rfl
theorem q2050 : (Jvm.Cond.soleField "SumHouseModel" "qc") ∈ lw_all := lw_g (lw_at lw_m8 184 rfl) rfl
theorem q2051 : (Jvm.Cond.laysFinal "SumHouseModel" "SumHouseModel" "qe" "[I") ∈ lw_all := lw_g (lw_at lw_m8 185 rfl) rfl
theorem q2052 : (Jvm.Cond.soleField "SumHouseModel" "qe") ∈ lw_all := lw_g (lw_at lw_m8 186 rfl) rfl
theorem q2053 : (Jvm.Cond.lays "SumHouseModel" "SumHouseModel" "lines" "I") ∈ lw_all := lw_g (lw_at lw_m8 187 rfl) rfl
theorem q2054 : (Jvm.Cond.soleField "SumHouseModel" "lines") ∈ lw_all := lw_g (lw_at lw_m8 188 rfl) rfl
theorem q2055 : (Jvm.Cond.lays "SumHouseModel" "SumHouseModel" "linesNumber" "I") ∈ lw_all := lw_g (lw_at lw_m8 189 rfl) rfl
theorem q2056 : (Jvm.Cond.soleField "SumHouseModel" "linesNumber") ∈ lw_all := lw_g (lw_at lw_m8 190 rfl) rfl
theorem q2057 : (Jvm.Cond.laysFinal "SumHouseModel" "SumHouseModel" "rows" "[[I") ∈ lw_all := lw_g (lw_at lw_m8 191 rfl) rfl
theorem q2058 : (Jvm.Cond.soleField "SumHouseModel" "rows") ∈ lw_all := lw_g (lw_at lw_m8 192 rfl) rfl
theorem q2059 : (Jvm.Cond.lays "SumHouseModel" "SumHouseModel" "formA" "LSumHouseModel$B;") ∈ lw_all := lw_g (lw_at lw_m8 193 rfl) rfl
theorem q2060 : (Jvm.Cond.soleField "SumHouseModel" "formA") ∈ lw_all := lw_g (lw_at lw_m8 194 rfl) rfl
theorem q2061 : (Jvm.Cond.lays "SumHouseModel" "SumHouseModel" "formB" "LSumHouseModel$B;") ∈ lw_all := lw_g (lw_at lw_m8 195 rfl) rfl
theorem q2062 : (Jvm.Cond.soleField "SumHouseModel" "formB") ∈ lw_all := lw_g (lw_at lw_m8 196 rfl) rfl
theorem q2063 : (Jvm.Cond.lays "SumHouseModel" "SumHouseModel" "formC" "LSumHouseModel$B;") ∈ lw_all := lw_g (lw_at lw_m8 197 rfl) rfl
theorem q2064 : (Jvm.Cond.soleField "SumHouseModel" "formC") ∈ lw_all := lw_g (lw_at lw_m8 198 rfl) rfl
theorem q2065 : (Jvm.Cond.lays "SumHouseModel" "SumHouseModel" "alphaUp" "LSumHouseModel$U;") ∈ lw_all := lw_g (lw_at lw_m8 199 rfl) rfl
theorem q2066 : (Jvm.Cond.soleField "SumHouseModel" "alphaUp") ∈ lw_all := lw_g (lw_at lw_m8 200 rfl) rfl
theorem q2067 : (Jvm.Cond.lays "SumHouseModel" "SumHouseModel" "alphaDown" "LSumHouseModel$U;") ∈ lw_all := lw_g (lw_at lw_m8 201 rfl) rfl
theorem q2068 : (Jvm.Cond.soleField "SumHouseModel" "alphaDown") ∈ lw_all := lw_g (lw_at lw_m8 202 rfl) rfl
theorem q2069 : (Jvm.Cond.laysFinal "SumHouseModel" "SumHouseModel" "board" "[[LSumHouseModel$U;") ∈ lw_all := lw_g (lw_at lw_m8 203 rfl) rfl
theorem q2070 : (Jvm.Cond.soleField "SumHouseModel" "board") ∈ lw_all := lw_g (lw_at lw_m8 204 rfl) rfl
theorem q2071 : (Jvm.Cond.laysFinal "SumHouseModel" "SumHouseModel" "solution" "[LSumHouseModel$U;") ∈ lw_all := lw_g (lw_at lw_m8 205 rfl) rfl
theorem q2072 : (Jvm.Cond.soleField "SumHouseModel" "solution") ∈ lw_all := lw_g (lw_at lw_m8 206 rfl) rfl
theorem q2073 : (Jvm.Cond.laysFinal "SumHouseModel" "SumHouseModel" "isPivot" "[Z") ∈ lw_all := lw_g (lw_at lw_m8 207 rfl) rfl
theorem q2074 : (Jvm.Cond.soleField "SumHouseModel" "isPivot") ∈ lw_all := lw_g (lw_at lw_m8 208 rfl) rfl
theorem q2075 : (Jvm.Cond.laysFinal "SumHouseModel" "SumHouseModel" "pivotOf" "[I") ∈ lw_all := lw_g (lw_at lw_m8 209 rfl) rfl
theorem q2076 : (Jvm.Cond.soleField "SumHouseModel" "pivotOf") ∈ lw_all := lw_g (lw_at lw_m8 210 rfl) rfl
theorem q2077 : (Jvm.Cond.lays "SumHouseModel" "SumHouseModel" "boardRows" "I") ∈ lw_all := lw_g (lw_at lw_m8 211 rfl) rfl
theorem q2078 : (Jvm.Cond.soleField "SumHouseModel" "boardRows") ∈ lw_all := lw_g (lw_at lw_m8 212 rfl) rfl
theorem q2079 : (Jvm.Cond.laysFinal "SumHouseModel" "SumHouseModel" "parts" "[LSumHouseModel$B;") ∈ lw_all := lw_g (lw_at lw_m8 213 rfl) rfl
theorem q2080 : (Jvm.Cond.soleField "SumHouseModel" "parts") ∈ lw_all := lw_g (lw_at lw_m8 214 rfl) rfl
theorem q2081 : (Jvm.Cond.laysFinal "SumHouseModel" "SumHouseModel" "partDown" "[LSumHouseModel$U;") ∈ lw_all := lw_g (lw_at lw_m8 215 rfl) rfl
theorem q2082 : (Jvm.Cond.soleField "SumHouseModel" "partDown") ∈ lw_all := lw_g (lw_at lw_m8 216 rfl) rfl
theorem q2083 : (Jvm.Cond.laysFinal "SumHouseModel" "SumHouseModel" "sNum" "[[I") ∈ lw_all := lw_g (lw_at lw_m8 217 rfl) rfl
theorem q2084 : (Jvm.Cond.soleField "SumHouseModel" "sNum") ∈ lw_all := lw_g (lw_at lw_m8 218 rfl) rfl
theorem q2085 : (Jvm.Cond.laysFinal "SumHouseModel" "SumHouseModel" "sDen" "[[I") ∈ lw_all := lw_g (lw_at lw_m8 219 rfl) rfl
theorem q2086 : (Jvm.Cond.soleField "SumHouseModel" "sDen") ∈ lw_all := lw_g (lw_at lw_m8 220 rfl) rfl
theorem q2087 : (Jvm.Cond.laysFinal "SumHouseModel" "SumHouseModel" "tops" "[LSumHouseModel$B;") ∈ lw_all := lw_g (lw_at lw_m8 221 rfl) rfl
theorem q2088 : (Jvm.Cond.soleField "SumHouseModel" "tops") ∈ lw_all := lw_g (lw_at lw_m8 222 rfl) rfl
theorem q2089 : (Jvm.Cond.laysFinal "SumHouseModel" "SumHouseModel" "unders" "[LSumHouseModel$B;") ∈ lw_all := lw_g (lw_at lw_m8 223 rfl) rfl
theorem q2090 : (Jvm.Cond.soleField "SumHouseModel" "unders") ∈ lw_all := lw_g (lw_at lw_m8 224 rfl) rfl
theorem q2091 : (Jvm.Cond.laysFinal "SumHouseModel" "SumHouseModel" "rowOf" "[LSumHouseModel$U;") ∈ lw_all := lw_g (lw_at lw_m8 225 rfl) rfl
theorem q2092 : (Jvm.Cond.soleField "SumHouseModel" "rowOf") ∈ lw_all := lw_g (lw_at lw_m8 226 rfl) rfl
theorem q2093 : (Jvm.Cond.laysFinal "SumHouseModel" "SumHouseModel" "ways" "[[LSumHouseModel$U;") ∈ lw_all := lw_g (lw_at lw_m8 227 rfl) rfl
theorem q2094 : (Jvm.Cond.soleField "SumHouseModel" "ways") ∈ lw_all := lw_g (lw_at lw_m8 228 rfl) rfl
theorem q2095 : (Jvm.Cond.laysFinal "SumHouseModel" "SumHouseModel" "others" "[[LSumHouseModel$U;") ∈ lw_all := lw_g (lw_at lw_m8 229 rfl) rfl
theorem q2096 : (Jvm.Cond.soleField "SumHouseModel" "others") ∈ lw_all := lw_g (lw_at lw_m8 230 rfl) rfl
theorem q2097 : (Jvm.Cond.laysFinal "SumHouseModel" "SumHouseModel" "wayDown" "[LSumHouseModel$U;") ∈ lw_all := lw_g (lw_at lw_m8 231 rfl) rfl
theorem q2098 : (Jvm.Cond.soleField "SumHouseModel" "wayDown") ∈ lw_all := lw_g (lw_at lw_m8 232 rfl) rfl
theorem q2099 : (Jvm.Cond.laysFinal "SumHouseModel" "SumHouseModel" "otherDown" "[LSumHouseModel$U;") ∈ lw_all := lw_g (lw_at lw_m8 233 rfl) rfl
theorem q2100 : (Jvm.Cond.soleField "SumHouseModel" "otherDown") ∈ lw_all := lw_g (lw_at lw_m8 234 rfl) rfl
theorem q2101 : (Jvm.Cond.laysFinal "SumHouseModel" "SumHouseModel" "lineOf" "[[I") ∈ lw_all := lw_g (lw_at lw_m8 235 rfl) rfl
theorem q2102 : (Jvm.Cond.soleField "SumHouseModel" "lineOf") ∈ lw_all := lw_g (lw_at lw_m8 236 rfl) rfl
theorem q2103 : (Jvm.Cond.laysFinal "SumHouseModel" "SumHouseModel" "unknown" "[I") ∈ lw_all := lw_g (lw_at lw_m8 237 rfl) rfl
theorem q2104 : (Jvm.Cond.soleField "SumHouseModel" "unknown") ∈ lw_all := lw_g (lw_at lw_m8 238 rfl) rfl
theorem q2105 : (Jvm.Cond.laysFinal "SumHouseModel" "SumHouseModel" "found" "[I") ∈ lw_all := lw_g (lw_at lw_m8 239 rfl) rfl
theorem q2106 : (Jvm.Cond.soleField "SumHouseModel" "found") ∈ lw_all := lw_g (lw_at lw_m9 0 rfl) rfl
theorem q2107 : (Jvm.Cond.lays "SumHouseModel" "SumHouseModel" "foundCount" "I") ∈ lw_all := lw_g (lw_at lw_m9 1 rfl) rfl
theorem q2108 : (Jvm.Cond.soleField "SumHouseModel" "foundCount") ∈ lw_all := lw_g (lw_at lw_m9 2 rfl) rfl
theorem q2109 : (Jvm.Cond.laysFinal "SumHouseModel" "SumHouseModel" "howOften" "[I") ∈ lw_all := lw_g (lw_at lw_m9 3 rfl) rfl
theorem q2110 : (Jvm.Cond.soleField "SumHouseModel" "howOften") ∈ lw_all := lw_g (lw_at lw_m9 4 rfl) rfl
theorem q2111 : (Jvm.Cond.superclass "SumHouseModel" "java/lang/Object") ∈ lw_all := lw_g (lw_at lw_m9 5 rfl) rfl
theorem q2113 : (Jvm.Cond.instanceMethod ({ cls := "SumHouseModel", name := "type", desc := "(JI)I" } : Jvm.MethodName)) ∈ lw_all := lw_g (lw_at lw_m9 7 rfl) rfl
theorem q2114 : (Jvm.Cond.selects "SumHouseModel" ({ cls := "SumHouseModel", name := "type", desc := "(JI)I" } : Jvm.MethodName) ({ cls := "SumHouseModel", name := "type", desc := "(JI)I" } : Jvm.MethodName)) ∈ lw_all := lw_g (lw_at lw_m9 8 rfl) rfl
theorem q2115 : (Jvm.Cond.code ({ cls := "SumHouseModel", name := "type", desc := "(JI)I" } : Jvm.MethodName) prog_12_method_87_code (5 : Nat) (Option.some Jvm.ClassFile.FieldType.int)) ∈ lw_all := lw_g (lw_at lw_m9 9 rfl) rfl
theorem q2117 : (Jvm.Cond.instanceMethod ({ cls := "SumHouseModel", name := "read", desc := "(I)I" } : Jvm.MethodName)) ∈ lw_all := lw_g (lw_at lw_m9 11 rfl) rfl
theorem q2118 : (Jvm.Cond.selects "SumHouseModel" ({ cls := "SumHouseModel", name := "read", desc := "(I)I" } : Jvm.MethodName) ({ cls := "SumHouseModel", name := "read", desc := "(I)I" } : Jvm.MethodName)) ∈ lw_all := lw_g (lw_at lw_m9 12 rfl) rfl
theorem q2119 : (Jvm.Cond.codeWith ({ cls := "SumHouseModel", name := "read", desc := "(I)I" } : Jvm.MethodName) prog_12_method_88_code (4 : Nat) (Option.some Jvm.ClassFile.FieldType.int) [((28 : Nat), (72 : Nat), (75 : Nat), (447 : Nat))]) ∈ lw_all := lw_g (lw_at lw_m9 13 rfl) rfl
theorem q2120 : (Jvm.Cond.methodLink "SumHouseModel" (551 : Nat) ({ cls := "SumHouseModel", name := "isSlot", desc := "(I)Z" } : Jvm.MethodName)) ∈ lw_all := lw_g (lw_at lw_m9 14 rfl) rfl
theorem q2121 : (Jvm.Cond.static ({ cls := "SumHouseModel", name := "isSlot", desc := "(I)Z" } : Jvm.MethodName)) ∈ lw_all := lw_g (lw_at lw_m9 15 rfl) rfl
theorem q2122 : (Jvm.Cond.code ({ cls := "SumHouseModel", name := "isSlot", desc := "(I)Z" } : Jvm.MethodName) prog_12_method_84_code (1 : Nat) (Option.some Jvm.ClassFile.FieldType.boolean)) ∈ lw_all := lw_g (lw_at lw_m9 16 rfl) rfl
theorem q2123 : (Jvm.Cond.methodLink "SumHouseModel" (555 : Nat) ({ cls := "SumHouseModel", name := "begin", desc := "()V" } : Jvm.MethodName)) ∈ lw_all := lw_g (lw_at lw_m9 17 rfl) rfl
theorem q2124 : (Jvm.Cond.privateMethod ({ cls := "SumHouseModel", name := "begin", desc := "()V" } : Jvm.MethodName)) ∈ lw_tbl := lw_at lw_m9 18 rfl
theorem q2125 : (Jvm.Cond.instanceMethod ({ cls := "SumHouseModel", name := "begin", desc := "()V" } : Jvm.MethodName)) ∈ lw_all := lw_g (lw_at lw_m9 19 rfl) rfl
theorem q2126 : (Jvm.Cond.code ({ cls := "SumHouseModel", name := "begin", desc := "()V" } : Jvm.MethodName) prog_12_method_85_code (1 : Nat) (Option.none : Option Jvm.ClassFile.FieldType)) ∈ lw_all := lw_g (lw_at lw_m9 20 rfl) rfl
theorem q2127 : (Jvm.Cond.methodLink "SumHouseModel" (365 : Nat) ({ cls := "SumHouseModel", name := "readE", desc := "()V" } : Jvm.MethodName)) ∈ lw_all := lw_g (lw_at lw_m9 21 rfl) rfl
theorem q2128 : (Jvm.Cond.privateMethod ({ cls := "SumHouseModel", name := "readE", desc := "()V" } : Jvm.MethodName)) ∈ lw_tbl := lw_at lw_m9 22 rfl
theorem q2129 : (Jvm.Cond.instanceMethod ({ cls := "SumHouseModel", name := "readE", desc := "()V" } : Jvm.MethodName)) ∈ lw_all := lw_g (lw_at lw_m9 23 rfl) rfl
theorem q2130 : (Jvm.Cond.code ({ cls := "SumHouseModel", name := "readE", desc := "()V" } : Jvm.MethodName) prog_12_method_68_code (1 : Nat) (Option.none : Option Jvm.ClassFile.FieldType)) ∈ lw_all := lw_g (lw_at lw_m9 24 rfl) rfl
theorem q2131 : (Jvm.Cond.methodLink "SumHouseModel" (343 : Nat) ({ cls := "SumHouseModel", name := "look", desc := "()I" } : Jvm.MethodName)) ∈ lw_all := lw_g (lw_at lw_m9 25 rfl) rfl
theorem q2132 : (Jvm.Cond.privateMethod ({ cls := "SumHouseModel", name := "look", desc := "()I" } : Jvm.MethodName)) ∈ lw_tbl := lw_at lw_m9 26 rfl
theorem q2133 : (Jvm.Cond.instanceMethod ({ cls := "SumHouseModel", name := "look", desc := "()I" } : Jvm.MethodName)) ∈ lw_all := lw_g (lw_at lw_m9 27 rfl) rfl
theorem q2134 : (Jvm.Cond.code ({ cls := "SumHouseModel", name := "look", desc := "()I" } : Jvm.MethodName) prog_12_method_66_code (1 : Nat) (Option.some Jvm.ClassFile.FieldType.int)) ∈ lw_all := lw_g (lw_at lw_m9 28 rfl) rfl
theorem q2135 : (Jvm.Cond.methodLink "SumHouseModel" (350 : Nat) ({ cls := "SumHouseModel", name := "readU", desc := "()V" } : Jvm.MethodName)) ∈ lw_all := lw_g (lw_at lw_m9 29 rfl) rfl
theorem q2136 : (Jvm.Cond.privateMethod ({ cls := "SumHouseModel", name := "readU", desc := "()V" } : Jvm.MethodName)) ∈ lw_tbl := lw_at lw_m9 30 rfl
theorem q2137 : (Jvm.Cond.instanceMethod ({ cls := "SumHouseModel", name := "readU", desc := "()V" } : Jvm.MethodName)) ∈ lw_all := lw_g (lw_at lw_m9 31 rfl) rfl
theorem q2138 : (Jvm.Cond.code ({ cls := "SumHouseModel", name := "readU", desc := "()V" } : Jvm.MethodName) prog_12_method_69_code (1 : Nat) (Option.none : Option Jvm.ClassFile.FieldType)) ∈ lw_all := lw_g (lw_at lw_m9 32 rfl) rfl
theorem q2139 : (Jvm.Cond.methodLink "SumHouseModel" (353 : Nat) ({ cls := "SumHouseModel", name := "readW", desc := "()V" } : Jvm.MethodName)) ∈ lw_all := lw_g (lw_at lw_m9 33 rfl) rfl
theorem q2140 : (Jvm.Cond.privateMethod ({ cls := "SumHouseModel", name := "readW", desc := "()V" } : Jvm.MethodName)) ∈ lw_tbl := lw_at lw_m9 34 rfl
theorem q2141 : (Jvm.Cond.instanceMethod ({ cls := "SumHouseModel", name := "readW", desc := "()V" } : Jvm.MethodName)) ∈ lw_all := lw_g (lw_at lw_m9 35 rfl) rfl
theorem q2142 : (Jvm.Cond.code ({ cls := "SumHouseModel", name := "readW", desc := "()V" } : Jvm.MethodName) prog_12_method_70_code (1 : Nat) (Option.none : Option Jvm.ClassFile.FieldType)) ∈ lw_all := lw_g (lw_at lw_m9 36 rfl) rfl
theorem q2143 : (Jvm.Cond.methodLink "SumHouseModel" (356 : Nat) ({ cls := "SumHouseModel", name := "readB", desc := "()V" } : Jvm.MethodName)) ∈ lw_all := lw_g (lw_at lw_m9 37 rfl) rfl
theorem q2144 : (Jvm.Cond.privateMethod ({ cls := "SumHouseModel", name := "readB", desc := "()V" } : Jvm.MethodName)) ∈ lw_tbl := lw_at lw_m9 38 rfl
theorem q2145 : (Jvm.Cond.instanceMethod ({ cls := "SumHouseModel", name := "readB", desc := "()V" } : Jvm.MethodName)) ∈ lw_all := lw_g (lw_at lw_m9 39 rfl) rfl
theorem q2146 : (Jvm.Cond.code ({ cls := "SumHouseModel", name := "readB", desc := "()V" } : Jvm.MethodName) prog_12_method_72_code (3 : Nat) (Option.none : Option Jvm.ClassFile.FieldType)) ∈ lw_all := lw_g (lw_at lw_m9 40 rfl) rfl
theorem q2147 : (Jvm.Cond.methodLink "SumHouseModel" (346 : Nat) ({ cls := "SumHouseModel", name := "fail", desc := "(II)LSumHouseModel$Stop;" } : Jvm.MethodName)) ∈ lw_all := lw_g (lw_at lw_m9 41 rfl) rfl
theorem q2148 : (Jvm.Cond.privateMethod ({ cls := "SumHouseModel", name := "fail", desc := "(II)LSumHouseModel$Stop;" } : Jvm.MethodName)) ∈ lw_tbl := lw_at lw_m9 42 rfl
theorem q2149 : (Jvm.Cond.instanceMethod ({ cls := "SumHouseModel", name := "fail", desc := "(II)LSumHouseModel$Stop;" } : Jvm.MethodName)) ∈ lw_all := lw_g (lw_at lw_m9 43 rfl) rfl
theorem q2150 : (Jvm.Cond.code ({ cls := "SumHouseModel", name := "fail", desc := "(II)LSumHouseModel$Stop;" } : Jvm.MethodName) prog_12_method_65_code (3 : Nat) (Option.some (Jvm.ClassFile.FieldType.object "SumHouseModel$Stop"))) ∈ lw_all := lw_g (lw_at lw_m9 44 rfl) rfl
theorem q2151 : (Jvm.Cond.methodLink "SumHouseModel" (362 : Nat) ({ cls := "SumHouseModel", name := "bracket", desc := "()V" } : Jvm.MethodName)) ∈ lw_all := lw_g (lw_at lw_m9 45 rfl) rfl
theorem q2152 : (Jvm.Cond.privateMethod ({ cls := "SumHouseModel", name := "bracket", desc := "()V" } : Jvm.MethodName)) ∈ lw_tbl := lw_at lw_m9 46 rfl
theorem q2153 : (Jvm.Cond.instanceMethod ({ cls := "SumHouseModel", name := "bracket", desc := "()V" } : Jvm.MethodName)) ∈ lw_all := lw_g (lw_at lw_m9 47 rfl) rfl
theorem q2154 : (Jvm.Cond.code ({ cls := "SumHouseModel", name := "bracket", desc := "()V" } : Jvm.MethodName) prog_12_method_71_code (1 : Nat) (Option.none : Option Jvm.ClassFile.FieldType)) ∈ lw_all := lw_g (lw_at lw_m9 48 rfl) rfl
theorem q2155 : (Jvm.Cond.methodLink "SumHouseModel" (368 : Nat) ({ cls := "SumHouseModel", name := "must", desc := "(I)V" } : Jvm.MethodName)) ∈ lw_all := lw_g (lw_at lw_m9 49 rfl) rfl
theorem q2156 : (Jvm.Cond.privateMethod ({ cls := "SumHouseModel", name := "must", desc := "(I)V" } : Jvm.MethodName)) ∈ lw_tbl := lw_at lw_m9 50 rfl
theorem q2157 : (Jvm.Cond.instanceMethod ({ cls := "SumHouseModel", name := "must", desc := "(I)V" } : Jvm.MethodName)) ∈ lw_all := lw_g (lw_at lw_m9 51 rfl) rfl
theorem q2158 : (Jvm.Cond.code ({ cls := "SumHouseModel", name := "must", desc := "(I)V" } : Jvm.MethodName) prog_12_method_67_code (2 : Nat) (Option.none : Option Jvm.ClassFile.FieldType)) ∈ lw_all := lw_g (lw_at lw_m9 52 rfl) rfl
theorem q2159 : (Jvm.Cond.methodLink "SumHouseModel" (423 : Nat) ({ cls := "SumHouseModel", name := "valueE", desc := "()LSumHouseModel$Thing;" } : Jvm.MethodName)) ∈ lw_all := lw_g (lw_at lw_m9 53 rfl) rfl
theorem q2160 : (Jvm.Cond.privateMethod ({ cls := "SumHouseModel", name := "valueE", desc := "()LSumHouseModel$Thing;" } : Jvm.MethodName)) ∈ lw_tbl := lw_at lw_m9 54 rfl
theorem q2161 : (Jvm.Cond.instanceMethod ({ cls := "SumHouseModel", name := "valueE", desc := "()LSumHouseModel$Thing;" } : Jvm.MethodName)) ∈ lw_all := lw_g (lw_at lw_m9 55 rfl) rfl
theorem q2162 : (Jvm.Cond.code ({ cls := "SumHouseModel", name := "valueE", desc := "()LSumHouseModel$Thing;" } : Jvm.MethodName) prog_12_method_74_code (6 : Nat) (Option.some (Jvm.ClassFile.FieldType.object "SumHouseModel$Thing"))) ∈ lw_all := lw_g (lw_at lw_m9 56 rfl) rfl
theorem q2163 : (Jvm.Cond.methodLink "SumHouseModel" (378 : Nat) ({ cls := "SumHouseModel", name := "valueU", desc := "()LSumHouseModel$Thing;" } : Jvm.MethodName)) ∈ lw_all := lw_g (lw_at lw_m9 57 rfl) rfl
theorem q2164 : (Jvm.Cond.privateMethod ({ cls := "SumHouseModel", name := "valueU", desc := "()LSumHouseModel$Thing;" } : Jvm.MethodName)) ∈ lw_tbl := lw_at lw_m9 58 rfl
theorem q2165 : (Jvm.Cond.instanceMethod ({ cls := "SumHouseModel", name := "valueU", desc := "()LSumHouseModel$Thing;" } : Jvm.MethodName)) ∈ lw_all := lw_g (lw_at lw_m9 59 rfl) rfl
theorem q2166 : (Jvm.Cond.code ({ cls := "SumHouseModel", name := "valueU", desc := "()LSumHouseModel$Thing;" } : Jvm.MethodName) prog_12_method_75_code (5 : Nat) (Option.some (Jvm.ClassFile.FieldType.object "SumHouseModel$Thing"))) ∈ lw_all := lw_g (lw_at lw_m9 60 rfl) rfl
theorem q2167 : (Jvm.Cond.methodLink "SumHouseModel" (385 : Nat) ({ cls := "SumHouseModel", name := "valueW", desc := "()LSumHouseModel$Thing;" } : Jvm.MethodName)) ∈ lw_all := lw_g (lw_at lw_m9 61 rfl) rfl
theorem q2168 : (Jvm.Cond.privateMethod ({ cls := "SumHouseModel", name := "valueW", desc := "()LSumHouseModel$Thing;" } : Jvm.MethodName)) ∈ lw_tbl := lw_at lw_m9 62 rfl
theorem q2169 : (Jvm.Cond.instanceMethod ({ cls := "SumHouseModel", name := "valueW", desc := "()LSumHouseModel$Thing;" } : Jvm.MethodName)) ∈ lw_all := lw_g (lw_at lw_m9 63 rfl) rfl
theorem q2170 : (Jvm.Cond.code ({ cls := "SumHouseModel", name := "valueW", desc := "()LSumHouseModel$Thing;" } : Jvm.MethodName) prog_12_method_79_code (4 : Nat) (Option.some (Jvm.ClassFile.FieldType.object "SumHouseModel$Thing"))) ∈ lw_all := lw_g (lw_at lw_m9 64 rfl) rfl
theorem q2171 : (Jvm.Cond.methodLink "SumHouseModel" (406 : Nat) ({ cls := "SumHouseModel", name := "valueB", desc := "()LSumHouseModel$Thing;" } : Jvm.MethodName)) ∈ lw_all := lw_g (lw_at lw_m9 65 rfl) rfl
theorem q2172 : (Jvm.Cond.privateMethod ({ cls := "SumHouseModel", name := "valueB", desc := "()LSumHouseModel$Thing;" } : Jvm.MethodName)) ∈ lw_tbl := lw_at lw_m9 66 rfl
theorem q2173 : (Jvm.Cond.instanceMethod ({ cls := "SumHouseModel", name := "valueB", desc := "()LSumHouseModel$Thing;" } : Jvm.MethodName)) ∈ lw_all := lw_g (lw_at lw_m9 67 rfl) rfl
theorem q2174 : (Jvm.Cond.code ({ cls := "SumHouseModel", name := "valueB", desc := "()LSumHouseModel$Thing;" } : Jvm.MethodName) prog_12_method_81_code (5 : Nat) (Option.some (Jvm.ClassFile.FieldType.object "SumHouseModel$Thing"))) ∈ lw_all := lw_g (lw_at lw_m9 68 rfl) rfl
theorem q2175 : (Jvm.Cond.methodLink "SumHouseModel" (426 : Nat) ({ cls := "SumHouseModel", name := "choose", desc := "()LSumHouseModel$Thing;" } : Jvm.MethodName)) ∈ lw_all := lw_g (lw_at lw_m9 69 rfl) rfl
theorem q2176 : (Jvm.Cond.privateMethod ({ cls := "SumHouseModel", name := "choose", desc := "()LSumHouseModel$Thing;" } : Jvm.MethodName)) ∈ lw_tbl := lw_at lw_m9 70 rfl
theorem q2177 : (Jvm.Cond.instanceMethod ({ cls := "SumHouseModel", name := "choose", desc := "()LSumHouseModel$Thing;" } : Jvm.MethodName)) ∈ lw_all := lw_g (lw_at lw_m9 71 rfl) rfl
theorem q2178 : (Jvm.Cond.code ({ cls := "SumHouseModel", name := "choose", desc := "()LSumHouseModel$Thing;" } : Jvm.MethodName) prog_12_method_82_code (11 : Nat) (Option.some (Jvm.ClassFile.FieldType.object "SumHouseModel$Thing"))) ∈ lw_all := lw_g (lw_at lw_m9 72 rfl) rfl
theorem q2179 : (Jvm.Cond.methodLink "SumHouseModel" (409 : Nat) ({ cls := "SumHouseModel", name := "isLine", desc := "(LSumHouseModel$Thing;)Z" } : Jvm.MethodName)) ∈ lw_all := lw_g (lw_at lw_m9 73 rfl) rfl
theorem q2180 : (Jvm.Cond.privateMethod ({ cls := "SumHouseModel", name := "isLine", desc := "(LSumHouseModel$Thing;)Z" } : Jvm.MethodName)) ∈ lw_tbl := lw_at lw_m9 74 rfl
theorem q2181 : (Jvm.Cond.instanceMethod ({ cls := "SumHouseModel", name := "isLine", desc := "(LSumHouseModel$Thing;)Z" } : Jvm.MethodName)) ∈ lw_all := lw_g (lw_at lw_m9 75 rfl) rfl
theorem q2182 : (Jvm.Cond.code ({ cls := "SumHouseModel", name := "isLine", desc := "(LSumHouseModel$Thing;)Z" } : Jvm.MethodName) prog_12_method_76_code (4 : Nat) (Option.some Jvm.ClassFile.FieldType.boolean)) ∈ lw_all := lw_g (lw_at lw_m9 76 rfl) rfl
theorem q2183 : (Jvm.Cond.methodLink "SumHouseModel" (265 : Nat) ({ cls := "SumHouseModel", name := "isOne", desc := "([I)Z" } : Jvm.MethodName)) ∈ lw_all := lw_g (lw_at lw_m9 77 rfl) rfl
theorem q2184 : (Jvm.Cond.static ({ cls := "SumHouseModel", name := "isOne", desc := "([I)Z" } : Jvm.MethodName)) ∈ lw_all := lw_g (lw_at lw_m9 78 rfl) rfl
theorem q2185 : (Jvm.Cond.code ({ cls := "SumHouseModel", name := "isOne", desc := "([I)Z" } : Jvm.MethodName) prog_12_method_53_code (3 : Nat) (Option.some Jvm.ClassFile.FieldType.boolean)) ∈ lw_all := lw_g (lw_at lw_m9 79 rfl) rfl
theorem q2186 : (Jvm.Cond.methodLink "SumHouseModel" (390 : Nat) ({ cls := "SumHouseModel", name := "small", desc := "(I)I" } : Jvm.MethodName)) ∈ lw_all := lw_g (lw_at lw_m9 80 rfl) rfl
theorem q2187 : (Jvm.Cond.static ({ cls := "SumHouseModel", name := "small", desc := "(I)I" } : Jvm.MethodName)) ∈ lw_all := lw_g (lw_at lw_m9 81 rfl) rfl
theorem q2188 : (Jvm.Cond.code ({ cls := "SumHouseModel", name := "small", desc := "(I)I" } : Jvm.MethodName) prog_12_method_7_code (1 : Nat) (Option.some Jvm.ClassFile.FieldType.int)) ∈ lw_all := lw_g (lw_at lw_m9 82 rfl) rfl
theorem q2189 : (Jvm.Cond.constant "SumHouseModel" (12 : Nat) (1073741823 : Int32)) ∈ lw_all := lw_g (lw_at lw_m9 83 rfl) rfl
theorem q2190 : (Jvm.Cond.constant "SumHouseModel" (5 : Nat) (2147483647 : Int32)) ∈ lw_all := lw_g (lw_at lw_m9 84 rfl) rfl
theorem q2191 : (Jvm.Cond.methodLink "SumHouseModel" (402 : Nat) ({ cls := "SumHouseModel", name := "isLine", desc := "(III)Z" } : Jvm.MethodName)) ∈ lw_all := lw_g (lw_at lw_m9 85 rfl) rfl
theorem q2192 : (Jvm.Cond.static ({ cls := "SumHouseModel", name := "isLine", desc := "(III)Z" } : Jvm.MethodName)) ∈ lw_all := lw_g (lw_at lw_m9 86 rfl) rfl
theorem q2193 : (Jvm.Cond.code ({ cls := "SumHouseModel", name := "isLine", desc := "(III)Z" } : Jvm.MethodName) prog_12_method_77_code (3 : Nat) (Option.some Jvm.ClassFile.FieldType.boolean)) ∈ lw_all := lw_g (lw_at lw_m9 87 rfl) rfl
theorem q2194 : (Jvm.Cond.methodLink "SumHouseModel" (292 : Nat) ({ cls := "SumHouseModel", name := "number", desc := "(LSumHouseModel$Thing;I)V" } : Jvm.MethodName)) ∈ lw_all := lw_g (lw_at lw_m9 88 rfl) rfl
theorem q2195 : (Jvm.Cond.privateMethod ({ cls := "SumHouseModel", name := "number", desc := "(LSumHouseModel$Thing;I)V" } : Jvm.MethodName)) ∈ lw_tbl := lw_at lw_m9 89 rfl
theorem q2196 : (Jvm.Cond.instanceMethod ({ cls := "SumHouseModel", name := "number", desc := "(LSumHouseModel$Thing;I)V" } : Jvm.MethodName)) ∈ lw_all := lw_g (lw_at lw_m9 90 rfl) rfl
theorem q2197 : (Jvm.Cond.code ({ cls := "SumHouseModel", name := "number", desc := "(LSumHouseModel$Thing;I)V" } : Jvm.MethodName) prog_12_method_51_code (7 : Nat) (Option.none : Option Jvm.ClassFile.FieldType)) ∈ lw_all := lw_g (lw_at lw_m9 91 rfl) rfl
theorem q2198 : (Jvm.Cond.methodLink "SumHouseModel" (140 : Nat) ({ cls := "SumHouseModel", name := "newB", desc := "()LSumHouseModel$B;" } : Jvm.MethodName)) ∈ lw_all := lw_g (lw_at lw_m9 92 rfl) rfl
theorem q2199 : (Jvm.Cond.privateMethod ({ cls := "SumHouseModel", name := "newB", desc := "()LSumHouseModel$B;" } : Jvm.MethodName)) ∈ lw_tbl := lw_at lw_m9 93 rfl
theorem q2200 : (Jvm.Cond.instanceMethod ({ cls := "SumHouseModel", name := "newB", desc := "()LSumHouseModel$B;" } : Jvm.MethodName)) ∈ lw_all := lw_g (lw_at lw_m9 94 rfl) rfl
theorem q2201 : (Jvm.Cond.code ({ cls := "SumHouseModel", name := "newB", desc := "()LSumHouseModel$B;" } : Jvm.MethodName) prog_12_method_20_code (2 : Nat) (Option.some (Jvm.ClassFile.FieldType.object "SumHouseModel$B"))) ∈ lw_all := lw_g (lw_at lw_m9 95 rfl) rfl
theorem q2202 : (Jvm.Cond.methodLink "SumHouseModel" (257 : Nat) ({ cls := "SumHouseModel", name := "plain", desc := "(LSumHouseModel$Thing;)V" } : Jvm.MethodName)) ∈ lw_all := lw_g (lw_at lw_m9 96 rfl) rfl
theorem q2203 : (Jvm.Cond.static ({ cls := "SumHouseModel", name := "plain", desc := "(LSumHouseModel$Thing;)V" } : Jvm.MethodName)) ∈ lw_all := lw_g (lw_at lw_m9 97 rfl) rfl
theorem q2204 : (Jvm.Cond.code ({ cls := "SumHouseModel", name := "plain", desc := "(LSumHouseModel$Thing;)V" } : Jvm.MethodName) prog_12_method_50_code (1 : Nat) (Option.none : Option Jvm.ClassFile.FieldType)) ∈ lw_all := lw_g (lw_at lw_m9 98 rfl) rfl
theorem q2205 : (Jvm.Cond.methodLink "SumHouseModel" (158 : Nat) ({ cls := "SumHouseModel$B", name := "number", desc := "(I)V" } : Jvm.MethodName)) ∈ lw_all := lw_g (lw_at lw_m9 99 rfl) rfl
theorem q2213 : (Jvm.Cond.methodLink "SumHouseModel" (261 : Nat) ({ cls := "SumHouseModel", name := "put", desc := "(LSumHouseModel$Thing;LSumHouseModel$B;LSumHouseModel$B;)Z" } : Jvm.MethodName)) ∈ lw_all := lw_g (lw_at lw_m9 107 rfl) rfl
theorem q2214 : (Jvm.Cond.static ({ cls := "SumHouseModel", name := "put", desc := "(LSumHouseModel$Thing;LSumHouseModel$B;LSumHouseModel$B;)Z" } : Jvm.MethodName)) ∈ lw_all := lw_g (lw_at lw_m9 108 rfl) rfl
theorem q2215 : (Jvm.Cond.code ({ cls := "SumHouseModel", name := "put", desc := "(LSumHouseModel$Thing;LSumHouseModel$B;LSumHouseModel$B;)Z" } : Jvm.MethodName) prog_12_method_49_code (3 : Nat) (Option.some Jvm.ClassFile.FieldType.boolean)) ∈ lw_all := lw_g (lw_at lw_m9 109 rfl) rfl
theorem q2216 : (Jvm.Cond.methodLink "SumHouseModel" (249 : Nat) ({ cls := "SumHouseModel", name := "fits", desc := "(LSumHouseModel$B;)Z" } : Jvm.MethodName)) ∈ lw_all := lw_g (lw_at lw_m9 110 rfl) rfl
theorem q2217 : (Jvm.Cond.static ({ cls := "SumHouseModel", name := "fits", desc := "(LSumHouseModel$B;)Z" } : Jvm.MethodName)) ∈ lw_all := lw_g (lw_at lw_m9 111 rfl) rfl
theorem q2218 : (Jvm.Cond.code ({ cls := "SumHouseModel", name := "fits", desc := "(LSumHouseModel$B;)Z" } : Jvm.MethodName) prog_12_method_38_code (3 : Nat) (Option.some Jvm.ClassFile.FieldType.boolean)) ∈ lw_all := lw_g (lw_at lw_m9 112 rfl) rfl
theorem q2219 : (Jvm.Cond.methodLink "SumHouseModel" (253 : Nat) ({ cls := "SumHouseModel", name := "store", desc := "([ILSumHouseModel$B;)V" } : Jvm.MethodName)) ∈ lw_all := lw_g (lw_at lw_m9 113 rfl) rfl
theorem q2220 : (Jvm.Cond.static ({ cls := "SumHouseModel", name := "store", desc := "([ILSumHouseModel$B;)V" } : Jvm.MethodName)) ∈ lw_all := lw_g (lw_at lw_m9 114 rfl) rfl
theorem q2221 : (Jvm.Cond.code ({ cls := "SumHouseModel", name := "store", desc := "([ILSumHouseModel$B;)V" } : Jvm.MethodName) prog_12_method_46_code (4 : Nat) (Option.none : Option Jvm.ClassFile.FieldType)) ∈ lw_all := lw_g (lw_at lw_m9 115 rfl) rfl
theorem q2222 : (Jvm.Cond.methodLink "SumHouseModel" (122 : Nat) ({ cls := "SumHouseModel$U", name := "at", desc := "(I)I" } : Jvm.MethodName)) ∈ lw_all := lw_g (lw_at lw_m9 116 rfl) rfl
theorem q2226 : (Jvm.Cond.methodLink "SumHouseModel" (411 : Nat) ({ cls := "SumHouseModel", name := "factorial", desc := "(LSumHouseModel$Thing;IIII)V" } : Jvm.MethodName)) ∈ lw_all := lw_g (lw_at lw_m9 120 rfl) rfl
theorem q2227 : (Jvm.Cond.privateMethod ({ cls := "SumHouseModel", name := "factorial", desc := "(LSumHouseModel$Thing;IIII)V" } : Jvm.MethodName)) ∈ lw_tbl := lw_at lw_m9 121 rfl
theorem q2228 : (Jvm.Cond.instanceMethod ({ cls := "SumHouseModel", name := "factorial", desc := "(LSumHouseModel$Thing;IIII)V" } : Jvm.MethodName)) ∈ lw_all := lw_g (lw_at lw_m9 122 rfl) rfl
theorem q2229 : (Jvm.Cond.code ({ cls := "SumHouseModel", name := "factorial", desc := "(LSumHouseModel$Thing;IIII)V" } : Jvm.MethodName) prog_12_method_78_code (8 : Nat) (Option.none : Option Jvm.ClassFile.FieldType)) ∈ lw_all := lw_g (lw_at lw_m9 123 rfl) rfl
theorem q2230 : (Jvm.Cond.methodLink "SumHouseModel" (284 : Nat) ({ cls := "SumHouseModel", name := "factor", desc := "(LSumHouseModel$Thing;IIII)V" } : Jvm.MethodName)) ∈ lw_all := lw_g (lw_at lw_m9 124 rfl) rfl
theorem q2231 : (Jvm.Cond.static ({ cls := "SumHouseModel", name := "factor", desc := "(LSumHouseModel$Thing;IIII)V" } : Jvm.MethodName)) ∈ lw_all := lw_g (lw_at lw_m9 125 rfl) rfl
theorem q2232 : (Jvm.Cond.code ({ cls := "SumHouseModel", name := "factor", desc := "(LSumHouseModel$Thing;IIII)V" } : Jvm.MethodName) prog_12_method_55_code (7 : Nat) (Option.none : Option Jvm.ClassFile.FieldType)) ∈ lw_all := lw_g (lw_at lw_m9 126 rfl) rfl
theorem q2233 : (Jvm.Cond.methodLink "SumHouseModel" (269 : Nat) ({ cls := "SumHouseModel", name := "move", desc := "(LSumHouseModel$Thing;II)V" } : Jvm.MethodName)) ∈ lw_all := lw_g (lw_at lw_m9 127 rfl) rfl
theorem q2234 : (Jvm.Cond.static ({ cls := "SumHouseModel", name := "move", desc := "(LSumHouseModel$Thing;II)V" } : Jvm.MethodName)) ∈ lw_all := lw_g (lw_at lw_m9 128 rfl) rfl
theorem q2235 : (Jvm.Cond.code ({ cls := "SumHouseModel", name := "move", desc := "(LSumHouseModel$Thing;II)V" } : Jvm.MethodName) prog_12_method_56_code (3 : Nat) (Option.none : Option Jvm.ClassFile.FieldType)) ∈ lw_all := lw_g (lw_at lw_m9 129 rfl) rfl
theorem q2236 : (Jvm.Cond.methodLink "SumHouseModel" (56 : Nat) ({ cls := "SumHouseModel", name := "mul", desc := "(II)I" } : Jvm.MethodName)) ∈ lw_all := lw_g (lw_at lw_m9 130 rfl) rfl
theorem q2237 : (Jvm.Cond.static ({ cls := "SumHouseModel", name := "mul", desc := "(II)I" } : Jvm.MethodName)) ∈ lw_all := lw_g (lw_at lw_m9 131 rfl) rfl
theorem q2238 : (Jvm.Cond.code ({ cls := "SumHouseModel", name := "mul", desc := "(II)I" } : Jvm.MethodName) prog_12_method_3_code (2 : Nat) (Option.some Jvm.ClassFile.FieldType.int)) ∈ lw_all := lw_g (lw_at lw_m9 132 rfl) rfl
theorem q2239 : (Jvm.Cond.constantLong "SumHouseModel" (3 : Nat) (2147483647 : Int64)) ∈ lw_all := lw_g (lw_at lw_m9 133 rfl) rfl
theorem q2240 : (Jvm.Cond.methodLink "SumHouseModel" (13 : Nat) ({ cls := "SumHouseModel", name := "inv", desc := "(I)I" } : Jvm.MethodName)) ∈ lw_all := lw_g (lw_at lw_m9 134 rfl) rfl
theorem q2241 : (Jvm.Cond.static ({ cls := "SumHouseModel", name := "inv", desc := "(I)I" } : Jvm.MethodName)) ∈ lw_all := lw_g (lw_at lw_m9 135 rfl) rfl
theorem q2242 : (Jvm.Cond.code ({ cls := "SumHouseModel", name := "inv", desc := "(I)I" } : Jvm.MethodName) prog_12_method_5_code (1 : Nat) (Option.some Jvm.ClassFile.FieldType.int)) ∈ lw_all := lw_g (lw_at lw_m9 136 rfl) rfl
theorem q2243 : (Jvm.Cond.constantLong "SumHouseModel" (6 : Nat) (2147483645 : Int64)) ∈ lw_all := lw_g (lw_at lw_m9 137 rfl) rfl
theorem q2244 : (Jvm.Cond.methodLink "SumHouseModel" (8 : Nat) ({ cls := "SumHouseModel", name := "pow", desc := "(IJ)I" } : Jvm.MethodName)) ∈ lw_all := lw_g (lw_at lw_m9 138 rfl) rfl
theorem q2245 : (Jvm.Cond.static ({ cls := "SumHouseModel", name := "pow", desc := "(IJ)I" } : Jvm.MethodName)) ∈ lw_all := lw_g (lw_at lw_m9 139 rfl) rfl
theorem q2246 : (Jvm.Cond.code ({ cls := "SumHouseModel", name := "pow", desc := "(IJ)I" } : Jvm.MethodName) prog_12_method_4_code (9 : Nat) (Option.some Jvm.ClassFile.FieldType.int)) ∈ lw_all := lw_g (lw_at lw_m9 140 rfl) rfl
theorem q2247 : (Jvm.Cond.methodLink "SumHouseModel" (307 : Nat) ({ cls := "SumHouseModel", name := "name", desc := "(LSumHouseModel$Thing;)V" } : Jvm.MethodName)) ∈ lw_all := lw_g (lw_at lw_m9 141 rfl) rfl
theorem q2248 : (Jvm.Cond.static ({ cls := "SumHouseModel", name := "name", desc := "(LSumHouseModel$Thing;)V" } : Jvm.MethodName)) ∈ lw_all := lw_g (lw_at lw_m9 142 rfl) rfl
theorem q2249 : (Jvm.Cond.code ({ cls := "SumHouseModel", name := "name", desc := "(LSumHouseModel$Thing;)V" } : Jvm.MethodName) prog_12_method_58_code (1 : Nat) (Option.none : Option Jvm.ClassFile.FieldType)) ∈ lw_all := lw_g (lw_at lw_m9 143 rfl) rfl
theorem q2250 : (Jvm.Cond.methodLink "SumHouseModel" (429 : Nat) ({ cls := "SumHouseModel", name := "newThing", desc := "()LSumHouseModel$Thing;" } : Jvm.MethodName)) ∈ lw_all := lw_g (lw_at lw_m9 144 rfl) rfl
theorem q2251 : (Jvm.Cond.privateMethod ({ cls := "SumHouseModel", name := "newThing", desc := "()LSumHouseModel$Thing;" } : Jvm.MethodName)) ∈ lw_tbl := lw_at lw_m9 145 rfl
theorem q2252 : (Jvm.Cond.instanceMethod ({ cls := "SumHouseModel", name := "newThing", desc := "()LSumHouseModel$Thing;" } : Jvm.MethodName)) ∈ lw_all := lw_g (lw_at lw_m9 146 rfl) rfl
theorem q2253 : (Jvm.Cond.code ({ cls := "SumHouseModel", name := "newThing", desc := "()LSumHouseModel$Thing;" } : Jvm.MethodName) prog_12_method_73_code (1 : Nat) (Option.some (Jvm.ClassFile.FieldType.object "SumHouseModel$Thing"))) ∈ lw_all := lw_g (lw_at lw_m9 147 rfl) rfl
theorem q2254 : (Jvm.Cond.constantLong "SumHouseModel" (432 : Nat) (10 : Int64)) ∈ lw_all := lw_g (lw_at lw_m9 148 rfl) rfl
theorem q2255 : (Jvm.Cond.constantLong "SumHouseModel" (434 : Nat) (48 : Int64)) ∈ lw_all := lw_g (lw_at lw_m9 149 rfl) rfl
theorem q2256 : (Jvm.Cond.methodLink "SumHouseModel" (414 : Nat) ({ cls := "SumHouseModel", name := "raiseText", desc := "(LSumHouseModel$Thing;I)V" } : Jvm.MethodName)) ∈ lw_all := lw_g (lw_at lw_m9 150 rfl) rfl
theorem q2257 : (Jvm.Cond.privateMethod ({ cls := "SumHouseModel", name := "raiseText", desc := "(LSumHouseModel$Thing;I)V" } : Jvm.MethodName)) ∈ lw_tbl := lw_at lw_m9 151 rfl
theorem q2258 : (Jvm.Cond.instanceMethod ({ cls := "SumHouseModel", name := "raiseText", desc := "(LSumHouseModel$Thing;I)V" } : Jvm.MethodName)) ∈ lw_all := lw_g (lw_at lw_m9 152 rfl) rfl
theorem q2259 : (Jvm.Cond.code ({ cls := "SumHouseModel", name := "raiseText", desc := "(LSumHouseModel$Thing;I)V" } : Jvm.MethodName) prog_12_method_80_code (4 : Nat) (Option.none : Option Jvm.ClassFile.FieldType)) ∈ lw_all := lw_g (lw_at lw_m9 153 rfl) rfl
theorem q2260 : (Jvm.Cond.methodLink "SumHouseModel" (288 : Nat) ({ cls := "SumHouseModel", name := "isZero", desc := "(LSumHouseModel$Thing;)Z" } : Jvm.MethodName)) ∈ lw_all := lw_g (lw_at lw_m9 154 rfl) rfl
theorem q2261 : (Jvm.Cond.static ({ cls := "SumHouseModel", name := "isZero", desc := "(LSumHouseModel$Thing;)Z" } : Jvm.MethodName)) ∈ lw_all := lw_g (lw_at lw_m9 155 rfl) rfl
theorem q2262 : (Jvm.Cond.code ({ cls := "SumHouseModel", name := "isZero", desc := "(LSumHouseModel$Thing;)Z" } : Jvm.MethodName) prog_12_method_52_code (3 : Nat) (Option.some Jvm.ClassFile.FieldType.boolean)) ∈ lw_all := lw_g (lw_at lw_m9 156 rfl) rfl
theorem q2263 : (Jvm.Cond.methodLink "SumHouseModel" (417 : Nat) ({ cls := "SumHouseModel", name := "raise", desc := "(LSumHouseModel$Thing;I)Z" } : Jvm.MethodName)) ∈ lw_all := lw_g (lw_at lw_m9 157 rfl) rfl
theorem q2264 : (Jvm.Cond.privateMethod ({ cls := "SumHouseModel", name := "raise", desc := "(LSumHouseModel$Thing;I)Z" } : Jvm.MethodName)) ∈ lw_tbl := lw_at lw_m9 158 rfl
theorem q2265 : (Jvm.Cond.instanceMethod ({ cls := "SumHouseModel", name := "raise", desc := "(LSumHouseModel$Thing;I)Z" } : Jvm.MethodName)) ∈ lw_all := lw_g (lw_at lw_m9 159 rfl) rfl
theorem q2266 : (Jvm.Cond.code ({ cls := "SumHouseModel", name := "raise", desc := "(LSumHouseModel$Thing;I)Z" } : Jvm.MethodName) prog_12_method_63_code (13 : Nat) (Option.some Jvm.ClassFile.FieldType.boolean)) ∈ lw_all := lw_g (lw_at lw_m9 160 rfl) rfl
theorem q2267 : (Jvm.Cond.methodLink "SumHouseModel" (295 : Nat) ({ cls := "SumHouseModel", name := "load", desc := "(LSumHouseModel$B;[I)V" } : Jvm.MethodName)) ∈ lw_all := lw_g (lw_at lw_m9 161 rfl) rfl
theorem q2268 : (Jvm.Cond.static ({ cls := "SumHouseModel", name := "load", desc := "(LSumHouseModel$B;[I)V" } : Jvm.MethodName)) ∈ lw_all := lw_g (lw_at lw_m9 162 rfl) rfl
theorem q2269 : (Jvm.Cond.code ({ cls := "SumHouseModel", name := "load", desc := "(LSumHouseModel$B;[I)V" } : Jvm.MethodName) prog_12_method_45_code (3 : Nat) (Option.none : Option Jvm.ClassFile.FieldType)) ∈ lw_all := lw_g (lw_at lw_m9 163 rfl) rfl
theorem q2270 : (Jvm.Cond.methodLink "SumHouseModel" (34 : Nat) ({ cls := "java/lang/System", name := "arraycopy", desc := "(Ljava/lang/Object;ILjava/lang/Object;II)V" } : Jvm.MethodName)) ∈ lw_all := lw_g (lw_at lw_m9 164 rfl) rfl
theorem q2271 : (Jvm.Cond.methodLink "SumHouseModel" (52 : Nat) ({ cls := "SumHouseModel$U", name := "trim", desc := "()V" } : Jvm.MethodName)) ∈ lw_all := lw_g (lw_at lw_m9 165 rfl) rfl
theorem q2275 : (Jvm.Cond.methodLink "SumHouseModel" (105 : Nat) ({ cls := "SumHouseModel$B", name := "trim", desc := "()V" } : Jvm.MethodName)) ∈ lw_all := lw_g (lw_at lw_m9 169 rfl) rfl
theorem q2279 : (Jvm.Cond.methodLink "SumHouseModel" (273 : Nat) ({ cls := "java/lang/Math", name := "abs", desc := "(I)I" } : Jvm.MethodName)) ∈ lw_all := lw_g (lw_at lw_m9 173 rfl) rfl
theorem q2280 : (Jvm.Cond.methodLink "SumHouseModel" (119 : Nat) ({ cls := "SumHouseModel$B", name := "degreeN", desc := "()I" } : Jvm.MethodName)) ∈ lw_all := lw_g (lw_at lw_m9 174 rfl) rfl
theorem q2285 : (Jvm.Cond.methodLink "SumHouseModel" (40 : Nat) ({ cls := "java/lang/Math", name := "max", desc := "(II)I" } : Jvm.MethodName)) ∈ lw_all := lw_g (lw_at lw_m9 179 rfl) rfl
theorem q2286 : (Jvm.Cond.methodLink "SumHouseModel" (314 : Nat) ({ cls := "SumHouseModel$B", name := "degreeK", desc := "()I" } : Jvm.MethodName)) ∈ lw_all := lw_g (lw_at lw_m9 180 rfl) rfl
theorem q2290 : (Jvm.Cond.methodLink "SumHouseModel" (276 : Nat) ({ cls := "SumHouseModel", name := "weight", desc := "(LSumHouseModel$Thing;)I" } : Jvm.MethodName)) ∈ lw_all := lw_g (lw_at lw_m9 184 rfl) rfl
theorem q2291 : (Jvm.Cond.static ({ cls := "SumHouseModel", name := "weight", desc := "(LSumHouseModel$Thing;)I" } : Jvm.MethodName)) ∈ lw_all := lw_g (lw_at lw_m9 185 rfl) rfl
theorem q2292 : (Jvm.Cond.code ({ cls := "SumHouseModel", name := "weight", desc := "(LSumHouseModel$Thing;)I" } : Jvm.MethodName) prog_12_method_57_code (3 : Nat) (Option.some Jvm.ClassFile.FieldType.int)) ∈ lw_all := lw_g (lw_at lw_m9 186 rfl) rfl
theorem q2293 : (Jvm.Cond.methodLink "SumHouseModel" (197 : Nat) ({ cls := "SumHouseModel", name := "times", desc := "(LSumHouseModel$B;LSumHouseModel$B;LSumHouseModel$B;)V" } : Jvm.MethodName)) ∈ lw_all := lw_g (lw_at lw_m9 187 rfl) rfl
theorem q2294 : (Jvm.Cond.privateMethod ({ cls := "SumHouseModel", name := "times", desc := "(LSumHouseModel$B;LSumHouseModel$B;LSumHouseModel$B;)V" } : Jvm.MethodName)) ∈ lw_tbl := lw_at lw_m9 188 rfl
theorem q2295 : (Jvm.Cond.instanceMethod ({ cls := "SumHouseModel", name := "times", desc := "(LSumHouseModel$B;LSumHouseModel$B;LSumHouseModel$B;)V" } : Jvm.MethodName)) ∈ lw_all := lw_g (lw_at lw_m9 189 rfl) rfl
theorem q2296 : (Jvm.Cond.code ({ cls := "SumHouseModel", name := "times", desc := "(LSumHouseModel$B;LSumHouseModel$B;LSumHouseModel$B;)V" } : Jvm.MethodName) prog_12_method_24_code (9 : Nat) (Option.none : Option Jvm.ClassFile.FieldType)) ∈ lw_all := lw_g (lw_at lw_m9 190 rfl) rfl
theorem q2297 : (Jvm.Cond.methodLink "SumHouseModel" (74 : Nat) ({ cls := "SumHouseModel", name := "newU", desc := "()LSumHouseModel$U;" } : Jvm.MethodName)) ∈ lw_all := lw_g (lw_at lw_m9 191 rfl) rfl
theorem q2298 : (Jvm.Cond.privateMethod ({ cls := "SumHouseModel", name := "newU", desc := "()LSumHouseModel$U;" } : Jvm.MethodName)) ∈ lw_tbl := lw_at lw_m9 192 rfl
theorem q2299 : (Jvm.Cond.instanceMethod ({ cls := "SumHouseModel", name := "newU", desc := "()LSumHouseModel$U;" } : Jvm.MethodName)) ∈ lw_all := lw_g (lw_at lw_m9 193 rfl) rfl
theorem q2300 : (Jvm.Cond.code ({ cls := "SumHouseModel", name := "newU", desc := "()LSumHouseModel$U;" } : Jvm.MethodName) prog_12_method_9_code (2 : Nat) (Option.some (Jvm.ClassFile.FieldType.object "SumHouseModel$U"))) ∈ lw_all := lw_g (lw_at lw_m9 194 rfl) rfl
theorem q2301 : (Jvm.Cond.methodLink "SumHouseModel" (106 : Nat) ({ cls := "SumHouseModel", name := "times", desc := "(LSumHouseModel$U;LSumHouseModel$U;LSumHouseModel$U;)V" } : Jvm.MethodName)) ∈ lw_all := lw_g (lw_at lw_m9 195 rfl) rfl
theorem q2302 : (Jvm.Cond.static ({ cls := "SumHouseModel", name := "times", desc := "(LSumHouseModel$U;LSumHouseModel$U;LSumHouseModel$U;)V" } : Jvm.MethodName)) ∈ lw_all := lw_g (lw_at lw_m9 196 rfl) rfl
theorem q2303 : (Jvm.Cond.code ({ cls := "SumHouseModel", name := "times", desc := "(LSumHouseModel$U;LSumHouseModel$U;LSumHouseModel$U;)V" } : Jvm.MethodName) prog_12_method_13_code (10 : Nat) (Option.none : Option Jvm.ClassFile.FieldType)) ∈ lw_all := lw_g (lw_at lw_m9 197 rfl) rfl
theorem q2304 : (Jvm.Cond.methodLink "SumHouseModel" (59 : Nat) ({ cls := "java/lang/Math", name := "min", desc := "(II)I" } : Jvm.MethodName)) ∈ lw_all := lw_g (lw_at lw_m9 198 rfl) rfl
theorem q2305 : (Jvm.Cond.methodLink "SumHouseModel" (101 : Nat) ({ cls := "SumHouseModel", name := "plus", desc := "(LSumHouseModel$U;LSumHouseModel$U;LSumHouseModel$U;Z)V" } : Jvm.MethodName)) ∈ lw_all := lw_g (lw_at lw_m9 199 rfl) rfl
theorem q2306 : (Jvm.Cond.static ({ cls := "SumHouseModel", name := "plus", desc := "(LSumHouseModel$U;LSumHouseModel$U;LSumHouseModel$U;Z)V" } : Jvm.MethodName)) ∈ lw_all := lw_g (lw_at lw_m9 200 rfl) rfl
theorem q2307 : (Jvm.Cond.code ({ cls := "SumHouseModel", name := "plus", desc := "(LSumHouseModel$U;LSumHouseModel$U;LSumHouseModel$U;Z)V" } : Jvm.MethodName) prog_12_method_11_code (8 : Nat) (Option.none : Option Jvm.ClassFile.FieldType)) ∈ lw_all := lw_g (lw_at lw_m9 201 rfl) rfl
theorem q2308 : (Jvm.Cond.methodLink "SumHouseModel" (46 : Nat) ({ cls := "SumHouseModel", name := "sub", desc := "(II)I" } : Jvm.MethodName)) ∈ lw_all := lw_g (lw_at lw_m9 202 rfl) rfl
theorem q2309 : (Jvm.Cond.static ({ cls := "SumHouseModel", name := "sub", desc := "(II)I" } : Jvm.MethodName)) ∈ lw_all := lw_g (lw_at lw_m9 203 rfl) rfl
theorem q2310 : (Jvm.Cond.code ({ cls := "SumHouseModel", name := "sub", desc := "(II)I" } : Jvm.MethodName) prog_12_method_2_code (2 : Nat) (Option.some Jvm.ClassFile.FieldType.int)) ∈ lw_all := lw_g (lw_at lw_m9 204 rfl) rfl
theorem q2311 : (Jvm.Cond.methodLink "SumHouseModel" (49 : Nat) ({ cls := "SumHouseModel", name := "add", desc := "(II)I" } : Jvm.MethodName)) ∈ lw_all := lw_g (lw_at lw_m9 205 rfl) rfl
theorem q2312 : (Jvm.Cond.static ({ cls := "SumHouseModel", name := "add", desc := "(II)I" } : Jvm.MethodName)) ∈ lw_all := lw_g (lw_at lw_m9 206 rfl) rfl
theorem q2313 : (Jvm.Cond.code ({ cls := "SumHouseModel", name := "add", desc := "(II)I" } : Jvm.MethodName) prog_12_method_1_code (4 : Nat) (Option.some Jvm.ClassFile.FieldType.int)) ∈ lw_all := lw_g (lw_at lw_m9 207 rfl) rfl
theorem q2314 : (Jvm.Cond.methodLink "SumHouseModel" (113 : Nat) ({ cls := "SumHouseModel", name := "set", desc := "(LSumHouseModel$B;LSumHouseModel$B;)V" } : Jvm.MethodName)) ∈ lw_all := lw_g (lw_at lw_m9 208 rfl) rfl
theorem q2315 : (Jvm.Cond.static ({ cls := "SumHouseModel", name := "set", desc := "(LSumHouseModel$B;LSumHouseModel$B;)V" } : Jvm.MethodName)) ∈ lw_all := lw_g (lw_at lw_m9 209 rfl) rfl
theorem q2316 : (Jvm.Cond.code ({ cls := "SumHouseModel", name := "set", desc := "(LSumHouseModel$B;LSumHouseModel$B;)V" } : Jvm.MethodName) prog_12_method_21_code (3 : Nat) (Option.none : Option Jvm.ClassFile.FieldType)) ∈ lw_all := lw_g (lw_at lw_m9 210 rfl) rfl
theorem q2317 : (Jvm.Cond.methodLink "SumHouseModel" (62 : Nat) ({ cls := "SumHouseModel", name := "set", desc := "(LSumHouseModel$U;LSumHouseModel$U;)V" } : Jvm.MethodName)) ∈ lw_all := lw_g (lw_at lw_m9 211 rfl) rfl
theorem q2318 : (Jvm.Cond.static ({ cls := "SumHouseModel", name := "set", desc := "(LSumHouseModel$U;LSumHouseModel$U;)V" } : Jvm.MethodName)) ∈ lw_all := lw_g (lw_at lw_m9 212 rfl) rfl
theorem q2319 : (Jvm.Cond.code ({ cls := "SumHouseModel", name := "set", desc := "(LSumHouseModel$U;LSumHouseModel$U;)V" } : Jvm.MethodName) prog_12_method_10_code (2 : Nat) (Option.none : Option Jvm.ClassFile.FieldType)) ∈ lw_all := lw_g (lw_at lw_m9 213 rfl) rfl
theorem q2320 : (Jvm.Cond.methodLink "SumHouseModel" (191 : Nat) ({ cls := "SumHouseModel", name := "settle", desc := "(LSumHouseModel$B;LSumHouseModel$B;)V" } : Jvm.MethodName)) ∈ lw_all := lw_g (lw_at lw_m9 214 rfl) rfl
theorem q2321 : (Jvm.Cond.static ({ cls := "SumHouseModel", name := "settle", desc := "(LSumHouseModel$B;LSumHouseModel$B;)V" } : Jvm.MethodName)) ∈ lw_all := lw_g (lw_at lw_m9 215 rfl) rfl
theorem q2322 : (Jvm.Cond.code ({ cls := "SumHouseModel", name := "settle", desc := "(LSumHouseModel$B;LSumHouseModel$B;)V" } : Jvm.MethodName) prog_12_method_39_code (3 : Nat) (Option.none : Option Jvm.ClassFile.FieldType)) ∈ lw_all := lw_g (lw_at lw_m9 216 rfl) rfl
theorem q2323 : (Jvm.Cond.methodLink "SumHouseModel" (181 : Nat) ({ cls := "SumHouseModel$B", name := "head", desc := "()I" } : Jvm.MethodName)) ∈ lw_all := lw_g (lw_at lw_m9 217 rfl) rfl
theorem q2335 : (Jvm.Cond.methodLink "SumHouseModel" (182 : Nat) ({ cls := "SumHouseModel", name := "scale", desc := "(LSumHouseModel$B;LSumHouseModel$B;I)V" } : Jvm.MethodName)) ∈ lw_all := lw_g (lw_at lw_m9 229 rfl) rfl
theorem q2336 : (Jvm.Cond.static ({ cls := "SumHouseModel", name := "scale", desc := "(LSumHouseModel$B;LSumHouseModel$B;I)V" } : Jvm.MethodName)) ∈ lw_all := lw_g (lw_at lw_m9 230 rfl) rfl
theorem q2337 : (Jvm.Cond.code ({ cls := "SumHouseModel", name := "scale", desc := "(LSumHouseModel$B;LSumHouseModel$B;I)V" } : Jvm.MethodName) prog_12_method_23_code (4 : Nat) (Option.none : Option Jvm.ClassFile.FieldType)) ∈ lw_all := lw_g (lw_at lw_m9 231 rfl) rfl
theorem q2338 : (Jvm.Cond.methodLink "SumHouseModel" (70 : Nat) ({ cls := "SumHouseModel", name := "scale", desc := "(LSumHouseModel$U;LSumHouseModel$U;I)V" } : Jvm.MethodName)) ∈ lw_all := lw_g (lw_at lw_m9 232 rfl) rfl
theorem q2339 : (Jvm.Cond.static ({ cls := "SumHouseModel", name := "scale", desc := "(LSumHouseModel$U;LSumHouseModel$U;I)V" } : Jvm.MethodName)) ∈ lw_all := lw_g (lw_at lw_m9 233 rfl) rfl
theorem q2340 : (Jvm.Cond.code ({ cls := "SumHouseModel", name := "scale", desc := "(LSumHouseModel$U;LSumHouseModel$U;I)V" } : Jvm.MethodName) prog_12_method_12_code (4 : Nat) (Option.none : Option Jvm.ClassFile.FieldType)) ∈ lw_all := lw_g (lw_at lw_m9 234 rfl) rfl
theorem q2341 : (Jvm.Cond.methodLink "SumHouseModel" (317 : Nat) ({ cls := "SumHouseModel", name := "power", desc := "(II)I" } : Jvm.MethodName)) ∈ lw_all := lw_g (lw_at lw_m9 235 rfl) rfl
theorem q2342 : (Jvm.Cond.static ({ cls := "SumHouseModel", name := "power", desc := "(II)I" } : Jvm.MethodName)) ∈ lw_all := lw_g (lw_at lw_m9 236 rfl) rfl
theorem q2343 : (Jvm.Cond.code ({ cls := "SumHouseModel", name := "power", desc := "(II)I" } : Jvm.MethodName) prog_12_method_8_code (2 : Nat) (Option.some Jvm.ClassFile.FieldType.int)) ∈ lw_all := lw_g (lw_at lw_m9 237 rfl) rfl
theorem q2344 : (Jvm.Cond.methodLink "SumHouseModel" (421 : Nat) ({ cls := "SumHouseModel", name := "isNumber", desc := "(LSumHouseModel$Thing;)Z" } : Jvm.MethodName)) ∈ lw_all := lw_g (lw_at lw_m9 238 rfl) rfl
theorem q2345 : (Jvm.Cond.static ({ cls := "SumHouseModel", name := "isNumber", desc := "(LSumHouseModel$Thing;)Z" } : Jvm.MethodName)) ∈ lw_all := lw_g (lw_at lw_m9 239 rfl) rfl
theorem q2346 : (Jvm.Cond.code ({ cls := "SumHouseModel", name := "isNumber", desc := "(LSumHouseModel$Thing;)Z" } : Jvm.MethodName) prog_12_method_54_code (3 : Nat) (Option.some Jvm.ClassFile.FieldType.boolean)) ∈ lw_all := lw_g (lw_at lw_m10 0 rfl) rfl
theorem q2347 : (Jvm.Cond.methodLink "SumHouseModel" (388 : Nat) ({ cls := "SumHouseModel", name := "multiply", desc := "(LSumHouseModel$Thing;LSumHouseModel$Thing;Z)Z" } : Jvm.MethodName)) ∈ lw_all := lw_g (lw_at lw_m10 1 rfl) rfl
theorem q2348 : (Jvm.Cond.privateMethod ({ cls := "SumHouseModel", name := "multiply", desc := "(LSumHouseModel$Thing;LSumHouseModel$Thing;Z)Z" } : Jvm.MethodName)) ∈ lw_tbl := lw_at lw_m10 2 rfl
theorem q2349 : (Jvm.Cond.instanceMethod ({ cls := "SumHouseModel", name := "multiply", desc := "(LSumHouseModel$Thing;LSumHouseModel$Thing;Z)Z" } : Jvm.MethodName)) ∈ lw_all := lw_g (lw_at lw_m10 3 rfl) rfl
theorem q2350 : (Jvm.Cond.code ({ cls := "SumHouseModel", name := "multiply", desc := "(LSumHouseModel$Thing;LSumHouseModel$Thing;Z)Z" } : Jvm.MethodName) prog_12_method_61_code (13 : Nat) (Option.some Jvm.ClassFile.FieldType.boolean)) ∈ lw_all := lw_g (lw_at lw_m10 4 rfl) rfl
theorem q2351 : (Jvm.Cond.methodLink "SumHouseModel" (299 : Nat) ({ cls := "SumHouseModel", name := "multiply", desc := "(LSumHouseModel$B;LSumHouseModel$B;LSumHouseModel$B;LSumHouseModel$B;LSumHouseModel$B;LSumHouseModel$B;)V" } : Jvm.MethodName)) ∈ lw_all := lw_g (lw_at lw_m10 5 rfl) rfl
theorem q2352 : (Jvm.Cond.privateMethod ({ cls := "SumHouseModel", name := "multiply", desc := "(LSumHouseModel$B;LSumHouseModel$B;LSumHouseModel$B;LSumHouseModel$B;LSumHouseModel$B;LSumHouseModel$B;)V" } : Jvm.MethodName)) ∈ lw_tbl := lw_at lw_m10 6 rfl
theorem q2353 : (Jvm.Cond.instanceMethod ({ cls := "SumHouseModel", name := "multiply", desc := "(LSumHouseModel$B;LSumHouseModel$B;LSumHouseModel$B;LSumHouseModel$B;LSumHouseModel$B;LSumHouseModel$B;)V" } : Jvm.MethodName)) ∈ lw_all := lw_g (lw_at lw_m10 7 rfl) rfl
theorem q2354 : (Jvm.Cond.code ({ cls := "SumHouseModel", name := "multiply", desc := "(LSumHouseModel$B;LSumHouseModel$B;LSumHouseModel$B;LSumHouseModel$B;LSumHouseModel$B;LSumHouseModel$B;)V" } : Jvm.MethodName) prog_12_method_41_code (12 : Nat) (Option.none : Option Jvm.ClassFile.FieldType)) ∈ lw_all := lw_g (lw_at lw_m10 8 rfl) rfl
theorem q2355 : (Jvm.Cond.methodLink "SumHouseModel" (194 : Nat) ({ cls := "SumHouseModel", name := "cancel", desc := "(LSumHouseModel$B;LSumHouseModel$B;)V" } : Jvm.MethodName)) ∈ lw_all := lw_g (lw_at lw_m10 9 rfl) rfl
theorem q2356 : (Jvm.Cond.privateMethod ({ cls := "SumHouseModel", name := "cancel", desc := "(LSumHouseModel$B;LSumHouseModel$B;)V" } : Jvm.MethodName)) ∈ lw_tbl := lw_at lw_m10 10 rfl
theorem q2357 : (Jvm.Cond.instanceMethod ({ cls := "SumHouseModel", name := "cancel", desc := "(LSumHouseModel$B;LSumHouseModel$B;)V" } : Jvm.MethodName)) ∈ lw_all := lw_g (lw_at lw_m10 11 rfl) rfl
theorem q2358 : (Jvm.Cond.code ({ cls := "SumHouseModel", name := "cancel", desc := "(LSumHouseModel$B;LSumHouseModel$B;)V" } : Jvm.MethodName) prog_12_method_42_code (7 : Nat) (Option.none : Option Jvm.ClassFile.FieldType)) ∈ lw_all := lw_g (lw_at lw_m10 12 rfl) rfl
theorem q2359 : (Jvm.Cond.methodLink "SumHouseModel" (185 : Nat) ({ cls := "SumHouseModel", name := "gcd", desc := "(LSumHouseModel$B;LSumHouseModel$B;LSumHouseModel$B;)V" } : Jvm.MethodName)) ∈ lw_all := lw_g (lw_at lw_m10 13 rfl) rfl
theorem q2360 : (Jvm.Cond.privateMethod ({ cls := "SumHouseModel", name := "gcd", desc := "(LSumHouseModel$B;LSumHouseModel$B;LSumHouseModel$B;)V" } : Jvm.MethodName)) ∈ lw_tbl := lw_at lw_m10 14 rfl
theorem q2361 : (Jvm.Cond.instanceMethod ({ cls := "SumHouseModel", name := "gcd", desc := "(LSumHouseModel$B;LSumHouseModel$B;LSumHouseModel$B;)V" } : Jvm.MethodName)) ∈ lw_all := lw_g (lw_at lw_m10 15 rfl) rfl
theorem q2362 : (Jvm.Cond.code ({ cls := "SumHouseModel", name := "gcd", desc := "(LSumHouseModel$B;LSumHouseModel$B;LSumHouseModel$B;)V" } : Jvm.MethodName) prog_12_method_37_code (10 : Nat) (Option.none : Option Jvm.ClassFile.FieldType)) ∈ lw_all := lw_g (lw_at lw_m10 16 rfl) rfl
theorem q2363 : (Jvm.Cond.methodLink "SumHouseModel" (167 : Nat) ({ cls := "SumHouseModel", name := "primitive", desc := "(LSumHouseModel$B;LSumHouseModel$B;LSumHouseModel$U;)V" } : Jvm.MethodName)) ∈ lw_all := lw_g (lw_at lw_m10 17 rfl) rfl
theorem q2364 : (Jvm.Cond.privateMethod ({ cls := "SumHouseModel", name := "primitive", desc := "(LSumHouseModel$B;LSumHouseModel$B;LSumHouseModel$U;)V" } : Jvm.MethodName)) ∈ lw_tbl := lw_at lw_m10 18 rfl
theorem q2365 : (Jvm.Cond.instanceMethod ({ cls := "SumHouseModel", name := "primitive", desc := "(LSumHouseModel$B;LSumHouseModel$B;LSumHouseModel$U;)V" } : Jvm.MethodName)) ∈ lw_all := lw_g (lw_at lw_m10 19 rfl) rfl
theorem q2366 : (Jvm.Cond.code ({ cls := "SumHouseModel", name := "primitive", desc := "(LSumHouseModel$B;LSumHouseModel$B;LSumHouseModel$U;)V" } : Jvm.MethodName) prog_12_method_31_code (4 : Nat) (Option.none : Option Jvm.ClassFile.FieldType)) ∈ lw_all := lw_g (lw_at lw_m10 20 rfl) rfl
theorem q2367 : (Jvm.Cond.methodLink "SumHouseModel" (128 : Nat) ({ cls := "SumHouseModel", name := "content", desc := "(LSumHouseModel$U;LSumHouseModel$B;)V" } : Jvm.MethodName)) ∈ lw_all := lw_g (lw_at lw_m10 21 rfl) rfl
theorem q2368 : (Jvm.Cond.privateMethod ({ cls := "SumHouseModel", name := "content", desc := "(LSumHouseModel$U;LSumHouseModel$B;)V" } : Jvm.MethodName)) ∈ lw_tbl := lw_at lw_m10 22 rfl
theorem q2369 : (Jvm.Cond.instanceMethod ({ cls := "SumHouseModel", name := "content", desc := "(LSumHouseModel$U;LSumHouseModel$B;)V" } : Jvm.MethodName)) ∈ lw_all := lw_g (lw_at lw_m10 23 rfl) rfl
theorem q2370 : (Jvm.Cond.code ({ cls := "SumHouseModel", name := "content", desc := "(LSumHouseModel$U;LSumHouseModel$B;)V" } : Jvm.MethodName) prog_12_method_30_code (4 : Nat) (Option.none : Option Jvm.ClassFile.FieldType)) ∈ lw_all := lw_g (lw_at lw_m10 24 rfl) rfl
theorem q2371 : (Jvm.Cond.methodLink "SumHouseModel" (125 : Nat) ({ cls := "SumHouseModel", name := "gcd", desc := "(LSumHouseModel$U;LSumHouseModel$U;LSumHouseModel$U;)V" } : Jvm.MethodName)) ∈ lw_all := lw_g (lw_at lw_m10 25 rfl) rfl
theorem q2372 : (Jvm.Cond.privateMethod ({ cls := "SumHouseModel", name := "gcd", desc := "(LSumHouseModel$U;LSumHouseModel$U;LSumHouseModel$U;)V" } : Jvm.MethodName)) ∈ lw_tbl := lw_at lw_m10 26 rfl
theorem q2373 : (Jvm.Cond.instanceMethod ({ cls := "SumHouseModel", name := "gcd", desc := "(LSumHouseModel$U;LSumHouseModel$U;LSumHouseModel$U;)V" } : Jvm.MethodName)) ∈ lw_all := lw_g (lw_at lw_m10 27 rfl) rfl
theorem q2374 : (Jvm.Cond.code ({ cls := "SumHouseModel", name := "gcd", desc := "(LSumHouseModel$U;LSumHouseModel$U;LSumHouseModel$U;)V" } : Jvm.MethodName) prog_12_method_16_code (9 : Nat) (Option.none : Option Jvm.ClassFile.FieldType)) ∈ lw_all := lw_g (lw_at lw_m10 28 rfl) rfl
theorem q2375 : (Jvm.Cond.methodLink "SumHouseModel" (78 : Nat) ({ cls := "SumHouseModel", name := "divide", desc := "(LSumHouseModel$U;LSumHouseModel$U;LSumHouseModel$U;LSumHouseModel$U;)V" } : Jvm.MethodName)) ∈ lw_all := lw_g (lw_at lw_m10 29 rfl) rfl
theorem q2376 : (Jvm.Cond.static ({ cls := "SumHouseModel", name := "divide", desc := "(LSumHouseModel$U;LSumHouseModel$U;LSumHouseModel$U;LSumHouseModel$U;)V" } : Jvm.MethodName)) ∈ lw_all := lw_g (lw_at lw_m10 30 rfl) rfl
theorem q2377 : (Jvm.Cond.code ({ cls := "SumHouseModel", name := "divide", desc := "(LSumHouseModel$U;LSumHouseModel$U;LSumHouseModel$U;LSumHouseModel$U;)V" } : Jvm.MethodName) prog_12_method_14_code (8 : Nat) (Option.none : Option Jvm.ClassFile.FieldType)) ∈ lw_all := lw_g (lw_at lw_m10 31 rfl) rfl
theorem q2378 : (Jvm.Cond.methodLink "SumHouseModel" (66 : Nat) ({ cls := "SumHouseModel$U", name := "head", desc := "()I" } : Jvm.MethodName)) ∈ lw_all := lw_g (lw_at lw_m10 32 rfl) rfl
theorem q2379 : (Jvm.Cond.methodLink "SumHouseModel" (82 : Nat) ({ cls := "SumHouseModel", name := "monic", desc := "(LSumHouseModel$U;)V" } : Jvm.MethodName)) ∈ lw_all := lw_g (lw_at lw_m10 33 rfl) rfl
theorem q2380 : (Jvm.Cond.privateMethod ({ cls := "SumHouseModel", name := "monic", desc := "(LSumHouseModel$U;)V" } : Jvm.MethodName)) ∈ lw_tbl := lw_at lw_m10 34 rfl
theorem q2381 : (Jvm.Cond.instanceMethod ({ cls := "SumHouseModel", name := "monic", desc := "(LSumHouseModel$U;)V" } : Jvm.MethodName)) ∈ lw_all := lw_g (lw_at lw_m10 35 rfl) rfl
theorem q2382 : (Jvm.Cond.code ({ cls := "SumHouseModel", name := "monic", desc := "(LSumHouseModel$U;)V" } : Jvm.MethodName) prog_12_method_15_code (2 : Nat) (Option.none : Option Jvm.ClassFile.FieldType)) ∈ lw_all := lw_g (lw_at lw_m10 36 rfl) rfl
theorem q2383 : (Jvm.Cond.methodLink "SumHouseModel" (132 : Nat) ({ cls := "SumHouseModel", name := "byU", desc := "(LSumHouseModel$B;LSumHouseModel$B;LSumHouseModel$U;)V" } : Jvm.MethodName)) ∈ lw_all := lw_g (lw_at lw_m10 37 rfl) rfl
theorem q2384 : (Jvm.Cond.privateMethod ({ cls := "SumHouseModel", name := "byU", desc := "(LSumHouseModel$B;LSumHouseModel$B;LSumHouseModel$U;)V" } : Jvm.MethodName)) ∈ lw_tbl := lw_at lw_m10 38 rfl
theorem q2385 : (Jvm.Cond.instanceMethod ({ cls := "SumHouseModel", name := "byU", desc := "(LSumHouseModel$B;LSumHouseModel$B;LSumHouseModel$U;)V" } : Jvm.MethodName)) ∈ lw_all := lw_g (lw_at lw_m10 39 rfl) rfl
theorem q2386 : (Jvm.Cond.code ({ cls := "SumHouseModel", name := "byU", desc := "(LSumHouseModel$B;LSumHouseModel$B;LSumHouseModel$U;)V" } : Jvm.MethodName) prog_12_method_26_code (5 : Nat) (Option.none : Option Jvm.ClassFile.FieldType)) ∈ lw_all := lw_g (lw_at lw_m10 40 rfl) rfl
theorem q2387 : (Jvm.Cond.methodLink "SumHouseModel" (110 : Nat) ({ cls := "SumHouseModel", name := "exact", desc := "(LSumHouseModel$U;LSumHouseModel$U;LSumHouseModel$U;)V" } : Jvm.MethodName)) ∈ lw_all := lw_g (lw_at lw_m10 41 rfl) rfl
theorem q2388 : (Jvm.Cond.privateMethod ({ cls := "SumHouseModel", name := "exact", desc := "(LSumHouseModel$U;LSumHouseModel$U;LSumHouseModel$U;)V" } : Jvm.MethodName)) ∈ lw_tbl := lw_at lw_m10 42 rfl
theorem q2389 : (Jvm.Cond.instanceMethod ({ cls := "SumHouseModel", name := "exact", desc := "(LSumHouseModel$U;LSumHouseModel$U;LSumHouseModel$U;)V" } : Jvm.MethodName)) ∈ lw_all := lw_g (lw_at lw_m10 43 rfl) rfl
theorem q2390 : (Jvm.Cond.code ({ cls := "SumHouseModel", name := "exact", desc := "(LSumHouseModel$U;LSumHouseModel$U;LSumHouseModel$U;)V" } : Jvm.MethodName) prog_12_method_17_code (7 : Nat) (Option.none : Option Jvm.ClassFile.FieldType)) ∈ lw_all := lw_g (lw_at lw_m10 44 rfl) rfl
theorem q2391 : (Jvm.Cond.methodLink "SumHouseModel" (174 : Nat) ({ cls := "SumHouseModel", name := "gcdK", desc := "(LSumHouseModel$B;LSumHouseModel$B;LSumHouseModel$B;)V" } : Jvm.MethodName)) ∈ lw_all := lw_g (lw_at lw_m10 45 rfl) rfl
theorem q2392 : (Jvm.Cond.privateMethod ({ cls := "SumHouseModel", name := "gcdK", desc := "(LSumHouseModel$B;LSumHouseModel$B;LSumHouseModel$B;)V" } : Jvm.MethodName)) ∈ lw_tbl := lw_at lw_m10 46 rfl
theorem q2393 : (Jvm.Cond.instanceMethod ({ cls := "SumHouseModel", name := "gcdK", desc := "(LSumHouseModel$B;LSumHouseModel$B;LSumHouseModel$B;)V" } : Jvm.MethodName)) ∈ lw_all := lw_g (lw_at lw_m10 47 rfl) rfl
theorem q2394 : (Jvm.Cond.code ({ cls := "SumHouseModel", name := "gcdK", desc := "(LSumHouseModel$B;LSumHouseModel$B;LSumHouseModel$B;)V" } : Jvm.MethodName) prog_12_method_36_code (18 : Nat) (Option.none : Option Jvm.ClassFile.FieldType)) ∈ lw_all := lw_g (lw_at lw_m10 48 rfl) rfl
theorem q2395 : (Jvm.Cond.methodLink "SumHouseModel" (144 : Nat) ({ cls := "SumHouseModel$B", name := "lead", desc := "()LSumHouseModel$U;" } : Jvm.MethodName)) ∈ lw_all := lw_g (lw_at lw_m10 49 rfl) rfl
theorem q2396 : (Jvm.Cond.methodLink "SumHouseModel" (136 : Nat) ({ cls := "SumHouseModel", name := "eval", desc := "(LSumHouseModel$U;I)I" } : Jvm.MethodName)) ∈ lw_all := lw_g (lw_at lw_m10 50 rfl) rfl
theorem q2397 : (Jvm.Cond.static ({ cls := "SumHouseModel", name := "eval", desc := "(LSumHouseModel$U;I)I" } : Jvm.MethodName)) ∈ lw_all := lw_g (lw_at lw_m10 51 rfl) rfl
theorem q2398 : (Jvm.Cond.code ({ cls := "SumHouseModel", name := "eval", desc := "(LSumHouseModel$U;I)I" } : Jvm.MethodName) prog_12_method_18_code (5 : Nat) (Option.some Jvm.ClassFile.FieldType.int)) ∈ lw_all := lw_g (lw_at lw_m10 52 rfl) rfl
theorem q2399 : (Jvm.Cond.methodLink "SumHouseModel" (154 : Nat) ({ cls := "SumHouseModel", name := "atN", desc := "(LSumHouseModel$U;LSumHouseModel$B;I)V" } : Jvm.MethodName)) ∈ lw_all := lw_g (lw_at lw_m10 53 rfl) rfl
theorem q2400 : (Jvm.Cond.static ({ cls := "SumHouseModel", name := "atN", desc := "(LSumHouseModel$U;LSumHouseModel$B;I)V" } : Jvm.MethodName)) ∈ lw_all := lw_g (lw_at lw_m10 54 rfl) rfl
theorem q2401 : (Jvm.Cond.code ({ cls := "SumHouseModel", name := "atN", desc := "(LSumHouseModel$U;LSumHouseModel$B;I)V" } : Jvm.MethodName) prog_12_method_32_code (4 : Nat) (Option.none : Option Jvm.ClassFile.FieldType)) ∈ lw_all := lw_g (lw_at lw_m10 55 rfl) rfl
theorem q2402 : (Jvm.Cond.methodLink "SumHouseModel" (163 : Nat) ({ cls := "SumHouseModel", name := "through", desc := "(LSumHouseModel$U;[II)V" } : Jvm.MethodName)) ∈ lw_all := lw_g (lw_at lw_m10 56 rfl) rfl
theorem q2403 : (Jvm.Cond.privateMethod ({ cls := "SumHouseModel", name := "through", desc := "(LSumHouseModel$U;[II)V" } : Jvm.MethodName)) ∈ lw_tbl := lw_at lw_m10 57 rfl
theorem q2404 : (Jvm.Cond.instanceMethod ({ cls := "SumHouseModel", name := "through", desc := "(LSumHouseModel$U;[II)V" } : Jvm.MethodName)) ∈ lw_all := lw_g (lw_at lw_m10 58 rfl) rfl
theorem q2405 : (Jvm.Cond.code ({ cls := "SumHouseModel", name := "through", desc := "(LSumHouseModel$U;[II)V" } : Jvm.MethodName) prog_12_method_35_code (10 : Nat) (Option.none : Option Jvm.ClassFile.FieldType)) ∈ lw_all := lw_g (lw_at lw_m10 59 rfl) rfl
theorem q2406 : (Jvm.Cond.methodLink "SumHouseModel" (147 : Nat) ({ cls := "SumHouseModel$U", name := "number", desc := "(I)V" } : Jvm.MethodName)) ∈ lw_all := lw_g (lw_at lw_m10 60 rfl) rfl
theorem q2407 : (Jvm.Cond.methodLink "SumHouseModel" (170 : Nat) ({ cls := "SumHouseModel", name := "divides", desc := "(LSumHouseModel$B;LSumHouseModel$B;LSumHouseModel$B;)Z" } : Jvm.MethodName)) ∈ lw_all := lw_g (lw_at lw_m10 61 rfl) rfl
theorem q2408 : (Jvm.Cond.privateMethod ({ cls := "SumHouseModel", name := "divides", desc := "(LSumHouseModel$B;LSumHouseModel$B;LSumHouseModel$B;)Z" } : Jvm.MethodName)) ∈ lw_tbl := lw_at lw_m10 62 rfl
theorem q2409 : (Jvm.Cond.instanceMethod ({ cls := "SumHouseModel", name := "divides", desc := "(LSumHouseModel$B;LSumHouseModel$B;LSumHouseModel$B;)Z" } : Jvm.MethodName)) ∈ lw_all := lw_g (lw_at lw_m10 63 rfl) rfl
theorem q2410 : (Jvm.Cond.code ({ cls := "SumHouseModel", name := "divides", desc := "(LSumHouseModel$B;LSumHouseModel$B;LSumHouseModel$B;)Z" } : Jvm.MethodName) prog_12_method_34_code (13 : Nat) (Option.some Jvm.ClassFile.FieldType.boolean)) ∈ lw_all := lw_g (lw_at lw_m10 64 rfl) rfl
theorem q2411 : (Jvm.Cond.methodLink "SumHouseModel" (178 : Nat) ({ cls := "SumHouseModel", name := "timesU", desc := "(LSumHouseModel$B;LSumHouseModel$B;LSumHouseModel$U;)V" } : Jvm.MethodName)) ∈ lw_all := lw_g (lw_at lw_m10 65 rfl) rfl
theorem q2412 : (Jvm.Cond.privateMethod ({ cls := "SumHouseModel", name := "timesU", desc := "(LSumHouseModel$B;LSumHouseModel$B;LSumHouseModel$U;)V" } : Jvm.MethodName)) ∈ lw_tbl := lw_at lw_m10 66 rfl
theorem q2413 : (Jvm.Cond.instanceMethod ({ cls := "SumHouseModel", name := "timesU", desc := "(LSumHouseModel$B;LSumHouseModel$B;LSumHouseModel$U;)V" } : Jvm.MethodName)) ∈ lw_all := lw_g (lw_at lw_m10 67 rfl) rfl
theorem q2414 : (Jvm.Cond.code ({ cls := "SumHouseModel", name := "timesU", desc := "(LSumHouseModel$B;LSumHouseModel$B;LSumHouseModel$U;)V" } : Jvm.MethodName) prog_12_method_25_code (7 : Nat) (Option.none : Option Jvm.ClassFile.FieldType)) ∈ lw_all := lw_g (lw_at lw_m10 68 rfl) rfl
theorem q2415 : (Jvm.Cond.methodLink "SumHouseModel" (187 : Nat) ({ cls := "SumHouseModel$B", name := "isNumber", desc := "()Z" } : Jvm.MethodName)) ∈ lw_all := lw_g (lw_at lw_m10 69 rfl) rfl
theorem q2419 : (Jvm.Cond.methodLink "SumHouseModel" (280 : Nat) ({ cls := "SumHouseModel", name := "joined", desc := "(LSumHouseModel$Thing;LSumHouseModel$Thing;I)I" } : Jvm.MethodName)) ∈ lw_all := lw_g (lw_at lw_m10 73 rfl) rfl
theorem q2420 : (Jvm.Cond.static ({ cls := "SumHouseModel", name := "joined", desc := "(LSumHouseModel$Thing;LSumHouseModel$Thing;I)I" } : Jvm.MethodName)) ∈ lw_all := lw_g (lw_at lw_m10 74 rfl) rfl
theorem q2421 : (Jvm.Cond.code ({ cls := "SumHouseModel", name := "joined", desc := "(LSumHouseModel$Thing;LSumHouseModel$Thing;I)I" } : Jvm.MethodName) prog_12_method_60_code (7 : Nat) (Option.some Jvm.ClassFile.FieldType.int)) ∈ lw_all := lw_g (lw_at lw_m10 75 rfl) rfl
theorem q2422 : (Jvm.Cond.methodLink "SumHouseModel" (303 : Nat) ({ cls := "SumHouseModel", name := "mergeAll", desc := "(LSumHouseModel$Thing;LSumHouseModel$Thing;I)V" } : Jvm.MethodName)) ∈ lw_all := lw_g (lw_at lw_m10 76 rfl) rfl
theorem q2423 : (Jvm.Cond.privateMethod ({ cls := "SumHouseModel", name := "mergeAll", desc := "(LSumHouseModel$Thing;LSumHouseModel$Thing;I)V" } : Jvm.MethodName)) ∈ lw_tbl := lw_at lw_m10 77 rfl
theorem q2424 : (Jvm.Cond.instanceMethod ({ cls := "SumHouseModel", name := "mergeAll", desc := "(LSumHouseModel$Thing;LSumHouseModel$Thing;I)V" } : Jvm.MethodName)) ∈ lw_all := lw_g (lw_at lw_m10 78 rfl) rfl
theorem q2425 : (Jvm.Cond.code ({ cls := "SumHouseModel", name := "mergeAll", desc := "(LSumHouseModel$Thing;LSumHouseModel$Thing;I)V" } : Jvm.MethodName) prog_12_method_62_code (8 : Nat) (Option.none : Option Jvm.ClassFile.FieldType)) ∈ lw_all := lw_g (lw_at lw_m10 79 rfl) rfl
theorem q2426 : (Jvm.Cond.methodLink "SumHouseModel" (382 : Nat) ({ cls := "SumHouseModel", name := "add", desc := "(LSumHouseModel$Thing;LSumHouseModel$Thing;Z)Z" } : Jvm.MethodName)) ∈ lw_all := lw_g (lw_at lw_m10 80 rfl) rfl
theorem q2427 : (Jvm.Cond.privateMethod ({ cls := "SumHouseModel", name := "add", desc := "(LSumHouseModel$Thing;LSumHouseModel$Thing;Z)Z" } : Jvm.MethodName)) ∈ lw_tbl := lw_at lw_m10 81 rfl
theorem q2428 : (Jvm.Cond.instanceMethod ({ cls := "SumHouseModel", name := "add", desc := "(LSumHouseModel$Thing;LSumHouseModel$Thing;Z)Z" } : Jvm.MethodName)) ∈ lw_all := lw_g (lw_at lw_m10 82 rfl) rfl
theorem q2429 : (Jvm.Cond.code ({ cls := "SumHouseModel", name := "add", desc := "(LSumHouseModel$Thing;LSumHouseModel$Thing;Z)Z" } : Jvm.MethodName) prog_12_method_64_code (12 : Nat) (Option.some Jvm.ClassFile.FieldType.boolean)) ∈ lw_all := lw_g (lw_at lw_m10 83 rfl) rfl
theorem q2430 : (Jvm.Cond.methodLink "SumHouseModel" (320 : Nat) ({ cls := "SumHouseModel", name := "sum", desc := "(LSumHouseModel$B;LSumHouseModel$B;LSumHouseModel$B;LSumHouseModel$B;LSumHouseModel$B;LSumHouseModel$B;Z)V" } : Jvm.MethodName)) ∈ lw_all := lw_g (lw_at lw_m10 84 rfl) rfl
theorem q2431 : (Jvm.Cond.privateMethod ({ cls := "SumHouseModel", name := "sum", desc := "(LSumHouseModel$B;LSumHouseModel$B;LSumHouseModel$B;LSumHouseModel$B;LSumHouseModel$B;LSumHouseModel$B;Z)V" } : Jvm.MethodName)) ∈ lw_tbl := lw_at lw_m10 85 rfl
theorem q2432 : (Jvm.Cond.instanceMethod ({ cls := "SumHouseModel", name := "sum", desc := "(LSumHouseModel$B;LSumHouseModel$B;LSumHouseModel$B;LSumHouseModel$B;LSumHouseModel$B;LSumHouseModel$B;Z)V" } : Jvm.MethodName)) ∈ lw_all := lw_g (lw_at lw_m10 86 rfl) rfl
theorem q2433 : (Jvm.Cond.code ({ cls := "SumHouseModel", name := "sum", desc := "(LSumHouseModel$B;LSumHouseModel$B;LSumHouseModel$B;LSumHouseModel$B;LSumHouseModel$B;LSumHouseModel$B;Z)V" } : Jvm.MethodName) prog_12_method_43_code (14 : Nat) (Option.none : Option Jvm.ClassFile.FieldType)) ∈ lw_all := lw_g (lw_at lw_m10 87 rfl) rfl
theorem q2434 : (Jvm.Cond.methodLink "SumHouseModel" (199 : Nat) ({ cls := "SumHouseModel", name := "plus", desc := "(LSumHouseModel$B;LSumHouseModel$B;LSumHouseModel$B;Z)V" } : Jvm.MethodName)) ∈ lw_all := lw_g (lw_at lw_m10 88 rfl) rfl
theorem q2435 : (Jvm.Cond.static ({ cls := "SumHouseModel", name := "plus", desc := "(LSumHouseModel$B;LSumHouseModel$B;LSumHouseModel$B;Z)V" } : Jvm.MethodName)) ∈ lw_all := lw_g (lw_at lw_m10 89 rfl) rfl
theorem q2436 : (Jvm.Cond.code ({ cls := "SumHouseModel", name := "plus", desc := "(LSumHouseModel$B;LSumHouseModel$B;LSumHouseModel$B;Z)V" } : Jvm.MethodName) prog_12_method_22_code (6 : Nat) (Option.none : Option Jvm.ClassFile.FieldType)) ∈ lw_all := lw_g (lw_at lw_m10 90 rfl) rfl
theorem q2437 : (Jvm.Cond.methodLink "SumHouseModel" (547 : Nat) ({ cls := "SumHouseModel", name := "copy", desc := "(LSumHouseModel$Thing;LSumHouseModel$Thing;)V" } : Jvm.MethodName)) ∈ lw_all := lw_g (lw_at lw_m10 91 rfl) rfl
theorem q2438 : (Jvm.Cond.static ({ cls := "SumHouseModel", name := "copy", desc := "(LSumHouseModel$Thing;LSumHouseModel$Thing;)V" } : Jvm.MethodName)) ∈ lw_all := lw_g (lw_at lw_m10 92 rfl) rfl
theorem q2439 : (Jvm.Cond.code ({ cls := "SumHouseModel", name := "copy", desc := "(LSumHouseModel$Thing;LSumHouseModel$Thing;)V" } : Jvm.MethodName) prog_12_method_44_code (3 : Nat) (Option.none : Option Jvm.ClassFile.FieldType)) ∈ lw_all := lw_g (lw_at lw_m10 93 rfl) rfl
theorem q2440 : (Jvm.Cond.methodLink "SumHouseModel" (558 : Nat) ({ cls := "SumHouseModel", name := "keep", desc := "(I)I" } : Jvm.MethodName)) ∈ lw_all := lw_g (lw_at lw_m10 94 rfl) rfl
theorem q2441 : (Jvm.Cond.privateMethod ({ cls := "SumHouseModel", name := "keep", desc := "(I)I" } : Jvm.MethodName)) ∈ lw_tbl := lw_at lw_m10 95 rfl
theorem q2442 : (Jvm.Cond.instanceMethod ({ cls := "SumHouseModel", name := "keep", desc := "(I)I" } : Jvm.MethodName)) ∈ lw_all := lw_g (lw_at lw_m10 96 rfl) rfl
theorem q2443 : (Jvm.Cond.code ({ cls := "SumHouseModel", name := "keep", desc := "(I)I" } : Jvm.MethodName) prog_12_method_86_code (2 : Nat) (Option.some Jvm.ClassFile.FieldType.int)) ∈ lw_all := lw_g (lw_at lw_m10 97 rfl) rfl
theorem q2445 : (Jvm.Cond.instanceMethod ({ cls := "SumHouseModel", name := "place", desc := "()I" } : Jvm.MethodName)) ∈ lw_all := lw_g (lw_at lw_m10 99 rfl) rfl
theorem q2446 : (Jvm.Cond.selects "SumHouseModel" ({ cls := "SumHouseModel", name := "place", desc := "()I" } : Jvm.MethodName) ({ cls := "SumHouseModel", name := "place", desc := "()I" } : Jvm.MethodName)) ∈ lw_all := lw_g (lw_at lw_m10 100 rfl) rfl
theorem q2447 : (Jvm.Cond.code ({ cls := "SumHouseModel", name := "place", desc := "()I" } : Jvm.MethodName) prog_12_method_89_code (1 : Nat) (Option.some Jvm.ClassFile.FieldType.int)) ∈ lw_all := lw_g (lw_at lw_m10 101 rfl) rfl
theorem q2449 : (Jvm.Cond.instanceMethod ({ cls := "SumHouseModel", name := "write", desc := "(I)I" } : Jvm.MethodName)) ∈ lw_all := lw_g (lw_at lw_m10 103 rfl) rfl
theorem q2450 : (Jvm.Cond.selects "SumHouseModel" ({ cls := "SumHouseModel", name := "write", desc := "(I)I" } : Jvm.MethodName) ({ cls := "SumHouseModel", name := "write", desc := "(I)I" } : Jvm.MethodName)) ∈ lw_all := lw_g (lw_at lw_m10 104 rfl) rfl
theorem q2451 : (Jvm.Cond.code ({ cls := "SumHouseModel", name := "write", desc := "(I)I" } : Jvm.MethodName) prog_12_method_96_code (4 : Nat) (Option.some Jvm.ClassFile.FieldType.int)) ∈ lw_all := lw_g (lw_at lw_m10 105 rfl) rfl
theorem q2452 : (Jvm.Cond.methodLink "SumHouseModel" (587 : Nat) ({ cls := "SumHouseModel", name := "sayRatio", desc := "(LSumHouseModel$Thing;)V" } : Jvm.MethodName)) ∈ lw_all := lw_g (lw_at lw_m10 106 rfl) rfl
theorem q2453 : (Jvm.Cond.privateMethod ({ cls := "SumHouseModel", name := "sayRatio", desc := "(LSumHouseModel$Thing;)V" } : Jvm.MethodName)) ∈ lw_tbl := lw_at lw_m10 107 rfl
theorem q2454 : (Jvm.Cond.instanceMethod ({ cls := "SumHouseModel", name := "sayRatio", desc := "(LSumHouseModel$Thing;)V" } : Jvm.MethodName)) ∈ lw_all := lw_g (lw_at lw_m10 108 rfl) rfl
theorem q2455 : (Jvm.Cond.code ({ cls := "SumHouseModel", name := "sayRatio", desc := "(LSumHouseModel$Thing;)V" } : Jvm.MethodName) prog_12_method_95_code (3 : Nat) (Option.none : Option Jvm.ClassFile.FieldType)) ∈ lw_all := lw_g (lw_at lw_m10 109 rfl) rfl
theorem q2456 : (Jvm.Cond.methodLink "SumHouseModel" (564 : Nat) ({ cls := "SumHouseModel", name := "say", desc := "(I)V" } : Jvm.MethodName)) ∈ lw_all := lw_g (lw_at lw_m10 110 rfl) rfl
theorem q2457 : (Jvm.Cond.privateMethod ({ cls := "SumHouseModel", name := "say", desc := "(I)V" } : Jvm.MethodName)) ∈ lw_tbl := lw_at lw_m10 111 rfl
theorem q2458 : (Jvm.Cond.instanceMethod ({ cls := "SumHouseModel", name := "say", desc := "(I)V" } : Jvm.MethodName)) ∈ lw_all := lw_g (lw_at lw_m10 112 rfl) rfl
theorem q2459 : (Jvm.Cond.code ({ cls := "SumHouseModel", name := "say", desc := "(I)V" } : Jvm.MethodName) prog_12_method_90_code (2 : Nat) (Option.none : Option Jvm.ClassFile.FieldType)) ∈ lw_all := lw_g (lw_at lw_m10 113 rfl) rfl
theorem q2460 : (Jvm.Cond.methodLink "SumHouseModel" (583 : Nat) ({ cls := "SumHouseModel", name := "sayCells", desc := "([I)V" } : Jvm.MethodName)) ∈ lw_all := lw_g (lw_at lw_m10 114 rfl) rfl
theorem q2461 : (Jvm.Cond.privateMethod ({ cls := "SumHouseModel", name := "sayCells", desc := "([I)V" } : Jvm.MethodName)) ∈ lw_tbl := lw_at lw_m10 115 rfl
theorem q2462 : (Jvm.Cond.instanceMethod ({ cls := "SumHouseModel", name := "sayCells", desc := "([I)V" } : Jvm.MethodName)) ∈ lw_all := lw_g (lw_at lw_m10 116 rfl) rfl
theorem q2463 : (Jvm.Cond.code ({ cls := "SumHouseModel", name := "sayCells", desc := "([I)V" } : Jvm.MethodName) prog_12_method_94_code (4 : Nat) (Option.none : Option Jvm.ClassFile.FieldType)) ∈ lw_all := lw_g (lw_at lw_m10 117 rfl) rfl
theorem q2464 : (Jvm.Cond.methodLink "SumHouseModel" (579 : Nat) ({ cls := "SumHouseModel", name := "sayPart", desc := "(III)V" } : Jvm.MethodName)) ∈ lw_all := lw_g (lw_at lw_m10 118 rfl) rfl
theorem q2465 : (Jvm.Cond.privateMethod ({ cls := "SumHouseModel", name := "sayPart", desc := "(III)V" } : Jvm.MethodName)) ∈ lw_tbl := lw_at lw_m10 119 rfl
theorem q2466 : (Jvm.Cond.instanceMethod ({ cls := "SumHouseModel", name := "sayPart", desc := "(III)V" } : Jvm.MethodName)) ∈ lw_all := lw_g (lw_at lw_m10 120 rfl) rfl
theorem q2467 : (Jvm.Cond.code ({ cls := "SumHouseModel", name := "sayPart", desc := "(III)V" } : Jvm.MethodName) prog_12_method_92_code (7 : Nat) (Option.none : Option Jvm.ClassFile.FieldType)) ∈ lw_all := lw_g (lw_at lw_m10 121 rfl) rfl
theorem q2468 : (Jvm.Cond.methodLink "SumHouseModel" (571 : Nat) ({ cls := "SumHouseModel", name := "sayNumber", desc := "(J)V" } : Jvm.MethodName)) ∈ lw_all := lw_g (lw_at lw_m10 122 rfl) rfl
theorem q2469 : (Jvm.Cond.privateMethod ({ cls := "SumHouseModel", name := "sayNumber", desc := "(J)V" } : Jvm.MethodName)) ∈ lw_tbl := lw_at lw_m10 123 rfl
theorem q2470 : (Jvm.Cond.instanceMethod ({ cls := "SumHouseModel", name := "sayNumber", desc := "(J)V" } : Jvm.MethodName)) ∈ lw_all := lw_g (lw_at lw_m10 124 rfl) rfl
theorem q2471 : (Jvm.Cond.code ({ cls := "SumHouseModel", name := "sayNumber", desc := "(J)V" } : Jvm.MethodName) prog_12_method_91_code (5 : Nat) (Option.none : Option Jvm.ClassFile.FieldType)) ∈ lw_all := lw_g (lw_at lw_m10 125 rfl) rfl
theorem q2472 : (Jvm.Cond.methodLink "SumHouseModel" (575 : Nat) ({ cls := "SumHouseModel", name := "sayLetter", desc := "(IIZ)V" } : Jvm.MethodName)) ∈ lw_all := lw_g (lw_at lw_m10 126 rfl) rfl
theorem q2473 : (Jvm.Cond.privateMethod ({ cls := "SumHouseModel", name := "sayLetter", desc := "(IIZ)V" } : Jvm.MethodName)) ∈ lw_tbl := lw_at lw_m10 127 rfl
theorem q2474 : (Jvm.Cond.instanceMethod ({ cls := "SumHouseModel", name := "sayLetter", desc := "(IIZ)V" } : Jvm.MethodName)) ∈ lw_all := lw_g (lw_at lw_m10 128 rfl) rfl
theorem q2475 : (Jvm.Cond.code ({ cls := "SumHouseModel", name := "sayLetter", desc := "(IIZ)V" } : Jvm.MethodName) prog_12_method_93_code (4 : Nat) (Option.none : Option Jvm.ClassFile.FieldType)) ∈ lw_all := lw_g (lw_at lw_m10 129 rfl) rfl
theorem q2476 : (Jvm.Cond.methodLink "SumHouseModel" (590 : Nat) ({ cls := "SumHouseModel", name := "sayBase", desc := "(II)V" } : Jvm.MethodName)) ∈ lw_all := lw_g (lw_at lw_m10 130 rfl) rfl
theorem q2477 : (Jvm.Cond.privateMethod ({ cls := "SumHouseModel", name := "sayBase", desc := "(II)V" } : Jvm.MethodName)) ∈ lw_tbl := lw_at lw_m10 131 rfl
theorem q2478 : (Jvm.Cond.instanceMethod ({ cls := "SumHouseModel", name := "sayBase", desc := "(II)V" } : Jvm.MethodName)) ∈ lw_all := lw_g (lw_at lw_m10 132 rfl) rfl
theorem q2479 : (Jvm.Cond.code ({ cls := "SumHouseModel", name := "sayBase", desc := "(II)V" } : Jvm.MethodName) prog_12_method_98_code (3 : Nat) (Option.none : Option Jvm.ClassFile.FieldType)) ∈ lw_all := lw_g (lw_at lw_m10 133 rfl) rfl
theorem q2480 : (Jvm.Cond.methodLink "SumHouseModel" (594 : Nat) ({ cls := "SumHouseModel", name := "sayLine", desc := "(III)V" } : Jvm.MethodName)) ∈ lw_all := lw_g (lw_at lw_m10 134 rfl) rfl
theorem q2481 : (Jvm.Cond.privateMethod ({ cls := "SumHouseModel", name := "sayLine", desc := "(III)V" } : Jvm.MethodName)) ∈ lw_tbl := lw_at lw_m10 135 rfl
theorem q2482 : (Jvm.Cond.instanceMethod ({ cls := "SumHouseModel", name := "sayLine", desc := "(III)V" } : Jvm.MethodName)) ∈ lw_all := lw_g (lw_at lw_m10 136 rfl) rfl
theorem q2483 : (Jvm.Cond.code ({ cls := "SumHouseModel", name := "sayLine", desc := "(III)V" } : Jvm.MethodName) prog_12_method_97_code (4 : Nat) (Option.none : Option Jvm.ClassFile.FieldType)) ∈ lw_all := lw_g (lw_at lw_m10 137 rfl) rfl
theorem q2484 : (Jvm.Cond.methodLink "SumHouseModel" (600 : Nat) ({ cls := "SumHouseModel", name := "rest", desc := "(I)I" } : Jvm.MethodName)) ∈ lw_all := lw_g (lw_at lw_m10 138 rfl) rfl
theorem q2485 : (Jvm.Cond.static ({ cls := "SumHouseModel", name := "rest", desc := "(I)I" } : Jvm.MethodName)) ∈ lw_all := lw_g (lw_at lw_m10 139 rfl) rfl
theorem q2486 : (Jvm.Cond.code ({ cls := "SumHouseModel", name := "rest", desc := "(I)I" } : Jvm.MethodName) prog_12_method_6_code (2 : Nat) (Option.some Jvm.ClassFile.FieldType.int)) ∈ lw_all := lw_g (lw_at lw_m10 140 rfl) rfl
theorem q2488 : (Jvm.Cond.instanceMethod ({ cls := "SumHouseModel", name := "written", desc := "(I)I" } : Jvm.MethodName)) ∈ lw_all := lw_g (lw_at lw_m10 142 rfl) rfl
theorem q2489 : (Jvm.Cond.selects "SumHouseModel" ({ cls := "SumHouseModel", name := "written", desc := "(I)I" } : Jvm.MethodName) ({ cls := "SumHouseModel", name := "written", desc := "(I)I" } : Jvm.MethodName)) ∈ lw_all := lw_g (lw_at lw_m10 143 rfl) rfl
theorem q2490 : (Jvm.Cond.code ({ cls := "SumHouseModel", name := "written", desc := "(I)I" } : Jvm.MethodName) prog_12_method_99_code (2 : Nat) (Option.some Jvm.ClassFile.FieldType.int)) ∈ lw_all := lw_g (lw_at lw_m10 144 rfl) rfl
theorem q2492 : (Jvm.Cond.instanceMethod ({ cls := "SumHouseModel", name := "again", desc := "()I" } : Jvm.MethodName)) ∈ lw_all := lw_g (lw_at lw_m10 146 rfl) rfl
theorem q2493 : (Jvm.Cond.selects "SumHouseModel" ({ cls := "SumHouseModel", name := "again", desc := "()I" } : Jvm.MethodName) ({ cls := "SumHouseModel", name := "again", desc := "()I" } : Jvm.MethodName)) ∈ lw_all := lw_g (lw_at lw_m10 147 rfl) rfl
theorem q2494 : (Jvm.Cond.code ({ cls := "SumHouseModel", name := "again", desc := "()I" } : Jvm.MethodName) prog_12_method_100_code (1 : Nat) (Option.some Jvm.ClassFile.FieldType.int)) ∈ lw_all := lw_g (lw_at lw_m10 148 rfl) rfl
theorem q2496 : (Jvm.Cond.instanceMethod ({ cls := "SumHouseModel", name := "kind", desc := "(I)I" } : Jvm.MethodName)) ∈ lw_all := lw_g (lw_at lw_m10 150 rfl) rfl
theorem q2497 : (Jvm.Cond.selects "SumHouseModel" ({ cls := "SumHouseModel", name := "kind", desc := "(I)I" } : Jvm.MethodName) ({ cls := "SumHouseModel", name := "kind", desc := "(I)I" } : Jvm.MethodName)) ∈ lw_all := lw_g (lw_at lw_m10 151 rfl) rfl
theorem q2498 : (Jvm.Cond.code ({ cls := "SumHouseModel", name := "kind", desc := "(I)I" } : Jvm.MethodName) prog_12_method_101_code (2 : Nat) (Option.some Jvm.ClassFile.FieldType.int)) ∈ lw_all := lw_g (lw_at lw_m10 152 rfl) rfl
theorem q2500 : (Jvm.Cond.instanceMethod ({ cls := "SumHouseModel", name := "drop", desc := "(I)I" } : Jvm.MethodName)) ∈ lw_all := lw_g (lw_at lw_m10 154 rfl) rfl
theorem q2501 : (Jvm.Cond.selects "SumHouseModel" ({ cls := "SumHouseModel", name := "drop", desc := "(I)I" } : Jvm.MethodName) ({ cls := "SumHouseModel", name := "drop", desc := "(I)I" } : Jvm.MethodName)) ∈ lw_all := lw_g (lw_at lw_m10 155 rfl) rfl
theorem q2502 : (Jvm.Cond.code ({ cls := "SumHouseModel", name := "drop", desc := "(I)I" } : Jvm.MethodName) prog_12_method_102_code (3 : Nat) (Option.some Jvm.ClassFile.FieldType.int)) ∈ lw_all := lw_g (lw_at lw_m10 156 rfl) rfl
theorem q2504 : (Jvm.Cond.instanceMethod ({ cls := "SumHouseModel", name := "degree", desc := "(III)I" } : Jvm.MethodName)) ∈ lw_all := lw_g (lw_at lw_m10 158 rfl) rfl
theorem q2505 : (Jvm.Cond.selects "SumHouseModel" ({ cls := "SumHouseModel", name := "degree", desc := "(III)I" } : Jvm.MethodName) ({ cls := "SumHouseModel", name := "degree", desc := "(III)I" } : Jvm.MethodName)) ∈ lw_all := lw_g (lw_at lw_m10 159 rfl) rfl
theorem q2506 : (Jvm.Cond.code ({ cls := "SumHouseModel", name := "degree", desc := "(III)I" } : Jvm.MethodName) prog_12_method_104_code (5 : Nat) (Option.some Jvm.ClassFile.FieldType.int)) ∈ lw_all := lw_g (lw_at lw_m10 160 rfl) rfl
theorem q2507 : (Jvm.Cond.methodLink "SumHouseModel" (603 : Nat) ({ cls := "SumHouseModel", name := "degree", desc := "([II)I" } : Jvm.MethodName)) ∈ lw_all := lw_g (lw_at lw_m10 161 rfl) rfl
theorem q2508 : (Jvm.Cond.static ({ cls := "SumHouseModel", name := "degree", desc := "([II)I" } : Jvm.MethodName)) ∈ lw_all := lw_g (lw_at lw_m10 162 rfl) rfl
theorem q2509 : (Jvm.Cond.code ({ cls := "SumHouseModel", name := "degree", desc := "([II)I" } : Jvm.MethodName) prog_12_method_103_code (4 : Nat) (Option.some Jvm.ClassFile.FieldType.int)) ∈ lw_all := lw_g (lw_at lw_m10 163 rfl) rfl
theorem q2511 : (Jvm.Cond.instanceMethod ({ cls := "SumHouseModel", name := "number", desc := "(IIII)I" } : Jvm.MethodName)) ∈ lw_all := lw_g (lw_at lw_m10 165 rfl) rfl
theorem q2512 : (Jvm.Cond.selects "SumHouseModel" ({ cls := "SumHouseModel", name := "number", desc := "(IIII)I" } : Jvm.MethodName) ({ cls := "SumHouseModel", name := "number", desc := "(IIII)I" } : Jvm.MethodName)) ∈ lw_all := lw_g (lw_at lw_m10 166 rfl) rfl
theorem q2513 : (Jvm.Cond.code ({ cls := "SumHouseModel", name := "number", desc := "(IIII)I" } : Jvm.MethodName) prog_12_method_105_code (7 : Nat) (Option.some Jvm.ClassFile.FieldType.int)) ∈ lw_all := lw_g (lw_at lw_m10 167 rfl) rfl
theorem q2515 : (Jvm.Cond.instanceMethod ({ cls := "SumHouseModel", name := "told", desc := "(II)I" } : Jvm.MethodName)) ∈ lw_all := lw_g (lw_at lw_m10 169 rfl) rfl
theorem q2516 : (Jvm.Cond.selects "SumHouseModel" ({ cls := "SumHouseModel", name := "told", desc := "(II)I" } : Jvm.MethodName) ({ cls := "SumHouseModel", name := "told", desc := "(II)I" } : Jvm.MethodName)) ∈ lw_all := lw_g (lw_at lw_m10 170 rfl) rfl
theorem q2517 : (Jvm.Cond.code ({ cls := "SumHouseModel", name := "told", desc := "(II)I" } : Jvm.MethodName) prog_12_method_106_code (5 : Nat) (Option.some Jvm.ClassFile.FieldType.int)) ∈ lw_all := lw_g (lw_at lw_m10 171 rfl) rfl
theorem q2519 : (Jvm.Cond.instanceMethod ({ cls := "SumHouseModel", name := "factorial", desc := "(III)I" } : Jvm.MethodName)) ∈ lw_all := lw_g (lw_at lw_m10 173 rfl) rfl
theorem q2520 : (Jvm.Cond.selects "SumHouseModel" ({ cls := "SumHouseModel", name := "factorial", desc := "(III)I" } : Jvm.MethodName) ({ cls := "SumHouseModel", name := "factorial", desc := "(III)I" } : Jvm.MethodName)) ∈ lw_all := lw_g (lw_at lw_m10 174 rfl) rfl
theorem q2521 : (Jvm.Cond.code ({ cls := "SumHouseModel", name := "factorial", desc := "(III)I" } : Jvm.MethodName) prog_12_method_107_code (5 : Nat) (Option.some Jvm.ClassFile.FieldType.int)) ∈ lw_all := lw_g (lw_at lw_m10 175 rfl) rfl
theorem q2523 : (Jvm.Cond.instanceMethod ({ cls := "SumHouseModel", name := "count", desc := "(I)I" } : Jvm.MethodName)) ∈ lw_all := lw_g (lw_at lw_m10 177 rfl) rfl
theorem q2524 : (Jvm.Cond.selects "SumHouseModel" ({ cls := "SumHouseModel", name := "count", desc := "(I)I" } : Jvm.MethodName) ({ cls := "SumHouseModel", name := "count", desc := "(I)I" } : Jvm.MethodName)) ∈ lw_all := lw_g (lw_at lw_m10 178 rfl) rfl
theorem q2525 : (Jvm.Cond.code ({ cls := "SumHouseModel", name := "count", desc := "(I)I" } : Jvm.MethodName) prog_12_method_108_code (5 : Nat) (Option.some Jvm.ClassFile.FieldType.int)) ∈ lw_all := lw_g (lw_at lw_m10 179 rfl) rfl
theorem q2527 : (Jvm.Cond.instanceMethod ({ cls := "SumHouseModel", name := "quotient", desc := "(III)I" } : Jvm.MethodName)) ∈ lw_all := lw_g (lw_at lw_m10 181 rfl) rfl
theorem q2528 : (Jvm.Cond.selects "SumHouseModel" ({ cls := "SumHouseModel", name := "quotient", desc := "(III)I" } : Jvm.MethodName) ({ cls := "SumHouseModel", name := "quotient", desc := "(III)I" } : Jvm.MethodName)) ∈ lw_all := lw_g (lw_at lw_m10 182 rfl) rfl
theorem q2529 : (Jvm.Cond.code ({ cls := "SumHouseModel", name := "quotient", desc := "(III)I" } : Jvm.MethodName) prog_12_method_112_code (8 : Nat) (Option.some Jvm.ClassFile.FieldType.int)) ∈ lw_all := lw_g (lw_at lw_m10 183 rfl) rfl
theorem q2530 : (Jvm.Cond.methodLink "SumHouseModel" (633 : Nat) ({ cls := "SumHouseModel", name := "quotient", desc := "(LSumHouseModel$B;LSumHouseModel$B;LSumHouseModel$Thing;II)Z" } : Jvm.MethodName)) ∈ lw_all := lw_g (lw_at lw_m10 184 rfl) rfl
theorem q2531 : (Jvm.Cond.privateMethod ({ cls := "SumHouseModel", name := "quotient", desc := "(LSumHouseModel$B;LSumHouseModel$B;LSumHouseModel$Thing;II)Z" } : Jvm.MethodName)) ∈ lw_tbl := lw_at lw_m10 185 rfl
theorem q2532 : (Jvm.Cond.instanceMethod ({ cls := "SumHouseModel", name := "quotient", desc := "(LSumHouseModel$B;LSumHouseModel$B;LSumHouseModel$Thing;II)Z" } : Jvm.MethodName)) ∈ lw_all := lw_g (lw_at lw_m10 186 rfl) rfl
theorem q2533 : (Jvm.Cond.code ({ cls := "SumHouseModel", name := "quotient", desc := "(LSumHouseModel$B;LSumHouseModel$B;LSumHouseModel$Thing;II)Z" } : Jvm.MethodName) prog_12_method_110_code (13 : Nat) (Option.some Jvm.ClassFile.FieldType.boolean)) ∈ lw_all := lw_g (lw_at lw_m10 187 rfl) rfl
theorem q2534 : (Jvm.Cond.methodLink "SumHouseModel" (619 : Nat) ({ cls := "SumHouseModel", name := "lineFactor", desc := "(IIII)V" } : Jvm.MethodName)) ∈ lw_all := lw_g (lw_at lw_m10 188 rfl) rfl
theorem q2535 : (Jvm.Cond.privateMethod ({ cls := "SumHouseModel", name := "lineFactor", desc := "(IIII)V" } : Jvm.MethodName)) ∈ lw_tbl := lw_at lw_m10 189 rfl
theorem q2536 : (Jvm.Cond.instanceMethod ({ cls := "SumHouseModel", name := "lineFactor", desc := "(IIII)V" } : Jvm.MethodName)) ∈ lw_all := lw_g (lw_at lw_m10 190 rfl) rfl
theorem q2537 : (Jvm.Cond.code ({ cls := "SumHouseModel", name := "lineFactor", desc := "(IIII)V" } : Jvm.MethodName) prog_12_method_109_code (11 : Nat) (Option.none : Option Jvm.ClassFile.FieldType)) ∈ lw_all := lw_g (lw_at lw_m10 191 rfl) rfl
theorem q2538 : (Jvm.Cond.methodLink "SumHouseModel" (623 : Nat) ({ cls := "SumHouseModel", name := "shiftN", desc := "(LSumHouseModel$B;LSumHouseModel$B;I)V" } : Jvm.MethodName)) ∈ lw_all := lw_g (lw_at lw_m10 192 rfl) rfl
theorem q2539 : (Jvm.Cond.static ({ cls := "SumHouseModel", name := "shiftN", desc := "(LSumHouseModel$B;LSumHouseModel$B;I)V" } : Jvm.MethodName)) ∈ lw_all := lw_g (lw_at lw_m10 193 rfl) rfl
theorem q2540 : (Jvm.Cond.code ({ cls := "SumHouseModel", name := "shiftN", desc := "(LSumHouseModel$B;LSumHouseModel$B;I)V" } : Jvm.MethodName) prog_12_method_28_code (4 : Nat) (Option.none : Option Jvm.ClassFile.FieldType)) ∈ lw_all := lw_g (lw_at lw_m10 194 rfl) rfl
theorem q2541 : (Jvm.Cond.methodLink "SumHouseModel" (116 : Nat) ({ cls := "SumHouseModel", name := "shift", desc := "(LSumHouseModel$U;LSumHouseModel$U;I)V" } : Jvm.MethodName)) ∈ lw_all := lw_g (lw_at lw_m10 195 rfl) rfl
theorem q2542 : (Jvm.Cond.static ({ cls := "SumHouseModel", name := "shift", desc := "(LSumHouseModel$U;LSumHouseModel$U;I)V" } : Jvm.MethodName)) ∈ lw_all := lw_g (lw_at lw_m10 196 rfl) rfl
theorem q2543 : (Jvm.Cond.code ({ cls := "SumHouseModel", name := "shift", desc := "(LSumHouseModel$U;LSumHouseModel$U;I)V" } : Jvm.MethodName) prog_12_method_19_code (6 : Nat) (Option.none : Option Jvm.ClassFile.FieldType)) ∈ lw_all := lw_g (lw_at lw_m10 197 rfl) rfl
theorem q2544 : (Jvm.Cond.methodLink "SumHouseModel" (626 : Nat) ({ cls := "SumHouseModel", name := "shiftK", desc := "(LSumHouseModel$B;LSumHouseModel$B;I)V" } : Jvm.MethodName)) ∈ lw_all := lw_g (lw_at lw_m10 198 rfl) rfl
theorem q2545 : (Jvm.Cond.static ({ cls := "SumHouseModel", name := "shiftK", desc := "(LSumHouseModel$B;LSumHouseModel$B;I)V" } : Jvm.MethodName)) ∈ lw_all := lw_g (lw_at lw_m10 199 rfl) rfl
theorem q2546 : (Jvm.Cond.code ({ cls := "SumHouseModel", name := "shiftK", desc := "(LSumHouseModel$B;LSumHouseModel$B;I)V" } : Jvm.MethodName) prog_12_method_27_code (9 : Nat) (Option.none : Option Jvm.ClassFile.FieldType)) ∈ lw_all := lw_g (lw_at lw_m10 200 rfl) rfl
theorem q2547 : (Jvm.Cond.methodLink "SumHouseModel" (629 : Nat) ({ cls := "SumHouseModel", name := "lineInto", desc := "(LSumHouseModel$B;LSumHouseModel$B;I)Z" } : Jvm.MethodName)) ∈ lw_all := lw_g (lw_at lw_m10 201 rfl) rfl
theorem q2548 : (Jvm.Cond.privateMethod ({ cls := "SumHouseModel", name := "lineInto", desc := "(LSumHouseModel$B;LSumHouseModel$B;I)Z" } : Jvm.MethodName)) ∈ lw_tbl := lw_at lw_m10 202 rfl
theorem q2549 : (Jvm.Cond.instanceMethod ({ cls := "SumHouseModel", name := "lineInto", desc := "(LSumHouseModel$B;LSumHouseModel$B;I)Z" } : Jvm.MethodName)) ∈ lw_all := lw_g (lw_at lw_m10 203 rfl) rfl
theorem q2550 : (Jvm.Cond.code ({ cls := "SumHouseModel", name := "lineInto", desc := "(LSumHouseModel$B;LSumHouseModel$B;I)Z" } : Jvm.MethodName) prog_12_method_111_code (11 : Nat) (Option.some Jvm.ClassFile.FieldType.boolean)) ∈ lw_all := lw_g (lw_at lw_m10 204 rfl) rfl
theorem q2552 : (Jvm.Cond.instanceMethod ({ cls := "SumHouseModel", name := "work", desc := "(IIII)I" } : Jvm.MethodName)) ∈ lw_all := lw_g (lw_at lw_m10 206 rfl) rfl
theorem q2553 : (Jvm.Cond.selects "SumHouseModel" ({ cls := "SumHouseModel", name := "work", desc := "(IIII)I" } : Jvm.MethodName) ({ cls := "SumHouseModel", name := "work", desc := "(IIII)I" } : Jvm.MethodName)) ∈ lw_all := lw_g (lw_at lw_m10 207 rfl) rfl
theorem q2554 : (Jvm.Cond.code ({ cls := "SumHouseModel", name := "work", desc := "(IIII)I" } : Jvm.MethodName) prog_12_method_114_code (12 : Nat) (Option.some Jvm.ClassFile.FieldType.int)) ∈ lw_all := lw_g (lw_at lw_m10 208 rfl) rfl
theorem q2555 : (Jvm.Cond.methodLink "SumHouseModel" (637 : Nat) ({ cls := "SumHouseModel", name := "isPolynomial", desc := "(LSumHouseModel$Thing;)Z" } : Jvm.MethodName)) ∈ lw_all := lw_g (lw_at lw_m10 209 rfl) rfl
theorem q2556 : (Jvm.Cond.static ({ cls := "SumHouseModel", name := "isPolynomial", desc := "(LSumHouseModel$Thing;)Z" } : Jvm.MethodName)) ∈ lw_all := lw_g (lw_at lw_m10 210 rfl) rfl
theorem q2557 : (Jvm.Cond.code ({ cls := "SumHouseModel", name := "isPolynomial", desc := "(LSumHouseModel$Thing;)Z" } : Jvm.MethodName) prog_12_method_113_code (1 : Nat) (Option.some Jvm.ClassFile.FieldType.boolean)) ∈ lw_all := lw_g (lw_at lw_m10 211 rfl) rfl
theorem q2558 : (Jvm.Cond.methodLink "SumHouseModel" (640 : Nat) ({ cls := "SumHouseModel", name := "resultant", desc := "(LSumHouseModel$B;LSumHouseModel$B;LSumHouseModel$B;Z)Z" } : Jvm.MethodName)) ∈ lw_all := lw_g (lw_at lw_m10 212 rfl) rfl
theorem q2559 : (Jvm.Cond.privateMethod ({ cls := "SumHouseModel", name := "resultant", desc := "(LSumHouseModel$B;LSumHouseModel$B;LSumHouseModel$B;Z)Z" } : Jvm.MethodName)) ∈ lw_tbl := lw_at lw_m10 213 rfl
theorem q2560 : (Jvm.Cond.instanceMethod ({ cls := "SumHouseModel", name := "resultant", desc := "(LSumHouseModel$B;LSumHouseModel$B;LSumHouseModel$B;Z)Z" } : Jvm.MethodName)) ∈ lw_all := lw_g (lw_at lw_m10 214 rfl) rfl
theorem q2561 : (Jvm.Cond.code ({ cls := "SumHouseModel", name := "resultant", desc := "(LSumHouseModel$B;LSumHouseModel$B;LSumHouseModel$B;Z)Z" } : Jvm.MethodName) prog_12_method_115_code (12 : Nat) (Option.some Jvm.ClassFile.FieldType.boolean)) ∈ lw_all := lw_g (lw_at lw_m10 215 rfl) rfl
theorem q2562 : (Jvm.Cond.methodLink "SumHouseModel" (644 : Nat) ({ cls := "SumHouseModel", name := "turn", desc := "(LSumHouseModel$B;LSumHouseModel$B;)V" } : Jvm.MethodName)) ∈ lw_all := lw_g (lw_at lw_m10 216 rfl) rfl
theorem q2563 : (Jvm.Cond.static ({ cls := "SumHouseModel", name := "turn", desc := "(LSumHouseModel$B;LSumHouseModel$B;)V" } : Jvm.MethodName)) ∈ lw_all := lw_g (lw_at lw_m10 217 rfl) rfl
theorem q2564 : (Jvm.Cond.code ({ cls := "SumHouseModel", name := "turn", desc := "(LSumHouseModel$B;LSumHouseModel$B;)V" } : Jvm.MethodName) prog_12_method_29_code (5 : Nat) (Option.none : Option Jvm.ClassFile.FieldType)) ∈ lw_all := lw_g (lw_at lw_m10 218 rfl) rfl
theorem q2565 : (Jvm.Cond.methodLink "SumHouseModel" (647 : Nat) ({ cls := "SumHouseModel", name := "sylvester", desc := "(LSumHouseModel$B;LSumHouseModel$B;III)I" } : Jvm.MethodName)) ∈ lw_all := lw_g (lw_at lw_m10 219 rfl) rfl
theorem q2566 : (Jvm.Cond.privateMethod ({ cls := "SumHouseModel", name := "sylvester", desc := "(LSumHouseModel$B;LSumHouseModel$B;III)I" } : Jvm.MethodName)) ∈ lw_tbl := lw_at lw_m10 220 rfl
theorem q2567 : (Jvm.Cond.instanceMethod ({ cls := "SumHouseModel", name := "sylvester", desc := "(LSumHouseModel$B;LSumHouseModel$B;III)I" } : Jvm.MethodName)) ∈ lw_all := lw_g (lw_at lw_m10 221 rfl) rfl
theorem q2568 : (Jvm.Cond.code ({ cls := "SumHouseModel", name := "sylvester", desc := "(LSumHouseModel$B;LSumHouseModel$B;III)I" } : Jvm.MethodName) prog_12_method_116_code (14 : Nat) (Option.some Jvm.ClassFile.FieldType.int)) ∈ lw_all := lw_g (lw_at lw_m10 222 rfl) rfl
theorem q2570 : (Jvm.Cond.instanceMethod ({ cls := "SumHouseModel", name := "change", desc := "(IIII)I" } : Jvm.MethodName)) ∈ lw_all := lw_g (lw_at lw_m10 224 rfl) rfl
theorem q2571 : (Jvm.Cond.selects "SumHouseModel" ({ cls := "SumHouseModel", name := "change", desc := "(IIII)I" } : Jvm.MethodName) ({ cls := "SumHouseModel", name := "change", desc := "(IIII)I" } : Jvm.MethodName)) ∈ lw_all := lw_g (lw_at lw_m10 225 rfl) rfl
theorem q2572 : (Jvm.Cond.code ({ cls := "SumHouseModel", name := "change", desc := "(IIII)I" } : Jvm.MethodName) prog_12_method_117_code (12 : Nat) (Option.some Jvm.ClassFile.FieldType.int)) ∈ lw_all := lw_g (lw_at lw_m10 226 rfl) rfl
theorem q2573 : (Jvm.Cond.methodLink "SumHouseModel" (651 : Nat) ({ cls := "SumHouseModel", name := "moved", desc := "(ILSumHouseModel$B;LSumHouseModel$B;II)I" } : Jvm.MethodName)) ∈ lw_all := lw_g (lw_at lw_m10 227 rfl) rfl
theorem q2574 : (Jvm.Cond.privateMethod ({ cls := "SumHouseModel", name := "moved", desc := "(ILSumHouseModel$B;LSumHouseModel$B;II)I" } : Jvm.MethodName)) ∈ lw_tbl := lw_at lw_m10 228 rfl
theorem q2575 : (Jvm.Cond.instanceMethod ({ cls := "SumHouseModel", name := "moved", desc := "(ILSumHouseModel$B;LSumHouseModel$B;II)I" } : Jvm.MethodName)) ∈ lw_all := lw_g (lw_at lw_m10 229 rfl) rfl
theorem q2576 : (Jvm.Cond.code ({ cls := "SumHouseModel", name := "moved", desc := "(ILSumHouseModel$B;LSumHouseModel$B;II)I" } : Jvm.MethodName) prog_12_method_118_code (10 : Nat) (Option.some Jvm.ClassFile.FieldType.int)) ∈ lw_all := lw_g (lw_at lw_m10 230 rfl) rfl
theorem q2577 : (Jvm.Cond.constantLong "SumHouseModel" (666 : Nat) (-50 : Int64)) ∈ lw_all := lw_g (lw_at lw_m10 231 rfl) rfl
theorem q2578 : (Jvm.Cond.constantLong "SumHouseModel" (668 : Nat) (50 : Int64)) ∈ lw_all := lw_g (lw_at lw_m10 232 rfl) rfl
theorem q2579 : (Jvm.Cond.methodLink "SumHouseModel" (655 : Nat) ({ cls := "SumHouseModel", name := "fixed", desc := "(LSumHouseModel$B;LSumHouseModel$B;IZ)V" } : Jvm.MethodName)) ∈ lw_all := lw_g (lw_at lw_m10 233 rfl) rfl
theorem q2580 : (Jvm.Cond.privateMethod ({ cls := "SumHouseModel", name := "fixed", desc := "(LSumHouseModel$B;LSumHouseModel$B;IZ)V" } : Jvm.MethodName)) ∈ lw_tbl := lw_at lw_m10 234 rfl
theorem q2581 : (Jvm.Cond.instanceMethod ({ cls := "SumHouseModel", name := "fixed", desc := "(LSumHouseModel$B;LSumHouseModel$B;IZ)V" } : Jvm.MethodName)) ∈ lw_all := lw_g (lw_at lw_m10 235 rfl) rfl
theorem q2582 : (Jvm.Cond.code ({ cls := "SumHouseModel", name := "fixed", desc := "(LSumHouseModel$B;LSumHouseModel$B;IZ)V" } : Jvm.MethodName) prog_12_method_119_code (9 : Nat) (Option.none : Option Jvm.ClassFile.FieldType)) ∈ lw_all := lw_g (lw_at lw_m10 236 rfl) rfl
theorem q2583 : (Jvm.Cond.methodLink "SumHouseModel" (659 : Nat) ({ cls := "SumHouseModel", name := "reduce", desc := "(LSumHouseModel$B;LSumHouseModel$B;)V" } : Jvm.MethodName)) ∈ lw_all := lw_g (lw_at lw_m10 237 rfl) rfl
theorem q2584 : (Jvm.Cond.privateMethod ({ cls := "SumHouseModel", name := "reduce", desc := "(LSumHouseModel$B;LSumHouseModel$B;)V" } : Jvm.MethodName)) ∈ lw_tbl := lw_at lw_m10 238 rfl
theorem q2585 : (Jvm.Cond.instanceMethod ({ cls := "SumHouseModel", name := "reduce", desc := "(LSumHouseModel$B;LSumHouseModel$B;)V" } : Jvm.MethodName)) ∈ lw_all := lw_g (lw_at lw_m10 239 rfl) rfl
theorem q2586 : (Jvm.Cond.code ({ cls := "SumHouseModel", name := "reduce", desc := "(LSumHouseModel$B;LSumHouseModel$B;)V" } : Jvm.MethodName) prog_12_method_40_code (7 : Nat) (Option.none : Option Jvm.ClassFile.FieldType)) ∈ lw_all := lw_g (lw_at lw_m11 0 rfl) rfl
theorem q2587 : (Jvm.Cond.methodLink "SumHouseModel" (662 : Nat) ({ cls := "SumHouseModel", name := "derivative", desc := "(LSumHouseModel$B;LSumHouseModel$B;LSumHouseModel$B;LSumHouseModel$B;Z)V" } : Jvm.MethodName)) ∈ lw_all := lw_g (lw_at lw_m11 1 rfl) rfl
theorem q2588 : (Jvm.Cond.privateMethod ({ cls := "SumHouseModel", name := "derivative", desc := "(LSumHouseModel$B;LSumHouseModel$B;LSumHouseModel$B;LSumHouseModel$B;Z)V" } : Jvm.MethodName)) ∈ lw_tbl := lw_at lw_m11 2 rfl
theorem q2589 : (Jvm.Cond.instanceMethod ({ cls := "SumHouseModel", name := "derivative", desc := "(LSumHouseModel$B;LSumHouseModel$B;LSumHouseModel$B;LSumHouseModel$B;Z)V" } : Jvm.MethodName)) ∈ lw_all := lw_g (lw_at lw_m11 3 rfl) rfl
theorem q2590 : (Jvm.Cond.code ({ cls := "SumHouseModel", name := "derivative", desc := "(LSumHouseModel$B;LSumHouseModel$B;LSumHouseModel$B;LSumHouseModel$B;Z)V" } : Jvm.MethodName) prog_12_method_121_code (9 : Nat) (Option.none : Option Jvm.ClassFile.FieldType)) ∈ lw_all := lw_g (lw_at lw_m11 4 rfl) rfl
theorem q2591 : (Jvm.Cond.methodLink "SumHouseModel" (670 : Nat) ({ cls := "SumHouseModel", name := "slope", desc := "(LSumHouseModel$B;LSumHouseModel$B;Z)V" } : Jvm.MethodName)) ∈ lw_all := lw_g (lw_at lw_m11 5 rfl) rfl
theorem q2592 : (Jvm.Cond.static ({ cls := "SumHouseModel", name := "slope", desc := "(LSumHouseModel$B;LSumHouseModel$B;Z)V" } : Jvm.MethodName)) ∈ lw_all := lw_g (lw_at lw_m11 6 rfl) rfl
theorem q2593 : (Jvm.Cond.code ({ cls := "SumHouseModel", name := "slope", desc := "(LSumHouseModel$B;LSumHouseModel$B;Z)V" } : Jvm.MethodName) prog_12_method_120_code (5 : Nat) (Option.none : Option Jvm.ClassFile.FieldType)) ∈ lw_all := lw_g (lw_at lw_m11 7 rfl) rfl
theorem q2595 : (Jvm.Cond.instanceMethod ({ cls := "SumHouseModel", name := "value", desc := "(III)I" } : Jvm.MethodName)) ∈ lw_all := lw_g (lw_at lw_m11 9 rfl) rfl
theorem q2596 : (Jvm.Cond.selects "SumHouseModel" ({ cls := "SumHouseModel", name := "value", desc := "(III)I" } : Jvm.MethodName) ({ cls := "SumHouseModel", name := "value", desc := "(III)I" } : Jvm.MethodName)) ∈ lw_all := lw_g (lw_at lw_m11 10 rfl) rfl
theorem q2597 : (Jvm.Cond.code ({ cls := "SumHouseModel", name := "value", desc := "(III)I" } : Jvm.MethodName) prog_12_method_127_code (5 : Nat) (Option.some Jvm.ClassFile.FieldType.int)) ∈ lw_all := lw_g (lw_at lw_m11 11 rfl) rfl
theorem q2598 : (Jvm.Cond.methodLink "SumHouseModel" (688 : Nat) ({ cls := "SumHouseModel", name := "valueAt", desc := "(LSumHouseModel$Thing;II)I" } : Jvm.MethodName)) ∈ lw_all := lw_g (lw_at lw_m11 12 rfl) rfl
theorem q2599 : (Jvm.Cond.privateMethod ({ cls := "SumHouseModel", name := "valueAt", desc := "(LSumHouseModel$Thing;II)I" } : Jvm.MethodName)) ∈ lw_tbl := lw_at lw_m11 13 rfl
theorem q2600 : (Jvm.Cond.instanceMethod ({ cls := "SumHouseModel", name := "valueAt", desc := "(LSumHouseModel$Thing;II)I" } : Jvm.MethodName)) ∈ lw_all := lw_g (lw_at lw_m11 14 rfl) rfl
theorem q2601 : (Jvm.Cond.code ({ cls := "SumHouseModel", name := "valueAt", desc := "(LSumHouseModel$Thing;II)I" } : Jvm.MethodName) prog_12_method_126_code (8 : Nat) (Option.some Jvm.ClassFile.FieldType.int)) ∈ lw_all := lw_g (lw_at lw_m11 15 rfl) rfl
theorem q2602 : (Jvm.Cond.methodLink "SumHouseModel" (678 : Nat) ({ cls := "SumHouseModel", name := "ratioAt", desc := "(LSumHouseModel$Thing;II)I" } : Jvm.MethodName)) ∈ lw_all := lw_g (lw_at lw_m11 16 rfl) rfl
theorem q2603 : (Jvm.Cond.privateMethod ({ cls := "SumHouseModel", name := "ratioAt", desc := "(LSumHouseModel$Thing;II)I" } : Jvm.MethodName)) ∈ lw_tbl := lw_at lw_m11 17 rfl
theorem q2604 : (Jvm.Cond.instanceMethod ({ cls := "SumHouseModel", name := "ratioAt", desc := "(LSumHouseModel$Thing;II)I" } : Jvm.MethodName)) ∈ lw_all := lw_g (lw_at lw_m11 18 rfl) rfl
theorem q2605 : (Jvm.Cond.code ({ cls := "SumHouseModel", name := "ratioAt", desc := "(LSumHouseModel$Thing;II)I" } : Jvm.MethodName) prog_12_method_124_code (5 : Nat) (Option.some Jvm.ClassFile.FieldType.int)) ∈ lw_all := lw_g (lw_at lw_m11 19 rfl) rfl
theorem q2606 : (Jvm.Cond.methodLink "SumHouseModel" (674 : Nat) ({ cls := "SumHouseModel", name := "cells", desc := "([III)I" } : Jvm.MethodName)) ∈ lw_all := lw_g (lw_at lw_m11 20 rfl) rfl
theorem q2607 : (Jvm.Cond.privateMethod ({ cls := "SumHouseModel", name := "cells", desc := "([III)I" } : Jvm.MethodName)) ∈ lw_tbl := lw_at lw_m11 21 rfl
theorem q2608 : (Jvm.Cond.instanceMethod ({ cls := "SumHouseModel", name := "cells", desc := "([III)I" } : Jvm.MethodName)) ∈ lw_all := lw_g (lw_at lw_m11 22 rfl) rfl
theorem q2609 : (Jvm.Cond.code ({ cls := "SumHouseModel", name := "cells", desc := "([III)I" } : Jvm.MethodName) prog_12_method_123_code (10 : Nat) (Option.some Jvm.ClassFile.FieldType.int)) ∈ lw_all := lw_g (lw_at lw_m11 23 rfl) rfl
theorem q2610 : (Jvm.Cond.methodLink "SumHouseModel" (682 : Nat) ({ cls := "SumHouseModel", name := "isWhole", desc := "(I)Z" } : Jvm.MethodName)) ∈ lw_all := lw_g (lw_at lw_m11 24 rfl) rfl
theorem q2611 : (Jvm.Cond.static ({ cls := "SumHouseModel", name := "isWhole", desc := "(I)Z" } : Jvm.MethodName)) ∈ lw_all := lw_g (lw_at lw_m11 25 rfl) rfl
theorem q2612 : (Jvm.Cond.code ({ cls := "SumHouseModel", name := "isWhole", desc := "(I)Z" } : Jvm.MethodName) prog_12_method_125_code (1 : Nat) (Option.some Jvm.ClassFile.FieldType.boolean)) ∈ lw_all := lw_g (lw_at lw_m11 26 rfl) rfl
theorem q2613 : (Jvm.Cond.methodLink "SumHouseModel" (685 : Nat) ({ cls := "SumHouseModel", name := "factorialOf", desc := "(I)I" } : Jvm.MethodName)) ∈ lw_all := lw_g (lw_at lw_m11 27 rfl) rfl
theorem q2614 : (Jvm.Cond.privateMethod ({ cls := "SumHouseModel", name := "factorialOf", desc := "(I)I" } : Jvm.MethodName)) ∈ lw_tbl := lw_at lw_m11 28 rfl
theorem q2615 : (Jvm.Cond.instanceMethod ({ cls := "SumHouseModel", name := "factorialOf", desc := "(I)I" } : Jvm.MethodName)) ∈ lw_all := lw_g (lw_at lw_m11 29 rfl) rfl
theorem q2616 : (Jvm.Cond.code ({ cls := "SumHouseModel", name := "factorialOf", desc := "(I)I" } : Jvm.MethodName) prog_12_method_122_code (4 : Nat) (Option.some Jvm.ClassFile.FieldType.int)) ∈ lw_all := lw_g (lw_at lw_m11 30 rfl) rfl
theorem q2618 : (Jvm.Cond.instanceMethod ({ cls := "SumHouseModel", name := "sum", desc := "(IIII)I" } : Jvm.MethodName)) ∈ lw_all := lw_g (lw_at lw_m11 32 rfl) rfl
theorem q2619 : (Jvm.Cond.selects "SumHouseModel" ({ cls := "SumHouseModel", name := "sum", desc := "(IIII)I" } : Jvm.MethodName) ({ cls := "SumHouseModel", name := "sum", desc := "(IIII)I" } : Jvm.MethodName)) ∈ lw_all := lw_g (lw_at lw_m11 33 rfl) rfl
theorem q2620 : (Jvm.Cond.code ({ cls := "SumHouseModel", name := "sum", desc := "(IIII)I" } : Jvm.MethodName) prog_12_method_129_code (6 : Nat) (Option.some Jvm.ClassFile.FieldType.int)) ∈ lw_all := lw_g (lw_at lw_m11 34 rfl) rfl
theorem q2621 : (Jvm.Cond.methodLink "SumHouseModel" (691 : Nat) ({ cls := "SumHouseModel", name := "sumOf", desc := "(LSumHouseModel$Thing;III)I" } : Jvm.MethodName)) ∈ lw_all := lw_g (lw_at lw_m11 35 rfl) rfl
theorem q2622 : (Jvm.Cond.privateMethod ({ cls := "SumHouseModel", name := "sumOf", desc := "(LSumHouseModel$Thing;III)I" } : Jvm.MethodName)) ∈ lw_tbl := lw_at lw_m11 36 rfl
theorem q2623 : (Jvm.Cond.instanceMethod ({ cls := "SumHouseModel", name := "sumOf", desc := "(LSumHouseModel$Thing;III)I" } : Jvm.MethodName)) ∈ lw_all := lw_g (lw_at lw_m11 37 rfl) rfl
theorem q2624 : (Jvm.Cond.code ({ cls := "SumHouseModel", name := "sumOf", desc := "(LSumHouseModel$Thing;III)I" } : Jvm.MethodName) prog_12_method_128_code (8 : Nat) (Option.some Jvm.ClassFile.FieldType.int)) ∈ lw_all := lw_g (lw_at lw_m11 38 rfl) rfl
theorem q2626 : (Jvm.Cond.instanceMethod ({ cls := "SumHouseModel", name := "form", desc := "(III)I" } : Jvm.MethodName)) ∈ lw_all := lw_g (lw_at lw_m11 40 rfl) rfl
theorem q2627 : (Jvm.Cond.selects "SumHouseModel" ({ cls := "SumHouseModel", name := "form", desc := "(III)I" } : Jvm.MethodName) ({ cls := "SumHouseModel", name := "form", desc := "(III)I" } : Jvm.MethodName)) ∈ lw_all := lw_g (lw_at lw_m11 41 rfl) rfl
theorem q2628 : (Jvm.Cond.code ({ cls := "SumHouseModel", name := "form", desc := "(III)I" } : Jvm.MethodName) prog_12_method_131_code (10 : Nat) (Option.some Jvm.ClassFile.FieldType.int)) ∈ lw_all := lw_g (lw_at lw_m11 42 rfl) rfl
theorem q2629 : (Jvm.Cond.methodLink "SumHouseModel" (712 : Nat) ({ cls := "SumHouseModel", name := "form", desc := "(LSumHouseModel$B;LSumHouseModel$B;)Z" } : Jvm.MethodName)) ∈ lw_all := lw_g (lw_at lw_m11 43 rfl) rfl
theorem q2630 : (Jvm.Cond.privateMethod ({ cls := "SumHouseModel", name := "form", desc := "(LSumHouseModel$B;LSumHouseModel$B;)Z" } : Jvm.MethodName)) ∈ lw_tbl := lw_at lw_m11 44 rfl
theorem q2631 : (Jvm.Cond.instanceMethod ({ cls := "SumHouseModel", name := "form", desc := "(LSumHouseModel$B;LSumHouseModel$B;)Z" } : Jvm.MethodName)) ∈ lw_all := lw_g (lw_at lw_m11 45 rfl) rfl
theorem q2632 : (Jvm.Cond.code ({ cls := "SumHouseModel", name := "form", desc := "(LSumHouseModel$B;LSumHouseModel$B;)Z" } : Jvm.MethodName) prog_12_method_130_code (15 : Nat) (Option.some Jvm.ClassFile.FieldType.boolean)) ∈ lw_all := lw_g (lw_at lw_m11 46 rfl) rfl
theorem q2634 : (Jvm.Cond.instanceMethod ({ cls := "SumHouseModel", name := "close", desc := "(II)I" } : Jvm.MethodName)) ∈ lw_all := lw_g (lw_at lw_m11 48 rfl) rfl
theorem q2635 : (Jvm.Cond.selects "SumHouseModel" ({ cls := "SumHouseModel", name := "close", desc := "(II)I" } : Jvm.MethodName) ({ cls := "SumHouseModel", name := "close", desc := "(II)I" } : Jvm.MethodName)) ∈ lw_all := lw_g (lw_at lw_m11 49 rfl) rfl
theorem q2636 : (Jvm.Cond.code ({ cls := "SumHouseModel", name := "close", desc := "(II)I" } : Jvm.MethodName) prog_12_method_139_code (11 : Nat) (Option.some Jvm.ClassFile.FieldType.int)) ∈ lw_all := lw_g (lw_at lw_m11 50 rfl) rfl
theorem q2637 : (Jvm.Cond.methodLink "SumHouseModel" (728 : Nat) ({ cls := "SumHouseModel", name := "depth", desc := "(I)I" } : Jvm.MethodName)) ∈ lw_all := lw_g (lw_at lw_m11 51 rfl) rfl
theorem q2638 : (Jvm.Cond.privateMethod ({ cls := "SumHouseModel", name := "depth", desc := "(I)I" } : Jvm.MethodName)) ∈ lw_tbl := lw_at lw_m11 52 rfl
theorem q2639 : (Jvm.Cond.instanceMethod ({ cls := "SumHouseModel", name := "depth", desc := "(I)I" } : Jvm.MethodName)) ∈ lw_all := lw_g (lw_at lw_m11 53 rfl) rfl
theorem q2640 : (Jvm.Cond.code ({ cls := "SumHouseModel", name := "depth", desc := "(I)I" } : Jvm.MethodName) prog_12_method_133_code (12 : Nat) (Option.some Jvm.ClassFile.FieldType.int)) ∈ lw_all := lw_g (lw_at lw_m11 54 rfl) rfl
theorem q2641 : (Jvm.Cond.methodLink "SumHouseModel" (716 : Nat) ({ cls := "SumHouseModel", name := "areSame", desc := "(LSumHouseModel$U;LSumHouseModel$U;)Z" } : Jvm.MethodName)) ∈ lw_all := lw_g (lw_at lw_m11 55 rfl) rfl
theorem q2642 : (Jvm.Cond.static ({ cls := "SumHouseModel", name := "areSame", desc := "(LSumHouseModel$U;LSumHouseModel$U;)Z" } : Jvm.MethodName)) ∈ lw_all := lw_g (lw_at lw_m11 56 rfl) rfl
theorem q2643 : (Jvm.Cond.code ({ cls := "SumHouseModel", name := "areSame", desc := "(LSumHouseModel$U;LSumHouseModel$U;)Z" } : Jvm.MethodName) prog_12_method_132_code (4 : Nat) (Option.some Jvm.ClassFile.FieldType.boolean)) ∈ lw_all := lw_g (lw_at lw_m11 57 rfl) rfl
theorem q2644 : (Jvm.Cond.constant "SumHouseModel" (720 : Nat) (2147483646 : Int32)) ∈ lw_all := lw_g (lw_at lw_m11 58 rfl) rfl
theorem q2645 : (Jvm.Cond.methodLink "SumHouseModel" (731 : Nat) ({ cls := "SumHouseModel", name := "lay", desc := "(I[LSumHouseModel$B;I)I" } : Jvm.MethodName)) ∈ lw_all := lw_g (lw_at lw_m11 59 rfl) rfl
theorem q2646 : (Jvm.Cond.privateMethod ({ cls := "SumHouseModel", name := "lay", desc := "(I[LSumHouseModel$B;I)I" } : Jvm.MethodName)) ∈ lw_tbl := lw_at lw_m11 60 rfl
theorem q2647 : (Jvm.Cond.instanceMethod ({ cls := "SumHouseModel", name := "lay", desc := "(I[LSumHouseModel$B;I)I" } : Jvm.MethodName)) ∈ lw_all := lw_g (lw_at lw_m11 61 rfl) rfl
theorem q2648 : (Jvm.Cond.code ({ cls := "SumHouseModel", name := "lay", desc := "(I[LSumHouseModel$B;I)I" } : Jvm.MethodName) prog_12_method_135_code (13 : Nat) (Option.some Jvm.ClassFile.FieldType.int)) ∈ lw_all := lw_g (lw_at lw_m11 62 rfl) rfl
theorem q2649 : (Jvm.Cond.methodLink "SumHouseModel" (724 : Nat) ({ cls := "SumHouseModel", name := "column", desc := "(ILSumHouseModel$B;Z)V" } : Jvm.MethodName)) ∈ lw_all := lw_g (lw_at lw_m11 63 rfl) rfl
theorem q2650 : (Jvm.Cond.privateMethod ({ cls := "SumHouseModel", name := "column", desc := "(ILSumHouseModel$B;Z)V" } : Jvm.MethodName)) ∈ lw_tbl := lw_at lw_m11 64 rfl
theorem q2651 : (Jvm.Cond.instanceMethod ({ cls := "SumHouseModel", name := "column", desc := "(ILSumHouseModel$B;Z)V" } : Jvm.MethodName)) ∈ lw_all := lw_g (lw_at lw_m11 65 rfl) rfl
theorem q2652 : (Jvm.Cond.code ({ cls := "SumHouseModel", name := "column", desc := "(ILSumHouseModel$B;Z)V" } : Jvm.MethodName) prog_12_method_134_code (6 : Nat) (Option.none : Option Jvm.ClassFile.FieldType)) ∈ lw_all := lw_g (lw_at lw_m11 66 rfl) rfl
theorem q2653 : (Jvm.Cond.methodLink "SumHouseModel" (735 : Nat) ({ cls := "SumHouseModel", name := "clear", desc := "(I)LSumHouseModel$U;" } : Jvm.MethodName)) ∈ lw_all := lw_g (lw_at lw_m11 67 rfl) rfl
theorem q2654 : (Jvm.Cond.privateMethod ({ cls := "SumHouseModel", name := "clear", desc := "(I)LSumHouseModel$U;" } : Jvm.MethodName)) ∈ lw_tbl := lw_at lw_m11 68 rfl
theorem q2655 : (Jvm.Cond.instanceMethod ({ cls := "SumHouseModel", name := "clear", desc := "(I)LSumHouseModel$U;" } : Jvm.MethodName)) ∈ lw_all := lw_g (lw_at lw_m11 69 rfl) rfl
theorem q2656 : (Jvm.Cond.code ({ cls := "SumHouseModel", name := "clear", desc := "(I)LSumHouseModel$U;" } : Jvm.MethodName) prog_12_method_136_code (14 : Nat) (Option.some (Jvm.ClassFile.FieldType.object "SumHouseModel$U"))) ∈ lw_all := lw_g (lw_at lw_m11 70 rfl) rfl
theorem q2657 : (Jvm.Cond.methodLink "SumHouseModel" (739 : Nat) ({ cls := "SumHouseModel", name := "solveBy", desc := "(IILSumHouseModel$U;)V" } : Jvm.MethodName)) ∈ lw_all := lw_g (lw_at lw_m11 71 rfl) rfl
theorem q2658 : (Jvm.Cond.privateMethod ({ cls := "SumHouseModel", name := "solveBy", desc := "(IILSumHouseModel$U;)V" } : Jvm.MethodName)) ∈ lw_tbl := lw_at lw_m11 72 rfl
theorem q2659 : (Jvm.Cond.instanceMethod ({ cls := "SumHouseModel", name := "solveBy", desc := "(IILSumHouseModel$U;)V" } : Jvm.MethodName)) ∈ lw_all := lw_g (lw_at lw_m11 73 rfl) rfl
theorem q2660 : (Jvm.Cond.code ({ cls := "SumHouseModel", name := "solveBy", desc := "(IILSumHouseModel$U;)V" } : Jvm.MethodName) prog_12_method_137_code (5 : Nat) (Option.none : Option Jvm.ClassFile.FieldType)) ∈ lw_all := lw_g (lw_at lw_m11 74 rfl) rfl
theorem q2661 : (Jvm.Cond.methodLink "SumHouseModel" (743 : Nat) ({ cls := "SumHouseModel", name := "certificate", desc := "(LSumHouseModel$B;LSumHouseModel$B;ILSumHouseModel$U;LSumHouseModel$U;LSumHouseModel$B;)Z" } : Jvm.MethodName)) ∈ lw_all := lw_g (lw_at lw_m11 75 rfl) rfl
theorem q2662 : (Jvm.Cond.privateMethod ({ cls := "SumHouseModel", name := "certificate", desc := "(LSumHouseModel$B;LSumHouseModel$B;ILSumHouseModel$U;LSumHouseModel$U;LSumHouseModel$B;)Z" } : Jvm.MethodName)) ∈ lw_tbl := lw_at lw_m11 76 rfl
theorem q2663 : (Jvm.Cond.instanceMethod ({ cls := "SumHouseModel", name := "certificate", desc := "(LSumHouseModel$B;LSumHouseModel$B;ILSumHouseModel$U;LSumHouseModel$U;LSumHouseModel$B;)Z" } : Jvm.MethodName)) ∈ lw_all := lw_g (lw_at lw_m11 77 rfl) rfl
theorem q2664 : (Jvm.Cond.code ({ cls := "SumHouseModel", name := "certificate", desc := "(LSumHouseModel$B;LSumHouseModel$B;ILSumHouseModel$U;LSumHouseModel$U;LSumHouseModel$B;)Z" } : Jvm.MethodName) prog_12_method_138_code (15 : Nat) (Option.some Jvm.ClassFile.FieldType.boolean)) ∈ lw_all := lw_g (lw_at lw_m11 78 rfl) rfl
theorem q2666 : (Jvm.Cond.instanceMethod ({ cls := "SumHouseModel", name := "recur", desc := "(III)I" } : Jvm.MethodName)) ∈ lw_all := lw_g (lw_at lw_m11 80 rfl) rfl
theorem q2667 : (Jvm.Cond.selects "SumHouseModel" ({ cls := "SumHouseModel", name := "recur", desc := "(III)I" } : Jvm.MethodName) ({ cls := "SumHouseModel", name := "recur", desc := "(III)I" } : Jvm.MethodName)) ∈ lw_all := lw_g (lw_at lw_m11 81 rfl) rfl
theorem q2668 : (Jvm.Cond.code ({ cls := "SumHouseModel", name := "recur", desc := "(III)I" } : Jvm.MethodName) prog_12_method_140_code (14 : Nat) (Option.some Jvm.ClassFile.FieldType.int)) ∈ lw_all := lw_g (lw_at lw_m11 82 rfl) rfl
theorem q2669 : (Jvm.Cond.methodLink "SumHouseModel" (747 : Nat) ({ cls := "SumHouseModel", name := "recurAt", desc := "(ILSumHouseModel$B;LSumHouseModel$B;LSumHouseModel$B;)I" } : Jvm.MethodName)) ∈ lw_all := lw_g (lw_at lw_m11 83 rfl) rfl
theorem q2670 : (Jvm.Cond.privateMethod ({ cls := "SumHouseModel", name := "recurAt", desc := "(ILSumHouseModel$B;LSumHouseModel$B;LSumHouseModel$B;)I" } : Jvm.MethodName)) ∈ lw_tbl := lw_at lw_m11 84 rfl
theorem q2671 : (Jvm.Cond.instanceMethod ({ cls := "SumHouseModel", name := "recurAt", desc := "(ILSumHouseModel$B;LSumHouseModel$B;LSumHouseModel$B;)I" } : Jvm.MethodName)) ∈ lw_all := lw_g (lw_at lw_m11 85 rfl) rfl
theorem q2672 : (Jvm.Cond.code ({ cls := "SumHouseModel", name := "recurAt", desc := "(ILSumHouseModel$B;LSumHouseModel$B;LSumHouseModel$B;)I" } : Jvm.MethodName) prog_12_method_142_code (15 : Nat) (Option.some Jvm.ClassFile.FieldType.int)) ∈ lw_all := lw_g (lw_at lw_m11 86 rfl) rfl
theorem q2673 : (Jvm.Cond.methodLink "SumHouseModel" (754 : Nat) ({ cls := "SumHouseModel", name := "part", desc := "(LSumHouseModel$B;LSumHouseModel$U;ILSumHouseModel$B;)Z" } : Jvm.MethodName)) ∈ lw_all := lw_g (lw_at lw_m11 87 rfl) rfl
theorem q2674 : (Jvm.Cond.privateMethod ({ cls := "SumHouseModel", name := "part", desc := "(LSumHouseModel$B;LSumHouseModel$U;ILSumHouseModel$B;)Z" } : Jvm.MethodName)) ∈ lw_tbl := lw_at lw_m11 88 rfl
theorem q2675 : (Jvm.Cond.instanceMethod ({ cls := "SumHouseModel", name := "part", desc := "(LSumHouseModel$B;LSumHouseModel$U;ILSumHouseModel$B;)Z" } : Jvm.MethodName)) ∈ lw_all := lw_g (lw_at lw_m11 89 rfl) rfl
theorem q2676 : (Jvm.Cond.code ({ cls := "SumHouseModel", name := "part", desc := "(LSumHouseModel$B;LSumHouseModel$U;ILSumHouseModel$B;)Z" } : Jvm.MethodName) prog_12_method_143_code (13 : Nat) (Option.some Jvm.ClassFile.FieldType.boolean)) ∈ lw_all := lw_g (lw_at lw_m11 90 rfl) rfl
theorem q2677 : (Jvm.Cond.methodLink "SumHouseModel" (758 : Nat) ({ cls := "SumHouseModel", name := "makeRecord", desc := "(IILSumHouseModel$B;)Z" } : Jvm.MethodName)) ∈ lw_all := lw_g (lw_at lw_m11 91 rfl) rfl
theorem q2678 : (Jvm.Cond.privateMethod ({ cls := "SumHouseModel", name := "makeRecord", desc := "(IILSumHouseModel$B;)Z" } : Jvm.MethodName)) ∈ lw_tbl := lw_at lw_m11 92 rfl
theorem q2679 : (Jvm.Cond.instanceMethod ({ cls := "SumHouseModel", name := "makeRecord", desc := "(IILSumHouseModel$B;)Z" } : Jvm.MethodName)) ∈ lw_all := lw_g (lw_at lw_m11 93 rfl) rfl
theorem q2680 : (Jvm.Cond.code ({ cls := "SumHouseModel", name := "makeRecord", desc := "(IILSumHouseModel$B;)Z" } : Jvm.MethodName) prog_12_method_144_code (11 : Nat) (Option.some Jvm.ClassFile.FieldType.boolean)) ∈ lw_all := lw_g (lw_at lw_m11 94 rfl) rfl
theorem q2681 : (Jvm.Cond.methodLink "SumHouseModel" (762 : Nat) ({ cls := "SumHouseModel", name := "store", desc := "([IILSumHouseModel$U;)V" } : Jvm.MethodName)) ∈ lw_all := lw_g (lw_at lw_m11 95 rfl) rfl
theorem q2682 : (Jvm.Cond.static ({ cls := "SumHouseModel", name := "store", desc := "([IILSumHouseModel$U;)V" } : Jvm.MethodName)) ∈ lw_all := lw_g (lw_at lw_m11 96 rfl) rfl
theorem q2683 : (Jvm.Cond.code ({ cls := "SumHouseModel", name := "store", desc := "([IILSumHouseModel$U;)V" } : Jvm.MethodName) prog_12_method_48_code (4 : Nat) (Option.none : Option Jvm.ClassFile.FieldType)) ∈ lw_all := lw_g (lw_at lw_m11 97 rfl) rfl
theorem q2684 : (Jvm.Cond.methodLink "SumHouseModel" (751 : Nat) ({ cls := "SumHouseModel", name := "keepRecord", desc := "(I)I" } : Jvm.MethodName)) ∈ lw_all := lw_g (lw_at lw_m11 98 rfl) rfl
theorem q2685 : (Jvm.Cond.privateMethod ({ cls := "SumHouseModel", name := "keepRecord", desc := "(I)I" } : Jvm.MethodName)) ∈ lw_tbl := lw_at lw_m11 99 rfl
theorem q2686 : (Jvm.Cond.instanceMethod ({ cls := "SumHouseModel", name := "keepRecord", desc := "(I)I" } : Jvm.MethodName)) ∈ lw_all := lw_g (lw_at lw_m11 100 rfl) rfl
theorem q2687 : (Jvm.Cond.code ({ cls := "SumHouseModel", name := "keepRecord", desc := "(I)I" } : Jvm.MethodName) prog_12_method_141_code (2 : Nat) (Option.some Jvm.ClassFile.FieldType.int)) ∈ lw_all := lw_g (lw_at lw_m11 101 rfl) rfl
theorem q2689 : (Jvm.Cond.instanceMethod ({ cls := "SumHouseModel", name := "part", desc := "(III)I" } : Jvm.MethodName)) ∈ lw_all := lw_g (lw_at lw_m11 103 rfl) rfl
theorem q2690 : (Jvm.Cond.selects "SumHouseModel" ({ cls := "SumHouseModel", name := "part", desc := "(III)I" } : Jvm.MethodName) ({ cls := "SumHouseModel", name := "part", desc := "(III)I" } : Jvm.MethodName)) ∈ lw_all := lw_g (lw_at lw_m11 104 rfl) rfl
theorem q2691 : (Jvm.Cond.code ({ cls := "SumHouseModel", name := "part", desc := "(III)I" } : Jvm.MethodName) prog_12_method_145_code (5 : Nat) (Option.some Jvm.ClassFile.FieldType.int)) ∈ lw_all := lw_g (lw_at lw_m11 105 rfl) rfl
theorem q2693 : (Jvm.Cond.instanceMethod ({ cls := "SumHouseModel", name := "check", desc := "(II)I" } : Jvm.MethodName)) ∈ lw_all := lw_g (lw_at lw_m11 107 rfl) rfl
theorem q2694 : (Jvm.Cond.selects "SumHouseModel" ({ cls := "SumHouseModel", name := "check", desc := "(II)I" } : Jvm.MethodName) ({ cls := "SumHouseModel", name := "check", desc := "(II)I" } : Jvm.MethodName)) ∈ lw_all := lw_g (lw_at lw_m11 108 rfl) rfl
theorem q2695 : (Jvm.Cond.code ({ cls := "SumHouseModel", name := "check", desc := "(II)I" } : Jvm.MethodName) prog_12_method_146_code (13 : Nat) (Option.some Jvm.ClassFile.FieldType.int)) ∈ lw_all := lw_g (lw_at lw_m11 109 rfl) rfl
theorem q2696 : (Jvm.Cond.methodLink "SumHouseModel" (765 : Nat) ({ cls := "SumHouseModel", name := "isRight", desc := "(LSumHouseModel$Thing;IILSumHouseModel$B;LSumHouseModel$B;LSumHouseModel$B;LSumHouseModel$B;)Z" } : Jvm.MethodName)) ∈ lw_all := lw_g (lw_at lw_m11 110 rfl) rfl
theorem q2697 : (Jvm.Cond.privateMethod ({ cls := "SumHouseModel", name := "isRight", desc := "(LSumHouseModel$Thing;IILSumHouseModel$B;LSumHouseModel$B;LSumHouseModel$B;LSumHouseModel$B;)Z" } : Jvm.MethodName)) ∈ lw_tbl := lw_at lw_m11 111 rfl
theorem q2698 : (Jvm.Cond.instanceMethod ({ cls := "SumHouseModel", name := "isRight", desc := "(LSumHouseModel$Thing;IILSumHouseModel$B;LSumHouseModel$B;LSumHouseModel$B;LSumHouseModel$B;)Z" } : Jvm.MethodName)) ∈ lw_all := lw_g (lw_at lw_m11 112 rfl) rfl
theorem q2699 : (Jvm.Cond.code ({ cls := "SumHouseModel", name := "isRight", desc := "(LSumHouseModel$Thing;IILSumHouseModel$B;LSumHouseModel$B;LSumHouseModel$B;LSumHouseModel$B;)Z" } : Jvm.MethodName) prog_12_method_147_code (14 : Nat) (Option.some Jvm.ClassFile.FieldType.boolean)) ∈ lw_all := lw_g (lw_at lw_m11 113 rfl) rfl
theorem q2700 : (Jvm.Cond.methodLink "SumHouseModel" (769 : Nat) ({ cls := "SumHouseModel", name := "eval", desc := "(LSumHouseModel$B;II)I" } : Jvm.MethodName)) ∈ lw_all := lw_g (lw_at lw_m11 114 rfl) rfl
theorem q2701 : (Jvm.Cond.static ({ cls := "SumHouseModel", name := "eval", desc := "(LSumHouseModel$B;II)I" } : Jvm.MethodName)) ∈ lw_all := lw_g (lw_at lw_m11 115 rfl) rfl
theorem q2702 : (Jvm.Cond.code ({ cls := "SumHouseModel", name := "eval", desc := "(LSumHouseModel$B;II)I" } : Jvm.MethodName) prog_12_method_33_code (6 : Nat) (Option.some Jvm.ClassFile.FieldType.int)) ∈ lw_all := lw_g (lw_at lw_m11 116 rfl) rfl
theorem q2703 : (Jvm.Cond.methodLink "SumHouseModel" (772 : Nat) ({ cls := "SumHouseModel", name := "polynomialAt", desc := "([III)I" } : Jvm.MethodName)) ∈ lw_all := lw_g (lw_at lw_m11 117 rfl) rfl
theorem q2704 : (Jvm.Cond.static ({ cls := "SumHouseModel", name := "polynomialAt", desc := "([III)I" } : Jvm.MethodName)) ∈ lw_all := lw_g (lw_at lw_m11 118 rfl) rfl
theorem q2705 : (Jvm.Cond.code ({ cls := "SumHouseModel", name := "polynomialAt", desc := "([III)I" } : Jvm.MethodName) prog_12_method_148_code (6 : Nat) (Option.some Jvm.ClassFile.FieldType.int)) ∈ lw_all := lw_g (lw_at lw_m11 119 rfl) rfl
theorem q2707 : (Jvm.Cond.instanceMethod ({ cls := "SumHouseModel", name := "poke", desc := "(IIIII)I" } : Jvm.MethodName)) ∈ lw_all := lw_g (lw_at lw_m11 121 rfl) rfl
theorem q2708 : (Jvm.Cond.selects "SumHouseModel" ({ cls := "SumHouseModel", name := "poke", desc := "(IIIII)I" } : Jvm.MethodName) ({ cls := "SumHouseModel", name := "poke", desc := "(IIIII)I" } : Jvm.MethodName)) ∈ lw_all := lw_g (lw_at lw_m11 122 rfl) rfl
theorem q2709 : (Jvm.Cond.code ({ cls := "SumHouseModel", name := "poke", desc := "(IIIII)I" } : Jvm.MethodName) prog_12_method_149_code (13 : Nat) (Option.some Jvm.ClassFile.FieldType.int)) ∈ lw_all := lw_g (lw_at lw_m11 123 rfl) rfl
theorem q2711 : (Jvm.Cond.instanceMethod ({ cls := "SumHouseModel", name := "holds", desc := "(IIIII)I" } : Jvm.MethodName)) ∈ lw_all := lw_g (lw_at lw_m11 125 rfl) rfl
theorem q2712 : (Jvm.Cond.selects "SumHouseModel" ({ cls := "SumHouseModel", name := "holds", desc := "(IIIII)I" } : Jvm.MethodName) ({ cls := "SumHouseModel", name := "holds", desc := "(IIIII)I" } : Jvm.MethodName)) ∈ lw_all := lw_g (lw_at lw_m11 126 rfl) rfl
theorem q2713 : (Jvm.Cond.code ({ cls := "SumHouseModel", name := "holds", desc := "(IIIII)I" } : Jvm.MethodName) prog_12_method_150_code (13 : Nat) (Option.some Jvm.ClassFile.FieldType.int)) ∈ lw_all := lw_g (lw_at lw_m11 127 rfl) rfl
theorem q2715 : (Jvm.Cond.instanceMethod ({ cls := "SumHouseModel", name := "row", desc := "(II)I" } : Jvm.MethodName)) ∈ lw_all := lw_g (lw_at lw_m11 129 rfl) rfl
theorem q2716 : (Jvm.Cond.selects "SumHouseModel" ({ cls := "SumHouseModel", name := "row", desc := "(II)I" } : Jvm.MethodName) ({ cls := "SumHouseModel", name := "row", desc := "(II)I" } : Jvm.MethodName)) ∈ lw_all := lw_g (lw_at lw_m11 130 rfl) rfl
theorem q2717 : (Jvm.Cond.code ({ cls := "SumHouseModel", name := "row", desc := "(II)I" } : Jvm.MethodName) prog_12_method_154_code (5 : Nat) (Option.some Jvm.ClassFile.FieldType.int)) ∈ lw_all := lw_g (lw_at lw_m11 131 rfl) rfl
theorem q2718 : (Jvm.Cond.methodLink "SumHouseModel" (775 : Nat) ({ cls := "SumHouseModel", name := "load", desc := "(LSumHouseModel$U;[II)V" } : Jvm.MethodName)) ∈ lw_all := lw_g (lw_at lw_m11 132 rfl) rfl
theorem q2719 : (Jvm.Cond.static ({ cls := "SumHouseModel", name := "load", desc := "(LSumHouseModel$U;[II)V" } : Jvm.MethodName)) ∈ lw_all := lw_g (lw_at lw_m11 133 rfl) rfl
theorem q2720 : (Jvm.Cond.code ({ cls := "SumHouseModel", name := "load", desc := "(LSumHouseModel$U;[II)V" } : Jvm.MethodName) prog_12_method_47_code (3 : Nat) (Option.none : Option Jvm.ClassFile.FieldType)) ∈ lw_all := lw_g (lw_at lw_m11 134 rfl) rfl
theorem q2721 : (Jvm.Cond.methodLink "SumHouseModel" (777 : Nat) ({ cls := "SumHouseModel", name := "makeRow", desc := "([LSumHouseModel$U;I)Z" } : Jvm.MethodName)) ∈ lw_all := lw_g (lw_at lw_m11 135 rfl) rfl
theorem q2722 : (Jvm.Cond.privateMethod ({ cls := "SumHouseModel", name := "makeRow", desc := "([LSumHouseModel$U;I)Z" } : Jvm.MethodName)) ∈ lw_tbl := lw_at lw_m11 136 rfl
theorem q2723 : (Jvm.Cond.instanceMethod ({ cls := "SumHouseModel", name := "makeRow", desc := "([LSumHouseModel$U;I)Z" } : Jvm.MethodName)) ∈ lw_all := lw_g (lw_at lw_m11 137 rfl) rfl
theorem q2724 : (Jvm.Cond.code ({ cls := "SumHouseModel", name := "makeRow", desc := "([LSumHouseModel$U;I)Z" } : Jvm.MethodName) prog_12_method_152_code (7 : Nat) (Option.some Jvm.ClassFile.FieldType.boolean)) ∈ lw_all := lw_g (lw_at lw_m11 138 rfl) rfl
theorem q2725 : (Jvm.Cond.methodLink "SumHouseModel" (781 : Nat) ({ cls := "SumHouseModel", name := "needsOf", desc := "([III)I" } : Jvm.MethodName)) ∈ lw_all := lw_g (lw_at lw_m11 139 rfl) rfl
theorem q2726 : (Jvm.Cond.static ({ cls := "SumHouseModel", name := "needsOf", desc := "([III)I" } : Jvm.MethodName)) ∈ lw_all := lw_g (lw_at lw_m11 140 rfl) rfl
theorem q2727 : (Jvm.Cond.code ({ cls := "SumHouseModel", name := "needsOf", desc := "([III)I" } : Jvm.MethodName) prog_12_method_151_code (5 : Nat) (Option.some Jvm.ClassFile.FieldType.int)) ∈ lw_all := lw_g (lw_at lw_m11 141 rfl) rfl
theorem q2729 : (Jvm.Cond.instanceMethod ({ cls := "SumHouseModel", name := "first", desc := "(II)I" } : Jvm.MethodName)) ∈ lw_all := lw_g (lw_at lw_m11 143 rfl) rfl
theorem q2730 : (Jvm.Cond.selects "SumHouseModel" ({ cls := "SumHouseModel", name := "first", desc := "(II)I" } : Jvm.MethodName) ({ cls := "SumHouseModel", name := "first", desc := "(II)I" } : Jvm.MethodName)) ∈ lw_all := lw_g (lw_at lw_m11 144 rfl) rfl
theorem q2731 : (Jvm.Cond.code ({ cls := "SumHouseModel", name := "first", desc := "(II)I" } : Jvm.MethodName) prog_12_method_155_code (4 : Nat) (Option.some Jvm.ClassFile.FieldType.int)) ∈ lw_all := lw_g (lw_at lw_m11 145 rfl) rfl
theorem q2732 : (Jvm.Cond.methodLink "SumHouseModel" (784 : Nat) ({ cls := "SumHouseModel", name := "fill", desc := "(LSumHouseModel$Thing;)V" } : Jvm.MethodName)) ∈ lw_all := lw_g (lw_at lw_m11 146 rfl) rfl
theorem q2733 : (Jvm.Cond.static ({ cls := "SumHouseModel", name := "fill", desc := "(LSumHouseModel$Thing;)V" } : Jvm.MethodName)) ∈ lw_all := lw_g (lw_at lw_m11 147 rfl) rfl
theorem q2734 : (Jvm.Cond.code ({ cls := "SumHouseModel", name := "fill", desc := "(LSumHouseModel$Thing;)V" } : Jvm.MethodName) prog_12_method_153_code (5 : Nat) (Option.none : Option Jvm.ClassFile.FieldType)) ∈ lw_all := lw_g (lw_at lw_m11 148 rfl) rfl
theorem q2736 : (Jvm.Cond.instanceMethod ({ cls := "SumHouseModel", name := "at", desc := "(II)I" } : Jvm.MethodName)) ∈ lw_all := lw_g (lw_at lw_m11 150 rfl) rfl
theorem q2737 : (Jvm.Cond.selects "SumHouseModel" ({ cls := "SumHouseModel", name := "at", desc := "(II)I" } : Jvm.MethodName) ({ cls := "SumHouseModel", name := "at", desc := "(II)I" } : Jvm.MethodName)) ∈ lw_all := lw_g (lw_at lw_m11 151 rfl) rfl
theorem q2738 : (Jvm.Cond.code ({ cls := "SumHouseModel", name := "at", desc := "(II)I" } : Jvm.MethodName) prog_12_method_156_code (4 : Nat) (Option.some Jvm.ClassFile.FieldType.int)) ∈ lw_all := lw_g (lw_at lw_m11 152 rfl) rfl
theorem q2740 : (Jvm.Cond.instanceMethod ({ cls := "SumHouseModel", name := "join", desc := "(IIII)I" } : Jvm.MethodName)) ∈ lw_all := lw_g (lw_at lw_m11 154 rfl) rfl
theorem q2741 : (Jvm.Cond.selects "SumHouseModel" ({ cls := "SumHouseModel", name := "join", desc := "(IIII)I" } : Jvm.MethodName) ({ cls := "SumHouseModel", name := "join", desc := "(IIII)I" } : Jvm.MethodName)) ∈ lw_all := lw_g (lw_at lw_m11 155 rfl) rfl
theorem q2742 : (Jvm.Cond.code ({ cls := "SumHouseModel", name := "join", desc := "(IIII)I" } : Jvm.MethodName) prog_12_method_160_code (14 : Nat) (Option.some Jvm.ClassFile.FieldType.int)) ∈ lw_all := lw_g (lw_at lw_m11 156 rfl) rfl
theorem q2743 : (Jvm.Cond.methodLink "SumHouseModel" (791 : Nat) ({ cls := "SumHouseModel", name := "simple", desc := "(LSumHouseModel$Thing;Z)V" } : Jvm.MethodName)) ∈ lw_all := lw_g (lw_at lw_m11 157 rfl) rfl
theorem q2744 : (Jvm.Cond.privateMethod ({ cls := "SumHouseModel", name := "simple", desc := "(LSumHouseModel$Thing;Z)V" } : Jvm.MethodName)) ∈ lw_tbl := lw_at lw_m11 158 rfl
theorem q2745 : (Jvm.Cond.instanceMethod ({ cls := "SumHouseModel", name := "simple", desc := "(LSumHouseModel$Thing;Z)V" } : Jvm.MethodName)) ∈ lw_all := lw_g (lw_at lw_m11 159 rfl) rfl
theorem q2746 : (Jvm.Cond.code ({ cls := "SumHouseModel", name := "simple", desc := "(LSumHouseModel$Thing;Z)V" } : Jvm.MethodName) prog_12_method_161_code (6 : Nat) (Option.none : Option Jvm.ClassFile.FieldType)) ∈ lw_all := lw_g (lw_at lw_m11 160 rfl) rfl
theorem q2747 : (Jvm.Cond.methodLink "SumHouseModel" (795 : Nat) ({ cls := "SumHouseModel", name := "degreeOf", desc := "(LSumHouseModel$Thing;)I" } : Jvm.MethodName)) ∈ lw_all := lw_g (lw_at lw_m11 161 rfl) rfl
theorem q2748 : (Jvm.Cond.static ({ cls := "SumHouseModel", name := "degreeOf", desc := "(LSumHouseModel$Thing;)I" } : Jvm.MethodName)) ∈ lw_all := lw_g (lw_at lw_m11 162 rfl) rfl
theorem q2749 : (Jvm.Cond.code ({ cls := "SumHouseModel", name := "degreeOf", desc := "(LSumHouseModel$Thing;)I" } : Jvm.MethodName) prog_12_method_157_code (4 : Nat) (Option.some Jvm.ClassFile.FieldType.int)) ∈ lw_all := lw_g (lw_at lw_m11 163 rfl) rfl
theorem q2750 : (Jvm.Cond.methodLink "SumHouseModel" (798 : Nat) ({ cls := "SumHouseModel", name := "combine", desc := "(ILSumHouseModel$Thing;LSumHouseModel$Thing;I)I" } : Jvm.MethodName)) ∈ lw_all := lw_g (lw_at lw_m11 164 rfl) rfl
theorem q2751 : (Jvm.Cond.privateMethod ({ cls := "SumHouseModel", name := "combine", desc := "(ILSumHouseModel$Thing;LSumHouseModel$Thing;I)I" } : Jvm.MethodName)) ∈ lw_tbl := lw_at lw_m11 165 rfl
theorem q2752 : (Jvm.Cond.instanceMethod ({ cls := "SumHouseModel", name := "combine", desc := "(ILSumHouseModel$Thing;LSumHouseModel$Thing;I)I" } : Jvm.MethodName)) ∈ lw_all := lw_g (lw_at lw_m11 166 rfl) rfl
theorem q2753 : (Jvm.Cond.code ({ cls := "SumHouseModel", name := "combine", desc := "(ILSumHouseModel$Thing;LSumHouseModel$Thing;I)I" } : Jvm.MethodName) prog_12_method_162_code (11 : Nat) (Option.some Jvm.ClassFile.FieldType.int)) ∈ lw_all := lw_g (lw_at lw_m11 167 rfl) rfl
theorem q2754 : (Jvm.Cond.methodLink "SumHouseModel" (802 : Nat) ({ cls := "SumHouseModel", name := "unroll", desc := "(LSumHouseModel$Thing;[[LSumHouseModel$U;[LSumHouseModel$U;)V" } : Jvm.MethodName)) ∈ lw_all := lw_g (lw_at lw_m11 168 rfl) rfl
theorem q2755 : (Jvm.Cond.privateMethod ({ cls := "SumHouseModel", name := "unroll", desc := "(LSumHouseModel$Thing;[[LSumHouseModel$U;[LSumHouseModel$U;)V" } : Jvm.MethodName)) ∈ lw_tbl := lw_at lw_m11 169 rfl
theorem q2756 : (Jvm.Cond.instanceMethod ({ cls := "SumHouseModel", name := "unroll", desc := "(LSumHouseModel$Thing;[[LSumHouseModel$U;[LSumHouseModel$U;)V" } : Jvm.MethodName)) ∈ lw_all := lw_g (lw_at lw_m11 170 rfl) rfl
theorem q2757 : (Jvm.Cond.code ({ cls := "SumHouseModel", name := "unroll", desc := "(LSumHouseModel$Thing;[[LSumHouseModel$U;[LSumHouseModel$U;)V" } : Jvm.MethodName) prog_12_method_158_code (12 : Nat) (Option.none : Option Jvm.ClassFile.FieldType)) ∈ lw_all := lw_g (lw_at lw_m11 171 rfl) rfl
theorem q2758 : (Jvm.Cond.methodLink "SumHouseModel" (787 : Nat) ({ cls := "SumHouseModel", name := "lighten", desc := "([LSumHouseModel$U;LSumHouseModel$U;I)V" } : Jvm.MethodName)) ∈ lw_all := lw_g (lw_at lw_m11 172 rfl) rfl
theorem q2759 : (Jvm.Cond.privateMethod ({ cls := "SumHouseModel", name := "lighten", desc := "([LSumHouseModel$U;LSumHouseModel$U;I)V" } : Jvm.MethodName)) ∈ lw_tbl := lw_at lw_m11 173 rfl
theorem q2760 : (Jvm.Cond.instanceMethod ({ cls := "SumHouseModel", name := "lighten", desc := "([LSumHouseModel$U;LSumHouseModel$U;I)V" } : Jvm.MethodName)) ∈ lw_all := lw_g (lw_at lw_m11 174 rfl) rfl
theorem q2761 : (Jvm.Cond.code ({ cls := "SumHouseModel", name := "lighten", desc := "([LSumHouseModel$U;LSumHouseModel$U;I)V" } : Jvm.MethodName) prog_12_method_159_code (6 : Nat) (Option.none : Option Jvm.ClassFile.FieldType)) ∈ lw_all := lw_g (lw_at lw_m11 175 rfl) rfl
theorem q2763 : (Jvm.Cond.instanceMethod ({ cls := "SumHouseModel", name := "feed", desc := "(I)I" } : Jvm.MethodName)) ∈ lw_all := lw_g (lw_at lw_m11 177 rfl) rfl
theorem q2764 : (Jvm.Cond.selects "SumHouseModel" ({ cls := "SumHouseModel", name := "feed", desc := "(I)I" } : Jvm.MethodName) ({ cls := "SumHouseModel", name := "feed", desc := "(I)I" } : Jvm.MethodName)) ∈ lw_all := lw_g (lw_at lw_m11 178 rfl) rfl
theorem q2765 : (Jvm.Cond.code ({ cls := "SumHouseModel", name := "feed", desc := "(I)I" } : Jvm.MethodName) prog_12_method_163_code (2 : Nat) (Option.some Jvm.ClassFile.FieldType.int)) ∈ lw_all := lw_g (lw_at lw_m11 179 rfl) rfl
theorem q2767 : (Jvm.Cond.instanceMethod ({ cls := "SumHouseModel", name := "clear", desc := "()I" } : Jvm.MethodName)) ∈ lw_all := lw_g (lw_at lw_m11 181 rfl) rfl
theorem q2768 : (Jvm.Cond.selects "SumHouseModel" ({ cls := "SumHouseModel", name := "clear", desc := "()I" } : Jvm.MethodName) ({ cls := "SumHouseModel", name := "clear", desc := "()I" } : Jvm.MethodName)) ∈ lw_all := lw_g (lw_at lw_m11 182 rfl) rfl
theorem q2769 : (Jvm.Cond.code ({ cls := "SumHouseModel", name := "clear", desc := "()I" } : Jvm.MethodName) prog_12_method_164_code (2 : Nat) (Option.some Jvm.ClassFile.FieldType.int)) ∈ lw_all := lw_g (lw_at lw_m11 183 rfl) rfl
theorem q2771 : (Jvm.Cond.instanceMethod ({ cls := "SumHouseModel", name := "guess", desc := "(I)I" } : Jvm.MethodName)) ∈ lw_all := lw_g (lw_at lw_m11 185 rfl) rfl
theorem q2772 : (Jvm.Cond.selects "SumHouseModel" ({ cls := "SumHouseModel", name := "guess", desc := "(I)I" } : Jvm.MethodName) ({ cls := "SumHouseModel", name := "guess", desc := "(I)I" } : Jvm.MethodName)) ∈ lw_all := lw_g (lw_at lw_m11 186 rfl) rfl
theorem q2773 : (Jvm.Cond.code ({ cls := "SumHouseModel", name := "guess", desc := "(I)I" } : Jvm.MethodName) prog_12_method_166_code (4 : Nat) (Option.some Jvm.ClassFile.FieldType.int)) ∈ lw_all := lw_g (lw_at lw_m11 187 rfl) rfl
theorem q2774 : (Jvm.Cond.methodLink "SumHouseModel" (806 : Nat) ({ cls := "SumHouseModel", name := "tries", desc := "(II)Z" } : Jvm.MethodName)) ∈ lw_all := lw_g (lw_at lw_m11 188 rfl) rfl
theorem q2775 : (Jvm.Cond.privateMethod ({ cls := "SumHouseModel", name := "tries", desc := "(II)Z" } : Jvm.MethodName)) ∈ lw_tbl := lw_at lw_m11 189 rfl
theorem q2776 : (Jvm.Cond.instanceMethod ({ cls := "SumHouseModel", name := "tries", desc := "(II)Z" } : Jvm.MethodName)) ∈ lw_all := lw_g (lw_at lw_m11 190 rfl) rfl
theorem q2777 : (Jvm.Cond.code ({ cls := "SumHouseModel", name := "tries", desc := "(II)Z" } : Jvm.MethodName) prog_12_method_165_code (14 : Nat) (Option.some Jvm.ClassFile.FieldType.boolean)) ∈ lw_all := lw_g (lw_at lw_m11 191 rfl) rfl
theorem q2778 : (Jvm.Cond.methodLink "SumHouseModel" (810 : Nat) ({ cls := "SumHouseModel", name := "guessed", desc := "(III)I" } : Jvm.MethodName)) ∈ lw_all := lw_g (lw_at lw_m11 192 rfl) rfl
theorem q2779 : (Jvm.Cond.privateMethod ({ cls := "SumHouseModel", name := "guessed", desc := "(III)I" } : Jvm.MethodName)) ∈ lw_tbl := lw_at lw_m11 193 rfl
theorem q2780 : (Jvm.Cond.instanceMethod ({ cls := "SumHouseModel", name := "guessed", desc := "(III)I" } : Jvm.MethodName)) ∈ lw_all := lw_g (lw_at lw_m11 194 rfl) rfl
theorem q2781 : (Jvm.Cond.code ({ cls := "SumHouseModel", name := "guessed", desc := "(III)I" } : Jvm.MethodName) prog_12_method_167_code (6 : Nat) (Option.some Jvm.ClassFile.FieldType.int)) ∈ lw_all := lw_g (lw_at lw_m11 195 rfl) rfl
theorem q2783 : (Jvm.Cond.instanceMethod ({ cls := "SumHouseModel", name := "roots", desc := "(I)I" } : Jvm.MethodName)) ∈ lw_all := lw_g (lw_at lw_m11 197 rfl) rfl
theorem q2784 : (Jvm.Cond.selects "SumHouseModel" ({ cls := "SumHouseModel", name := "roots", desc := "(I)I" } : Jvm.MethodName) ({ cls := "SumHouseModel", name := "roots", desc := "(I)I" } : Jvm.MethodName)) ∈ lw_all := lw_g (lw_at lw_m11 198 rfl) rfl
theorem q2785 : (Jvm.Cond.code ({ cls := "SumHouseModel", name := "roots", desc := "(I)I" } : Jvm.MethodName) prog_12_method_170_code (11 : Nat) (Option.some Jvm.ClassFile.FieldType.int)) ∈ lw_all := lw_g (lw_at lw_m11 199 rfl) rfl
theorem q2786 : (Jvm.Cond.methodLink "SumHouseModel" (819 : Nat) ({ cls := "SumHouseModel", name := "powerOf", desc := "(LSumHouseModel$U;LSumHouseModel$U;JLSumHouseModel$U;)V" } : Jvm.MethodName)) ∈ lw_all := lw_g (lw_at lw_m11 200 rfl) rfl
theorem q2787 : (Jvm.Cond.privateMethod ({ cls := "SumHouseModel", name := "powerOf", desc := "(LSumHouseModel$U;LSumHouseModel$U;JLSumHouseModel$U;)V" } : Jvm.MethodName)) ∈ lw_tbl := lw_at lw_m11 201 rfl
theorem q2788 : (Jvm.Cond.instanceMethod ({ cls := "SumHouseModel", name := "powerOf", desc := "(LSumHouseModel$U;LSumHouseModel$U;JLSumHouseModel$U;)V" } : Jvm.MethodName)) ∈ lw_all := lw_g (lw_at lw_m11 202 rfl) rfl
theorem q2789 : (Jvm.Cond.code ({ cls := "SumHouseModel", name := "powerOf", desc := "(LSumHouseModel$U;LSumHouseModel$U;JLSumHouseModel$U;)V" } : Jvm.MethodName) prog_12_method_168_code (12 : Nat) (Option.none : Option Jvm.ClassFile.FieldType)) ∈ lw_all := lw_g (lw_at lw_m11 203 rfl) rfl
theorem q2790 : (Jvm.Cond.methodLink "SumHouseModel" (823 : Nat) ({ cls := "SumHouseModel", name := "split", desc := "(LSumHouseModel$U;I)V" } : Jvm.MethodName)) ∈ lw_all := lw_g (lw_at lw_m11 204 rfl) rfl
theorem q2791 : (Jvm.Cond.privateMethod ({ cls := "SumHouseModel", name := "split", desc := "(LSumHouseModel$U;I)V" } : Jvm.MethodName)) ∈ lw_tbl := lw_at lw_m11 205 rfl
theorem q2792 : (Jvm.Cond.instanceMethod ({ cls := "SumHouseModel", name := "split", desc := "(LSumHouseModel$U;I)V" } : Jvm.MethodName)) ∈ lw_all := lw_g (lw_at lw_m11 206 rfl) rfl
theorem q2793 : (Jvm.Cond.code ({ cls := "SumHouseModel", name := "split", desc := "(LSumHouseModel$U;I)V" } : Jvm.MethodName) prog_12_method_169_code (9 : Nat) (Option.none : Option Jvm.ClassFile.FieldType)) ∈ lw_all := lw_g (lw_at lw_m11 207 rfl) rfl
theorem q2794 : (Jvm.Cond.constantLong "SumHouseModel" (817 : Nat) (1073741823 : Int64)) ∈ lw_all := lw_g (lw_at lw_m11 208 rfl) rfl
theorem q2796 : (Jvm.Cond.instanceMethod ({ cls := "SumHouseModel", name := "root", desc := "(I)I" } : Jvm.MethodName)) ∈ lw_all := lw_g (lw_at lw_m11 210 rfl) rfl
theorem q2797 : (Jvm.Cond.selects "SumHouseModel" ({ cls := "SumHouseModel", name := "root", desc := "(I)I" } : Jvm.MethodName) ({ cls := "SumHouseModel", name := "root", desc := "(I)I" } : Jvm.MethodName)) ∈ lw_all := lw_g (lw_at lw_m11 211 rfl) rfl
theorem q2798 : (Jvm.Cond.code ({ cls := "SumHouseModel", name := "root", desc := "(I)I" } : Jvm.MethodName) prog_12_method_171_code (2 : Nat) (Option.some Jvm.ClassFile.FieldType.int)) ∈ lw_all := lw_g (lw_at lw_m11 212 rfl) rfl
theorem q2800 : (Jvm.Cond.instanceMethod ({ cls := "SumHouseModel", name := "solve", desc := "(II)I" } : Jvm.MethodName)) ∈ lw_all := lw_g (lw_at lw_m11 214 rfl) rfl
theorem q2801 : (Jvm.Cond.selects "SumHouseModel" ({ cls := "SumHouseModel", name := "solve", desc := "(II)I" } : Jvm.MethodName) ({ cls := "SumHouseModel", name := "solve", desc := "(II)I" } : Jvm.MethodName)) ∈ lw_all := lw_g (lw_at lw_m11 215 rfl) rfl
theorem q2802 : (Jvm.Cond.code ({ cls := "SumHouseModel", name := "solve", desc := "(II)I" } : Jvm.MethodName) prog_12_method_172_code (9 : Nat) (Option.some Jvm.ClassFile.FieldType.int)) ∈ lw_all := lw_g (lw_at lw_m11 216 rfl) rfl
theorem q2803 : (Jvm.Cond.methodLink "SumHouseModel" (827 : Nat) ({ cls := "SumHouseModel", name := "strip", desc := "(LSumHouseModel$U;I)I" } : Jvm.MethodName)) ∈ lw_all := lw_g (lw_at lw_m11 217 rfl) rfl
theorem q2804 : (Jvm.Cond.privateMethod ({ cls := "SumHouseModel", name := "strip", desc := "(LSumHouseModel$U;I)I" } : Jvm.MethodName)) ∈ lw_tbl := lw_at lw_m11 218 rfl
theorem q2805 : (Jvm.Cond.instanceMethod ({ cls := "SumHouseModel", name := "strip", desc := "(LSumHouseModel$U;I)I" } : Jvm.MethodName)) ∈ lw_all := lw_g (lw_at lw_m11 219 rfl) rfl
theorem q2806 : (Jvm.Cond.code ({ cls := "SumHouseModel", name := "strip", desc := "(LSumHouseModel$U;I)I" } : Jvm.MethodName) prog_12_method_173_code (8 : Nat) (Option.some Jvm.ClassFile.FieldType.int)) ∈ lw_all := lw_g (lw_at lw_m11 220 rfl) rfl
theorem q198 : (Jvm.Cond.initialized "SumHouseModel$Thing") ∈ lw_all := lw_g (lw_at lw_m1 12 rfl) rfl
theorem q1758 : (Jvm.Cond.instantiable "SumHouseModel$Thing" (15 : Nat)) ∈ lw_all := lw_g (lw_at lw_m7 132 rfl) rfl
theorem q1760 : (Jvm.Cond.instanceMethod ({ cls := "SumHouseModel$Thing", name := "<init>", desc := "()V" } : Jvm.MethodName)) ∈ lw_all := lw_g (lw_at lw_m7 134 rfl) rfl
theorem q1761 : (Jvm.Cond.code ({ cls := "SumHouseModel$Thing", name := "<init>", desc := "()V" } : Jvm.MethodName) prog_15_method_1_code (1 : Nat) (Option.none : Option Jvm.ClassFile.FieldType)) ∈ lw_all := lw_g (lw_at lw_m7 135 rfl) rfl
theorem q1762 : (Jvm.Cond.methodLink "SumHouseModel$Thing" (3 : Nat) ({ cls := "java/lang/Object", name := "<init>", desc := "()V" } : Jvm.MethodName)) ∈ lw_all := lw_g (lw_at lw_m7 136 rfl) rfl
theorem q1764 : (Jvm.Cond.fieldLink "SumHouseModel$Thing" (9 : Nat) "SumHouseModel$Thing" "num" "[I") ∈ lw_all := lw_g (lw_at lw_m7 138 rfl) rfl
theorem q1766 : (Jvm.Cond.fieldLink "SumHouseModel$Thing" (15 : Nat) "SumHouseModel$Thing" "den" "[I") ∈ lw_all := lw_g (lw_at lw_m7 140 rfl) rfl
theorem q1771 : (Jvm.Cond.fieldLink "SumHouseModel$Thing" (18 : Nat) "SumHouseModel$Thing" "fa" "[I") ∈ lw_all := lw_g (lw_at lw_m7 145 rfl) rfl
theorem q1773 : (Jvm.Cond.fieldLink "SumHouseModel$Thing" (21 : Nat) "SumHouseModel$Thing" "fb" "[I") ∈ lw_all := lw_g (lw_at lw_m7 147 rfl) rfl
theorem q1775 : (Jvm.Cond.fieldLink "SumHouseModel$Thing" (24 : Nat) "SumHouseModel$Thing" "fc" "[I") ∈ lw_all := lw_g (lw_at lw_m7 149 rfl) rfl
theorem q1777 : (Jvm.Cond.fieldLink "SumHouseModel$Thing" (27 : Nat) "SumHouseModel$Thing" "fe" "[I") ∈ lw_all := lw_g (lw_at lw_m7 151 rfl) rfl
theorem q1780 : (Jvm.Cond.fieldLink "SumHouseModel$Thing" (30 : Nat) "SumHouseModel$Thing" "a" "[I") ∈ lw_all := lw_g (lw_at lw_m7 154 rfl) rfl
theorem q1784 : (Jvm.Cond.fieldLink "SumHouseModel$Thing" (33 : Nat) "SumHouseModel$Thing" "u" "[I") ∈ lw_all := lw_g (lw_at lw_m7 158 rfl) rfl
theorem q1786 : (Jvm.Cond.lays "SumHouseModel$Thing" "SumHouseModel$Thing" "kind" "I") ∈ lw_all := lw_g (lw_at lw_m7 160 rfl) rfl
theorem q1787 : (Jvm.Cond.soleField "SumHouseModel$Thing" "kind") ∈ lw_all := lw_g (lw_at lw_m7 161 rfl) rfl
theorem q1788 : (Jvm.Cond.laysFinal "SumHouseModel$Thing" "SumHouseModel$Thing" "num" "[I") ∈ lw_all := lw_g (lw_at lw_m7 162 rfl) rfl
theorem q1789 : (Jvm.Cond.soleField "SumHouseModel$Thing" "num") ∈ lw_all := lw_g (lw_at lw_m7 163 rfl) rfl
theorem q1790 : (Jvm.Cond.laysFinal "SumHouseModel$Thing" "SumHouseModel$Thing" "den" "[I") ∈ lw_all := lw_g (lw_at lw_m7 164 rfl) rfl
theorem q1791 : (Jvm.Cond.soleField "SumHouseModel$Thing" "den") ∈ lw_all := lw_g (lw_at lw_m7 165 rfl) rfl
theorem q1792 : (Jvm.Cond.lays "SumHouseModel$Thing" "SumHouseModel$Thing" "x" "I") ∈ lw_all := lw_g (lw_at lw_m7 166 rfl) rfl
theorem q1793 : (Jvm.Cond.soleField "SumHouseModel$Thing" "x") ∈ lw_all := lw_g (lw_at lw_m7 167 rfl) rfl
theorem q1794 : (Jvm.Cond.lays "SumHouseModel$Thing" "SumHouseModel$Thing" "y" "I") ∈ lw_all := lw_g (lw_at lw_m7 168 rfl) rfl
theorem q1795 : (Jvm.Cond.soleField "SumHouseModel$Thing" "y") ∈ lw_all := lw_g (lw_at lw_m7 169 rfl) rfl
theorem q1796 : (Jvm.Cond.lays "SumHouseModel$Thing" "SumHouseModel$Thing" "many" "I") ∈ lw_all := lw_g (lw_at lw_m7 170 rfl) rfl
theorem q1797 : (Jvm.Cond.soleField "SumHouseModel$Thing" "many") ∈ lw_all := lw_g (lw_at lw_m7 171 rfl) rfl
theorem q1798 : (Jvm.Cond.laysFinal "SumHouseModel$Thing" "SumHouseModel$Thing" "fa" "[I") ∈ lw_all := lw_g (lw_at lw_m7 172 rfl) rfl
theorem q1799 : (Jvm.Cond.soleField "SumHouseModel$Thing" "fa") ∈ lw_all := lw_g (lw_at lw_m7 173 rfl) rfl
theorem q1800 : (Jvm.Cond.laysFinal "SumHouseModel$Thing" "SumHouseModel$Thing" "fb" "[I") ∈ lw_all := lw_g (lw_at lw_m7 174 rfl) rfl
theorem q1801 : (Jvm.Cond.soleField "SumHouseModel$Thing" "fb") ∈ lw_all := lw_g (lw_at lw_m7 175 rfl) rfl
theorem q1802 : (Jvm.Cond.laysFinal "SumHouseModel$Thing" "SumHouseModel$Thing" "fc" "[I") ∈ lw_all := lw_g (lw_at lw_m7 176 rfl) rfl
theorem q1803 : (Jvm.Cond.soleField "SumHouseModel$Thing" "fc") ∈ lw_all := lw_g (lw_at lw_m7 177 rfl) rfl
theorem q1804 : (Jvm.Cond.laysFinal "SumHouseModel$Thing" "SumHouseModel$Thing" "fe" "[I") ∈ lw_all := lw_g (lw_at lw_m7 178 rfl) rfl
theorem q1805 : (Jvm.Cond.soleField "SumHouseModel$Thing" "fe") ∈ lw_all := lw_g (lw_at lw_m7 179 rfl) rfl
theorem q1806 : (Jvm.Cond.lays "SumHouseModel$Thing" "SumHouseModel$Thing" "order" "I") ∈ lw_all := lw_g (lw_at lw_m7 180 rfl) rfl
theorem q1807 : (Jvm.Cond.soleField "SumHouseModel$Thing" "order") ∈ lw_all := lw_g (lw_at lw_m7 181 rfl) rfl
theorem q1808 : (Jvm.Cond.laysFinal "SumHouseModel$Thing" "SumHouseModel$Thing" "a" "[I") ∈ lw_all := lw_g (lw_at lw_m7 182 rfl) rfl
theorem q1809 : (Jvm.Cond.soleField "SumHouseModel$Thing" "a") ∈ lw_all := lw_g (lw_at lw_m7 183 rfl) rfl
theorem q1810 : (Jvm.Cond.lays "SumHouseModel$Thing" "SumHouseModel$Thing" "needs" "I") ∈ lw_all := lw_g (lw_at lw_m7 184 rfl) rfl
theorem q1811 : (Jvm.Cond.soleField "SumHouseModel$Thing" "needs") ∈ lw_all := lw_g (lw_at lw_m7 185 rfl) rfl
theorem q1812 : (Jvm.Cond.lays "SumHouseModel$Thing" "SumHouseModel$Thing" "has" "I") ∈ lw_all := lw_g (lw_at lw_m7 186 rfl) rfl
theorem q1813 : (Jvm.Cond.soleField "SumHouseModel$Thing" "has") ∈ lw_all := lw_g (lw_at lw_m7 187 rfl) rfl
theorem q1814 : (Jvm.Cond.laysFinal "SumHouseModel$Thing" "SumHouseModel$Thing" "u" "[I") ∈ lw_all := lw_g (lw_at lw_m7 188 rfl) rfl
theorem q1815 : (Jvm.Cond.soleField "SumHouseModel$Thing" "u") ∈ lw_all := lw_g (lw_at lw_m7 189 rfl) rfl
theorem q1816 : (Jvm.Cond.superclass "SumHouseModel$Thing" "java/lang/Object") ∈ lw_all := lw_g (lw_at lw_m7 190 rfl) rfl
theorem q202 : (Jvm.Cond.initialized "SumHouseModel$Stop") ∈ lw_all := lw_g (lw_at lw_m1 16 rfl) rfl
theorem q1818 : (Jvm.Cond.instantiable "SumHouseModel$Stop" (6 : Nat)) ∈ lw_all := lw_g (lw_at lw_m7 192 rfl) rfl
theorem q1819 : (Jvm.Cond.castable "SumHouseModel$Stop" "SumHouseModel$Stop") ∈ lw_tbl := lw_at lw_m7 193 rfl
theorem q1826 : (Jvm.Cond.selects "SumHouseModel$Stop" ({ cls := "java/lang/Throwable", name := "fillInStackTrace", desc := "(I)Ljava/lang/Throwable;" } : Jvm.MethodName) ({ cls := "java/lang/Throwable", name := "fillInStackTrace", desc := "(I)Ljava/lang/Throwable;" } : Jvm.MethodName)) ∈ lw_all := lw_g (lw_at lw_m7 200 rfl) rfl
theorem q1827 : (Jvm.Cond.selects "SumHouseModel$Stop" ({ cls := "java/lang/Throwable", name := "fillInStackTrace", desc := "()Ljava/lang/Throwable;" } : Jvm.MethodName) ({ cls := "java/lang/Throwable", name := "fillInStackTrace", desc := "()Ljava/lang/Throwable;" } : Jvm.MethodName)) ∈ lw_all := lw_g (lw_at lw_m7 201 rfl) rfl
theorem q1828 : (Jvm.Cond.lays "SumHouseModel$Stop" "java/lang/Throwable" "cause" "Ljava/lang/Throwable;") ∈ lw_all := lw_g (lw_at lw_m7 202 rfl) rfl
theorem q1830 : (Jvm.Cond.lays "SumHouseModel$Stop" "java/lang/Throwable" "stackTrace" "[Ljava/lang/StackTraceElement;") ∈ lw_all := lw_g (lw_at lw_m7 204 rfl) rfl
theorem q1832 : (Jvm.Cond.lays "SumHouseModel$Stop" "java/lang/Throwable" "suppressedExceptions" "Ljava/util/List;") ∈ lw_all := lw_g (lw_at lw_m7 206 rfl) rfl
theorem q1834 : (Jvm.Cond.lays "SumHouseModel$Stop" "java/lang/Throwable" "detailMessage" "Ljava/lang/String;") ∈ lw_all := lw_g (lw_at lw_m7 208 rfl) rfl
theorem q1836 : (Jvm.Cond.lays "SumHouseModel$Stop" "java/lang/Throwable" "backtrace" "Ljava/lang/Object;") ∈ lw_all := lw_g (lw_at lw_m7 210 rfl) rfl
theorem q1857 : (Jvm.Cond.instanceMethod ({ cls := "SumHouseModel$Stop", name := "<init>", desc := "()V" } : Jvm.MethodName)) ∈ lw_all := lw_g (lw_at lw_m7 231 rfl) rfl
theorem q1858 : (Jvm.Cond.code ({ cls := "SumHouseModel$Stop", name := "<init>", desc := "()V" } : Jvm.MethodName) prog_14_method_1_code (1 : Nat) (Option.none : Option Jvm.ClassFile.FieldType)) ∈ lw_all := lw_g (lw_at lw_m7 232 rfl) rfl
theorem q1859 : (Jvm.Cond.methodLink "SumHouseModel$Stop" (1 : Nat) ({ cls := "java/lang/RuntimeException", name := "<init>", desc := "(Ljava/lang/String;Ljava/lang/Throwable;ZZ)V" } : Jvm.MethodName)) ∈ lw_all := lw_g (lw_at lw_m7 233 rfl) rfl
theorem q1877 : (Jvm.Cond.lays "SumHouseModel$Stop" "java/lang/Throwable" "depth" "I") ∈ lw_all := lw_g (lw_at lw_m8 11 rfl) rfl
theorem q1880 : (Jvm.Cond.superclass "SumHouseModel$Stop" "java/lang/RuntimeException") ∈ lw_all := lw_g (lw_at lw_m8 14 rfl) rfl
theorem q203 : (Jvm.Cond.initialized "SumHouseModel$U") ∈ lw_all := lw_g (lw_at lw_m1 17 rfl) rfl
theorem q1885 : (Jvm.Cond.instantiable "SumHouseModel$U" (2 : Nat)) ∈ lw_all := lw_g (lw_at lw_m8 19 rfl) rfl
theorem q1887 : (Jvm.Cond.instanceMethod ({ cls := "SumHouseModel$U", name := "<init>", desc := "(I)V" } : Jvm.MethodName)) ∈ lw_all := lw_g (lw_at lw_m8 21 rfl) rfl
theorem q1888 : (Jvm.Cond.code ({ cls := "SumHouseModel$U", name := "<init>", desc := "(I)V" } : Jvm.MethodName) prog_16_method_1_code (2 : Nat) (Option.none : Option Jvm.ClassFile.FieldType)) ∈ lw_all := lw_g (lw_at lw_m8 22 rfl) rfl
theorem q1889 : (Jvm.Cond.methodLink "SumHouseModel$U" (1 : Nat) ({ cls := "java/lang/Object", name := "<init>", desc := "()V" } : Jvm.MethodName)) ∈ lw_all := lw_g (lw_at lw_m8 23 rfl) rfl
theorem q1890 : (Jvm.Cond.fieldLink "SumHouseModel$U" (7 : Nat) "SumHouseModel$U" "c" "[I") ∈ lw_all := lw_g (lw_at lw_m8 24 rfl) rfl
theorem q1892 : (Jvm.Cond.fieldLink "SumHouseModel$U" (13 : Nat) "SumHouseModel$U" "n" "I") ∈ lw_all := lw_g (lw_at lw_m8 26 rfl) rfl
theorem q1895 : (Jvm.Cond.laysFinal "SumHouseModel$U" "SumHouseModel$U" "c" "[I") ∈ lw_all := lw_g (lw_at lw_m8 29 rfl) rfl
theorem q1896 : (Jvm.Cond.soleField "SumHouseModel$U" "c") ∈ lw_all := lw_g (lw_at lw_m8 30 rfl) rfl
theorem q1897 : (Jvm.Cond.lays "SumHouseModel$U" "SumHouseModel$U" "n" "I") ∈ lw_all := lw_g (lw_at lw_m8 31 rfl) rfl
theorem q1898 : (Jvm.Cond.soleField "SumHouseModel$U" "n") ∈ lw_all := lw_g (lw_at lw_m8 32 rfl) rfl
theorem q1899 : (Jvm.Cond.superclass "SumHouseModel$U" "java/lang/Object") ∈ lw_all := lw_g (lw_at lw_m8 33 rfl) rfl
theorem q2210 : (Jvm.Cond.instanceMethod ({ cls := "SumHouseModel$U", name := "number", desc := "(I)V" } : Jvm.MethodName)) ∈ lw_all := lw_g (lw_at lw_m9 104 rfl) rfl
theorem q2211 : (Jvm.Cond.selects "SumHouseModel$U" ({ cls := "SumHouseModel$U", name := "number", desc := "(I)V" } : Jvm.MethodName) ({ cls := "SumHouseModel$U", name := "number", desc := "(I)V" } : Jvm.MethodName)) ∈ lw_all := lw_g (lw_at lw_m9 105 rfl) rfl
theorem q2212 : (Jvm.Cond.code ({ cls := "SumHouseModel$U", name := "number", desc := "(I)V" } : Jvm.MethodName) prog_16_method_3_code (2 : Nat) (Option.none : Option Jvm.ClassFile.FieldType)) ∈ lw_all := lw_g (lw_at lw_m9 106 rfl) rfl
theorem q2223 : (Jvm.Cond.instanceMethod ({ cls := "SumHouseModel$U", name := "at", desc := "(I)I" } : Jvm.MethodName)) ∈ lw_all := lw_g (lw_at lw_m9 117 rfl) rfl
theorem q2224 : (Jvm.Cond.selects "SumHouseModel$U" ({ cls := "SumHouseModel$U", name := "at", desc := "(I)I" } : Jvm.MethodName) ({ cls := "SumHouseModel$U", name := "at", desc := "(I)I" } : Jvm.MethodName)) ∈ lw_all := lw_g (lw_at lw_m9 118 rfl) rfl
theorem q2225 : (Jvm.Cond.code ({ cls := "SumHouseModel$U", name := "at", desc := "(I)I" } : Jvm.MethodName) prog_16_method_5_code (2 : Nat) (Option.some Jvm.ClassFile.FieldType.int)) ∈ lw_all := lw_g (lw_at lw_m9 119 rfl) rfl
theorem q2272 : (Jvm.Cond.instanceMethod ({ cls := "SumHouseModel$U", name := "trim", desc := "()V" } : Jvm.MethodName)) ∈ lw_all := lw_g (lw_at lw_m9 166 rfl) rfl
theorem q2273 : (Jvm.Cond.selects "SumHouseModel$U" ({ cls := "SumHouseModel$U", name := "trim", desc := "()V" } : Jvm.MethodName) ({ cls := "SumHouseModel$U", name := "trim", desc := "()V" } : Jvm.MethodName)) ∈ lw_all := lw_g (lw_at lw_m9 167 rfl) rfl
theorem q2274 : (Jvm.Cond.code ({ cls := "SumHouseModel$U", name := "trim", desc := "()V" } : Jvm.MethodName) prog_16_method_2_code (1 : Nat) (Option.none : Option Jvm.ClassFile.FieldType)) ∈ lw_all := lw_g (lw_at lw_m9 168 rfl) rfl
theorem q2332 : (Jvm.Cond.instanceMethod ({ cls := "SumHouseModel$U", name := "head", desc := "()I" } : Jvm.MethodName)) ∈ lw_all := lw_g (lw_at lw_m9 226 rfl) rfl
theorem q2333 : (Jvm.Cond.selects "SumHouseModel$U" ({ cls := "SumHouseModel$U", name := "head", desc := "()I" } : Jvm.MethodName) ({ cls := "SumHouseModel$U", name := "head", desc := "()I" } : Jvm.MethodName)) ∈ lw_all := lw_g (lw_at lw_m9 227 rfl) rfl
theorem q2334 : (Jvm.Cond.code ({ cls := "SumHouseModel$U", name := "head", desc := "()I" } : Jvm.MethodName) prog_16_method_4_code (1 : Nat) (Option.some Jvm.ClassFile.FieldType.int)) ∈ lw_all := lw_g (lw_at lw_m9 228 rfl) rfl
theorem q204 : (Jvm.Cond.initialized "SumHouseModel$B") ∈ lw_all := lw_g (lw_at lw_m1 18 rfl) rfl
theorem q1893 : (Jvm.Cond.fieldLink "SumHouseModel$B" (24 : Nat) "SumHouseModel$U" "n" "I") ∈ lw_all := lw_g (lw_at lw_m8 27 rfl) rfl
theorem q1900 : (Jvm.Cond.instantiable "SumHouseModel$B" (2 : Nat)) ∈ lw_all := lw_g (lw_at lw_m8 34 rfl) rfl
theorem q1902 : (Jvm.Cond.instanceMethod ({ cls := "SumHouseModel$B", name := "<init>", desc := "()V" } : Jvm.MethodName)) ∈ lw_all := lw_g (lw_at lw_m8 36 rfl) rfl
theorem q1903 : (Jvm.Cond.code ({ cls := "SumHouseModel$B", name := "<init>", desc := "()V" } : Jvm.MethodName) prog_13_method_1_code (2 : Nat) (Option.none : Option Jvm.ClassFile.FieldType)) ∈ lw_all := lw_g (lw_at lw_m8 37 rfl) rfl
theorem q1904 : (Jvm.Cond.methodLink "SumHouseModel$B" (3 : Nat) ({ cls := "java/lang/Object", name := "<init>", desc := "()V" } : Jvm.MethodName)) ∈ lw_all := lw_g (lw_at lw_m8 38 rfl) rfl
theorem q1905 : (Jvm.Cond.classLink "SumHouseModel$B" (9 : Nat) "SumHouseModel$U") ∈ lw_all := lw_g (lw_at lw_m8 39 rfl) rfl
theorem q1906 : (Jvm.Cond.methodLink "SumHouseModel$B" (17 : Nat) ({ cls := "SumHouseModel$U", name := "<init>", desc := "(I)V" } : Jvm.MethodName)) ∈ lw_all := lw_g (lw_at lw_m8 40 rfl) rfl
theorem q1907 : (Jvm.Cond.fieldLink "SumHouseModel$B" (11 : Nat) "SumHouseModel$B" "\x72" "[LSumHouseModel$U;") ∈ lw_all := lw_g (lw_at lw_m8 41 rfl) rfl
theorem q1909 : (Jvm.Cond.fieldLink "SumHouseModel$B" (20 : Nat) "SumHouseModel$B" "rows" "I") ∈ lw_all := lw_g (lw_at lw_m8 43 rfl) rfl
theorem q1911 : (Jvm.Cond.laysFinal "SumHouseModel$B" "SumHouseModel$B" "\x72" "[LSumHouseModel$U;") ∈ lw_all := lw_g (lw_at lw_m8 45 rfl) rfl
theorem q1912 : (Jvm.Cond.soleField "SumHouseModel$B" "\x72") ∈ lw_all := lw_g (lw_at lw_m8 46 rfl) rfl
theorem q1913 : (Jvm.Cond.lays "SumHouseModel$B" "SumHouseModel$B" "rows" "I") ∈ lw_all := lw_g (lw_at lw_m8 47 rfl) rfl
theorem q1914 : (Jvm.Cond.soleField "SumHouseModel$B" "rows") ∈ lw_all := lw_g (lw_at lw_m8 48 rfl) rfl
theorem q1915 : (Jvm.Cond.superclass "SumHouseModel$B" "java/lang/Object") ∈ lw_all := lw_g (lw_at lw_m8 49 rfl) rfl
theorem q2206 : (Jvm.Cond.instanceMethod ({ cls := "SumHouseModel$B", name := "number", desc := "(I)V" } : Jvm.MethodName)) ∈ lw_all := lw_g (lw_at lw_m9 100 rfl) rfl
theorem q2207 : (Jvm.Cond.selects "SumHouseModel$B" ({ cls := "SumHouseModel$B", name := "number", desc := "(I)V" } : Jvm.MethodName) ({ cls := "SumHouseModel$B", name := "number", desc := "(I)V" } : Jvm.MethodName)) ∈ lw_all := lw_g (lw_at lw_m9 101 rfl) rfl
theorem q2208 : (Jvm.Cond.code ({ cls := "SumHouseModel$B", name := "number", desc := "(I)V" } : Jvm.MethodName) prog_13_method_3_code (2 : Nat) (Option.none : Option Jvm.ClassFile.FieldType)) ∈ lw_all := lw_g (lw_at lw_m9 102 rfl) rfl
theorem q2209 : (Jvm.Cond.methodLink "SumHouseModel$B" (27 : Nat) ({ cls := "SumHouseModel$U", name := "number", desc := "(I)V" } : Jvm.MethodName)) ∈ lw_all := lw_g (lw_at lw_m9 103 rfl) rfl
theorem q2276 : (Jvm.Cond.instanceMethod ({ cls := "SumHouseModel$B", name := "trim", desc := "()V" } : Jvm.MethodName)) ∈ lw_all := lw_g (lw_at lw_m9 170 rfl) rfl
theorem q2277 : (Jvm.Cond.selects "SumHouseModel$B" ({ cls := "SumHouseModel$B", name := "trim", desc := "()V" } : Jvm.MethodName) ({ cls := "SumHouseModel$B", name := "trim", desc := "()V" } : Jvm.MethodName)) ∈ lw_all := lw_g (lw_at lw_m9 171 rfl) rfl
theorem q2278 : (Jvm.Cond.code ({ cls := "SumHouseModel$B", name := "trim", desc := "()V" } : Jvm.MethodName) prog_13_method_2_code (1 : Nat) (Option.none : Option Jvm.ClassFile.FieldType)) ∈ lw_all := lw_g (lw_at lw_m9 172 rfl) rfl
theorem q2281 : (Jvm.Cond.instanceMethod ({ cls := "SumHouseModel$B", name := "degreeN", desc := "()I" } : Jvm.MethodName)) ∈ lw_all := lw_g (lw_at lw_m9 175 rfl) rfl
theorem q2282 : (Jvm.Cond.selects "SumHouseModel$B" ({ cls := "SumHouseModel$B", name := "degreeN", desc := "()I" } : Jvm.MethodName) ({ cls := "SumHouseModel$B", name := "degreeN", desc := "()I" } : Jvm.MethodName)) ∈ lw_all := lw_g (lw_at lw_m9 176 rfl) rfl
theorem q2283 : (Jvm.Cond.code ({ cls := "SumHouseModel$B", name := "degreeN", desc := "()I" } : Jvm.MethodName) prog_13_method_6_code (3 : Nat) (Option.some Jvm.ClassFile.FieldType.int)) ∈ lw_all := lw_g (lw_at lw_m9 177 rfl) rfl
theorem q2284 : (Jvm.Cond.methodLink "SumHouseModel$B" (38 : Nat) ({ cls := "java/lang/Math", name := "max", desc := "(II)I" } : Jvm.MethodName)) ∈ lw_all := lw_g (lw_at lw_m9 178 rfl) rfl
theorem q2287 : (Jvm.Cond.instanceMethod ({ cls := "SumHouseModel$B", name := "degreeK", desc := "()I" } : Jvm.MethodName)) ∈ lw_all := lw_g (lw_at lw_m9 181 rfl) rfl
theorem q2288 : (Jvm.Cond.selects "SumHouseModel$B" ({ cls := "SumHouseModel$B", name := "degreeK", desc := "()I" } : Jvm.MethodName) ({ cls := "SumHouseModel$B", name := "degreeK", desc := "()I" } : Jvm.MethodName)) ∈ lw_all := lw_g (lw_at lw_m9 182 rfl) rfl
theorem q2289 : (Jvm.Cond.code ({ cls := "SumHouseModel$B", name := "degreeK", desc := "()I" } : Jvm.MethodName) prog_13_method_7_code (1 : Nat) (Option.some Jvm.ClassFile.FieldType.int)) ∈ lw_all := lw_g (lw_at lw_m9 183 rfl) rfl
theorem q2324 : (Jvm.Cond.instanceMethod ({ cls := "SumHouseModel$B", name := "head", desc := "()I" } : Jvm.MethodName)) ∈ lw_all := lw_g (lw_at lw_m9 218 rfl) rfl
theorem q2325 : (Jvm.Cond.selects "SumHouseModel$B" ({ cls := "SumHouseModel$B", name := "head", desc := "()I" } : Jvm.MethodName) ({ cls := "SumHouseModel$B", name := "head", desc := "()I" } : Jvm.MethodName)) ∈ lw_all := lw_g (lw_at lw_m9 219 rfl) rfl
theorem q2326 : (Jvm.Cond.code ({ cls := "SumHouseModel$B", name := "head", desc := "()I" } : Jvm.MethodName) prog_13_method_5_code (1 : Nat) (Option.some Jvm.ClassFile.FieldType.int)) ∈ lw_all := lw_g (lw_at lw_m9 220 rfl) rfl
theorem q2327 : (Jvm.Cond.methodLink "SumHouseModel$B" (30 : Nat) ({ cls := "SumHouseModel$B", name := "lead", desc := "()LSumHouseModel$U;" } : Jvm.MethodName)) ∈ lw_all := lw_g (lw_at lw_m9 221 rfl) rfl
theorem q2328 : (Jvm.Cond.instanceMethod ({ cls := "SumHouseModel$B", name := "lead", desc := "()LSumHouseModel$U;" } : Jvm.MethodName)) ∈ lw_all := lw_g (lw_at lw_m9 222 rfl) rfl
theorem q2329 : (Jvm.Cond.selects "SumHouseModel$B" ({ cls := "SumHouseModel$B", name := "lead", desc := "()LSumHouseModel$U;" } : Jvm.MethodName) ({ cls := "SumHouseModel$B", name := "lead", desc := "()LSumHouseModel$U;" } : Jvm.MethodName)) ∈ lw_all := lw_g (lw_at lw_m9 223 rfl) rfl
theorem q2330 : (Jvm.Cond.code ({ cls := "SumHouseModel$B", name := "lead", desc := "()LSumHouseModel$U;" } : Jvm.MethodName) prog_13_method_4_code (1 : Nat) (Option.some (Jvm.ClassFile.FieldType.object "SumHouseModel$U"))) ∈ lw_all := lw_g (lw_at lw_m9 224 rfl) rfl
theorem q2331 : (Jvm.Cond.methodLink "SumHouseModel$B" (34 : Nat) ({ cls := "SumHouseModel$U", name := "head", desc := "()I" } : Jvm.MethodName)) ∈ lw_all := lw_g (lw_at lw_m9 225 rfl) rfl
theorem q2416 : (Jvm.Cond.instanceMethod ({ cls := "SumHouseModel$B", name := "isNumber", desc := "()Z" } : Jvm.MethodName)) ∈ lw_all := lw_g (lw_at lw_m10 70 rfl) rfl
theorem q2417 : (Jvm.Cond.selects "SumHouseModel$B" ({ cls := "SumHouseModel$B", name := "isNumber", desc := "()Z" } : Jvm.MethodName) ({ cls := "SumHouseModel$B", name := "isNumber", desc := "()Z" } : Jvm.MethodName)) ∈ lw_all := lw_g (lw_at lw_m10 71 rfl) rfl
theorem q2418 : (Jvm.Cond.code ({ cls := "SumHouseModel$B", name := "isNumber", desc := "()Z" } : Jvm.MethodName) prog_13_method_8_code (1 : Nat) (Option.some Jvm.ClassFile.FieldType.boolean)) ∈ lw_all := lw_g (lw_at lw_m10 72 rfl) rfl
theorem q189 : (Jvm.Cond.initialized "SumHouse$Divisors") ∈ lw_all := lw_g (lw_at lw_m1 3 rfl) rfl
theorem q226 : (Jvm.Cond.instantiable "SumHouse$Divisors" (3 : Nat)) ∈ lw_all := lw_g (lw_at lw_m1 40 rfl) rfl
theorem q228 : (Jvm.Cond.instanceMethod ({ cls := "SumHouse$Divisors", name := "<init>", desc := "(I)V" } : Jvm.MethodName)) ∈ lw_all := lw_g (lw_at lw_m1 42 rfl) rfl
theorem q229 : (Jvm.Cond.code ({ cls := "SumHouse$Divisors", name := "<init>", desc := "(I)V" } : Jvm.MethodName) prog_3_method_1_code (2 : Nat) (Option.none : Option Jvm.ClassFile.FieldType)) ∈ lw_all := lw_g (lw_at lw_m1 43 rfl) rfl
theorem q230 : (Jvm.Cond.methodLink "SumHouse$Divisors" (1 : Nat) ({ cls := "java/lang/Object", name := "<init>", desc := "()V" } : Jvm.MethodName)) ∈ lw_all := lw_g (lw_at lw_m1 44 rfl) rfl
theorem q231 : (Jvm.Cond.classLink "SumHouse$Divisors" (7 : Nat) "SumHouse$Poly") ∈ lw_all := lw_g (lw_at lw_m1 45 rfl) rfl
theorem q233 : (Jvm.Cond.methodLink "SumHouse$Divisors" (9 : Nat) ({ cls := "SumHouse$Poly", name := "<init>", desc := "(I)V" } : Jvm.MethodName)) ∈ lw_all := lw_g (lw_at lw_m1 47 rfl) rfl
theorem q239 : (Jvm.Cond.fieldLinkNest "SumHouse$Divisors" (43 : Nat) "SumHouse$Poly" "at" "[I" "SumHouse") ∈ lw_tbl := lw_at lw_m1 53 rfl
theorem q244 : (Jvm.Cond.fieldLinkNest "SumHouse$Divisors" (39 : Nat) "SumHouse$Poly" "size" "I" "SumHouse") ∈ lw_tbl := lw_at lw_m1 58 rfl
theorem q255 : (Jvm.Cond.fieldLink "SumHouse$Divisors" (12 : Nat) "SumHouse$Divisors" "a" "LSumHouse$Poly;") ∈ lw_all := lw_g (lw_at lw_m1 69 rfl) rfl
theorem q256 : (Jvm.Cond.fieldLink "SumHouse$Divisors" (18 : Nat) "SumHouse$Divisors" "b" "LSumHouse$Poly;") ∈ lw_all := lw_g (lw_at lw_m1 70 rfl) rfl
theorem q257 : (Jvm.Cond.fieldLink "SumHouse$Divisors" (21 : Nat) "SumHouse$Divisors" "spare" "LSumHouse$Poly;") ∈ lw_all := lw_g (lw_at lw_m1 71 rfl) rfl
theorem q258 : (Jvm.Cond.laysFinal "SumHouse$Divisors" "SumHouse$Divisors" "a" "LSumHouse$Poly;") ∈ lw_all := lw_g (lw_at lw_m1 72 rfl) rfl
theorem q259 : (Jvm.Cond.soleField "SumHouse$Divisors" "a") ∈ lw_all := lw_g (lw_at lw_m1 73 rfl) rfl
theorem q260 : (Jvm.Cond.laysFinal "SumHouse$Divisors" "SumHouse$Divisors" "b" "LSumHouse$Poly;") ∈ lw_all := lw_g (lw_at lw_m1 74 rfl) rfl
theorem q261 : (Jvm.Cond.soleField "SumHouse$Divisors" "b") ∈ lw_all := lw_g (lw_at lw_m1 75 rfl) rfl
theorem q262 : (Jvm.Cond.laysFinal "SumHouse$Divisors" "SumHouse$Divisors" "spare" "LSumHouse$Poly;") ∈ lw_all := lw_g (lw_at lw_m1 76 rfl) rfl
theorem q263 : (Jvm.Cond.soleField "SumHouse$Divisors" "spare") ∈ lw_all := lw_g (lw_at lw_m1 77 rfl) rfl
theorem q264 : (Jvm.Cond.superclass "SumHouse$Divisors" "java/lang/Object") ∈ lw_all := lw_g (lw_at lw_m1 78 rfl) rfl
theorem q1073 : (Jvm.Cond.instanceMethod ({ cls := "SumHouse$Divisors", name := "common", desc := "(LSumHouse$Poly;LSumHouse$Poly;LSumHouse$Poly;)V" } : Jvm.MethodName)) ∈ lw_all := lw_g (lw_at lw_m4 167 rfl) rfl
theorem q1074 : (Jvm.Cond.selects "SumHouse$Divisors" ({ cls := "SumHouse$Divisors", name := "common", desc := "(LSumHouse$Poly;LSumHouse$Poly;LSumHouse$Poly;)V" } : Jvm.MethodName) ({ cls := "SumHouse$Divisors", name := "common", desc := "(LSumHouse$Poly;LSumHouse$Poly;LSumHouse$Poly;)V" } : Jvm.MethodName)) ∈ lw_all := lw_g (lw_at lw_m4 168 rfl) rfl
theorem q1075 : (Jvm.Cond.code ({ cls := "SumHouse$Divisors", name := "common", desc := "(LSumHouse$Poly;LSumHouse$Poly;LSumHouse$Poly;)V" } : Jvm.MethodName) prog_3_method_2_code (4 : Nat) (Option.none : Option Jvm.ClassFile.FieldType)) ∈ lw_all := lw_g (lw_at lw_m4 169 rfl) rfl
theorem q1076 : (Jvm.Cond.methodLink "SumHouse$Divisors" (24 : Nat) ({ cls := "SumHouse$Poly", name := "copy", desc := "(LSumHouse$Poly;)V" } : Jvm.MethodName)) ∈ lw_all := lw_g (lw_at lw_m4 170 rfl) rfl
theorem q1081 : (Jvm.Cond.methodLink "SumHouse$Divisors" (28 : Nat) ({ cls := "SumHouse$Poly", name := "isZero", desc := "()Z" } : Jvm.MethodName)) ∈ lw_all := lw_g (lw_at lw_m4 175 rfl) rfl
theorem q1085 : (Jvm.Cond.methodLink "SumHouse$Divisors" (32 : Nat) ({ cls := "SumHouse$Poly", name := "divide", desc := "(LSumHouse$Poly;LSumHouse$Poly;)V" } : Jvm.MethodName)) ∈ lw_all := lw_g (lw_at lw_m4 179 rfl) rfl
theorem q1103 : (Jvm.Cond.methodLink "SumHouse$Divisors" (36 : Nat) ({ cls := "SumHouse$Poly", name := "monic", desc := "()V" } : Jvm.MethodName)) ∈ lw_all := lw_g (lw_at lw_m4 197 rfl) rfl
theorem q1116 : (Jvm.Cond.instanceMethod ({ cls := "SumHouse$Divisors", name := "divideExactly", desc := "(LSumHouse$Poly;LSumHouse$Poly;)V" } : Jvm.MethodName)) ∈ lw_all := lw_g (lw_at lw_m4 210 rfl) rfl
theorem q1117 : (Jvm.Cond.selects "SumHouse$Divisors" ({ cls := "SumHouse$Divisors", name := "divideExactly", desc := "(LSumHouse$Poly;LSumHouse$Poly;)V" } : Jvm.MethodName) ({ cls := "SumHouse$Divisors", name := "divideExactly", desc := "(LSumHouse$Poly;LSumHouse$Poly;)V" } : Jvm.MethodName)) ∈ lw_all := lw_g (lw_at lw_m4 211 rfl) rfl
theorem q1118 : (Jvm.Cond.code ({ cls := "SumHouse$Divisors", name := "divideExactly", desc := "(LSumHouse$Poly;LSumHouse$Poly;)V" } : Jvm.MethodName) prog_3_method_3_code (3 : Nat) (Option.none : Option Jvm.ClassFile.FieldType)) ∈ lw_all := lw_g (lw_at lw_m4 212 rfl) rfl
theorem q1119 : (Jvm.Cond.methodLinkNest "SumHouse$Divisors" (47 : Nat) ({ cls := "SumHouse", name := "inverse", desc := "(I)I" } : Jvm.MethodName) "SumHouse") ∈ lw_tbl := lw_at lw_m4 213 rfl
theorem q1120 : (Jvm.Cond.methodLink "SumHouse$Divisors" (53 : Nat) ({ cls := "SumHouse$Poly", name := "scale", desc := "(I)V" } : Jvm.MethodName)) ∈ lw_all := lw_g (lw_at lw_m4 214 rfl) rfl
theorem q190 : (Jvm.Cond.initialized "SumHouse$Poly") ∈ lw_all := lw_g (lw_at lw_m1 4 rfl) rfl
theorem q232 : (Jvm.Cond.instantiable "SumHouse$Poly" (2 : Nat)) ∈ lw_all := lw_g (lw_at lw_m1 46 rfl) rfl
theorem q234 : (Jvm.Cond.instanceMethod ({ cls := "SumHouse$Poly", name := "<init>", desc := "(I)V" } : Jvm.MethodName)) ∈ lw_all := lw_g (lw_at lw_m1 48 rfl) rfl
theorem q235 : (Jvm.Cond.code ({ cls := "SumHouse$Poly", name := "<init>", desc := "(I)V" } : Jvm.MethodName) prog_7_method_1_code (2 : Nat) (Option.none : Option Jvm.ClassFile.FieldType)) ∈ lw_all := lw_g (lw_at lw_m1 49 rfl) rfl
theorem q236 : (Jvm.Cond.methodLink "SumHouse$Poly" (1 : Nat) ({ cls := "java/lang/Object", name := "<init>", desc := "()V" } : Jvm.MethodName)) ∈ lw_all := lw_g (lw_at lw_m1 50 rfl) rfl
theorem q237 : (Jvm.Cond.fieldLink "SumHouse$Poly" (7 : Nat) "SumHouse$Poly" "at" "[I") ∈ lw_all := lw_g (lw_at lw_m1 51 rfl) rfl
theorem q242 : (Jvm.Cond.fieldLink "SumHouse$Poly" (13 : Nat) "SumHouse$Poly" "size" "I") ∈ lw_all := lw_g (lw_at lw_m1 56 rfl) rfl
theorem q249 : (Jvm.Cond.laysFinal "SumHouse$Poly" "SumHouse$Poly" "at" "[I") ∈ lw_all := lw_g (lw_at lw_m1 63 rfl) rfl
theorem q250 : (Jvm.Cond.soleField "SumHouse$Poly" "at") ∈ lw_all := lw_g (lw_at lw_m1 64 rfl) rfl
theorem q251 : (Jvm.Cond.lays "SumHouse$Poly" "SumHouse$Poly" "size" "I") ∈ lw_all := lw_g (lw_at lw_m1 65 rfl) rfl
theorem q252 : (Jvm.Cond.soleField "SumHouse$Poly" "size") ∈ lw_all := lw_g (lw_at lw_m1 66 rfl) rfl
theorem q253 : (Jvm.Cond.superclass "SumHouse$Poly" "java/lang/Object") ∈ lw_all := lw_g (lw_at lw_m1 67 rfl) rfl
theorem q1061 : (Jvm.Cond.instanceMethod ({ cls := "SumHouse$Poly", name := "clear", desc := "()V" } : Jvm.MethodName)) ∈ lw_all := lw_g (lw_at lw_m4 155 rfl) rfl
theorem q1062 : (Jvm.Cond.selects "SumHouse$Poly" ({ cls := "SumHouse$Poly", name := "clear", desc := "()V" } : Jvm.MethodName) ({ cls := "SumHouse$Poly", name := "clear", desc := "()V" } : Jvm.MethodName)) ∈ lw_all := lw_g (lw_at lw_m4 156 rfl) rfl
theorem q1063 : (Jvm.Cond.code ({ cls := "SumHouse$Poly", name := "clear", desc := "()V" } : Jvm.MethodName) prog_7_method_8_code (1 : Nat) (Option.none : Option Jvm.ClassFile.FieldType)) ∈ lw_all := lw_g (lw_at lw_m4 157 rfl) rfl
theorem q1069 : (Jvm.Cond.instanceMethod ({ cls := "SumHouse$Poly", name := "trim", desc := "()V" } : Jvm.MethodName)) ∈ lw_all := lw_g (lw_at lw_m4 163 rfl) rfl
theorem q1070 : (Jvm.Cond.selects "SumHouse$Poly" ({ cls := "SumHouse$Poly", name := "trim", desc := "()V" } : Jvm.MethodName) ({ cls := "SumHouse$Poly", name := "trim", desc := "()V" } : Jvm.MethodName)) ∈ lw_all := lw_g (lw_at lw_m4 164 rfl) rfl
theorem q1071 : (Jvm.Cond.code ({ cls := "SumHouse$Poly", name := "trim", desc := "()V" } : Jvm.MethodName) prog_7_method_6_code (1 : Nat) (Option.none : Option Jvm.ClassFile.FieldType)) ∈ lw_all := lw_g (lw_at lw_m4 165 rfl) rfl
theorem q1077 : (Jvm.Cond.instanceMethod ({ cls := "SumHouse$Poly", name := "copy", desc := "(LSumHouse$Poly;)V" } : Jvm.MethodName)) ∈ lw_all := lw_g (lw_at lw_m4 171 rfl) rfl
theorem q1078 : (Jvm.Cond.selects "SumHouse$Poly" ({ cls := "SumHouse$Poly", name := "copy", desc := "(LSumHouse$Poly;)V" } : Jvm.MethodName) ({ cls := "SumHouse$Poly", name := "copy", desc := "(LSumHouse$Poly;)V" } : Jvm.MethodName)) ∈ lw_all := lw_g (lw_at lw_m4 172 rfl) rfl
theorem q1079 : (Jvm.Cond.code ({ cls := "SumHouse$Poly", name := "copy", desc := "(LSumHouse$Poly;)V" } : Jvm.MethodName) prog_7_method_9_code (2 : Nat) (Option.none : Option Jvm.ClassFile.FieldType)) ∈ lw_all := lw_g (lw_at lw_m4 173 rfl) rfl
theorem q1080 : (Jvm.Cond.methodLink "SumHouse$Poly" (17 : Nat) ({ cls := "java/lang/System", name := "arraycopy", desc := "(Ljava/lang/Object;ILjava/lang/Object;II)V" } : Jvm.MethodName)) ∈ lw_all := lw_g (lw_at lw_m4 174 rfl) rfl
theorem q1082 : (Jvm.Cond.instanceMethod ({ cls := "SumHouse$Poly", name := "isZero", desc := "()Z" } : Jvm.MethodName)) ∈ lw_all := lw_g (lw_at lw_m4 176 rfl) rfl
theorem q1083 : (Jvm.Cond.selects "SumHouse$Poly" ({ cls := "SumHouse$Poly", name := "isZero", desc := "()Z" } : Jvm.MethodName) ({ cls := "SumHouse$Poly", name := "isZero", desc := "()Z" } : Jvm.MethodName)) ∈ lw_all := lw_g (lw_at lw_m4 177 rfl) rfl
theorem q1084 : (Jvm.Cond.code ({ cls := "SumHouse$Poly", name := "isZero", desc := "()Z" } : Jvm.MethodName) prog_7_method_2_code (1 : Nat) (Option.some Jvm.ClassFile.FieldType.boolean)) ∈ lw_all := lw_g (lw_at lw_m4 178 rfl) rfl
theorem q1086 : (Jvm.Cond.instanceMethod ({ cls := "SumHouse$Poly", name := "divide", desc := "(LSumHouse$Poly;LSumHouse$Poly;)V" } : Jvm.MethodName)) ∈ lw_all := lw_g (lw_at lw_m4 180 rfl) rfl
theorem q1087 : (Jvm.Cond.selects "SumHouse$Poly" ({ cls := "SumHouse$Poly", name := "divide", desc := "(LSumHouse$Poly;LSumHouse$Poly;)V" } : Jvm.MethodName) ({ cls := "SumHouse$Poly", name := "divide", desc := "(LSumHouse$Poly;LSumHouse$Poly;)V" } : Jvm.MethodName)) ∈ lw_all := lw_g (lw_at lw_m4 181 rfl) rfl
theorem q1088 : (Jvm.Cond.code ({ cls := "SumHouse$Poly", name := "divide", desc := "(LSumHouse$Poly;LSumHouse$Poly;)V" } : Jvm.MethodName) prog_7_method_17_code (8 : Nat) (Option.none : Option Jvm.ClassFile.FieldType)) ∈ lw_all := lw_g (lw_at lw_m4 182 rfl) rfl
theorem q1089 : (Jvm.Cond.methodLink "SumHouse$Poly" (39 : Nat) ({ cls := "java/lang/Math", name := "max", desc := "(II)I" } : Jvm.MethodName)) ∈ lw_all := lw_g (lw_at lw_m4 183 rfl) rfl
theorem q1090 : (Jvm.Cond.methodLink "SumHouse$Poly" (44 : Nat) ({ cls := "SumHouse$Poly", name := "head", desc := "()I" } : Jvm.MethodName)) ∈ lw_all := lw_g (lw_at lw_m4 184 rfl) rfl
theorem q1091 : (Jvm.Cond.instanceMethod ({ cls := "SumHouse$Poly", name := "head", desc := "()I" } : Jvm.MethodName)) ∈ lw_all := lw_g (lw_at lw_m4 185 rfl) rfl
theorem q1092 : (Jvm.Cond.selects "SumHouse$Poly" ({ cls := "SumHouse$Poly", name := "head", desc := "()I" } : Jvm.MethodName) ({ cls := "SumHouse$Poly", name := "head", desc := "()I" } : Jvm.MethodName)) ∈ lw_all := lw_g (lw_at lw_m4 186 rfl) rfl
theorem q1093 : (Jvm.Cond.code ({ cls := "SumHouse$Poly", name := "head", desc := "()I" } : Jvm.MethodName) prog_7_method_4_code (1 : Nat) (Option.some Jvm.ClassFile.FieldType.int)) ∈ lw_all := lw_g (lw_at lw_m4 187 rfl) rfl
theorem q1094 : (Jvm.Cond.methodLinkNest "SumHouse$Poly" (48 : Nat) ({ cls := "SumHouse", name := "inverse", desc := "(I)I" } : Jvm.MethodName) "SumHouse") ∈ lw_tbl := lw_at lw_m4 188 rfl
theorem q1095 : (Jvm.Cond.methodLinkNest "SumHouse$Poly" (26 : Nat) ({ cls := "SumHouse", name := "times", desc := "(II)I" } : Jvm.MethodName) "SumHouse") ∈ lw_tbl := lw_at lw_m4 189 rfl
theorem q1096 : (Jvm.Cond.methodLinkNest "SumHouse$Poly" (52 : Nat) ({ cls := "SumHouse", name := "less", desc := "(II)I" } : Jvm.MethodName) "SumHouse") ∈ lw_tbl := lw_at lw_m4 190 rfl
theorem q1099 : (Jvm.Cond.methodLink "SumHouse$Poly" (55 : Nat) ({ cls := "java/lang/Math", name := "min", desc := "(II)I" } : Jvm.MethodName)) ∈ lw_all := lw_g (lw_at lw_m4 193 rfl) rfl
theorem q1102 : (Jvm.Cond.methodLink "SumHouse$Poly" (23 : Nat) ({ cls := "SumHouse$Poly", name := "trim", desc := "()V" } : Jvm.MethodName)) ∈ lw_all := lw_g (lw_at lw_m4 196 rfl) rfl
theorem q1104 : (Jvm.Cond.instanceMethod ({ cls := "SumHouse$Poly", name := "monic", desc := "()V" } : Jvm.MethodName)) ∈ lw_all := lw_g (lw_at lw_m4 198 rfl) rfl
theorem q1105 : (Jvm.Cond.selects "SumHouse$Poly" ({ cls := "SumHouse$Poly", name := "monic", desc := "()V" } : Jvm.MethodName) ({ cls := "SumHouse$Poly", name := "monic", desc := "()V" } : Jvm.MethodName)) ∈ lw_all := lw_g (lw_at lw_m4 199 rfl) rfl
theorem q1106 : (Jvm.Cond.code ({ cls := "SumHouse$Poly", name := "monic", desc := "()V" } : Jvm.MethodName) prog_7_method_18_code (1 : Nat) (Option.none : Option Jvm.ClassFile.FieldType)) ∈ lw_all := lw_g (lw_at lw_m4 200 rfl) rfl
theorem q1107 : (Jvm.Cond.methodLink "SumHouse$Poly" (58 : Nat) ({ cls := "SumHouse$Poly", name := "scale", desc := "(I)V" } : Jvm.MethodName)) ∈ lw_all := lw_g (lw_at lw_m4 201 rfl) rfl
theorem q1108 : (Jvm.Cond.instanceMethod ({ cls := "SumHouse$Poly", name := "scale", desc := "(I)V" } : Jvm.MethodName)) ∈ lw_all := lw_g (lw_at lw_m4 202 rfl) rfl
theorem q1109 : (Jvm.Cond.selects "SumHouse$Poly" ({ cls := "SumHouse$Poly", name := "scale", desc := "(I)V" } : Jvm.MethodName) ({ cls := "SumHouse$Poly", name := "scale", desc := "(I)V" } : Jvm.MethodName)) ∈ lw_all := lw_g (lw_at lw_m4 203 rfl) rfl
theorem q1110 : (Jvm.Cond.code ({ cls := "SumHouse$Poly", name := "scale", desc := "(I)V" } : Jvm.MethodName) prog_7_method_13_code (3 : Nat) (Option.none : Option Jvm.ClassFile.FieldType)) ∈ lw_all := lw_g (lw_at lw_m4 204 rfl) rfl
theorem q1126 : (Jvm.Cond.instanceMethod ({ cls := "SumHouse$Poly", name := "get", desc := "(I)I" } : Jvm.MethodName)) ∈ lw_all := lw_g (lw_at lw_m4 220 rfl) rfl
theorem q1127 : (Jvm.Cond.selects "SumHouse$Poly" ({ cls := "SumHouse$Poly", name := "get", desc := "(I)I" } : Jvm.MethodName) ({ cls := "SumHouse$Poly", name := "get", desc := "(I)I" } : Jvm.MethodName)) ∈ lw_all := lw_g (lw_at lw_m4 221 rfl) rfl
theorem q1128 : (Jvm.Cond.code ({ cls := "SumHouse$Poly", name := "get", desc := "(I)I" } : Jvm.MethodName) prog_7_method_5_code (2 : Nat) (Option.some Jvm.ClassFile.FieldType.int)) ∈ lw_all := lw_g (lw_at lw_m4 222 rfl) rfl
theorem q1144 : (Jvm.Cond.instanceMethod ({ cls := "SumHouse$Poly", name := "degree", desc := "()I" } : Jvm.MethodName)) ∈ lw_all := lw_g (lw_at lw_m4 238 rfl) rfl
theorem q1145 : (Jvm.Cond.selects "SumHouse$Poly" ({ cls := "SumHouse$Poly", name := "degree", desc := "()I" } : Jvm.MethodName) ({ cls := "SumHouse$Poly", name := "degree", desc := "()I" } : Jvm.MethodName)) ∈ lw_all := lw_g (lw_at lw_m4 239 rfl) rfl
theorem q1146 : (Jvm.Cond.code ({ cls := "SumHouse$Poly", name := "degree", desc := "()I" } : Jvm.MethodName) prog_7_method_3_code (1 : Nat) (Option.some Jvm.ClassFile.FieldType.int)) ∈ lw_all := lw_g (lw_at lw_m5 0 rfl) rfl
theorem q1152 : (Jvm.Cond.instanceMethod ({ cls := "SumHouse$Poly", name := "value", desc := "(I)I" } : Jvm.MethodName)) ∈ lw_all := lw_g (lw_at lw_m5 6 rfl) rfl
theorem q1153 : (Jvm.Cond.selects "SumHouse$Poly" ({ cls := "SumHouse$Poly", name := "value", desc := "(I)I" } : Jvm.MethodName) ({ cls := "SumHouse$Poly", name := "value", desc := "(I)I" } : Jvm.MethodName)) ∈ lw_all := lw_g (lw_at lw_m5 7 rfl) rfl
theorem q1154 : (Jvm.Cond.code ({ cls := "SumHouse$Poly", name := "value", desc := "(I)I" } : Jvm.MethodName) prog_7_method_12_code (4 : Nat) (Option.some Jvm.ClassFile.FieldType.int)) ∈ lw_all := lw_g (lw_at lw_m5 8 rfl) rfl
theorem q1155 : (Jvm.Cond.methodLinkNest "SumHouse$Poly" (32 : Nat) ({ cls := "SumHouse", name := "sum", desc := "(II)I" } : Jvm.MethodName) "SumHouse") ∈ lw_tbl := lw_at lw_m5 9 rfl
theorem q1186 : (Jvm.Cond.instanceMethod ({ cls := "SumHouse$Poly", name := "product", desc := "(LSumHouse$Poly;LSumHouse$Poly;)V" } : Jvm.MethodName)) ∈ lw_all := lw_g (lw_at lw_m5 40 rfl) rfl
theorem q1187 : (Jvm.Cond.selects "SumHouse$Poly" ({ cls := "SumHouse$Poly", name := "product", desc := "(LSumHouse$Poly;LSumHouse$Poly;)V" } : Jvm.MethodName) ({ cls := "SumHouse$Poly", name := "product", desc := "(LSumHouse$Poly;LSumHouse$Poly;)V" } : Jvm.MethodName)) ∈ lw_all := lw_g (lw_at lw_m5 41 rfl) rfl
theorem q1188 : (Jvm.Cond.code ({ cls := "SumHouse$Poly", name := "product", desc := "(LSumHouse$Poly;LSumHouse$Poly;)V" } : Jvm.MethodName) prog_7_method_16_code (3 : Nat) (Option.none : Option Jvm.ClassFile.FieldType)) ∈ lw_all := lw_g (lw_at lw_m5 42 rfl) rfl
theorem q1189 : (Jvm.Cond.methodLink "SumHouse$Poly" (35 : Nat) ({ cls := "SumHouse$Poly", name := "addProduct", desc := "(LSumHouse$Poly;LSumHouse$Poly;I)V" } : Jvm.MethodName)) ∈ lw_all := lw_g (lw_at lw_m5 43 rfl) rfl
theorem q1190 : (Jvm.Cond.instanceMethod ({ cls := "SumHouse$Poly", name := "addProduct", desc := "(LSumHouse$Poly;LSumHouse$Poly;I)V" } : Jvm.MethodName)) ∈ lw_all := lw_g (lw_at lw_m5 44 rfl) rfl
theorem q1191 : (Jvm.Cond.selects "SumHouse$Poly" ({ cls := "SumHouse$Poly", name := "addProduct", desc := "(LSumHouse$Poly;LSumHouse$Poly;I)V" } : Jvm.MethodName) ({ cls := "SumHouse$Poly", name := "addProduct", desc := "(LSumHouse$Poly;LSumHouse$Poly;I)V" } : Jvm.MethodName)) ∈ lw_all := lw_g (lw_at lw_m5 45 rfl) rfl
theorem q1192 : (Jvm.Cond.code ({ cls := "SumHouse$Poly", name := "addProduct", desc := "(LSumHouse$Poly;LSumHouse$Poly;I)V" } : Jvm.MethodName) prog_7_method_15_code (7 : Nat) (Option.none : Option Jvm.ClassFile.FieldType)) ∈ lw_all := lw_g (lw_at lw_m5 46 rfl) rfl
theorem q1381 : (Jvm.Cond.instanceMethod ({ cls := "SumHouse$Poly", name := "shift", desc := "(I)V" } : Jvm.MethodName)) ∈ lw_all := lw_g (lw_at lw_m5 235 rfl) rfl
theorem q1382 : (Jvm.Cond.selects "SumHouse$Poly" ({ cls := "SumHouse$Poly", name := "shift", desc := "(I)V" } : Jvm.MethodName) ({ cls := "SumHouse$Poly", name := "shift", desc := "(I)V" } : Jvm.MethodName)) ∈ lw_all := lw_g (lw_at lw_m5 236 rfl) rfl
theorem q1383 : (Jvm.Cond.code ({ cls := "SumHouse$Poly", name := "shift", desc := "(I)V" } : Jvm.MethodName) prog_7_method_19_code (4 : Nat) (Option.none : Option Jvm.ClassFile.FieldType)) ∈ lw_all := lw_g (lw_at lw_m5 237 rfl) rfl
theorem q1414 : (Jvm.Cond.instanceMethod ({ cls := "SumHouse$Poly", name := "isSame", desc := "(LSumHouse$Poly;)Z" } : Jvm.MethodName)) ∈ lw_all := lw_g (lw_at lw_m6 28 rfl) rfl
theorem q1415 : (Jvm.Cond.selects "SumHouse$Poly" ({ cls := "SumHouse$Poly", name := "isSame", desc := "(LSumHouse$Poly;)Z" } : Jvm.MethodName) ({ cls := "SumHouse$Poly", name := "isSame", desc := "(LSumHouse$Poly;)Z" } : Jvm.MethodName)) ∈ lw_all := lw_g (lw_at lw_m6 29 rfl) rfl
theorem q1416 : (Jvm.Cond.code ({ cls := "SumHouse$Poly", name := "isSame", desc := "(LSumHouse$Poly;)Z" } : Jvm.MethodName) prog_7_method_11_code (4 : Nat) (Option.some Jvm.ClassFile.FieldType.boolean)) ∈ lw_all := lw_g (lw_at lw_m6 30 rfl) rfl
theorem q1419 : (Jvm.Cond.instanceMethod ({ cls := "SumHouse$Poly", name := "add", desc := "(LSumHouse$Poly;II)V" } : Jvm.MethodName)) ∈ lw_all := lw_g (lw_at lw_m6 33 rfl) rfl
theorem q1420 : (Jvm.Cond.selects "SumHouse$Poly" ({ cls := "SumHouse$Poly", name := "add", desc := "(LSumHouse$Poly;II)V" } : Jvm.MethodName) ({ cls := "SumHouse$Poly", name := "add", desc := "(LSumHouse$Poly;II)V" } : Jvm.MethodName)) ∈ lw_all := lw_g (lw_at lw_m6 34 rfl) rfl
theorem q1421 : (Jvm.Cond.code ({ cls := "SumHouse$Poly", name := "add", desc := "(LSumHouse$Poly;II)V" } : Jvm.MethodName) prog_7_method_14_code (5 : Nat) (Option.none : Option Jvm.ClassFile.FieldType)) ∈ lw_all := lw_g (lw_at lw_m6 35 rfl) rfl
theorem q1449 : (Jvm.Cond.instanceMethod ({ cls := "SumHouse$Poly", name := "set", desc := "(I)V" } : Jvm.MethodName)) ∈ lw_all := lw_g (lw_at lw_m6 63 rfl) rfl
theorem q1450 : (Jvm.Cond.selects "SumHouse$Poly" ({ cls := "SumHouse$Poly", name := "set", desc := "(I)V" } : Jvm.MethodName) ({ cls := "SumHouse$Poly", name := "set", desc := "(I)V" } : Jvm.MethodName)) ∈ lw_all := lw_g (lw_at lw_m6 64 rfl) rfl
theorem q1451 : (Jvm.Cond.code ({ cls := "SumHouse$Poly", name := "set", desc := "(I)V" } : Jvm.MethodName) prog_7_method_7_code (2 : Nat) (Option.none : Option Jvm.ClassFile.FieldType)) ∈ lw_all := lw_g (lw_at lw_m6 65 rfl) rfl
theorem q1540 : (Jvm.Cond.instanceMethod ({ cls := "SumHouse$Poly", name := "put", desc := "(II)V" } : Jvm.MethodName)) ∈ lw_all := lw_g (lw_at lw_m6 154 rfl) rfl
theorem q1541 : (Jvm.Cond.selects "SumHouse$Poly" ({ cls := "SumHouse$Poly", name := "put", desc := "(II)V" } : Jvm.MethodName) ({ cls := "SumHouse$Poly", name := "put", desc := "(II)V" } : Jvm.MethodName)) ∈ lw_all := lw_g (lw_at lw_m6 155 rfl) rfl
theorem q1542 : (Jvm.Cond.code ({ cls := "SumHouse$Poly", name := "put", desc := "(II)V" } : Jvm.MethodName) prog_7_method_10_code (3 : Nat) (Option.none : Option Jvm.ClassFile.FieldType)) ∈ lw_all := lw_g (lw_at lw_m6 156 rfl) rfl
theorem q191 : (Jvm.Cond.initialized "SumHouse$Duo") ∈ lw_all := lw_g (lw_at lw_m1 5 rfl) rfl
theorem q240 : (Jvm.Cond.fieldLinkNest "SumHouse$Duo" (45 : Nat) "SumHouse$Poly" "at" "[I" "SumHouse") ∈ lw_tbl := lw_at lw_m1 54 rfl
theorem q247 : (Jvm.Cond.fieldLinkNest "SumHouse$Duo" (40 : Nat) "SumHouse$Poly" "size" "I" "SumHouse") ∈ lw_tbl := lw_at lw_m1 61 rfl
theorem q268 : (Jvm.Cond.instantiable "SumHouse$Duo" (4 : Nat)) ∈ lw_all := lw_g (lw_at lw_m1 82 rfl) rfl
theorem q270 : (Jvm.Cond.instanceMethod ({ cls := "SumHouse$Duo", name := "<init>", desc := "(II)V" } : Jvm.MethodName)) ∈ lw_all := lw_g (lw_at lw_m1 84 rfl) rfl
theorem q271 : (Jvm.Cond.code ({ cls := "SumHouse$Duo", name := "<init>", desc := "(II)V" } : Jvm.MethodName) prog_4_method_1_code (3 : Nat) (Option.none : Option Jvm.ClassFile.FieldType)) ∈ lw_all := lw_g (lw_at lw_m1 85 rfl) rfl
theorem q272 : (Jvm.Cond.methodLink "SumHouse$Duo" (1 : Nat) ({ cls := "java/lang/Object", name := "<init>", desc := "()V" } : Jvm.MethodName)) ∈ lw_all := lw_g (lw_at lw_m1 86 rfl) rfl
theorem q273 : (Jvm.Cond.fieldLink "SumHouse$Duo" (7 : Nat) "SumHouse$Duo" "wide" "I") ∈ lw_all := lw_g (lw_at lw_m1 87 rfl) rfl
theorem q276 : (Jvm.Cond.fieldLink "SumHouse$Duo" (13 : Nat) "SumHouse$Duo" "at" "[I") ∈ lw_all := lw_g (lw_at lw_m1 90 rfl) rfl
theorem q279 : (Jvm.Cond.fieldLink "SumHouse$Duo" (20 : Nat) "SumHouse$Duo" "sizeN" "I") ∈ lw_all := lw_g (lw_at lw_m1 93 rfl) rfl
theorem q283 : (Jvm.Cond.fieldLink "SumHouse$Duo" (17 : Nat) "SumHouse$Duo" "sizeK" "I") ∈ lw_all := lw_g (lw_at lw_m1 97 rfl) rfl
theorem q287 : (Jvm.Cond.laysFinal "SumHouse$Duo" "SumHouse$Duo" "wide" "I") ∈ lw_all := lw_g (lw_at lw_m1 101 rfl) rfl
theorem q288 : (Jvm.Cond.soleField "SumHouse$Duo" "wide") ∈ lw_all := lw_g (lw_at lw_m1 102 rfl) rfl
theorem q289 : (Jvm.Cond.laysFinal "SumHouse$Duo" "SumHouse$Duo" "at" "[I") ∈ lw_all := lw_g (lw_at lw_m1 103 rfl) rfl
theorem q290 : (Jvm.Cond.soleField "SumHouse$Duo" "at") ∈ lw_all := lw_g (lw_at lw_m1 104 rfl) rfl
theorem q291 : (Jvm.Cond.lays "SumHouse$Duo" "SumHouse$Duo" "sizeN" "I") ∈ lw_all := lw_g (lw_at lw_m1 105 rfl) rfl
theorem q292 : (Jvm.Cond.soleField "SumHouse$Duo" "sizeN") ∈ lw_all := lw_g (lw_at lw_m1 106 rfl) rfl
theorem q293 : (Jvm.Cond.lays "SumHouse$Duo" "SumHouse$Duo" "sizeK" "I") ∈ lw_all := lw_g (lw_at lw_m1 107 rfl) rfl
theorem q294 : (Jvm.Cond.soleField "SumHouse$Duo" "sizeK") ∈ lw_all := lw_g (lw_at lw_m1 108 rfl) rfl
theorem q295 : (Jvm.Cond.superclass "SumHouse$Duo" "java/lang/Object") ∈ lw_all := lw_g (lw_at lw_m1 109 rfl) rfl
theorem q378 : (Jvm.Cond.instanceMethod ({ cls := "SumHouse$Duo", name := "set", desc := "(I)V" } : Jvm.MethodName)) ∈ lw_all := lw_g (lw_at lw_m1 192 rfl) rfl
theorem q379 : (Jvm.Cond.selects "SumHouse$Duo" ({ cls := "SumHouse$Duo", name := "set", desc := "(I)V" } : Jvm.MethodName) ({ cls := "SumHouse$Duo", name := "set", desc := "(I)V" } : Jvm.MethodName)) ∈ lw_all := lw_g (lw_at lw_m1 193 rfl) rfl
theorem q380 : (Jvm.Cond.code ({ cls := "SumHouse$Duo", name := "set", desc := "(I)V" } : Jvm.MethodName) prog_4_method_10_code (2 : Nat) (Option.none : Option Jvm.ClassFile.FieldType)) ∈ lw_all := lw_g (lw_at lw_m1 194 rfl) rfl
theorem q381 : (Jvm.Cond.methodLink "SumHouse$Duo" (27 : Nat) ({ cls := "SumHouse$Duo", name := "open", desc := "(II)V" } : Jvm.MethodName)) ∈ lw_all := lw_g (lw_at lw_m1 195 rfl) rfl
theorem q382 : (Jvm.Cond.instanceMethod ({ cls := "SumHouse$Duo", name := "open", desc := "(II)V" } : Jvm.MethodName)) ∈ lw_all := lw_g (lw_at lw_m1 196 rfl) rfl
theorem q383 : (Jvm.Cond.selects "SumHouse$Duo" ({ cls := "SumHouse$Duo", name := "open", desc := "(II)V" } : Jvm.MethodName) ({ cls := "SumHouse$Duo", name := "open", desc := "(II)V" } : Jvm.MethodName)) ∈ lw_all := lw_g (lw_at lw_m1 197 rfl) rfl
theorem q384 : (Jvm.Cond.code ({ cls := "SumHouse$Duo", name := "open", desc := "(II)V" } : Jvm.MethodName) prog_4_method_7_code (5 : Nat) (Option.none : Option Jvm.ClassFile.FieldType)) ∈ lw_all := lw_g (lw_at lw_m1 198 rfl) rfl
theorem q385 : (Jvm.Cond.methodLink "SumHouse$Duo" (31 : Nat) ({ cls := "SumHouse$Duo", name := "trim", desc := "()V" } : Jvm.MethodName)) ∈ lw_all := lw_g (lw_at lw_m1 199 rfl) rfl
theorem q386 : (Jvm.Cond.instanceMethod ({ cls := "SumHouse$Duo", name := "trim", desc := "()V" } : Jvm.MethodName)) ∈ lw_all := lw_g (lw_at lw_m1 200 rfl) rfl
theorem q387 : (Jvm.Cond.selects "SumHouse$Duo" ({ cls := "SumHouse$Duo", name := "trim", desc := "()V" } : Jvm.MethodName) ({ cls := "SumHouse$Duo", name := "trim", desc := "()V" } : Jvm.MethodName)) ∈ lw_all := lw_g (lw_at lw_m1 201 rfl) rfl
theorem q388 : (Jvm.Cond.code ({ cls := "SumHouse$Duo", name := "trim", desc := "()V" } : Jvm.MethodName) prog_4_method_8_code (3 : Nat) (Option.none : Option Jvm.ClassFile.FieldType)) ∈ lw_all := lw_g (lw_at lw_m1 202 rfl) rfl
theorem q389 : (Jvm.Cond.methodLink "SumHouse$Duo" (23 : Nat) ({ cls := "SumHouse$Duo", name := "isEmptyRow", desc := "(I)Z" } : Jvm.MethodName)) ∈ lw_all := lw_g (lw_at lw_m1 203 rfl) rfl
theorem q390 : (Jvm.Cond.privateMethod ({ cls := "SumHouse$Duo", name := "isEmptyRow", desc := "(I)Z" } : Jvm.MethodName)) ∈ lw_tbl := lw_at lw_m1 204 rfl
theorem q391 : (Jvm.Cond.instanceMethod ({ cls := "SumHouse$Duo", name := "isEmptyRow", desc := "(I)Z" } : Jvm.MethodName)) ∈ lw_all := lw_g (lw_at lw_m1 205 rfl) rfl
theorem q392 : (Jvm.Cond.code ({ cls := "SumHouse$Duo", name := "isEmptyRow", desc := "(I)Z" } : Jvm.MethodName) prog_4_method_9_code (3 : Nat) (Option.some Jvm.ClassFile.FieldType.boolean)) ∈ lw_all := lw_g (lw_at lw_m1 206 rfl) rfl
theorem q900 : (Jvm.Cond.instanceMethod ({ cls := "SumHouse$Duo", name := "get", desc := "(II)I" } : Jvm.MethodName)) ∈ lw_all := lw_g (lw_at lw_m3 234 rfl) rfl
theorem q901 : (Jvm.Cond.selects "SumHouse$Duo" ({ cls := "SumHouse$Duo", name := "get", desc := "(II)I" } : Jvm.MethodName) ({ cls := "SumHouse$Duo", name := "get", desc := "(II)I" } : Jvm.MethodName)) ∈ lw_all := lw_g (lw_at lw_m3 235 rfl) rfl
theorem q902 : (Jvm.Cond.code ({ cls := "SumHouse$Duo", name := "get", desc := "(II)I" } : Jvm.MethodName) prog_4_method_5_code (3 : Nat) (Option.some Jvm.ClassFile.FieldType.int)) ∈ lw_all := lw_g (lw_at lw_m3 236 rfl) rfl
theorem q943 : (Jvm.Cond.instanceMethod ({ cls := "SumHouse$Duo", name := "scale", desc := "(I)V" } : Jvm.MethodName)) ∈ lw_all := lw_g (lw_at lw_m4 37 rfl) rfl
theorem q944 : (Jvm.Cond.selects "SumHouse$Duo" ({ cls := "SumHouse$Duo", name := "scale", desc := "(I)V" } : Jvm.MethodName) ({ cls := "SumHouse$Duo", name := "scale", desc := "(I)V" } : Jvm.MethodName)) ∈ lw_all := lw_g (lw_at lw_m4 38 rfl) rfl
theorem q945 : (Jvm.Cond.code ({ cls := "SumHouse$Duo", name := "scale", desc := "(I)V" } : Jvm.MethodName) prog_4_method_16_code (4 : Nat) (Option.none : Option Jvm.ClassFile.FieldType)) ∈ lw_all := lw_g (lw_at lw_m4 39 rfl) rfl
theorem q946 : (Jvm.Cond.methodLinkNest "SumHouse$Duo" (51 : Nat) ({ cls := "SumHouse", name := "times", desc := "(II)I" } : Jvm.MethodName) "SumHouse") ∈ lw_tbl := lw_at lw_m4 40 rfl
theorem q960 : (Jvm.Cond.instanceMethod ({ cls := "SumHouse$Duo", name := "isZero", desc := "()Z" } : Jvm.MethodName)) ∈ lw_all := lw_g (lw_at lw_m4 54 rfl) rfl
theorem q961 : (Jvm.Cond.selects "SumHouse$Duo" ({ cls := "SumHouse$Duo", name := "isZero", desc := "()Z" } : Jvm.MethodName) ({ cls := "SumHouse$Duo", name := "isZero", desc := "()Z" } : Jvm.MethodName)) ∈ lw_all := lw_g (lw_at lw_m4 55 rfl) rfl
theorem q962 : (Jvm.Cond.code ({ cls := "SumHouse$Duo", name := "isZero", desc := "()Z" } : Jvm.MethodName) prog_4_method_2_code (1 : Nat) (Option.some Jvm.ClassFile.FieldType.boolean)) ∈ lw_all := lw_g (lw_at lw_m4 56 rfl) rfl
theorem q976 : (Jvm.Cond.instanceMethod ({ cls := "SumHouse$Duo", name := "copy", desc := "(LSumHouse$Duo;)V" } : Jvm.MethodName)) ∈ lw_all := lw_g (lw_at lw_m4 70 rfl) rfl
theorem q977 : (Jvm.Cond.selects "SumHouse$Duo" ({ cls := "SumHouse$Duo", name := "copy", desc := "(LSumHouse$Duo;)V" } : Jvm.MethodName) ({ cls := "SumHouse$Duo", name := "copy", desc := "(LSumHouse$Duo;)V" } : Jvm.MethodName)) ∈ lw_all := lw_g (lw_at lw_m4 71 rfl) rfl
theorem q978 : (Jvm.Cond.code ({ cls := "SumHouse$Duo", name := "copy", desc := "(LSumHouse$Duo;)V" } : Jvm.MethodName) prog_4_method_11_code (3 : Nat) (Option.none : Option Jvm.ClassFile.FieldType)) ∈ lw_all := lw_g (lw_at lw_m4 72 rfl) rfl
theorem q979 : (Jvm.Cond.methodLink "SumHouse$Duo" (34 : Nat) ({ cls := "java/lang/System", name := "arraycopy", desc := "(Ljava/lang/Object;ILjava/lang/Object;II)V" } : Jvm.MethodName)) ∈ lw_all := lw_g (lw_at lw_m4 73 rfl) rfl
theorem q996 : (Jvm.Cond.instanceMethod ({ cls := "SumHouse$Duo", name := "product", desc := "(LSumHouse$Duo;LSumHouse$Duo;)V" } : Jvm.MethodName)) ∈ lw_all := lw_g (lw_at lw_m4 90 rfl) rfl
theorem q997 : (Jvm.Cond.selects "SumHouse$Duo" ({ cls := "SumHouse$Duo", name := "product", desc := "(LSumHouse$Duo;LSumHouse$Duo;)V" } : Jvm.MethodName) ({ cls := "SumHouse$Duo", name := "product", desc := "(LSumHouse$Duo;LSumHouse$Duo;)V" } : Jvm.MethodName)) ∈ lw_all := lw_g (lw_at lw_m4 91 rfl) rfl
theorem q998 : (Jvm.Cond.code ({ cls := "SumHouse$Duo", name := "product", desc := "(LSumHouse$Duo;LSumHouse$Duo;)V" } : Jvm.MethodName) prog_4_method_21_code (3 : Nat) (Option.none : Option Jvm.ClassFile.FieldType)) ∈ lw_all := lw_g (lw_at lw_m4 92 rfl) rfl
theorem q999 : (Jvm.Cond.methodLink "SumHouse$Duo" (76 : Nat) ({ cls := "SumHouse$Duo", name := "clear", desc := "()V" } : Jvm.MethodName)) ∈ lw_all := lw_g (lw_at lw_m4 93 rfl) rfl
theorem q1000 : (Jvm.Cond.instanceMethod ({ cls := "SumHouse$Duo", name := "clear", desc := "()V" } : Jvm.MethodName)) ∈ lw_all := lw_g (lw_at lw_m4 94 rfl) rfl
theorem q1001 : (Jvm.Cond.selects "SumHouse$Duo" ({ cls := "SumHouse$Duo", name := "clear", desc := "()V" } : Jvm.MethodName) ({ cls := "SumHouse$Duo", name := "clear", desc := "()V" } : Jvm.MethodName)) ∈ lw_all := lw_g (lw_at lw_m4 95 rfl) rfl
theorem q1002 : (Jvm.Cond.code ({ cls := "SumHouse$Duo", name := "clear", desc := "()V" } : Jvm.MethodName) prog_4_method_6_code (1 : Nat) (Option.none : Option Jvm.ClassFile.FieldType)) ∈ lw_all := lw_g (lw_at lw_m4 96 rfl) rfl
theorem q1003 : (Jvm.Cond.methodLink "SumHouse$Duo" (79 : Nat) ({ cls := "SumHouse$Duo", name := "addProduct", desc := "(LSumHouse$Duo;LSumHouse$Duo;)V" } : Jvm.MethodName)) ∈ lw_all := lw_g (lw_at lw_m4 97 rfl) rfl
theorem q1004 : (Jvm.Cond.instanceMethod ({ cls := "SumHouse$Duo", name := "addProduct", desc := "(LSumHouse$Duo;LSumHouse$Duo;)V" } : Jvm.MethodName)) ∈ lw_all := lw_g (lw_at lw_m4 98 rfl) rfl
theorem q1005 : (Jvm.Cond.selects "SumHouse$Duo" ({ cls := "SumHouse$Duo", name := "addProduct", desc := "(LSumHouse$Duo;LSumHouse$Duo;)V" } : Jvm.MethodName) ({ cls := "SumHouse$Duo", name := "addProduct", desc := "(LSumHouse$Duo;LSumHouse$Duo;)V" } : Jvm.MethodName)) ∈ lw_all := lw_g (lw_at lw_m4 99 rfl) rfl
theorem q1006 : (Jvm.Cond.code ({ cls := "SumHouse$Duo", name := "addProduct", desc := "(LSumHouse$Duo;LSumHouse$Duo;)V" } : Jvm.MethodName) prog_4_method_19_code (6 : Nat) (Option.none : Option Jvm.ClassFile.FieldType)) ∈ lw_all := lw_g (lw_at lw_m4 100 rfl) rfl
theorem q1007 : (Jvm.Cond.methodLink "SumHouse$Duo" (68 : Nat) ({ cls := "SumHouse$Duo", name := "isZero", desc := "()Z" } : Jvm.MethodName)) ∈ lw_all := lw_g (lw_at lw_m4 101 rfl) rfl
theorem q1008 : (Jvm.Cond.methodLink "SumHouse$Duo" (57 : Nat) ({ cls := "SumHouse$Duo", name := "grow", desc := "(II)V" } : Jvm.MethodName)) ∈ lw_all := lw_g (lw_at lw_m4 102 rfl) rfl
theorem q1009 : (Jvm.Cond.privateMethod ({ cls := "SumHouse$Duo", name := "grow", desc := "(II)V" } : Jvm.MethodName)) ∈ lw_tbl := lw_at lw_m4 103 rfl
theorem q1010 : (Jvm.Cond.instanceMethod ({ cls := "SumHouse$Duo", name := "grow", desc := "(II)V" } : Jvm.MethodName)) ∈ lw_all := lw_g (lw_at lw_m4 104 rfl) rfl
theorem q1011 : (Jvm.Cond.code ({ cls := "SumHouse$Duo", name := "grow", desc := "(II)V" } : Jvm.MethodName) prog_4_method_18_code (7 : Nat) (Option.none : Option Jvm.ClassFile.FieldType)) ∈ lw_all := lw_g (lw_at lw_m4 105 rfl) rfl
theorem q1012 : (Jvm.Cond.methodLink "SumHouse$Duo" (63 : Nat) ({ cls := "java/lang/Math", name := "max", desc := "(II)I" } : Jvm.MethodName)) ∈ lw_all := lw_g (lw_at lw_m4 106 rfl) rfl
theorem q1015 : (Jvm.Cond.methodLink "SumHouse$Duo" (72 : Nat) ({ cls := "SumHouse$Duo", name := "addRows", desc := "(LSumHouse$Duo;III)V" } : Jvm.MethodName)) ∈ lw_all := lw_g (lw_at lw_m4 109 rfl) rfl
theorem q1016 : (Jvm.Cond.privateMethod ({ cls := "SumHouse$Duo", name := "addRows", desc := "(LSumHouse$Duo;III)V" } : Jvm.MethodName)) ∈ lw_tbl := lw_at lw_m4 110 rfl
theorem q1017 : (Jvm.Cond.instanceMethod ({ cls := "SumHouse$Duo", name := "addRows", desc := "(LSumHouse$Duo;III)V" } : Jvm.MethodName)) ∈ lw_all := lw_g (lw_at lw_m4 111 rfl) rfl
theorem q1018 : (Jvm.Cond.code ({ cls := "SumHouse$Duo", name := "addRows", desc := "(LSumHouse$Duo;III)V" } : Jvm.MethodName) prog_4_method_20_code (9 : Nat) (Option.none : Option Jvm.ClassFile.FieldType)) ∈ lw_all := lw_g (lw_at lw_m4 112 rfl) rfl
theorem q1019 : (Jvm.Cond.methodLinkNest "SumHouse$Duo" (60 : Nat) ({ cls := "SumHouse", name := "sum", desc := "(II)I" } : Jvm.MethodName) "SumHouse") ∈ lw_tbl := lw_at lw_m4 113 rfl
theorem q1024 : (Jvm.Cond.instanceMethod ({ cls := "SumHouse$Duo", name := "add", desc := "(LSumHouse$Duo;I)V" } : Jvm.MethodName)) ∈ lw_all := lw_g (lw_at lw_m4 118 rfl) rfl
theorem q1025 : (Jvm.Cond.selects "SumHouse$Duo" ({ cls := "SumHouse$Duo", name := "add", desc := "(LSumHouse$Duo;I)V" } : Jvm.MethodName) ({ cls := "SumHouse$Duo", name := "add", desc := "(LSumHouse$Duo;I)V" } : Jvm.MethodName)) ∈ lw_all := lw_g (lw_at lw_m4 119 rfl) rfl
theorem q1026 : (Jvm.Cond.code ({ cls := "SumHouse$Duo", name := "add", desc := "(LSumHouse$Duo;I)V" } : Jvm.MethodName) prog_4_method_17_code (5 : Nat) (Option.none : Option Jvm.ClassFile.FieldType)) ∈ lw_all := lw_g (lw_at lw_m4 120 rfl) rfl
theorem q1047 : (Jvm.Cond.instanceMethod ({ cls := "SumHouse$Duo", name := "head", desc := "()I" } : Jvm.MethodName)) ∈ lw_all := lw_g (lw_at lw_m4 141 rfl) rfl
theorem q1048 : (Jvm.Cond.selects "SumHouse$Duo" ({ cls := "SumHouse$Duo", name := "head", desc := "()I" } : Jvm.MethodName) ({ cls := "SumHouse$Duo", name := "head", desc := "()I" } : Jvm.MethodName)) ∈ lw_all := lw_g (lw_at lw_m4 142 rfl) rfl
theorem q1049 : (Jvm.Cond.code ({ cls := "SumHouse$Duo", name := "head", desc := "()I" } : Jvm.MethodName) prog_4_method_15_code (2 : Nat) (Option.some Jvm.ClassFile.FieldType.int)) ∈ lw_all := lw_g (lw_at lw_m4 143 rfl) rfl
theorem q1065 : (Jvm.Cond.instanceMethod ({ cls := "SumHouse$Duo", name := "row", desc := "(ILSumHouse$Poly;)V" } : Jvm.MethodName)) ∈ lw_all := lw_g (lw_at lw_m4 159 rfl) rfl
theorem q1066 : (Jvm.Cond.selects "SumHouse$Duo" ({ cls := "SumHouse$Duo", name := "row", desc := "(ILSumHouse$Poly;)V" } : Jvm.MethodName) ({ cls := "SumHouse$Duo", name := "row", desc := "(ILSumHouse$Poly;)V" } : Jvm.MethodName)) ∈ lw_all := lw_g (lw_at lw_m4 160 rfl) rfl
theorem q1067 : (Jvm.Cond.code ({ cls := "SumHouse$Duo", name := "row", desc := "(ILSumHouse$Poly;)V" } : Jvm.MethodName) prog_4_method_13_code (4 : Nat) (Option.none : Option Jvm.ClassFile.FieldType)) ∈ lw_all := lw_g (lw_at lw_m4 161 rfl) rfl
theorem q1068 : (Jvm.Cond.methodLink "SumHouse$Duo" (46 : Nat) ({ cls := "SumHouse$Poly", name := "trim", desc := "()V" } : Jvm.MethodName)) ∈ lw_all := lw_g (lw_at lw_m4 162 rfl) rfl
theorem q1122 : (Jvm.Cond.instanceMethod ({ cls := "SumHouse$Duo", name := "putRow", desc := "(ILSumHouse$Poly;)V" } : Jvm.MethodName)) ∈ lw_all := lw_g (lw_at lw_m4 216 rfl) rfl
theorem q1123 : (Jvm.Cond.selects "SumHouse$Duo" ({ cls := "SumHouse$Duo", name := "putRow", desc := "(ILSumHouse$Poly;)V" } : Jvm.MethodName) ({ cls := "SumHouse$Duo", name := "putRow", desc := "(ILSumHouse$Poly;)V" } : Jvm.MethodName)) ∈ lw_all := lw_g (lw_at lw_m4 217 rfl) rfl
theorem q1124 : (Jvm.Cond.code ({ cls := "SumHouse$Duo", name := "putRow", desc := "(ILSumHouse$Poly;)V" } : Jvm.MethodName) prog_4_method_14_code (4 : Nat) (Option.none : Option Jvm.ClassFile.FieldType)) ∈ lw_all := lw_g (lw_at lw_m4 218 rfl) rfl
theorem q1125 : (Jvm.Cond.methodLink "SumHouse$Duo" (47 : Nat) ({ cls := "SumHouse$Poly", name := "get", desc := "(I)I" } : Jvm.MethodName)) ∈ lw_all := lw_g (lw_at lw_m4 219 rfl) rfl
theorem q1140 : (Jvm.Cond.instanceMethod ({ cls := "SumHouse$Duo", name := "atN", desc := "(ILSumHouse$Poly;)V" } : Jvm.MethodName)) ∈ lw_all := lw_g (lw_at lw_m4 234 rfl) rfl
theorem q1141 : (Jvm.Cond.selects "SumHouse$Duo" ({ cls := "SumHouse$Duo", name := "atN", desc := "(ILSumHouse$Poly;)V" } : Jvm.MethodName) ({ cls := "SumHouse$Duo", name := "atN", desc := "(ILSumHouse$Poly;)V" } : Jvm.MethodName)) ∈ lw_all := lw_g (lw_at lw_m4 235 rfl) rfl
theorem q1142 : (Jvm.Cond.code ({ cls := "SumHouse$Duo", name := "atN", desc := "(ILSumHouse$Poly;)V" } : Jvm.MethodName) prog_4_method_25_code (6 : Nat) (Option.none : Option Jvm.ClassFile.FieldType)) ∈ lw_all := lw_g (lw_at lw_m4 236 rfl) rfl
theorem q1194 : (Jvm.Cond.instanceMethod ({ cls := "SumHouse$Duo", name := "timesPoly", desc := "(LSumHouse$Poly;LSumHouse$Duo;)V" } : Jvm.MethodName)) ∈ lw_all := lw_g (lw_at lw_m5 48 rfl) rfl
theorem q1195 : (Jvm.Cond.selects "SumHouse$Duo" ({ cls := "SumHouse$Duo", name := "timesPoly", desc := "(LSumHouse$Poly;LSumHouse$Duo;)V" } : Jvm.MethodName) ({ cls := "SumHouse$Duo", name := "timesPoly", desc := "(LSumHouse$Poly;LSumHouse$Duo;)V" } : Jvm.MethodName)) ∈ lw_all := lw_g (lw_at lw_m5 49 rfl) rfl
theorem q1196 : (Jvm.Cond.code ({ cls := "SumHouse$Duo", name := "timesPoly", desc := "(LSumHouse$Poly;LSumHouse$Duo;)V" } : Jvm.MethodName) prog_4_method_22_code (4 : Nat) (Option.none : Option Jvm.ClassFile.FieldType)) ∈ lw_all := lw_g (lw_at lw_m5 50 rfl) rfl
theorem q1197 : (Jvm.Cond.methodLink "SumHouse$Duo" (83 : Nat) ({ cls := "SumHouse$Duo", name := "copy", desc := "(LSumHouse$Duo;)V" } : Jvm.MethodName)) ∈ lw_all := lw_g (lw_at lw_m5 51 rfl) rfl
theorem q1198 : (Jvm.Cond.methodLink "SumHouse$Duo" (87 : Nat) ({ cls := "SumHouse$Poly", name := "isZero", desc := "()Z" } : Jvm.MethodName)) ∈ lw_all := lw_g (lw_at lw_m5 52 rfl) rfl
theorem q1290 : (Jvm.Cond.instanceMethod ({ cls := "SumHouse$Duo", name := "degreeN", desc := "()I" } : Jvm.MethodName)) ∈ lw_all := lw_g (lw_at lw_m5 144 rfl) rfl
theorem q1291 : (Jvm.Cond.selects "SumHouse$Duo" ({ cls := "SumHouse$Duo", name := "degreeN", desc := "()I" } : Jvm.MethodName) ({ cls := "SumHouse$Duo", name := "degreeN", desc := "()I" } : Jvm.MethodName)) ∈ lw_all := lw_g (lw_at lw_m5 145 rfl) rfl
theorem q1292 : (Jvm.Cond.code ({ cls := "SumHouse$Duo", name := "degreeN", desc := "()I" } : Jvm.MethodName) prog_4_method_3_code (1 : Nat) (Option.some Jvm.ClassFile.FieldType.int)) ∈ lw_all := lw_g (lw_at lw_m5 146 rfl) rfl
theorem q1294 : (Jvm.Cond.instanceMethod ({ cls := "SumHouse$Duo", name := "degreeK", desc := "()I" } : Jvm.MethodName)) ∈ lw_all := lw_g (lw_at lw_m5 148 rfl) rfl
theorem q1295 : (Jvm.Cond.selects "SumHouse$Duo" ({ cls := "SumHouse$Duo", name := "degreeK", desc := "()I" } : Jvm.MethodName) ({ cls := "SumHouse$Duo", name := "degreeK", desc := "()I" } : Jvm.MethodName)) ∈ lw_all := lw_g (lw_at lw_m5 149 rfl) rfl
theorem q1296 : (Jvm.Cond.code ({ cls := "SumHouse$Duo", name := "degreeK", desc := "()I" } : Jvm.MethodName) prog_4_method_4_code (1 : Nat) (Option.some Jvm.ClassFile.FieldType.int)) ∈ lw_all := lw_g (lw_at lw_m5 150 rfl) rfl
theorem q1322 : (Jvm.Cond.instanceMethod ({ cls := "SumHouse$Duo", name := "value", desc := "(II)I" } : Jvm.MethodName)) ∈ lw_all := lw_g (lw_at lw_m5 176 rfl) rfl
theorem q1323 : (Jvm.Cond.selects "SumHouse$Duo" ({ cls := "SumHouse$Duo", name := "value", desc := "(II)I" } : Jvm.MethodName) ({ cls := "SumHouse$Duo", name := "value", desc := "(II)I" } : Jvm.MethodName)) ∈ lw_all := lw_g (lw_at lw_m5 177 rfl) rfl
theorem q1324 : (Jvm.Cond.code ({ cls := "SumHouse$Duo", name := "value", desc := "(II)I" } : Jvm.MethodName) prog_4_method_26_code (7 : Nat) (Option.some Jvm.ClassFile.FieldType.int)) ∈ lw_all := lw_g (lw_at lw_m5 178 rfl) rfl
theorem q1350 : (Jvm.Cond.instanceMethod ({ cls := "SumHouse$Duo", name := "shiftN", desc := "(I)V" } : Jvm.MethodName)) ∈ lw_all := lw_g (lw_at lw_m5 204 rfl) rfl
theorem q1351 : (Jvm.Cond.selects "SumHouse$Duo" ({ cls := "SumHouse$Duo", name := "shiftN", desc := "(I)V" } : Jvm.MethodName) ({ cls := "SumHouse$Duo", name := "shiftN", desc := "(I)V" } : Jvm.MethodName)) ∈ lw_all := lw_g (lw_at lw_m5 205 rfl) rfl
theorem q1352 : (Jvm.Cond.code ({ cls := "SumHouse$Duo", name := "shiftN", desc := "(I)V" } : Jvm.MethodName) prog_4_method_24_code (5 : Nat) (Option.none : Option Jvm.ClassFile.FieldType)) ∈ lw_all := lw_g (lw_at lw_m5 206 rfl) rfl
theorem q1354 : (Jvm.Cond.instanceMethod ({ cls := "SumHouse$Duo", name := "shiftK", desc := "(I)V" } : Jvm.MethodName)) ∈ lw_all := lw_g (lw_at lw_m5 208 rfl) rfl
theorem q1355 : (Jvm.Cond.selects "SumHouse$Duo" ({ cls := "SumHouse$Duo", name := "shiftK", desc := "(I)V" } : Jvm.MethodName) ({ cls := "SumHouse$Duo", name := "shiftK", desc := "(I)V" } : Jvm.MethodName)) ∈ lw_all := lw_g (lw_at lw_m5 209 rfl) rfl
theorem q1356 : (Jvm.Cond.code ({ cls := "SumHouse$Duo", name := "shiftK", desc := "(I)V" } : Jvm.MethodName) prog_4_method_23_code (5 : Nat) (Option.none : Option Jvm.ClassFile.FieldType)) ∈ lw_all := lw_g (lw_at lw_m5 210 rfl) rfl
theorem q1708 : (Jvm.Cond.instanceMethod ({ cls := "SumHouse$Duo", name := "turn", desc := "(LSumHouse$Duo;)V" } : Jvm.MethodName)) ∈ lw_all := lw_g (lw_at lw_m7 82 rfl) rfl
theorem q1709 : (Jvm.Cond.selects "SumHouse$Duo" ({ cls := "SumHouse$Duo", name := "turn", desc := "(LSumHouse$Duo;)V" } : Jvm.MethodName) ({ cls := "SumHouse$Duo", name := "turn", desc := "(LSumHouse$Duo;)V" } : Jvm.MethodName)) ∈ lw_all := lw_g (lw_at lw_m7 83 rfl) rfl
theorem q1710 : (Jvm.Cond.code ({ cls := "SumHouse$Duo", name := "turn", desc := "(LSumHouse$Duo;)V" } : Jvm.MethodName) prog_4_method_27_code (4 : Nat) (Option.none : Option Jvm.ClassFile.FieldType)) ∈ lw_all := lw_g (lw_at lw_m7 84 rfl) rfl
theorem q192 : (Jvm.Cond.initialized "SumHouse$Item") ∈ lw_all := lw_g (lw_at lw_m1 6 rfl) rfl
theorem q364 : (Jvm.Cond.instantiable "SumHouse$Item" (8 : Nat)) ∈ lw_all := lw_g (lw_at lw_m1 178 rfl) rfl
theorem q366 : (Jvm.Cond.instanceMethod ({ cls := "SumHouse$Item", name := "<init>", desc := "()V" } : Jvm.MethodName)) ∈ lw_all := lw_g (lw_at lw_m1 180 rfl) rfl
theorem q367 : (Jvm.Cond.code ({ cls := "SumHouse$Item", name := "<init>", desc := "()V" } : Jvm.MethodName) prog_5_method_1_code (1 : Nat) (Option.none : Option Jvm.ClassFile.FieldType)) ∈ lw_all := lw_g (lw_at lw_m1 181 rfl) rfl
theorem q368 : (Jvm.Cond.methodLink "SumHouse$Item" (1 : Nat) ({ cls := "java/lang/Object", name := "<init>", desc := "()V" } : Jvm.MethodName)) ∈ lw_all := lw_g (lw_at lw_m1 182 rfl) rfl
theorem q369 : (Jvm.Cond.classLink "SumHouse$Item" (7 : Nat) "SumHouse$Ratio") ∈ lw_all := lw_g (lw_at lw_m1 183 rfl) rfl
theorem q371 : (Jvm.Cond.methodLink "SumHouse$Item" (9 : Nat) ({ cls := "SumHouse$Ratio", name := "<init>", desc := "()V" } : Jvm.MethodName)) ∈ lw_all := lw_g (lw_at lw_m1 185 rfl) rfl
theorem q402 : (Jvm.Cond.fieldLink "SumHouse$Item" (10 : Nat) "SumHouse$Item" "ratio" "LSumHouse$Ratio;") ∈ lw_all := lw_g (lw_at lw_m1 216 rfl) rfl
theorem q404 : (Jvm.Cond.fieldLink "SumHouse$Item" (16 : Nat) "SumHouse$Item" "x" "I") ∈ lw_all := lw_g (lw_at lw_m1 218 rfl) rfl
theorem q406 : (Jvm.Cond.fieldLink "SumHouse$Item" (20 : Nat) "SumHouse$Item" "y" "I") ∈ lw_all := lw_g (lw_at lw_m1 220 rfl) rfl
theorem q408 : (Jvm.Cond.fieldLink "SumHouse$Item" (36 : Nat) "SumHouse$Item" "count" "I") ∈ lw_all := lw_g (lw_at lw_m1 222 rfl) rfl
theorem q410 : (Jvm.Cond.fieldLink "SumHouse$Item" (23 : Nat) "SumHouse$Item" "a" "[I") ∈ lw_all := lw_g (lw_at lw_m1 224 rfl) rfl
theorem q412 : (Jvm.Cond.fieldLink "SumHouse$Item" (27 : Nat) "SumHouse$Item" "b" "[I") ∈ lw_all := lw_g (lw_at lw_m1 226 rfl) rfl
theorem q414 : (Jvm.Cond.fieldLink "SumHouse$Item" (30 : Nat) "SumHouse$Item" "c" "[I") ∈ lw_all := lw_g (lw_at lw_m1 228 rfl) rfl
theorem q416 : (Jvm.Cond.fieldLink "SumHouse$Item" (33 : Nat) "SumHouse$Item" "e" "[I") ∈ lw_all := lw_g (lw_at lw_m1 230 rfl) rfl
theorem q418 : (Jvm.Cond.laysFinal "SumHouse$Item" "SumHouse$Item" "ratio" "LSumHouse$Ratio;") ∈ lw_all := lw_g (lw_at lw_m1 232 rfl) rfl
theorem q419 : (Jvm.Cond.soleField "SumHouse$Item" "ratio") ∈ lw_all := lw_g (lw_at lw_m1 233 rfl) rfl
theorem q420 : (Jvm.Cond.lays "SumHouse$Item" "SumHouse$Item" "x" "I") ∈ lw_all := lw_g (lw_at lw_m1 234 rfl) rfl
theorem q421 : (Jvm.Cond.soleField "SumHouse$Item" "x") ∈ lw_all := lw_g (lw_at lw_m1 235 rfl) rfl
theorem q422 : (Jvm.Cond.lays "SumHouse$Item" "SumHouse$Item" "y" "I") ∈ lw_all := lw_g (lw_at lw_m1 236 rfl) rfl
theorem q423 : (Jvm.Cond.soleField "SumHouse$Item" "y") ∈ lw_all := lw_g (lw_at lw_m1 237 rfl) rfl
theorem q424 : (Jvm.Cond.lays "SumHouse$Item" "SumHouse$Item" "count" "I") ∈ lw_all := lw_g (lw_at lw_m1 238 rfl) rfl
theorem q425 : (Jvm.Cond.soleField "SumHouse$Item" "count") ∈ lw_all := lw_g (lw_at lw_m1 239 rfl) rfl
theorem q426 : (Jvm.Cond.laysFinal "SumHouse$Item" "SumHouse$Item" "a" "[I") ∈ lw_all := lw_g (lw_at lw_m2 0 rfl) rfl
theorem q427 : (Jvm.Cond.soleField "SumHouse$Item" "a") ∈ lw_all := lw_g (lw_at lw_m2 1 rfl) rfl
theorem q428 : (Jvm.Cond.laysFinal "SumHouse$Item" "SumHouse$Item" "b" "[I") ∈ lw_all := lw_g (lw_at lw_m2 2 rfl) rfl
theorem q429 : (Jvm.Cond.soleField "SumHouse$Item" "b") ∈ lw_all := lw_g (lw_at lw_m2 3 rfl) rfl
theorem q430 : (Jvm.Cond.laysFinal "SumHouse$Item" "SumHouse$Item" "c" "[I") ∈ lw_all := lw_g (lw_at lw_m2 4 rfl) rfl
theorem q431 : (Jvm.Cond.soleField "SumHouse$Item" "c") ∈ lw_all := lw_g (lw_at lw_m2 5 rfl) rfl
theorem q432 : (Jvm.Cond.laysFinal "SumHouse$Item" "SumHouse$Item" "e" "[I") ∈ lw_all := lw_g (lw_at lw_m2 6 rfl) rfl
theorem q433 : (Jvm.Cond.soleField "SumHouse$Item" "e") ∈ lw_all := lw_g (lw_at lw_m2 7 rfl) rfl
theorem q434 : (Jvm.Cond.superclass "SumHouse$Item" "java/lang/Object") ∈ lw_all := lw_g (lw_at lw_m2 8 rfl) rfl
theorem q869 : (Jvm.Cond.instanceMethod ({ cls := "SumHouse$Item", name := "set", desc := "(I)V" } : Jvm.MethodName)) ∈ lw_all := lw_g (lw_at lw_m3 203 rfl) rfl
theorem q870 : (Jvm.Cond.selects "SumHouse$Item" ({ cls := "SumHouse$Item", name := "set", desc := "(I)V" } : Jvm.MethodName) ({ cls := "SumHouse$Item", name := "set", desc := "(I)V" } : Jvm.MethodName)) ∈ lw_all := lw_g (lw_at lw_m3 204 rfl) rfl
theorem q871 : (Jvm.Cond.code ({ cls := "SumHouse$Item", name := "set", desc := "(I)V" } : Jvm.MethodName) prog_5_method_3_code (2 : Nat) (Option.none : Option Jvm.ClassFile.FieldType)) ∈ lw_all := lw_g (lw_at lw_m3 205 rfl) rfl
theorem q872 : (Jvm.Cond.methodLink "SumHouse$Item" (39 : Nat) ({ cls := "SumHouse$Item", name := "plain", desc := "()V" } : Jvm.MethodName)) ∈ lw_all := lw_g (lw_at lw_m3 206 rfl) rfl
theorem q873 : (Jvm.Cond.instanceMethod ({ cls := "SumHouse$Item", name := "plain", desc := "()V" } : Jvm.MethodName)) ∈ lw_all := lw_g (lw_at lw_m3 207 rfl) rfl
theorem q874 : (Jvm.Cond.selects "SumHouse$Item" ({ cls := "SumHouse$Item", name := "plain", desc := "()V" } : Jvm.MethodName) ({ cls := "SumHouse$Item", name := "plain", desc := "()V" } : Jvm.MethodName)) ∈ lw_all := lw_g (lw_at lw_m3 208 rfl) rfl
theorem q875 : (Jvm.Cond.code ({ cls := "SumHouse$Item", name := "plain", desc := "()V" } : Jvm.MethodName) prog_5_method_2_code (1 : Nat) (Option.none : Option Jvm.ClassFile.FieldType)) ∈ lw_all := lw_g (lw_at lw_m3 209 rfl) rfl
theorem q876 : (Jvm.Cond.methodLink "SumHouse$Item" (42 : Nat) ({ cls := "SumHouse$Ratio", name := "set", desc := "(I)V" } : Jvm.MethodName)) ∈ lw_all := lw_g (lw_at lw_m3 210 rfl) rfl
theorem q892 : (Jvm.Cond.instanceMethod ({ cls := "SumHouse$Item", name := "isTerm", desc := "()Z" } : Jvm.MethodName)) ∈ lw_all := lw_g (lw_at lw_m3 226 rfl) rfl
theorem q893 : (Jvm.Cond.selects "SumHouse$Item" ({ cls := "SumHouse$Item", name := "isTerm", desc := "()Z" } : Jvm.MethodName) ({ cls := "SumHouse$Item", name := "isTerm", desc := "()Z" } : Jvm.MethodName)) ∈ lw_all := lw_g (lw_at lw_m3 227 rfl) rfl
theorem q894 : (Jvm.Cond.code ({ cls := "SumHouse$Item", name := "isTerm", desc := "()Z" } : Jvm.MethodName) prog_5_method_6_code (1 : Nat) (Option.some Jvm.ClassFile.FieldType.boolean)) ∈ lw_all := lw_g (lw_at lw_m3 228 rfl) rfl
theorem q919 : (Jvm.Cond.instanceMethod ({ cls := "SumHouse$Item", name := "add", desc := "(IIII)V" } : Jvm.MethodName)) ∈ lw_all := lw_g (lw_at lw_m4 13 rfl) rfl
theorem q920 : (Jvm.Cond.selects "SumHouse$Item" ({ cls := "SumHouse$Item", name := "add", desc := "(IIII)V" } : Jvm.MethodName) ({ cls := "SumHouse$Item", name := "add", desc := "(IIII)V" } : Jvm.MethodName)) ∈ lw_all := lw_g (lw_at lw_m4 14 rfl) rfl
theorem q921 : (Jvm.Cond.code ({ cls := "SumHouse$Item", name := "add", desc := "(IIII)V" } : Jvm.MethodName) prog_5_method_7_code (6 : Nat) (Option.none : Option Jvm.ClassFile.FieldType)) ∈ lw_all := lw_g (lw_at lw_m4 15 rfl) rfl
theorem q922 : (Jvm.Cond.methodLink "SumHouse$Item" (60 : Nat) ({ cls := "SumHouse$Item", name := "move", desc := "(II)V" } : Jvm.MethodName)) ∈ lw_all := lw_g (lw_at lw_m4 16 rfl) rfl
theorem q923 : (Jvm.Cond.privateMethod ({ cls := "SumHouse$Item", name := "move", desc := "(II)V" } : Jvm.MethodName)) ∈ lw_tbl := lw_at lw_m4 17 rfl
theorem q924 : (Jvm.Cond.instanceMethod ({ cls := "SumHouse$Item", name := "move", desc := "(II)V" } : Jvm.MethodName)) ∈ lw_all := lw_g (lw_at lw_m4 18 rfl) rfl
theorem q925 : (Jvm.Cond.code ({ cls := "SumHouse$Item", name := "move", desc := "(II)V" } : Jvm.MethodName) prog_5_method_8_code (3 : Nat) (Option.none : Option Jvm.ClassFile.FieldType)) ∈ lw_all := lw_g (lw_at lw_m4 19 rfl) rfl
theorem q926 : (Jvm.Cond.methodLink "SumHouse$Item" (54 : Nat) ({ cls := "java/lang/System", name := "arraycopy", desc := "(Ljava/lang/Object;ILjava/lang/Object;II)V" } : Jvm.MethodName)) ∈ lw_all := lw_g (lw_at lw_m4 20 rfl) rfl
theorem q968 : (Jvm.Cond.instanceMethod ({ cls := "SumHouse$Item", name := "copy", desc := "(LSumHouse$Item;)V" } : Jvm.MethodName)) ∈ lw_all := lw_g (lw_at lw_m4 62 rfl) rfl
theorem q969 : (Jvm.Cond.selects "SumHouse$Item" ({ cls := "SumHouse$Item", name := "copy", desc := "(LSumHouse$Item;)V" } : Jvm.MethodName) ({ cls := "SumHouse$Item", name := "copy", desc := "(LSumHouse$Item;)V" } : Jvm.MethodName)) ∈ lw_all := lw_g (lw_at lw_m4 63 rfl) rfl
theorem q970 : (Jvm.Cond.code ({ cls := "SumHouse$Item", name := "copy", desc := "(LSumHouse$Item;)V" } : Jvm.MethodName) prog_5_method_4_code (2 : Nat) (Option.none : Option Jvm.ClassFile.FieldType)) ∈ lw_all := lw_g (lw_at lw_m4 64 rfl) rfl
theorem q971 : (Jvm.Cond.methodLink "SumHouse$Item" (46 : Nat) ({ cls := "SumHouse$Ratio", name := "copy", desc := "(LSumHouse$Ratio;)V" } : Jvm.MethodName)) ∈ lw_all := lw_g (lw_at lw_m4 65 rfl) rfl
theorem q980 : (Jvm.Cond.methodLink "SumHouse$Item" (50 : Nat) ({ cls := "SumHouse$Item", name := "copyParts", desc := "(LSumHouse$Item;)V" } : Jvm.MethodName)) ∈ lw_all := lw_g (lw_at lw_m4 74 rfl) rfl
theorem q981 : (Jvm.Cond.instanceMethod ({ cls := "SumHouse$Item", name := "copyParts", desc := "(LSumHouse$Item;)V" } : Jvm.MethodName)) ∈ lw_all := lw_g (lw_at lw_m4 75 rfl) rfl
theorem q982 : (Jvm.Cond.selects "SumHouse$Item" ({ cls := "SumHouse$Item", name := "copyParts", desc := "(LSumHouse$Item;)V" } : Jvm.MethodName) ({ cls := "SumHouse$Item", name := "copyParts", desc := "(LSumHouse$Item;)V" } : Jvm.MethodName)) ∈ lw_all := lw_g (lw_at lw_m4 76 rfl) rfl
theorem q983 : (Jvm.Cond.code ({ cls := "SumHouse$Item", name := "copyParts", desc := "(LSumHouse$Item;)V" } : Jvm.MethodName) prog_5_method_5_code (2 : Nat) (Option.none : Option Jvm.ClassFile.FieldType)) ∈ lw_all := lw_g (lw_at lw_m4 77 rfl) rfl
theorem q1207 : (Jvm.Cond.instanceMethod ({ cls := "SumHouse$Item", name := "sizes", desc := "()I" } : Jvm.MethodName)) ∈ lw_all := lw_g (lw_at lw_m5 61 rfl) rfl
theorem q1208 : (Jvm.Cond.selects "SumHouse$Item" ({ cls := "SumHouse$Item", name := "sizes", desc := "()I" } : Jvm.MethodName) ({ cls := "SumHouse$Item", name := "sizes", desc := "()I" } : Jvm.MethodName)) ∈ lw_all := lw_g (lw_at lw_m5 62 rfl) rfl
theorem q1209 : (Jvm.Cond.code ({ cls := "SumHouse$Item", name := "sizes", desc := "()I" } : Jvm.MethodName) prog_5_method_9_code (3 : Nat) (Option.some Jvm.ClassFile.FieldType.int)) ∈ lw_all := lw_g (lw_at lw_m5 63 rfl) rfl
theorem q1210 : (Jvm.Cond.methodLink "SumHouse$Item" (64 : Nat) ({ cls := "java/lang/Math", name := "abs", desc := "(I)I" } : Jvm.MethodName)) ∈ lw_all := lw_g (lw_at lw_m5 64 rfl) rfl
theorem q193 : (Jvm.Cond.initialized "SumHouse$Ratio") ∈ lw_all := lw_g (lw_at lw_m1 7 rfl) rfl
theorem q280 : (Jvm.Cond.fieldLinkNest "SumHouse$Ratio" (35 : Nat) "SumHouse$Duo" "sizeN" "I" "SumHouse") ∈ lw_tbl := lw_at lw_m1 94 rfl
theorem q285 : (Jvm.Cond.fieldLinkNest "SumHouse$Ratio" (39 : Nat) "SumHouse$Duo" "sizeK" "I" "SumHouse") ∈ lw_tbl := lw_at lw_m1 99 rfl
theorem q370 : (Jvm.Cond.instantiable "SumHouse$Ratio" (2 : Nat)) ∈ lw_all := lw_g (lw_at lw_m1 184 rfl) rfl
theorem q372 : (Jvm.Cond.instanceMethod ({ cls := "SumHouse$Ratio", name := "<init>", desc := "()V" } : Jvm.MethodName)) ∈ lw_all := lw_g (lw_at lw_m1 186 rfl) rfl
theorem q373 : (Jvm.Cond.code ({ cls := "SumHouse$Ratio", name := "<init>", desc := "()V" } : Jvm.MethodName) prog_8_method_1_code (1 : Nat) (Option.none : Option Jvm.ClassFile.FieldType)) ∈ lw_all := lw_g (lw_at lw_m1 187 rfl) rfl
theorem q374 : (Jvm.Cond.methodLink "SumHouse$Ratio" (3 : Nat) ({ cls := "java/lang/Object", name := "<init>", desc := "()V" } : Jvm.MethodName)) ∈ lw_all := lw_g (lw_at lw_m1 188 rfl) rfl
theorem q375 : (Jvm.Cond.classLink "SumHouse$Ratio" (9 : Nat) "SumHouse$Duo") ∈ lw_all := lw_g (lw_at lw_m1 189 rfl) rfl
theorem q376 : (Jvm.Cond.methodLink "SumHouse$Ratio" (11 : Nat) ({ cls := "SumHouse$Duo", name := "<init>", desc := "(II)V" } : Jvm.MethodName)) ∈ lw_all := lw_g (lw_at lw_m1 190 rfl) rfl
theorem q377 : (Jvm.Cond.methodLink "SumHouse$Ratio" (23 : Nat) ({ cls := "SumHouse$Duo", name := "set", desc := "(I)V" } : Jvm.MethodName)) ∈ lw_all := lw_g (lw_at lw_m1 191 rfl) rfl
theorem q393 : (Jvm.Cond.fieldLink "SumHouse$Ratio" (14 : Nat) "SumHouse$Ratio" "top" "LSumHouse$Duo;") ∈ lw_all := lw_g (lw_at lw_m1 207 rfl) rfl
theorem q395 : (Jvm.Cond.fieldLink "SumHouse$Ratio" (20 : Nat) "SumHouse$Ratio" "bottom" "LSumHouse$Duo;") ∈ lw_all := lw_g (lw_at lw_m1 209 rfl) rfl
theorem q397 : (Jvm.Cond.laysFinal "SumHouse$Ratio" "SumHouse$Ratio" "top" "LSumHouse$Duo;") ∈ lw_all := lw_g (lw_at lw_m1 211 rfl) rfl
theorem q398 : (Jvm.Cond.soleField "SumHouse$Ratio" "top") ∈ lw_all := lw_g (lw_at lw_m1 212 rfl) rfl
theorem q399 : (Jvm.Cond.laysFinal "SumHouse$Ratio" "SumHouse$Ratio" "bottom" "LSumHouse$Duo;") ∈ lw_all := lw_g (lw_at lw_m1 213 rfl) rfl
theorem q400 : (Jvm.Cond.soleField "SumHouse$Ratio" "bottom") ∈ lw_all := lw_g (lw_at lw_m1 214 rfl) rfl
theorem q401 : (Jvm.Cond.superclass "SumHouse$Ratio" "java/lang/Object") ∈ lw_all := lw_g (lw_at lw_m1 215 rfl) rfl
theorem q877 : (Jvm.Cond.instanceMethod ({ cls := "SumHouse$Ratio", name := "set", desc := "(I)V" } : Jvm.MethodName)) ∈ lw_all := lw_g (lw_at lw_m3 211 rfl) rfl
theorem q878 : (Jvm.Cond.selects "SumHouse$Ratio" ({ cls := "SumHouse$Ratio", name := "set", desc := "(I)V" } : Jvm.MethodName) ({ cls := "SumHouse$Ratio", name := "set", desc := "(I)V" } : Jvm.MethodName)) ∈ lw_all := lw_g (lw_at lw_m3 212 rfl) rfl
theorem q879 : (Jvm.Cond.code ({ cls := "SumHouse$Ratio", name := "set", desc := "(I)V" } : Jvm.MethodName) prog_8_method_2_code (2 : Nat) (Option.none : Option Jvm.ClassFile.FieldType)) ∈ lw_all := lw_g (lw_at lw_m3 213 rfl) rfl
theorem q896 : (Jvm.Cond.instanceMethod ({ cls := "SumHouse$Ratio", name := "isPolynomial", desc := "()Z" } : Jvm.MethodName)) ∈ lw_all := lw_g (lw_at lw_m3 230 rfl) rfl
theorem q897 : (Jvm.Cond.selects "SumHouse$Ratio" ({ cls := "SumHouse$Ratio", name := "isPolynomial", desc := "()Z" } : Jvm.MethodName) ({ cls := "SumHouse$Ratio", name := "isPolynomial", desc := "()Z" } : Jvm.MethodName)) ∈ lw_all := lw_g (lw_at lw_m3 231 rfl) rfl
theorem q898 : (Jvm.Cond.code ({ cls := "SumHouse$Ratio", name := "isPolynomial", desc := "()Z" } : Jvm.MethodName) prog_8_method_5_code (1 : Nat) (Option.some Jvm.ClassFile.FieldType.boolean)) ∈ lw_all := lw_g (lw_at lw_m3 232 rfl) rfl
theorem q956 : (Jvm.Cond.instanceMethod ({ cls := "SumHouse$Ratio", name := "isZero", desc := "()Z" } : Jvm.MethodName)) ∈ lw_all := lw_g (lw_at lw_m4 50 rfl) rfl
theorem q957 : (Jvm.Cond.selects "SumHouse$Ratio" ({ cls := "SumHouse$Ratio", name := "isZero", desc := "()Z" } : Jvm.MethodName) ({ cls := "SumHouse$Ratio", name := "isZero", desc := "()Z" } : Jvm.MethodName)) ∈ lw_all := lw_g (lw_at lw_m4 51 rfl) rfl
theorem q958 : (Jvm.Cond.code ({ cls := "SumHouse$Ratio", name := "isZero", desc := "()Z" } : Jvm.MethodName) prog_8_method_4_code (1 : Nat) (Option.some Jvm.ClassFile.FieldType.boolean)) ∈ lw_all := lw_g (lw_at lw_m4 52 rfl) rfl
theorem q959 : (Jvm.Cond.methodLink "SumHouse$Ratio" (31 : Nat) ({ cls := "SumHouse$Duo", name := "isZero", desc := "()Z" } : Jvm.MethodName)) ∈ lw_all := lw_g (lw_at lw_m4 53 rfl) rfl
theorem q972 : (Jvm.Cond.instanceMethod ({ cls := "SumHouse$Ratio", name := "copy", desc := "(LSumHouse$Ratio;)V" } : Jvm.MethodName)) ∈ lw_all := lw_g (lw_at lw_m4 66 rfl) rfl
theorem q973 : (Jvm.Cond.selects "SumHouse$Ratio" ({ cls := "SumHouse$Ratio", name := "copy", desc := "(LSumHouse$Ratio;)V" } : Jvm.MethodName) ({ cls := "SumHouse$Ratio", name := "copy", desc := "(LSumHouse$Ratio;)V" } : Jvm.MethodName)) ∈ lw_all := lw_g (lw_at lw_m4 67 rfl) rfl
theorem q974 : (Jvm.Cond.code ({ cls := "SumHouse$Ratio", name := "copy", desc := "(LSumHouse$Ratio;)V" } : Jvm.MethodName) prog_8_method_3_code (2 : Nat) (Option.none : Option Jvm.ClassFile.FieldType)) ∈ lw_all := lw_g (lw_at lw_m4 68 rfl) rfl
theorem q975 : (Jvm.Cond.methodLink "SumHouse$Ratio" (27 : Nat) ({ cls := "SumHouse$Duo", name := "copy", desc := "(LSumHouse$Duo;)V" } : Jvm.MethodName)) ∈ lw_all := lw_g (lw_at lw_m4 69 rfl) rfl
theorem q194 : (Jvm.Cond.initialized "SumHouse$Board") ∈ lw_all := lw_g (lw_at lw_m1 8 rfl) rfl
theorem q245 : (Jvm.Cond.fieldLinkNest "SumHouse$Board" (49 : Nat) "SumHouse$Poly" "size" "I" "SumHouse") ∈ lw_tbl := lw_at lw_m1 59 rfl
theorem q298 : (Jvm.Cond.fieldLinkNest "SumHouse$Board" (52 : Nat) "SumHouse$Parts" "divisors" "LSumHouse$Divisors;" "SumHouse") ∈ lw_tbl := lw_at lw_m1 112 rfl
theorem q441 : (Jvm.Cond.instantiable "SumHouse$Board" (9 : Nat)) ∈ lw_all := lw_g (lw_at lw_m2 15 rfl) rfl
theorem q443 : (Jvm.Cond.instanceMethod ({ cls := "SumHouse$Board", name := "<init>", desc := "(LSumHouse$Parts;)V" } : Jvm.MethodName)) ∈ lw_all := lw_g (lw_at lw_m2 17 rfl) rfl
theorem q444 : (Jvm.Cond.code ({ cls := "SumHouse$Board", name := "<init>", desc := "(LSumHouse$Parts;)V" } : Jvm.MethodName) prog_2_method_1_code (4 : Nat) (Option.none : Option Jvm.ClassFile.FieldType)) ∈ lw_all := lw_g (lw_at lw_m2 18 rfl) rfl
theorem q445 : (Jvm.Cond.methodLink "SumHouse$Board" (3 : Nat) ({ cls := "java/lang/Object", name := "<init>", desc := "()V" } : Jvm.MethodName)) ∈ lw_all := lw_g (lw_at lw_m2 19 rfl) rfl
theorem q446 : (Jvm.Cond.classLink "SumHouse$Board" (11 : Nat) "[[LSumHouse$Poly;") ∈ lw_all := lw_g (lw_at lw_m2 20 rfl) rfl
theorem q449 : (Jvm.Cond.classLink "SumHouse$Board" (16 : Nat) "SumHouse$Poly") ∈ lw_all := lw_g (lw_at lw_m2 23 rfl) rfl
theorem q450 : (Jvm.Cond.methodLink "SumHouse$Board" (18 : Nat) ({ cls := "SumHouse$Poly", name := "<init>", desc := "(I)V" } : Jvm.MethodName)) ∈ lw_all := lw_g (lw_at lw_m2 24 rfl) rfl
theorem q451 : (Jvm.Cond.fieldLink "SumHouse$Board" (35 : Nat) "SumHouse$Board" "parts" "LSumHouse$Parts;") ∈ lw_all := lw_g (lw_at lw_m2 25 rfl) rfl
theorem q452 : (Jvm.Cond.fieldLink "SumHouse$Board" (13 : Nat) "SumHouse$Board" "at" "[[LSumHouse$Poly;") ∈ lw_all := lw_g (lw_at lw_m2 26 rfl) rfl
theorem q454 : (Jvm.Cond.fieldLink "SumHouse$Board" (21 : Nat) "SumHouse$Board" "one" "LSumHouse$Poly;") ∈ lw_all := lw_g (lw_at lw_m2 28 rfl) rfl
theorem q455 : (Jvm.Cond.fieldLink "SumHouse$Board" (25 : Nat) "SumHouse$Board" "two" "LSumHouse$Poly;") ∈ lw_all := lw_g (lw_at lw_m2 29 rfl) rfl
theorem q456 : (Jvm.Cond.fieldLink "SumHouse$Board" (28 : Nat) "SumHouse$Board" "last" "LSumHouse$Poly;") ∈ lw_all := lw_g (lw_at lw_m2 30 rfl) rfl
theorem q457 : (Jvm.Cond.fieldLink "SumHouse$Board" (39 : Nat) "SumHouse$Board" "lines" "I") ∈ lw_all := lw_g (lw_at lw_m2 31 rfl) rfl
theorem q458 : (Jvm.Cond.fieldLink "SumHouse$Board" (43 : Nat) "SumHouse$Board" "columns" "I") ∈ lw_all := lw_g (lw_at lw_m2 32 rfl) rfl
theorem q459 : (Jvm.Cond.fieldLink "SumHouse$Board" (31 : Nat) "SumHouse$Board" "rows" "[I") ∈ lw_all := lw_g (lw_at lw_m2 33 rfl) rfl
theorem q460 : (Jvm.Cond.fieldLink "SumHouse$Board" (71 : Nat) "SumHouse$Board" "rank" "I") ∈ lw_all := lw_g (lw_at lw_m2 34 rfl) rfl
theorem q461 : (Jvm.Cond.laysFinal "SumHouse$Board" "SumHouse$Board" "parts" "LSumHouse$Parts;") ∈ lw_all := lw_g (lw_at lw_m2 35 rfl) rfl
theorem q462 : (Jvm.Cond.soleField "SumHouse$Board" "parts") ∈ lw_all := lw_g (lw_at lw_m2 36 rfl) rfl
theorem q463 : (Jvm.Cond.laysFinal "SumHouse$Board" "SumHouse$Board" "at" "[[LSumHouse$Poly;") ∈ lw_all := lw_g (lw_at lw_m2 37 rfl) rfl
theorem q464 : (Jvm.Cond.soleField "SumHouse$Board" "at") ∈ lw_all := lw_g (lw_at lw_m2 38 rfl) rfl
theorem q465 : (Jvm.Cond.laysFinal "SumHouse$Board" "SumHouse$Board" "one" "LSumHouse$Poly;") ∈ lw_all := lw_g (lw_at lw_m2 39 rfl) rfl
theorem q466 : (Jvm.Cond.soleField "SumHouse$Board" "one") ∈ lw_all := lw_g (lw_at lw_m2 40 rfl) rfl
theorem q467 : (Jvm.Cond.laysFinal "SumHouse$Board" "SumHouse$Board" "two" "LSumHouse$Poly;") ∈ lw_all := lw_g (lw_at lw_m2 41 rfl) rfl
theorem q468 : (Jvm.Cond.soleField "SumHouse$Board" "two") ∈ lw_all := lw_g (lw_at lw_m2 42 rfl) rfl
theorem q469 : (Jvm.Cond.laysFinal "SumHouse$Board" "SumHouse$Board" "last" "LSumHouse$Poly;") ∈ lw_all := lw_g (lw_at lw_m2 43 rfl) rfl
theorem q470 : (Jvm.Cond.soleField "SumHouse$Board" "last") ∈ lw_all := lw_g (lw_at lw_m2 44 rfl) rfl
theorem q471 : (Jvm.Cond.lays "SumHouse$Board" "SumHouse$Board" "lines" "I") ∈ lw_all := lw_g (lw_at lw_m2 45 rfl) rfl
theorem q472 : (Jvm.Cond.soleField "SumHouse$Board" "lines") ∈ lw_all := lw_g (lw_at lw_m2 46 rfl) rfl
theorem q473 : (Jvm.Cond.lays "SumHouse$Board" "SumHouse$Board" "columns" "I") ∈ lw_all := lw_g (lw_at lw_m2 47 rfl) rfl
theorem q474 : (Jvm.Cond.soleField "SumHouse$Board" "columns") ∈ lw_all := lw_g (lw_at lw_m2 48 rfl) rfl
theorem q475 : (Jvm.Cond.laysFinal "SumHouse$Board" "SumHouse$Board" "rows" "[I") ∈ lw_all := lw_g (lw_at lw_m2 49 rfl) rfl
theorem q476 : (Jvm.Cond.soleField "SumHouse$Board" "rows") ∈ lw_all := lw_g (lw_at lw_m2 50 rfl) rfl
theorem q477 : (Jvm.Cond.lays "SumHouse$Board" "SumHouse$Board" "rank" "I") ∈ lw_all := lw_g (lw_at lw_m2 51 rfl) rfl
theorem q478 : (Jvm.Cond.soleField "SumHouse$Board" "rank") ∈ lw_all := lw_g (lw_at lw_m2 52 rfl) rfl
theorem q479 : (Jvm.Cond.superclass "SumHouse$Board" "java/lang/Object") ∈ lw_all := lw_g (lw_at lw_m2 53 rfl) rfl
theorem q1429 : (Jvm.Cond.instanceMethod ({ cls := "SumHouse$Board", name := "open", desc := "(II)V" } : Jvm.MethodName)) ∈ lw_all := lw_g (lw_at lw_m6 43 rfl) rfl
theorem q1430 : (Jvm.Cond.selects "SumHouse$Board" ({ cls := "SumHouse$Board", name := "open", desc := "(II)V" } : Jvm.MethodName) ({ cls := "SumHouse$Board", name := "open", desc := "(II)V" } : Jvm.MethodName)) ∈ lw_all := lw_g (lw_at lw_m6 44 rfl) rfl
theorem q1431 : (Jvm.Cond.code ({ cls := "SumHouse$Board", name := "open", desc := "(II)V" } : Jvm.MethodName) prog_2_method_2_code (5 : Nat) (Option.none : Option Jvm.ClassFile.FieldType)) ∈ lw_all := lw_g (lw_at lw_m6 45 rfl) rfl
theorem q1432 : (Jvm.Cond.methodLink "SumHouse$Board" (46 : Nat) ({ cls := "SumHouse$Poly", name := "clear", desc := "()V" } : Jvm.MethodName)) ∈ lw_all := lw_g (lw_at lw_m6 46 rfl) rfl
theorem q1439 : (Jvm.Cond.instanceMethod ({ cls := "SumHouse$Board", name := "clear", desc := "(I)I" } : Jvm.MethodName)) ∈ lw_all := lw_g (lw_at lw_m6 53 rfl) rfl
theorem q1440 : (Jvm.Cond.selects "SumHouse$Board" ({ cls := "SumHouse$Board", name := "clear", desc := "(I)I" } : Jvm.MethodName) ({ cls := "SumHouse$Board", name := "clear", desc := "(I)I" } : Jvm.MethodName)) ∈ lw_all := lw_g (lw_at lw_m6 54 rfl) rfl
theorem q1441 : (Jvm.Cond.code ({ cls := "SumHouse$Board", name := "clear", desc := "(I)I" } : Jvm.MethodName) prog_2_method_4_code (6 : Nat) (Option.some Jvm.ClassFile.FieldType.int)) ∈ lw_all := lw_g (lw_at lw_m6 55 rfl) rfl
theorem q1442 : (Jvm.Cond.methodLink "SumHouse$Board" (68 : Nat) ({ cls := "SumHouse$Board", name := "tidy", desc := "()V" } : Jvm.MethodName)) ∈ lw_all := lw_g (lw_at lw_m6 56 rfl) rfl
theorem q1443 : (Jvm.Cond.privateMethod ({ cls := "SumHouse$Board", name := "tidy", desc := "()V" } : Jvm.MethodName)) ∈ lw_tbl := lw_at lw_m6 57 rfl
theorem q1444 : (Jvm.Cond.instanceMethod ({ cls := "SumHouse$Board", name := "tidy", desc := "()V" } : Jvm.MethodName)) ∈ lw_all := lw_g (lw_at lw_m6 58 rfl) rfl
theorem q1445 : (Jvm.Cond.code ({ cls := "SumHouse$Board", name := "tidy", desc := "()V" } : Jvm.MethodName) prog_2_method_3_code (3 : Nat) (Option.none : Option Jvm.ClassFile.FieldType)) ∈ lw_all := lw_g (lw_at lw_m6 59 rfl) rfl
theorem q1446 : (Jvm.Cond.methodLink "SumHouse$Board" (58 : Nat) ({ cls := "SumHouse$Divisors", name := "common", desc := "(LSumHouse$Poly;LSumHouse$Poly;LSumHouse$Poly;)V" } : Jvm.MethodName)) ∈ lw_all := lw_g (lw_at lw_m6 60 rfl) rfl
theorem q1447 : (Jvm.Cond.methodLink "SumHouse$Board" (64 : Nat) ({ cls := "SumHouse$Divisors", name := "divideExactly", desc := "(LSumHouse$Poly;LSumHouse$Poly;)V" } : Jvm.MethodName)) ∈ lw_all := lw_g (lw_at lw_m6 61 rfl) rfl
theorem q1448 : (Jvm.Cond.methodLink "SumHouse$Board" (74 : Nat) ({ cls := "SumHouse$Poly", name := "set", desc := "(I)V" } : Jvm.MethodName)) ∈ lw_all := lw_g (lw_at lw_m6 62 rfl) rfl
theorem q1452 : (Jvm.Cond.methodLink "SumHouse$Board" (77 : Nat) ({ cls := "SumHouse$Board", name := "pivot", desc := "(I)I" } : Jvm.MethodName)) ∈ lw_all := lw_g (lw_at lw_m6 66 rfl) rfl
theorem q1453 : (Jvm.Cond.privateMethod ({ cls := "SumHouse$Board", name := "pivot", desc := "(I)I" } : Jvm.MethodName)) ∈ lw_tbl := lw_at lw_m6 67 rfl
theorem q1454 : (Jvm.Cond.instanceMethod ({ cls := "SumHouse$Board", name := "pivot", desc := "(I)I" } : Jvm.MethodName)) ∈ lw_all := lw_g (lw_at lw_m6 68 rfl) rfl
theorem q1455 : (Jvm.Cond.code ({ cls := "SumHouse$Board", name := "pivot", desc := "(I)I" } : Jvm.MethodName) prog_2_method_5_code (4 : Nat) (Option.some Jvm.ClassFile.FieldType.int)) ∈ lw_all := lw_g (lw_at lw_m6 69 rfl) rfl
theorem q1456 : (Jvm.Cond.methodLink "SumHouse$Board" (89 : Nat) ({ cls := "SumHouse$Poly", name := "isZero", desc := "()Z" } : Jvm.MethodName)) ∈ lw_all := lw_g (lw_at lw_m6 70 rfl) rfl
theorem q1457 : (Jvm.Cond.methodLink "SumHouse$Board" (81 : Nat) ({ cls := "SumHouse$Board", name := "takeAway", desc := "(II)V" } : Jvm.MethodName)) ∈ lw_all := lw_g (lw_at lw_m6 71 rfl) rfl
theorem q1458 : (Jvm.Cond.privateMethod ({ cls := "SumHouse$Board", name := "takeAway", desc := "(II)V" } : Jvm.MethodName)) ∈ lw_tbl := lw_at lw_m6 72 rfl
theorem q1459 : (Jvm.Cond.instanceMethod ({ cls := "SumHouse$Board", name := "takeAway", desc := "(II)V" } : Jvm.MethodName)) ∈ lw_all := lw_g (lw_at lw_m6 73 rfl) rfl
theorem q1460 : (Jvm.Cond.code ({ cls := "SumHouse$Board", name := "takeAway", desc := "(II)V" } : Jvm.MethodName) prog_2_method_6_code (5 : Nat) (Option.none : Option Jvm.ClassFile.FieldType)) ∈ lw_all := lw_g (lw_at lw_m6 74 rfl) rfl
theorem q1461 : (Jvm.Cond.methodLink "SumHouse$Board" (93 : Nat) ({ cls := "SumHouse$Poly", name := "product", desc := "(LSumHouse$Poly;LSumHouse$Poly;)V" } : Jvm.MethodName)) ∈ lw_all := lw_g (lw_at lw_m6 75 rfl) rfl
theorem q1462 : (Jvm.Cond.constant "SumHouse$Board" (96 : Nat) (2147483646 : Int32)) ∈ lw_all := lw_g (lw_at lw_m6 76 rfl) rfl
theorem q1463 : (Jvm.Cond.methodLink "SumHouse$Board" (97 : Nat) ({ cls := "SumHouse$Poly", name := "addProduct", desc := "(LSumHouse$Poly;LSumHouse$Poly;I)V" } : Jvm.MethodName)) ∈ lw_all := lw_g (lw_at lw_m6 77 rfl) rfl
theorem q1464 : (Jvm.Cond.methodLink "SumHouse$Board" (101 : Nat) ({ cls := "SumHouse$Poly", name := "divide", desc := "(LSumHouse$Poly;LSumHouse$Poly;)V" } : Jvm.MethodName)) ∈ lw_all := lw_g (lw_at lw_m6 78 rfl) rfl
theorem q1465 : (Jvm.Cond.methodLink "SumHouse$Board" (85 : Nat) ({ cls := "SumHouse$Poly", name := "copy", desc := "(LSumHouse$Poly;)V" } : Jvm.MethodName)) ∈ lw_all := lw_g (lw_at lw_m6 79 rfl) rfl
theorem q1468 : (Jvm.Cond.instanceMethod ({ cls := "SumHouse$Board", name := "number", desc := "(IILSumHouse$Poly;)V" } : Jvm.MethodName)) ∈ lw_all := lw_g (lw_at lw_m6 82 rfl) rfl
theorem q1469 : (Jvm.Cond.selects "SumHouse$Board" ({ cls := "SumHouse$Board", name := "number", desc := "(IILSumHouse$Poly;)V" } : Jvm.MethodName) ({ cls := "SumHouse$Board", name := "number", desc := "(IILSumHouse$Poly;)V" } : Jvm.MethodName)) ∈ lw_all := lw_g (lw_at lw_m6 83 rfl) rfl
theorem q1470 : (Jvm.Cond.code ({ cls := "SumHouse$Board", name := "number", desc := "(IILSumHouse$Poly;)V" } : Jvm.MethodName) prog_2_method_7_code (4 : Nat) (Option.none : Option Jvm.ClassFile.FieldType)) ∈ lw_all := lw_g (lw_at lw_m6 84 rfl) rfl
theorem q1471 : (Jvm.Cond.methodLink "SumHouse$Board" (104 : Nat) ({ cls := "SumHouse$Poly", name := "scale", desc := "(I)V" } : Jvm.MethodName)) ∈ lw_all := lw_g (lw_at lw_m6 85 rfl) rfl
theorem q195 : (Jvm.Cond.initialized "SumHouse$Shifts") ∈ lw_all := lw_g (lw_at lw_m1 9 rfl) rfl
theorem q246 : (Jvm.Cond.fieldLinkNest "SumHouse$Shifts" (85 : Nat) "SumHouse$Poly" "size" "I" "SumHouse") ∈ lw_tbl := lw_at lw_m1 60 rfl
theorem q299 : (Jvm.Cond.fieldLinkNest "SumHouse$Shifts" (92 : Nat) "SumHouse$Parts" "divisors" "LSumHouse$Divisors;" "SumHouse") ∈ lw_tbl := lw_at lw_m1 113 rfl
theorem q486 : (Jvm.Cond.instantiable "SumHouse$Shifts" (7 : Nat)) ∈ lw_all := lw_g (lw_at lw_m2 60 rfl) rfl
theorem q488 : (Jvm.Cond.instanceMethod ({ cls := "SumHouse$Shifts", name := "<init>", desc := "(LSumHouse;)V" } : Jvm.MethodName)) ∈ lw_all := lw_g (lw_at lw_m2 62 rfl) rfl
theorem q489 : (Jvm.Cond.code ({ cls := "SumHouse$Shifts", name := "<init>", desc := "(LSumHouse;)V" } : Jvm.MethodName) prog_9_method_1_code (4 : Nat) (Option.none : Option Jvm.ClassFile.FieldType)) ∈ lw_all := lw_g (lw_at lw_m2 63 rfl) rfl
theorem q490 : (Jvm.Cond.methodLink "SumHouse$Shifts" (9 : Nat) ({ cls := "java/lang/Object", name := "<init>", desc := "()V" } : Jvm.MethodName)) ∈ lw_all := lw_g (lw_at lw_m2 64 rfl) rfl
theorem q491 : (Jvm.Cond.classLink "SumHouse$Shifts" (15 : Nat) "[[LSumHouse$Poly;") ∈ lw_all := lw_g (lw_at lw_m2 65 rfl) rfl
theorem q492 : (Jvm.Cond.classLink "SumHouse$Shifts" (20 : Nat) "SumHouse$Poly") ∈ lw_all := lw_g (lw_at lw_m2 66 rfl) rfl
theorem q493 : (Jvm.Cond.methodLink "SumHouse$Shifts" (29 : Nat) ({ cls := "SumHouse$Poly", name := "<init>", desc := "(I)V" } : Jvm.MethodName)) ∈ lw_all := lw_g (lw_at lw_m2 67 rfl) rfl
theorem q494 : (Jvm.Cond.fieldLink "SumHouse$Shifts" (17 : Nat) "SumHouse$Shifts" "tops" "[[LSumHouse$Poly;") ∈ lw_all := lw_g (lw_at lw_m2 68 rfl) rfl
theorem q496 : (Jvm.Cond.fieldLink "SumHouse$Shifts" (22 : Nat) "SumHouse$Shifts" "bottoms" "[LSumHouse$Poly;") ∈ lw_all := lw_g (lw_at lw_m2 70 rfl) rfl
theorem q498 : (Jvm.Cond.fieldLink "SumHouse$Shifts" (26 : Nat) "SumHouse$Shifts" "moved" "[LSumHouse$Poly;") ∈ lw_all := lw_g (lw_at lw_m2 72 rfl) rfl
theorem q499 : (Jvm.Cond.fieldLink "SumHouse$Shifts" (32 : Nat) "SumHouse$Shifts" "spare" "LSumHouse$Poly;") ∈ lw_all := lw_g (lw_at lw_m2 73 rfl) rfl
theorem q500 : (Jvm.Cond.fieldLink "SumHouse$Shifts" (45 : Nat) "SumHouse$Shifts" "order" "I") ∈ lw_all := lw_g (lw_at lw_m2 74 rfl) rfl
theorem q501 : (Jvm.Cond.fieldLink "SumHouse$Shifts" (36 : Nat) "SumHouse$Shifts" "longer" "LSumHouse$Poly;") ∈ lw_all := lw_g (lw_at lw_m2 75 rfl) rfl
theorem q502 : (Jvm.Cond.fieldLink "SumHouse$Shifts" (3 : Nat) "SumHouse$Shifts" "this$0" "LSumHouse;") ∈ lw_all := lw_g (lw_at lw_m2 76 rfl) rfl
theorem q503 : (Jvm.Cond.laysFinal "SumHouse$Shifts" "SumHouse$Shifts" "tops" "[[LSumHouse$Poly;") ∈ lw_all := lw_g (lw_at lw_m2 77 rfl) rfl
theorem q504 : (Jvm.Cond.soleField "SumHouse$Shifts" "tops") ∈ lw_all := lw_g (lw_at lw_m2 78 rfl) rfl
theorem q505 : (Jvm.Cond.laysFinal "SumHouse$Shifts" "SumHouse$Shifts" "bottoms" "[LSumHouse$Poly;") ∈ lw_all := lw_g (lw_at lw_m2 79 rfl) rfl
theorem q506 : (Jvm.Cond.soleField "SumHouse$Shifts" "bottoms") ∈ lw_all := lw_g (lw_at lw_m2 80 rfl) rfl
theorem q507 : (Jvm.Cond.laysFinal "SumHouse$Shifts" "SumHouse$Shifts" "moved" "[LSumHouse$Poly;") ∈ lw_all := lw_g (lw_at lw_m2 81 rfl) rfl
theorem q508 : (Jvm.Cond.soleField "SumHouse$Shifts" "moved") ∈ lw_all := lw_g (lw_at lw_m2 82 rfl) rfl
theorem q509 : (Jvm.Cond.laysFinal "SumHouse$Shifts" "SumHouse$Shifts" "spare" "LSumHouse$Poly;") ∈ lw_all := lw_g (lw_at lw_m2 83 rfl) rfl
theorem q510 : (Jvm.Cond.soleField "SumHouse$Shifts" "spare") ∈ lw_all := lw_g (lw_at lw_m2 84 rfl) rfl
theorem q511 : (Jvm.Cond.lays "SumHouse$Shifts" "SumHouse$Shifts" "order" "I") ∈ lw_all := lw_g (lw_at lw_m2 85 rfl) rfl
theorem q512 : (Jvm.Cond.soleField "SumHouse$Shifts" "order") ∈ lw_all := lw_g (lw_at lw_m2 86 rfl) rfl
theorem q513 : (Jvm.Cond.laysFinal "SumHouse$Shifts" "SumHouse$Shifts" "longer" "LSumHouse$Poly;") ∈ lw_all := lw_g (lw_at lw_m2 87 rfl) rfl
theorem q514 : (Jvm.Cond.soleField "SumHouse$Shifts" "longer") ∈ lw_all := lw_g (lw_at lw_m2 88 rfl) rfl
theorem q515 : (Jvm.Cond.laysFinal "SumHouse$Shifts" "SumHouse$Shifts" "this$0" "LSumHouse;") ∈ lw_all := lw_g (lw_at lw_m2 89 rfl) rfl
theorem q516 : (Jvm.Cond.soleField "SumHouse$Shifts" "this$0") ∈ lw_all := lw_g (lw_at lw_m2 90 rfl) rfl
theorem q517 : (Jvm.Cond.superclass "SumHouse$Shifts" "java/lang/Object") ∈ lw_all := lw_g (lw_at lw_m2 91 rfl) rfl
theorem q533 : (Jvm.Cond.fieldLinkNest "SumHouse$Shifts" (53 : Nat) "SumHouse$Slot" "a" "[LSumHouse$Poly;" "SumHouse") ∈ lw_tbl := lw_at lw_m2 107 rfl
theorem q535 : (Jvm.Cond.fieldLinkNest "SumHouse$Shifts" (39 : Nat) "SumHouse$Slot" "order" "I" "SumHouse") ∈ lw_tbl := lw_at lw_m2 109 rfl
theorem q559 : (Jvm.Cond.fieldLinkNest "SumHouse$Shifts" (88 : Nat) "SumHouse" "parts" "LSumHouse$Parts;" "SumHouse") ∈ lw_tbl := lw_at lw_m2 133 rfl
theorem q592 : (Jvm.Cond.fieldLinkNest "SumHouse$Shifts" (82 : Nat) "SumHouse" "rowOne" "LSumHouse$Poly;" "SumHouse") ∈ lw_tbl := lw_at lw_m2 166 rfl
theorem q1604 : (Jvm.Cond.instanceMethod ({ cls := "SumHouse$Shifts", name := "find", desc := "(LSumHouse$Slot;)V" } : Jvm.MethodName)) ∈ lw_all := lw_g (lw_at lw_m6 218 rfl) rfl
theorem q1605 : (Jvm.Cond.selects "SumHouse$Shifts" ({ cls := "SumHouse$Shifts", name := "find", desc := "(LSumHouse$Slot;)V" } : Jvm.MethodName) ({ cls := "SumHouse$Shifts", name := "find", desc := "(LSumHouse$Slot;)V" } : Jvm.MethodName)) ∈ lw_all := lw_g (lw_at lw_m6 219 rfl) rfl
theorem q1606 : (Jvm.Cond.code ({ cls := "SumHouse$Shifts", name := "find", desc := "(LSumHouse$Slot;)V" } : Jvm.MethodName) prog_9_method_2_code (4 : Nat) (Option.none : Option Jvm.ClassFile.FieldType)) ∈ lw_all := lw_g (lw_at lw_m6 220 rfl) rfl
theorem q1607 : (Jvm.Cond.methodLink "SumHouse$Shifts" (46 : Nat) ({ cls := "SumHouse$Poly", name := "set", desc := "(I)V" } : Jvm.MethodName)) ∈ lw_all := lw_g (lw_at lw_m6 221 rfl) rfl
theorem q1608 : (Jvm.Cond.methodLink "SumHouse$Shifts" (49 : Nat) ({ cls := "SumHouse$Shifts", name := "findShift", desc := "(LSumHouse$Slot;I)V" } : Jvm.MethodName)) ∈ lw_all := lw_g (lw_at lw_m6 222 rfl) rfl
theorem q1609 : (Jvm.Cond.privateMethod ({ cls := "SumHouse$Shifts", name := "findShift", desc := "(LSumHouse$Slot;I)V" } : Jvm.MethodName)) ∈ lw_tbl := lw_at lw_m6 223 rfl
theorem q1610 : (Jvm.Cond.instanceMethod ({ cls := "SumHouse$Shifts", name := "findShift", desc := "(LSumHouse$Slot;I)V" } : Jvm.MethodName)) ∈ lw_all := lw_g (lw_at lw_m6 224 rfl) rfl
theorem q1611 : (Jvm.Cond.code ({ cls := "SumHouse$Shifts", name := "findShift", desc := "(LSumHouse$Slot;I)V" } : Jvm.MethodName) prog_9_method_3_code (6 : Nat) (Option.none : Option Jvm.ClassFile.FieldType)) ∈ lw_all := lw_g (lw_at lw_m6 225 rfl) rfl
theorem q1612 : (Jvm.Cond.methodLink "SumHouse$Shifts" (56 : Nat) ({ cls := "SumHouse$Poly", name := "copy", desc := "(LSumHouse$Poly;)V" } : Jvm.MethodName)) ∈ lw_all := lw_g (lw_at lw_m6 226 rfl) rfl
theorem q1613 : (Jvm.Cond.methodLinkNest "SumHouse$Shifts" (60 : Nat) ({ cls := "SumHouse", name := "rest", desc := "(I)I" } : Jvm.MethodName) "SumHouse") ∈ lw_tbl := lw_at lw_m6 227 rfl
theorem q1614 : (Jvm.Cond.methodLink "SumHouse$Shifts" (64 : Nat) ({ cls := "SumHouse$Poly", name := "shift", desc := "(I)V" } : Jvm.MethodName)) ∈ lw_all := lw_g (lw_at lw_m6 228 rfl) rfl
theorem q1615 : (Jvm.Cond.methodLink "SumHouse$Shifts" (67 : Nat) ({ cls := "SumHouse$Poly", name := "product", desc := "(LSumHouse$Poly;LSumHouse$Poly;)V" } : Jvm.MethodName)) ∈ lw_all := lw_g (lw_at lw_m6 229 rfl) rfl
theorem q1616 : (Jvm.Cond.methodLink "SumHouse$Shifts" (71 : Nat) ({ cls := "SumHouse$Poly", name := "clear", desc := "()V" } : Jvm.MethodName)) ∈ lw_all := lw_g (lw_at lw_m6 230 rfl) rfl
theorem q1617 : (Jvm.Cond.constant "SumHouse$Shifts" (74 : Nat) (2147483646 : Int32)) ∈ lw_all := lw_g (lw_at lw_m6 231 rfl) rfl
theorem q1618 : (Jvm.Cond.methodLink "SumHouse$Shifts" (75 : Nat) ({ cls := "SumHouse$Poly", name := "add", desc := "(LSumHouse$Poly;II)V" } : Jvm.MethodName)) ∈ lw_all := lw_g (lw_at lw_m6 232 rfl) rfl
theorem q1619 : (Jvm.Cond.methodLink "SumHouse$Shifts" (79 : Nat) ({ cls := "SumHouse$Shifts", name := "lower", desc := "(I)V" } : Jvm.MethodName)) ∈ lw_all := lw_g (lw_at lw_m6 233 rfl) rfl
theorem q1620 : (Jvm.Cond.privateMethod ({ cls := "SumHouse$Shifts", name := "lower", desc := "(I)V" } : Jvm.MethodName)) ∈ lw_tbl := lw_at lw_m6 234 rfl
theorem q1621 : (Jvm.Cond.instanceMethod ({ cls := "SumHouse$Shifts", name := "lower", desc := "(I)V" } : Jvm.MethodName)) ∈ lw_all := lw_g (lw_at lw_m6 235 rfl) rfl
theorem q1622 : (Jvm.Cond.code ({ cls := "SumHouse$Shifts", name := "lower", desc := "(I)V" } : Jvm.MethodName) prog_9_method_4_code (3 : Nat) (Option.none : Option Jvm.ClassFile.FieldType)) ∈ lw_all := lw_g (lw_at lw_m6 236 rfl) rfl
theorem q1623 : (Jvm.Cond.methodLink "SumHouse$Shifts" (98 : Nat) ({ cls := "SumHouse$Divisors", name := "common", desc := "(LSumHouse$Poly;LSumHouse$Poly;LSumHouse$Poly;)V" } : Jvm.MethodName)) ∈ lw_all := lw_g (lw_at lw_m6 237 rfl) rfl
theorem q1624 : (Jvm.Cond.methodLink "SumHouse$Shifts" (104 : Nat) ({ cls := "SumHouse$Divisors", name := "divideExactly", desc := "(LSumHouse$Poly;LSumHouse$Poly;)V" } : Jvm.MethodName)) ∈ lw_all := lw_g (lw_at lw_m6 238 rfl) rfl
theorem q196 : (Jvm.Cond.initialized "SumHouse$Slot") ∈ lw_all := lw_g (lw_at lw_m1 10 rfl) rfl
theorem q520 : (Jvm.Cond.instantiable "SumHouse$Slot" (8 : Nat)) ∈ lw_all := lw_g (lw_at lw_m2 94 rfl) rfl
theorem q522 : (Jvm.Cond.instanceMethod ({ cls := "SumHouse$Slot", name := "<init>", desc := "()V" } : Jvm.MethodName)) ∈ lw_all := lw_g (lw_at lw_m2 96 rfl) rfl
theorem q523 : (Jvm.Cond.code ({ cls := "SumHouse$Slot", name := "<init>", desc := "()V" } : Jvm.MethodName) prog_10_method_1_code (2 : Nat) (Option.none : Option Jvm.ClassFile.FieldType)) ∈ lw_all := lw_g (lw_at lw_m2 97 rfl) rfl
theorem q524 : (Jvm.Cond.methodLink "SumHouse$Slot" (3 : Nat) ({ cls := "java/lang/Object", name := "<init>", desc := "()V" } : Jvm.MethodName)) ∈ lw_all := lw_g (lw_at lw_m2 98 rfl) rfl
theorem q525 : (Jvm.Cond.classLink "SumHouse$Slot" (9 : Nat) "SumHouse$Item") ∈ lw_all := lw_g (lw_at lw_m2 99 rfl) rfl
theorem q526 : (Jvm.Cond.methodLinkNest "SumHouse$Slot" (11 : Nat) ({ cls := "SumHouse$Item", name := "<init>", desc := "()V" } : Jvm.MethodName) "SumHouse") ∈ lw_tbl := lw_at lw_m2 100 rfl
theorem q527 : (Jvm.Cond.classLink "SumHouse$Slot" (18 : Nat) "SumHouse$Poly") ∈ lw_all := lw_g (lw_at lw_m2 101 rfl) rfl
theorem q528 : (Jvm.Cond.methodLink "SumHouse$Slot" (28 : Nat) ({ cls := "SumHouse$Poly", name := "<init>", desc := "(I)V" } : Jvm.MethodName)) ∈ lw_all := lw_g (lw_at lw_m2 102 rfl) rfl
theorem q530 : (Jvm.Cond.fieldLink "SumHouse$Slot" (12 : Nat) "SumHouse$Slot" "item" "LSumHouse$Item;") ∈ lw_all := lw_g (lw_at lw_m2 104 rfl) rfl
theorem q532 : (Jvm.Cond.fieldLink "SumHouse$Slot" (20 : Nat) "SumHouse$Slot" "a" "[LSumHouse$Poly;") ∈ lw_all := lw_g (lw_at lw_m2 106 rfl) rfl
theorem q539 : (Jvm.Cond.fieldLink "SumHouse$Slot" (24 : Nat) "SumHouse$Slot" "numbers" "[I") ∈ lw_all := lw_g (lw_at lw_m2 113 rfl) rfl
theorem q542 : (Jvm.Cond.lays "SumHouse$Slot" "SumHouse$Slot" "kind" "I") ∈ lw_all := lw_g (lw_at lw_m2 116 rfl) rfl
theorem q543 : (Jvm.Cond.soleField "SumHouse$Slot" "kind") ∈ lw_all := lw_g (lw_at lw_m2 117 rfl) rfl
theorem q544 : (Jvm.Cond.laysFinal "SumHouse$Slot" "SumHouse$Slot" "item" "LSumHouse$Item;") ∈ lw_all := lw_g (lw_at lw_m2 118 rfl) rfl
theorem q545 : (Jvm.Cond.soleField "SumHouse$Slot" "item") ∈ lw_all := lw_g (lw_at lw_m2 119 rfl) rfl
theorem q546 : (Jvm.Cond.laysFinal "SumHouse$Slot" "SumHouse$Slot" "a" "[LSumHouse$Poly;") ∈ lw_all := lw_g (lw_at lw_m2 120 rfl) rfl
theorem q547 : (Jvm.Cond.soleField "SumHouse$Slot" "a") ∈ lw_all := lw_g (lw_at lw_m2 121 rfl) rfl
theorem q548 : (Jvm.Cond.lays "SumHouse$Slot" "SumHouse$Slot" "order" "I") ∈ lw_all := lw_g (lw_at lw_m2 122 rfl) rfl
theorem q549 : (Jvm.Cond.soleField "SumHouse$Slot" "order") ∈ lw_all := lw_g (lw_at lw_m2 123 rfl) rfl
theorem q550 : (Jvm.Cond.lays "SumHouse$Slot" "SumHouse$Slot" "needs" "I") ∈ lw_all := lw_g (lw_at lw_m2 124 rfl) rfl
theorem q551 : (Jvm.Cond.soleField "SumHouse$Slot" "needs") ∈ lw_all := lw_g (lw_at lw_m2 125 rfl) rfl
theorem q552 : (Jvm.Cond.lays "SumHouse$Slot" "SumHouse$Slot" "firsts" "I") ∈ lw_all := lw_g (lw_at lw_m2 126 rfl) rfl
theorem q553 : (Jvm.Cond.soleField "SumHouse$Slot" "firsts") ∈ lw_all := lw_g (lw_at lw_m2 127 rfl) rfl
theorem q554 : (Jvm.Cond.laysFinal "SumHouse$Slot" "SumHouse$Slot" "numbers" "[I") ∈ lw_all := lw_g (lw_at lw_m2 128 rfl) rfl
theorem q555 : (Jvm.Cond.soleField "SumHouse$Slot" "numbers") ∈ lw_all := lw_g (lw_at lw_m2 129 rfl) rfl
theorem q556 : (Jvm.Cond.lays "SumHouse$Slot" "SumHouse$Slot" "known" "I") ∈ lw_all := lw_g (lw_at lw_m2 130 rfl) rfl
theorem q557 : (Jvm.Cond.soleField "SumHouse$Slot" "known") ∈ lw_all := lw_g (lw_at lw_m2 131 rfl) rfl
theorem q558 : (Jvm.Cond.superclass "SumHouse$Slot" "java/lang/Object") ∈ lw_all := lw_g (lw_at lw_m2 132 rfl) rfl
theorem q186 : (Jvm.Cond.initialized "SumHouseLaw") ∈ lw_all := lw_g (lw_at lw_m1 0 rfl) rfl
theorem q207 : (Jvm.Cond.methodLink "SumHouseLaw" (15 : Nat) ({ cls := "SumHouse", name := "type", desc := "(JI)I" } : Jvm.MethodName)) ∈ lw_all := lw_g (lw_at lw_m1 21 rfl) rfl
theorem q211 : (Jvm.Cond.classLink "SumHouseLaw" (7 : Nat) "SumHouse") ∈ lw_all := lw_g (lw_at lw_m1 25 rfl) rfl
theorem q213 : (Jvm.Cond.methodLink "SumHouseLaw" (9 : Nat) ({ cls := "SumHouse", name := "<init>", desc := "()V" } : Jvm.MethodName)) ∈ lw_all := lw_g (lw_at lw_m1 27 rfl) rfl
theorem q802 : (Jvm.Cond.methodLink "SumHouseLaw" (20 : Nat) ({ cls := "SumHouse", name := "read", desc := "(I)I" } : Jvm.MethodName)) ∈ lw_all := lw_g (lw_at lw_m3 136 rfl) rfl
theorem q1218 : (Jvm.Cond.methodLink "SumHouseLaw" (25 : Nat) ({ cls := "SumHouse", name := "place", desc := "()I" } : Jvm.MethodName)) ∈ lw_all := lw_g (lw_at lw_m5 72 rfl) rfl
theorem q1222 : (Jvm.Cond.methodLink "SumHouseLaw" (30 : Nat) ({ cls := "SumHouse", name := "write", desc := "(I)I" } : Jvm.MethodName)) ∈ lw_all := lw_g (lw_at lw_m5 76 rfl) rfl
theorem q1269 : (Jvm.Cond.methodLink "SumHouseLaw" (34 : Nat) ({ cls := "SumHouse", name := "written", desc := "(I)I" } : Jvm.MethodName)) ∈ lw_all := lw_g (lw_at lw_m5 123 rfl) rfl
theorem q1273 : (Jvm.Cond.methodLink "SumHouseLaw" (38 : Nat) ({ cls := "SumHouse", name := "again", desc := "()I" } : Jvm.MethodName)) ∈ lw_all := lw_g (lw_at lw_m5 127 rfl) rfl
theorem q1277 : (Jvm.Cond.methodLink "SumHouseLaw" (42 : Nat) ({ cls := "SumHouse", name := "kind", desc := "(I)I" } : Jvm.MethodName)) ∈ lw_all := lw_g (lw_at lw_m5 131 rfl) rfl
theorem q1281 : (Jvm.Cond.methodLink "SumHouseLaw" (46 : Nat) ({ cls := "SumHouse", name := "drop", desc := "(I)I" } : Jvm.MethodName)) ∈ lw_all := lw_g (lw_at lw_m5 135 rfl) rfl
theorem q1285 : (Jvm.Cond.methodLink "SumHouseLaw" (50 : Nat) ({ cls := "SumHouse", name := "degree", desc := "(III)I" } : Jvm.MethodName)) ∈ lw_all := lw_g (lw_at lw_m5 139 rfl) rfl
theorem q1297 : (Jvm.Cond.methodLink "SumHouseLaw" (55 : Nat) ({ cls := "SumHouse", name := "number", desc := "(IIII)I" } : Jvm.MethodName)) ∈ lw_all := lw_g (lw_at lw_m5 151 rfl) rfl
theorem q1302 : (Jvm.Cond.methodLink "SumHouseLaw" (60 : Nat) ({ cls := "SumHouse", name := "told", desc := "(II)I" } : Jvm.MethodName)) ∈ lw_all := lw_g (lw_at lw_m5 156 rfl) rfl
theorem q1306 : (Jvm.Cond.methodLink "SumHouseLaw" (65 : Nat) ({ cls := "SumHouse", name := "factorial", desc := "(III)I" } : Jvm.MethodName)) ∈ lw_all := lw_g (lw_at lw_m5 160 rfl) rfl
theorem q1310 : (Jvm.Cond.methodLink "SumHouseLaw" (77 : Nat) ({ cls := "SumHouse", name := "value", desc := "(III)I" } : Jvm.MethodName)) ∈ lw_all := lw_g (lw_at lw_m5 164 rfl) rfl
theorem q1329 : (Jvm.Cond.methodLink "SumHouseLaw" (81 : Nat) ({ cls := "SumHouse", name := "sum", desc := "(IIII)I" } : Jvm.MethodName)) ∈ lw_all := lw_g (lw_at lw_m5 183 rfl) rfl
theorem q1341 : (Jvm.Cond.methodLink "SumHouseLaw" (85 : Nat) ({ cls := "SumHouse", name := "quotient", desc := "(III)I" } : Jvm.MethodName)) ∈ lw_all := lw_g (lw_at lw_m5 195 rfl) rfl
theorem q1366 : (Jvm.Cond.methodLink "SumHouseLaw" (89 : Nat) ({ cls := "SumHouse", name := "form", desc := "(III)I" } : Jvm.MethodName)) ∈ lw_all := lw_g (lw_at lw_m5 220 rfl) rfl
theorem q1404 : (Jvm.Cond.methodLink "SumHouseLaw" (93 : Nat) ({ cls := "SumHouse", name := "close", desc := "(II)I" } : Jvm.MethodName)) ∈ lw_all := lw_g (lw_at lw_m6 18 rfl) rfl
theorem q1484 : (Jvm.Cond.methodLink "SumHouseLaw" (97 : Nat) ({ cls := "SumHouse", name := "recur", desc := "(III)I" } : Jvm.MethodName)) ∈ lw_all := lw_g (lw_at lw_m6 98 rfl) rfl
theorem q1513 : (Jvm.Cond.methodLink "SumHouseLaw" (101 : Nat) ({ cls := "SumHouse", name := "part", desc := "(III)I" } : Jvm.MethodName)) ∈ lw_all := lw_g (lw_at lw_m6 127 rfl) rfl
theorem q1518 : (Jvm.Cond.methodLink "SumHouseLaw" (105 : Nat) ({ cls := "SumHouse", name := "check", desc := "(II)I" } : Jvm.MethodName)) ∈ lw_all := lw_g (lw_at lw_m6 132 rfl) rfl
theorem q1535 : (Jvm.Cond.methodLink "SumHouseLaw" (109 : Nat) ({ cls := "SumHouse", name := "poke", desc := "(IIIII)I" } : Jvm.MethodName)) ∈ lw_all := lw_g (lw_at lw_m6 149 rfl) rfl
theorem q1544 : (Jvm.Cond.methodLink "SumHouseLaw" (114 : Nat) ({ cls := "SumHouse", name := "holds", desc := "(IIIII)I" } : Jvm.MethodName)) ∈ lw_all := lw_g (lw_at lw_m6 158 rfl) rfl
theorem q1553 : (Jvm.Cond.methodLink "SumHouseLaw" (118 : Nat) ({ cls := "SumHouse", name := "row", desc := "(II)I" } : Jvm.MethodName)) ∈ lw_all := lw_g (lw_at lw_m6 167 rfl) rfl
theorem q1568 : (Jvm.Cond.methodLink "SumHouseLaw" (122 : Nat) ({ cls := "SumHouse", name := "first", desc := "(II)I" } : Jvm.MethodName)) ∈ lw_all := lw_g (lw_at lw_m6 182 rfl) rfl
theorem q1572 : (Jvm.Cond.methodLink "SumHouseLaw" (126 : Nat) ({ cls := "SumHouse", name := "at", desc := "(II)I" } : Jvm.MethodName)) ∈ lw_all := lw_g (lw_at lw_m6 186 rfl) rfl
theorem q1583 : (Jvm.Cond.methodLink "SumHouseLaw" (130 : Nat) ({ cls := "SumHouse", name := "join", desc := "(IIII)I" } : Jvm.MethodName)) ∈ lw_all := lw_g (lw_at lw_m6 197 rfl) rfl
theorem q1637 : (Jvm.Cond.methodLink "SumHouseLaw" (134 : Nat) ({ cls := "SumHouse", name := "feed", desc := "(I)I" } : Jvm.MethodName)) ∈ lw_all := lw_g (lw_at lw_m7 11 rfl) rfl
theorem q1641 : (Jvm.Cond.methodLink "SumHouseLaw" (138 : Nat) ({ cls := "SumHouse", name := "clear", desc := "()I" } : Jvm.MethodName)) ∈ lw_all := lw_g (lw_at lw_m7 15 rfl) rfl
theorem q1645 : (Jvm.Cond.methodLink "SumHouseLaw" (142 : Nat) ({ cls := "SumHouse", name := "guess", desc := "(I)I" } : Jvm.MethodName)) ∈ lw_all := lw_g (lw_at lw_m7 19 rfl) rfl
theorem q1661 : (Jvm.Cond.methodLink "SumHouseLaw" (146 : Nat) ({ cls := "SumHouse", name := "roots", desc := "(I)I" } : Jvm.MethodName)) ∈ lw_all := lw_g (lw_at lw_m7 35 rfl) rfl
theorem q1684 : (Jvm.Cond.methodLink "SumHouseLaw" (150 : Nat) ({ cls := "SumHouse", name := "root", desc := "(I)I" } : Jvm.MethodName)) ∈ lw_all := lw_g (lw_at lw_m7 58 rfl) rfl
theorem q1688 : (Jvm.Cond.methodLink "SumHouseLaw" (154 : Nat) ({ cls := "SumHouse", name := "solve", desc := "(II)I" } : Jvm.MethodName)) ∈ lw_all := lw_g (lw_at lw_m7 62 rfl) rfl
theorem q1696 : (Jvm.Cond.methodLink "SumHouseLaw" (69 : Nat) ({ cls := "SumHouse", name := "work", desc := "(IIII)I" } : Jvm.MethodName)) ∈ lw_all := lw_g (lw_at lw_m7 70 rfl) rfl
theorem q1716 : (Jvm.Cond.methodLink "SumHouseLaw" (73 : Nat) ({ cls := "SumHouse", name := "change", desc := "(IIII)I" } : Jvm.MethodName)) ∈ lw_all := lw_g (lw_at lw_m7 90 rfl) rfl
theorem q1742 : (Jvm.Cond.methodLink "SumHouseLaw" (158 : Nat) ({ cls := "SumHouse", name := "count", desc := "(I)I" } : Jvm.MethodName)) ∈ lw_all := lw_g (lw_at lw_m7 116 rfl) rfl
theorem q1746 : (Jvm.Cond.classLink "SumHouseLaw" (10 : Nat) "SumHouseModel") ∈ lw_all := lw_g (lw_at lw_m7 120 rfl) rfl
theorem q1748 : (Jvm.Cond.methodLink "SumHouseLaw" (12 : Nat) ({ cls := "SumHouseModel", name := "<init>", desc := "()V" } : Jvm.MethodName)) ∈ lw_all := lw_g (lw_at lw_m7 122 rfl) rfl
theorem q2112 : (Jvm.Cond.methodLink "SumHouseLaw" (19 : Nat) ({ cls := "SumHouseModel", name := "type", desc := "(JI)I" } : Jvm.MethodName)) ∈ lw_all := lw_g (lw_at lw_m9 6 rfl) rfl
theorem q2116 : (Jvm.Cond.methodLink "SumHouseLaw" (24 : Nat) ({ cls := "SumHouseModel", name := "read", desc := "(I)I" } : Jvm.MethodName)) ∈ lw_all := lw_g (lw_at lw_m9 10 rfl) rfl
theorem q2444 : (Jvm.Cond.methodLink "SumHouseLaw" (29 : Nat) ({ cls := "SumHouseModel", name := "place", desc := "()I" } : Jvm.MethodName)) ∈ lw_all := lw_g (lw_at lw_m10 98 rfl) rfl
theorem q2448 : (Jvm.Cond.methodLink "SumHouseLaw" (33 : Nat) ({ cls := "SumHouseModel", name := "write", desc := "(I)I" } : Jvm.MethodName)) ∈ lw_all := lw_g (lw_at lw_m10 102 rfl) rfl
theorem q2487 : (Jvm.Cond.methodLink "SumHouseLaw" (37 : Nat) ({ cls := "SumHouseModel", name := "written", desc := "(I)I" } : Jvm.MethodName)) ∈ lw_all := lw_g (lw_at lw_m10 141 rfl) rfl
theorem q2491 : (Jvm.Cond.methodLink "SumHouseLaw" (41 : Nat) ({ cls := "SumHouseModel", name := "again", desc := "()I" } : Jvm.MethodName)) ∈ lw_all := lw_g (lw_at lw_m10 145 rfl) rfl
theorem q2495 : (Jvm.Cond.methodLink "SumHouseLaw" (45 : Nat) ({ cls := "SumHouseModel", name := "kind", desc := "(I)I" } : Jvm.MethodName)) ∈ lw_all := lw_g (lw_at lw_m10 149 rfl) rfl
theorem q2499 : (Jvm.Cond.methodLink "SumHouseLaw" (49 : Nat) ({ cls := "SumHouseModel", name := "drop", desc := "(I)I" } : Jvm.MethodName)) ∈ lw_all := lw_g (lw_at lw_m10 153 rfl) rfl
theorem q2503 : (Jvm.Cond.methodLink "SumHouseLaw" (54 : Nat) ({ cls := "SumHouseModel", name := "degree", desc := "(III)I" } : Jvm.MethodName)) ∈ lw_all := lw_g (lw_at lw_m10 157 rfl) rfl
theorem q2510 : (Jvm.Cond.methodLink "SumHouseLaw" (59 : Nat) ({ cls := "SumHouseModel", name := "number", desc := "(IIII)I" } : Jvm.MethodName)) ∈ lw_all := lw_g (lw_at lw_m10 164 rfl) rfl
theorem q2514 : (Jvm.Cond.methodLink "SumHouseLaw" (64 : Nat) ({ cls := "SumHouseModel", name := "told", desc := "(II)I" } : Jvm.MethodName)) ∈ lw_all := lw_g (lw_at lw_m10 168 rfl) rfl
theorem q2518 : (Jvm.Cond.methodLink "SumHouseLaw" (68 : Nat) ({ cls := "SumHouseModel", name := "factorial", desc := "(III)I" } : Jvm.MethodName)) ∈ lw_all := lw_g (lw_at lw_m10 172 rfl) rfl
theorem q2522 : (Jvm.Cond.methodLink "SumHouseLaw" (161 : Nat) ({ cls := "SumHouseModel", name := "count", desc := "(I)I" } : Jvm.MethodName)) ∈ lw_all := lw_g (lw_at lw_m10 176 rfl) rfl
theorem q2526 : (Jvm.Cond.methodLink "SumHouseLaw" (88 : Nat) ({ cls := "SumHouseModel", name := "quotient", desc := "(III)I" } : Jvm.MethodName)) ∈ lw_all := lw_g (lw_at lw_m10 180 rfl) rfl
theorem q2551 : (Jvm.Cond.methodLink "SumHouseLaw" (72 : Nat) ({ cls := "SumHouseModel", name := "work", desc := "(IIII)I" } : Jvm.MethodName)) ∈ lw_all := lw_g (lw_at lw_m10 205 rfl) rfl
theorem q2569 : (Jvm.Cond.methodLink "SumHouseLaw" (76 : Nat) ({ cls := "SumHouseModel", name := "change", desc := "(IIII)I" } : Jvm.MethodName)) ∈ lw_all := lw_g (lw_at lw_m10 223 rfl) rfl
theorem q2594 : (Jvm.Cond.methodLink "SumHouseLaw" (80 : Nat) ({ cls := "SumHouseModel", name := "value", desc := "(III)I" } : Jvm.MethodName)) ∈ lw_all := lw_g (lw_at lw_m11 8 rfl) rfl
theorem q2617 : (Jvm.Cond.methodLink "SumHouseLaw" (84 : Nat) ({ cls := "SumHouseModel", name := "sum", desc := "(IIII)I" } : Jvm.MethodName)) ∈ lw_all := lw_g (lw_at lw_m11 31 rfl) rfl
theorem q2625 : (Jvm.Cond.methodLink "SumHouseLaw" (92 : Nat) ({ cls := "SumHouseModel", name := "form", desc := "(III)I" } : Jvm.MethodName)) ∈ lw_all := lw_g (lw_at lw_m11 39 rfl) rfl
theorem q2633 : (Jvm.Cond.methodLink "SumHouseLaw" (96 : Nat) ({ cls := "SumHouseModel", name := "close", desc := "(II)I" } : Jvm.MethodName)) ∈ lw_all := lw_g (lw_at lw_m11 47 rfl) rfl
theorem q2665 : (Jvm.Cond.methodLink "SumHouseLaw" (100 : Nat) ({ cls := "SumHouseModel", name := "recur", desc := "(III)I" } : Jvm.MethodName)) ∈ lw_all := lw_g (lw_at lw_m11 79 rfl) rfl
theorem q2688 : (Jvm.Cond.methodLink "SumHouseLaw" (104 : Nat) ({ cls := "SumHouseModel", name := "part", desc := "(III)I" } : Jvm.MethodName)) ∈ lw_all := lw_g (lw_at lw_m11 102 rfl) rfl
theorem q2692 : (Jvm.Cond.methodLink "SumHouseLaw" (108 : Nat) ({ cls := "SumHouseModel", name := "check", desc := "(II)I" } : Jvm.MethodName)) ∈ lw_all := lw_g (lw_at lw_m11 106 rfl) rfl
theorem q2706 : (Jvm.Cond.methodLink "SumHouseLaw" (113 : Nat) ({ cls := "SumHouseModel", name := "poke", desc := "(IIIII)I" } : Jvm.MethodName)) ∈ lw_all := lw_g (lw_at lw_m11 120 rfl) rfl
theorem q2710 : (Jvm.Cond.methodLink "SumHouseLaw" (117 : Nat) ({ cls := "SumHouseModel", name := "holds", desc := "(IIIII)I" } : Jvm.MethodName)) ∈ lw_all := lw_g (lw_at lw_m11 124 rfl) rfl
theorem q2714 : (Jvm.Cond.methodLink "SumHouseLaw" (121 : Nat) ({ cls := "SumHouseModel", name := "row", desc := "(II)I" } : Jvm.MethodName)) ∈ lw_all := lw_g (lw_at lw_m11 128 rfl) rfl
theorem q2728 : (Jvm.Cond.methodLink "SumHouseLaw" (125 : Nat) ({ cls := "SumHouseModel", name := "first", desc := "(II)I" } : Jvm.MethodName)) ∈ lw_all := lw_g (lw_at lw_m11 142 rfl) rfl
theorem q2735 : (Jvm.Cond.methodLink "SumHouseLaw" (129 : Nat) ({ cls := "SumHouseModel", name := "at", desc := "(II)I" } : Jvm.MethodName)) ∈ lw_all := lw_g (lw_at lw_m11 149 rfl) rfl
theorem q2739 : (Jvm.Cond.methodLink "SumHouseLaw" (133 : Nat) ({ cls := "SumHouseModel", name := "join", desc := "(IIII)I" } : Jvm.MethodName)) ∈ lw_all := lw_g (lw_at lw_m11 153 rfl) rfl
theorem q2762 : (Jvm.Cond.methodLink "SumHouseLaw" (137 : Nat) ({ cls := "SumHouseModel", name := "feed", desc := "(I)I" } : Jvm.MethodName)) ∈ lw_all := lw_g (lw_at lw_m11 176 rfl) rfl
theorem q2766 : (Jvm.Cond.methodLink "SumHouseLaw" (141 : Nat) ({ cls := "SumHouseModel", name := "clear", desc := "()I" } : Jvm.MethodName)) ∈ lw_all := lw_g (lw_at lw_m11 180 rfl) rfl
theorem q2770 : (Jvm.Cond.methodLink "SumHouseLaw" (145 : Nat) ({ cls := "SumHouseModel", name := "guess", desc := "(I)I" } : Jvm.MethodName)) ∈ lw_all := lw_g (lw_at lw_m11 184 rfl) rfl
theorem q2782 : (Jvm.Cond.methodLink "SumHouseLaw" (149 : Nat) ({ cls := "SumHouseModel", name := "roots", desc := "(I)I" } : Jvm.MethodName)) ∈ lw_all := lw_g (lw_at lw_m11 196 rfl) rfl
theorem q2795 : (Jvm.Cond.methodLink "SumHouseLaw" (153 : Nat) ({ cls := "SumHouseModel", name := "root", desc := "(I)I" } : Jvm.MethodName)) ∈ lw_all := lw_g (lw_at lw_m11 209 rfl) rfl
theorem q2799 : (Jvm.Cond.methodLink "SumHouseLaw" (157 : Nat) ({ cls := "SumHouseModel", name := "solve", desc := "(II)I" } : Jvm.MethodName)) ∈ lw_all := lw_g (lw_at lw_m11 213 rfl) rfl
theorem q2807 : (Jvm.Cond.constantLong "SumHouseLaw" (13 : Nat) (4294967295 : Int64)) ∈ lw_all := lw_g (lw_at lw_m11 221 rfl) rfl
theorem q205 : (Jvm.Cond.initialized "java/lang/System") ∈ lw_all := lw_g (lw_at lw_m1 19 rfl) rfl
theorem q927 : (Jvm.Cond.static ({ cls := "java/lang/System", name := "arraycopy", desc := "(Ljava/lang/Object;ILjava/lang/Object;II)V" } : Jvm.MethodName)) ∈ lw_all := lw_g (lw_at lw_m4 21 rfl) rfl
theorem q928 : (Jvm.Cond.native ({ cls := "java/lang/System", name := "arraycopy", desc := "(Ljava/lang/Object;ILjava/lang/Object;II)V" } : Jvm.MethodName)) ∈ lw_all := lw_g (lw_at lw_m4 22 rfl) rfl
theorem q254 : (Jvm.Cond.arrayClass Jvm.ClassFile.FieldType.int) ∈ lw_all := lw_g (lw_at lw_m1 68 rfl) rfl
theorem q435 : (Jvm.Cond.arrayOver (Jvm.ClassFile.FieldType.object "SumHouse$Item")) ∈ lw_tbl := lw_at lw_m2 9 rfl
theorem q437 : (Jvm.Cond.arrayOver (Jvm.ClassFile.FieldType.object "SumHouse$Slot")) ∈ lw_tbl := lw_at lw_m2 11 rfl
theorem q447 : (Jvm.Cond.arrayOver (Jvm.ClassFile.FieldType.array (Jvm.ClassFile.FieldType.object "SumHouse$Poly"))) ∈ lw_tbl := lw_at lw_m2 21 rfl
theorem q448 : (Jvm.Cond.arrayOver (Jvm.ClassFile.FieldType.object "SumHouse$Poly")) ∈ lw_tbl := lw_at lw_m2 22 rfl
theorem q480 : (Jvm.Cond.arrayClass Jvm.ClassFile.FieldType.byte) ∈ lw_all := lw_g (lw_at lw_m2 54 rfl) rfl
theorem q481 : (Jvm.Cond.arrayOver (Jvm.ClassFile.FieldType.object "SumHouse$Duo")) ∈ lw_tbl := lw_at lw_m2 55 rfl
theorem q483 : (Jvm.Cond.arrayOver (Jvm.ClassFile.FieldType.object "SumHouse$Ratio")) ∈ lw_tbl := lw_at lw_m2 57 rfl
theorem q519 : (Jvm.Cond.arrayOver (Jvm.ClassFile.FieldType.array Jvm.ClassFile.FieldType.int)) ∈ lw_tbl := lw_at lw_m2 93 rfl
theorem q1753 : (Jvm.Cond.arrayOver (Jvm.ClassFile.FieldType.object "SumHouseModel$U")) ∈ lw_tbl := lw_at lw_m7 127 rfl
theorem q1755 : (Jvm.Cond.arrayOver (Jvm.ClassFile.FieldType.object "SumHouseModel$B")) ∈ lw_tbl := lw_at lw_m7 129 rfl
theorem q1881 : (Jvm.Cond.arrayClass Jvm.ClassFile.FieldType.boolean) ∈ lw_all := lw_g (lw_at lw_m8 15 rfl) rfl
theorem q1882 : (Jvm.Cond.arrayOver (Jvm.ClassFile.FieldType.object "SumHouseModel$Thing")) ∈ lw_tbl := lw_at lw_m8 16 rfl
theorem q1884 : (Jvm.Cond.arrayOver (Jvm.ClassFile.FieldType.array (Jvm.ClassFile.FieldType.object "SumHouseModel$U"))) ∈ lw_tbl := lw_at lw_m8 18 rfl
theorem in_X0 : ∀ w ∈ wsX00, w ∈ lw_all := lw_in wsX00 [641, 643, 645, 647, 649, 651, 653, 655, 657, 659, 661, 663, 665, 667, 669, 671, 673, 675, 677, 679, 681, 683, 685, 687, 689, 691, 693, 695, 697, 699, 701, 703, 705, 707, 709, 711, 713, 715, 717, 719, 721, 723, 725, 727, 729, 731, 733, 735, 737, 739, 741, 743, 745, 747, 749, 751, 753, 755, 757, 759, 761, 763, 765, 767, 769, 771, 773, 775, 777, 779, 781, 783, 785, 787, 789, 791, 793, 795, 797, 799] (by decide +kernel) (by decide +kernel)
theorem in_X1 : ∀ w ∈ wsX10, w ∈ lw_all := lw_in wsX10 [320, 322, 324, 326, 328, 330, 332, 334, 336, 338, 340, 342, 344, 346, 348, 350, 352, 354, 356, 358] (by decide +kernel) (by decide +kernel)
theorem in_X2 : ∀ w ∈ wsX20, w ∈ lw_all := lw_in wsX20 [258, 260, 262] (by decide +kernel) (by decide +kernel)
theorem in_X3 : ∀ w ∈ wsX30, w ∈ lw_all := lw_in wsX30 [249, 251] (by decide +kernel) (by decide +kernel)
theorem in_X4 : ∀ w ∈ wsX40, w ∈ lw_all := lw_in wsX40 [287, 289, 291, 293] (by decide +kernel) (by decide +kernel)
theorem in_X5 : ∀ w ∈ wsX50, w ∈ lw_all := lw_in wsX50 [418, 420, 422, 424, 426, 428, 430, 432] (by decide +kernel) (by decide +kernel)
theorem in_X6 : ∀ w ∈ wsX60, w ∈ lw_all := lw_in wsX60 [397, 399] (by decide +kernel) (by decide +kernel)
theorem in_X7 : ∀ w ∈ wsX70, w ∈ lw_all := lw_in wsX70 [461, 463, 465, 467, 469, 471, 473, 475, 477] (by decide +kernel) (by decide +kernel)
theorem in_X8 : ∀ w ∈ wsX80, w ∈ lw_all := lw_in wsX80 [503, 505, 507, 509, 511, 513, 515] (by decide +kernel) (by decide +kernel)
theorem in_X9 : ∀ w ∈ wsX90, w ∈ lw_all := lw_in wsX90 [542, 544, 546, 548, 550, 552, 554, 556] (by decide +kernel) (by decide +kernel)
theorem in_X10 : ∀ w ∈ wsX100, w ∈ lw_all := lw_in wsX100 [1981, 1983, 1985, 1987, 1989, 1991, 1993, 1995, 1997, 1999, 2001, 2003, 2005, 2007, 2009, 2011, 2013, 2015, 2017, 2019, 2021, 2023, 2025, 2027, 2029, 2031, 2033, 2035, 2037, 2039, 2041, 2043, 2045, 2047, 2049, 2051, 2053, 2055, 2057, 2059, 2061, 2063, 2065, 2067, 2069, 2071, 2073, 2075, 2077, 2079, 2081, 2083, 2085, 2087, 2089, 2091, 2093, 2095, 2097, 2099, 2101, 2103, 2105, 2107, 2109] (by decide +kernel) (by decide +kernel)
theorem in_X11 : ∀ w ∈ wsX110, w ∈ lw_all := lw_in wsX110 [1786, 1788, 1790, 1792, 1794, 1796, 1798, 1800, 1802, 1804, 1806, 1808, 1810, 1812, 1814] (by decide +kernel) (by decide +kernel)
theorem in_X12 : ∀ w ∈ wsX120, w ∈ lw_all := lw_in wsX120 [1828, 1830, 1832, 1834, 1836, 1877] (by decide +kernel) (by decide +kernel)
theorem in_X13 : ∀ w ∈ wsX130, w ∈ lw_all := lw_in wsX130 [1895, 1897] (by decide +kernel) (by decide +kernel)
theorem in_X14 : ∀ w ∈ wsX140, w ∈ lw_all := lw_in wsX140 [1911, 1913] (by decide +kernel) (by decide +kernel)
theorem in_J0 : ∀ w ∈ wsJ00, w ∈ lw_all := lw_in wsJ00 [1829, 1831, 1833, 1835, 1837] (by decide +kernel) (by decide +kernel)
