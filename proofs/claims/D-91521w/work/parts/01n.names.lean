set_option maxRecDepth 100000
def RX0 : String := "BelowWorth"
def TX0 : u_T := fun k => match k with
  | 0 => ("BelowWorth", "now", "I", false)
  | 1 => ("BelowWorth", "landOf", "[I", true)
  | 2 => ("BelowWorth", "far", "[[I", true)
  | 3 => ("BelowWorth", "firmMany", "I", false)
  | 4 => ("BelowWorth", "costs", "[LBelowWorth$Cost;", true)
  | 5 => ("BelowWorth", "costMany", "I", false)
  | 6 => ("BelowWorth", "sales", "[LBelowWorth$Sale;", true)
  | 7 => ("BelowWorth", "adjusts", "[LBelowWorth$Adjustment;", true)
  | 8 => ("BelowWorth", "saleMany", "I", false)
  | 9 => ("BelowWorth", "adjustMany", "I", false)
  | 10 => ("BelowWorth", "fault", "LBelowWorth$Fault;", true)
  | 11 => ("BelowWorth", "tape", "[B", true)
  | 12 => ("BelowWorth", "taped", "I", false)
  | 13 => ("BelowWorth", "words", "[Ljava/lang/String;", true)
  | 14 => ("BelowWorth", "plain", "[Ljava/lang/String;", true)
  | 15 => ("BelowWorth", "acts", "[LBelowWorth$Act;", true)
  | 16 => ("BelowWorth", "without", "LBelowWorth$Act;", true)
  | 17 => ("BelowWorth", "actMany", "I", false)
  | 18 => ("BelowWorth", "look", "LBelowWorth$Look;", true)
  | 19 => ("BelowWorth", "byGrade", "I", false)
  | 20 => ("BelowWorth", "byMonth", "I", false)
  | 21 => ("BelowWorth", "above", "J", false)
  | 22 => ("BelowWorth", "below", "J", false)
  | 23 => ("BelowWorth", "without1", "I", false)
  | 24 => ("BelowWorth", "cellNet", "[J", true)
  | 25 => ("BelowWorth", "cellTons", "[J", true)
  | 26 => ("BelowWorth", "matcher", "LBelowWorth$Matcher;", true)
  | 27 => ("BelowWorth", "hasMatched", "Z", false)
  | 28 => ("BelowWorth", "matchedMany", "I", false)
  | 29 => ("BelowWorth", "matched", "[[I", true)
  | 30 => ("BelowWorth", "matchSums", "[J", true)
  | 31 => ("BelowWorth", "figures", "[[LBelowWorth$Figure;", true)
  | 32 => ("BelowWorth", "figureMany", "[I", true)
  | 33 => ("BelowWorth", "thirty", "[I", true)
  | 34 => ("BelowWorth", "out", "[I", true)
  | 35 => ("BelowWorth", "explained", "[I", true)
  | 36 => ("BelowWorth", "more", "[I", true)
  | 37 => ("BelowWorth", "explainedMany", "I", false)
  | 38 => ("BelowWorth", "flows", "[[J", true)
  | 39 => ("BelowWorth", "owns", "[I", true)
  | 40 => ("BelowWorth", "flowMany", "I", false)
  | 41 => ("BelowWorth", "trial", "[I", true)
  | 42 => ("BelowWorth", "wayFound", "[I", true)
  | 43 => ("BelowWorth", "wayMany", "I", false)
  | 44 => ("BelowWorth", "wayLeast", "J", false)
  | 45 => ("BelowWorth", "promiseFirm", "[I", true)
  | 46 => ("BelowWorth", "promiseGrade", "[I", true)
  | 47 => ("BelowWorth", "promiseDay", "[I", true)
  | 48 => ("BelowWorth", "promisePrice", "[I", true)
  | 49 => ("BelowWorth", "promiseTold", "[I", true)
  | 50 => ("BelowWorth", "promiseMany", "I", false)
  | 51 => ("BelowWorth", "rates", "[LBelowWorth$Rate;", true)
  | 52 => ("BelowWorth", "decides", "LBelowWorth$Case;", true)
  | 53 => ("BelowWorth", "rateMany", "I", false)
  | 54 => ("BelowWorth", "entries", "[LBelowWorth$Entry;", true)
  | _ => ("BelowWorth", "entryMany", "I", false)
def tyX0 : Nat → FieldType := fun k => match k with
  | 0 => .int
  | 1 => .array .int
  | 2 => .array (.array .int)
  | 3 => .int
  | 4 => .array (.object "BelowWorth$Cost")
  | 5 => .int
  | 6 => .array (.object "BelowWorth$Sale")
  | 7 => .array (.object "BelowWorth$Adjustment")
  | 8 => .int
  | 9 => .int
  | 10 => .object "BelowWorth$Fault"
  | 11 => .array .byte
  | 12 => .int
  | 13 => .array (.object "java/lang/String")
  | 14 => .array (.object "java/lang/String")
  | 15 => .array (.object "BelowWorth$Act")
  | 16 => .object "BelowWorth$Act"
  | 17 => .int
  | 18 => .object "BelowWorth$Look"
  | 19 => .int
  | 20 => .int
  | 21 => .long
  | 22 => .long
  | 23 => .int
  | 24 => .array .long
  | 25 => .array .long
  | 26 => .object "BelowWorth$Matcher"
  | 27 => .boolean
  | 28 => .int
  | 29 => .array (.array .int)
  | 30 => .array .long
  | 31 => .array (.array (.object "BelowWorth$Figure"))
  | 32 => .array .int
  | 33 => .array .int
  | 34 => .array .int
  | 35 => .array .int
  | 36 => .array .int
  | 37 => .int
  | 38 => .array (.array .long)
  | 39 => .array .int
  | 40 => .int
  | 41 => .array .int
  | 42 => .array .int
  | 43 => .int
  | 44 => .long
  | 45 => .array .int
  | 46 => .array .int
  | 47 => .array .int
  | 48 => .array .int
  | 49 => .array .int
  | 50 => .int
  | 51 => .array (.object "BelowWorth$Rate")
  | 52 => .object "BelowWorth$Case"
  | 53 => .int
  | 54 => .array (.object "BelowWorth$Entry")
  | _ => .int
abbrev wsX00 : List Cond := u_ws RX0 TX0 56
theorem nmX0 : ∀ a, a < 56 → ∀ b, b < 56 → a ≠ b → (TX0 a).2.1 ≠ (TX0 b).2.1 := by decide +kernel
theorem tyX0_ok : ∀ k, k < 56 → parseFieldDescriptor (TX0 k).2.2.1 = some (tyX0 k) := by decide +kernel
abbrev cX0_init : ByteArray := prog_1_method_3_code
def yX0_init : MethodName := ⟨RX0, "<init>", "()V"⟩
abbrev cX0_clock : ByteArray := prog_1_method_4_code
def yX0_clock : MethodName := ⟨RX0, "clock", "(I)Z"⟩
abbrev cX0_in : ByteArray := prog_1_method_1_code
def yX0_in : MethodName := ⟨RX0, "in", "(JJJ)Z"⟩
abbrev cX0_firm : ByteArray := prog_1_method_8_code
def yX0_firm : MethodName := ⟨RX0, "firm", "(I)I"⟩
abbrev cX0_far : ByteArray := prog_1_method_9_code
def yX0_far : MethodName := ⟨RX0, "far", "(III)I"⟩
abbrev cX0_isGrade : ByteArray := prog_1_method_6_code
def yX0_isGrade : MethodName := ⟨RX0, "isGrade", "(I)Z"⟩
abbrev cX0_cost : ByteArray := prog_1_method_10_code
def yX0_cost : MethodName := ⟨RX0, "cost", "(IIII)I"⟩
abbrev cX0_isFirm : ByteArray := prog_1_method_5_code
def yX0_isFirm : MethodName := ⟨RX0, "isFirm", "(I)Z"⟩
abbrev cX0_isMonth : ByteArray := prog_1_method_7_code
def yX0_isMonth : MethodName := ⟨RX0, "isMonth", "(I)Z"⟩
abbrev cX0_costs : ByteArray := prog_1_method_12_code
def yX0_costs : MethodName := ⟨RX0, "costs", "(IIII)I"⟩
abbrev cX0_isDay : ByteArray := prog_1_method_2_code
def yX0_isDay : MethodName := ⟨RX0, "isDay", "(I)Z"⟩
abbrev cX0_costIn : ByteArray := prog_1_method_11_code
def yX0_costIn : MethodName := ⟨RX0, "costIn", "(IIII)I"⟩
abbrev cX0_sale : ByteArray := prog_1_method_14_code
def yX0_sale : MethodName := ⟨RX0, "sale", "(IZIIIIZ)I"⟩
abbrev cX0_strike : ByteArray := prog_1_method_15_code
def yX0_strike : MethodName := ⟨RX0, "strike", "(I)Z"⟩
abbrev cX0_isSale : ByteArray := prog_1_method_13_code
def yX0_isSale : MethodName := ⟨RX0, "isSale", "(I)Z"⟩
abbrev cX0_adjust : ByteArray := prog_1_method_16_code
def yX0_adjust : MethodName := ⟨RX0, "adjust", "(IIIZ)I"⟩
abbrev cX0_feed : ByteArray := prog_1_method_17_code
def yX0_feed : MethodName := ⟨RX0, "feed", "(IIIII)I"⟩
abbrev cX0_four : ByteArray := prog_1_method_18_code
def yX0_four : MethodName := ⟨RX0, "four", "(I)V"⟩
abbrev cX0_end : ByteArray := prog_1_method_19_code
def yX0_end : MethodName := ⟨RX0, "end", "(I)I"⟩
abbrev cX0_act : ByteArray := prog_1_method_20_code
def yX0_act : MethodName := ⟨RX0, "act", "(I)I"⟩
abbrev cX0_force : ByteArray := prog_1_method_23_code
def yX0_force : MethodName := ⟨RX0, "force", "(II)I"⟩
abbrev cX0_actOn : ByteArray := prog_1_method_22_code
def yX0_actOn : MethodName := ⟨RX0, "actOn", "(I)LBelowWorth$Act;"⟩
abbrev cX0_inForce : ByteArray := prog_1_method_21_code
def yX0_inForce : MethodName := ⟨RX0, "inForce", "(I)I"⟩
abbrev cX0_sales : ByteArray := prog_1_method_24_code
def yX0_sales : MethodName := ⟨RX0, "sales", "(III)I"⟩
abbrev cX0_lacksOf : ByteArray := prog_1_method_37_code
def yX0_lacksOf : MethodName := ⟨RX0, "lacksOf", "(II)I"⟩
abbrev cX0_salesHere : ByteArray := prog_1_method_38_code
def yX0_salesHere : MethodName := ⟨RX0, "salesHere", "(II)I"⟩
abbrev cX0_worth : ByteArray := prog_1_method_25_code
def yX0_worth : MethodName := ⟨RX0, "worth", "(IIII)I"⟩
abbrev cX0_by : ByteArray := prog_1_method_26_code
def yX0_by : MethodName := ⟨RX0, "by", "(I)I"⟩
abbrev cX0_margin : ByteArray := prog_1_method_31_code
def yX0_margin : MethodName := ⟨RX0, "margin", "(IIIIII)J"⟩
abbrev cX0_isSpan : ByteArray := prog_1_method_30_code
def yX0_isSpan : MethodName := ⟨RX0, "isSpan", "(IIII)Z"⟩
abbrev cX0_margins : ByteArray := prog_1_method_28_code
def yX0_margins : MethodName := ⟨RX0, "margins", "(IIII)V"⟩
abbrev cX0_adds : ByteArray := prog_1_method_27_code
def yX0_adds : MethodName := ⟨RX0, "adds", "(JJJ)V"⟩
abbrev cX0_divisor : ByteArray := prog_1_method_29_code
def yX0_divisor : MethodName := ⟨RX0, "divisor", "(JJ)J"⟩
abbrev cX0_without : ByteArray := prog_1_method_32_code
def yX0_without : MethodName := ⟨RX0, "without", "(IIII)I"⟩
abbrev cX0_match : ByteArray := prog_1_method_33_code
def yX0_match : MethodName := ⟨RX0, "match", "(IIIZI)I"⟩
abbrev cX0_matched : ByteArray := prog_1_method_34_code
def yX0_matched : MethodName := ⟨RX0, "matched", "(II)I"⟩
abbrev cX0_matches : ByteArray := prog_1_method_35_code
def yX0_matches : MethodName := ⟨RX0, "matches", "(I)J"⟩
abbrev cX0_figure : ByteArray := prog_1_method_36_code
def yX0_figure : MethodName := ⟨RX0, "figure", "(IZIIII)I"⟩
abbrev cX0_lacks : ByteArray := prog_1_method_39_code
def yX0_lacks : MethodName := ⟨RX0, "lacks", "(II)I"⟩
abbrev cX0_explain : ByteArray := prog_1_method_42_code
def yX0_explain : MethodName := ⟨RX0, "explain", "(II)I"⟩
abbrev cX0_leaves : ByteArray := prog_1_method_41_code
def yX0_leaves : MethodName := ⟨RX0, "leaves", "(IIIII)Z"⟩
abbrev cX0_agrees : ByteArray := prog_1_method_40_code
def yX0_agrees : MethodName := ⟨RX0, "agrees", "(II)Z"⟩
abbrev cX0_explained : ByteArray := prog_1_method_43_code
def yX0_explained : MethodName := ⟨RX0, "explained", "(I)I"⟩
abbrev cX0_flow : ByteArray := prog_1_method_44_code
def yX0_flow : MethodName := ⟨RX0, "flow", "(III)I"⟩
abbrev cX0_own : ByteArray := prog_1_method_45_code
def yX0_own : MethodName := ⟨RX0, "own", "(II)I"⟩
abbrev cX0_taint : ByteArray := prog_1_method_47_code
def yX0_taint : MethodName := ⟨RX0, "taint", "(II)I"⟩
abbrev cX0_spreads : ByteArray := prog_1_method_46_code
def yX0_spreads : MethodName := ⟨RX0, "spreads", "(I[J)[J"⟩
abbrev cX0_way : ByteArray := prog_1_method_49_code
def yX0_way : MethodName := ⟨RX0, "way", "(II)I"⟩
abbrev cX0_goes : ByteArray := prog_1_method_48_code
def yX0_goes : MethodName := ⟨RX0, "goes", "(IIIJ)V"⟩
abbrev cX0_ways : ByteArray := prog_1_method_50_code
def yX0_ways : MethodName := ⟨RX0, "ways", "(I)I"⟩
abbrev cX0_promise : ByteArray := prog_1_method_51_code
def yX0_promise : MethodName := ⟨RX0, "promise", "(IIII)I"⟩
abbrev cX0_broken : ByteArray := prog_1_method_53_code
def yX0_broken : MethodName := ⟨RX0, "broken", "(III)I"⟩
abbrev cX0_breaks : ByteArray := prog_1_method_52_code
def yX0_breaks : MethodName := ⟨RX0, "breaks", "(II)Z"⟩
abbrev cX0_against : ByteArray := prog_1_method_55_code
def yX0_against : MethodName := ⟨RX0, "against", "(II)I"⟩
abbrev cX0_isAgainst : ByteArray := prog_1_method_54_code
def yX0_isAgainst : MethodName := ⟨RX0, "isAgainst", "(II)Z"⟩
abbrev cX0_decide : ByteArray := prog_1_method_57_code
def yX0_decide : MethodName := ⟨RX0, "decide", "(IIII)I"⟩
abbrev cX0_marginNow : ByteArray := prog_1_method_56_code
def yX0_marginNow : MethodName := ⟨RX0, "marginNow", "(Z)I"⟩
abbrev cX0_rate : ByteArray := prog_1_method_60_code
def yX0_rate : MethodName := ⟨RX0, "rate", "(III)I"⟩
abbrev cX0_rateOf : ByteArray := prog_1_method_59_code
def yX0_rateOf : MethodName := ⟨RX0, "rateOf", "(III)I"⟩
abbrev cX0_ofFirm : ByteArray := prog_1_method_58_code
def yX0_ofFirm : MethodName := ⟨RX0, "ofFirm", "(III)LBelowWorth$Rate;"⟩
abbrev cX0_entry : ByteArray := prog_1_method_61_code
def yX0_entry : MethodName := ⟨RX0, "entry", "(III)I"⟩
abbrev cX0_settle : ByteArray := prog_1_method_63_code
def yX0_settle : MethodName := ⟨RX0, "settle", "(I)I"⟩
abbrev cX0_entryOf : ByteArray := prog_1_method_62_code
def yX0_entryOf : MethodName := ⟨RX0, "entryOf", "(I)LBelowWorth$Entry;"⟩
abbrev cX0_entries : ByteArray := prog_1_method_64_code
def yX0_entries : MethodName := ⟨RX0, "entries", "(II)I"⟩
abbrev cX0_count : ByteArray := prog_1_method_65_code
def yX0_count : MethodName := ⟨RX0, "count", "(I)J"⟩
theorem q106 : (Jvm.Cond.initialized "BelowWorth") ∈ lw_all := lw_g (lw_at lw_m1 1 rfl) rfl
theorem q138 : (Jvm.Cond.instantiable "BelowWorth" (56 : Nat)) ∈ lw_all := lw_g (lw_at lw_m1 33 rfl) rfl
theorem q140 : (Jvm.Cond.instanceMethod ({ cls := "BelowWorth", name := "<init>", desc := "()V" } : Jvm.MethodName)) ∈ lw_all := lw_g (lw_at lw_m1 35 rfl) rfl
theorem q141 : (Jvm.Cond.code ({ cls := "BelowWorth", name := "<init>", desc := "()V" } : Jvm.MethodName) prog_1_method_3_code (3 : Nat) (Option.none : Option Jvm.ClassFile.FieldType)) ∈ lw_all := lw_g (lw_at lw_m1 36 rfl) rfl
theorem q142 : (Jvm.Cond.methodLink "BelowWorth" (3 : Nat) ({ cls := "java/lang/Object", name := "<init>", desc := "()V" } : Jvm.MethodName)) ∈ lw_all := lw_g (lw_at lw_m1 37 rfl) rfl
theorem q145 : (Jvm.Cond.classLink "BelowWorth" (13 : Nat) "[[I") ∈ lw_all := lw_g (lw_at lw_m1 40 rfl) rfl
theorem q147 : (Jvm.Cond.classLink "BelowWorth" (18 : Nat) "BelowWorth$Cost") ∈ lw_all := lw_g (lw_at lw_m1 42 rfl) rfl
theorem q149 : (Jvm.Cond.classLink "BelowWorth" (24 : Nat) "BelowWorth$Sale") ∈ lw_all := lw_g (lw_at lw_m1 44 rfl) rfl
theorem q151 : (Jvm.Cond.classLink "BelowWorth" (30 : Nat) "BelowWorth$Adjustment") ∈ lw_all := lw_g (lw_at lw_m1 46 rfl) rfl
theorem q153 : (Jvm.Cond.classLink "BelowWorth" (36 : Nat) "BelowWorth$Fault") ∈ lw_all := lw_g (lw_at lw_m1 48 rfl) rfl
theorem q192 : (Jvm.Cond.methodLink "BelowWorth" (38 : Nat) ({ cls := "BelowWorth$Fault", name := "<init>", desc := "()V" } : Jvm.MethodName)) ∈ lw_all := lw_g (lw_at lw_m1 87 rfl) rfl
theorem q206 : (Jvm.Cond.fieldLinkNest "BelowWorth" (304 : Nat) "BelowWorth$Fault" "kind" "I" "BelowWorth") ∈ lw_tbl := lw_at lw_m1 101 rfl
theorem q208 : (Jvm.Cond.fieldLinkNest "BelowWorth" (301 : Nat) "BelowWorth$Fault" "place" "I" "BelowWorth") ∈ lw_tbl := lw_at lw_m1 103 rfl
theorem q228 : (Jvm.Cond.classLink "BelowWorth" (47 : Nat) "java/lang/String") ∈ lw_all := lw_g (lw_at lw_m1 123 rfl) rfl
theorem q230 : (Jvm.Cond.stringRef "BelowWorth" (49 : Nat) "price") ∈ lw_tbl := lw_at lw_m1 125 rfl
theorem q231 : (Jvm.Cond.stringRef "BelowWorth" (51 : Nat) "tons") ∈ lw_tbl := lw_at lw_m1 126 rfl
theorem q232 : (Jvm.Cond.stringRef "BelowWorth" (53 : Nat) "grade") ∈ lw_tbl := lw_at lw_m1 127 rfl
theorem q233 : (Jvm.Cond.stringRef "BelowWorth" (55 : Nat) "month") ∈ lw_tbl := lw_at lw_m1 128 rfl
theorem q234 : (Jvm.Cond.stringRef "BelowWorth" (57 : Nat) "related") ∈ lw_tbl := lw_at lw_m1 129 rfl
theorem q235 : (Jvm.Cond.stringRef "BelowWorth" (59 : Nat) "cost") ∈ lw_tbl := lw_at lw_m1 130 rfl
theorem q236 : (Jvm.Cond.stringRef "BelowWorth" (61 : Nat) "coins") ∈ lw_tbl := lw_at lw_m1 131 rfl
theorem q237 : (Jvm.Cond.stringRef "BelowWorth" (63 : Nat) "proved") ∈ lw_tbl := lw_at lw_m1 132 rfl
theorem q238 : (Jvm.Cond.stringRef "BelowWorth" (65 : Nat) "land") ∈ lw_tbl := lw_at lw_m1 133 rfl
theorem q239 : (Jvm.Cond.stringRef "BelowWorth" (67 : Nat) "lacks") ∈ lw_tbl := lw_at lw_m1 134 rfl
theorem q240 : (Jvm.Cond.stringRef "BelowWorth" (69 : Nat) "sales") ∈ lw_tbl := lw_at lw_m1 135 rfl
theorem q241 : (Jvm.Cond.stringRef "BelowWorth" (70 : Nat) "margin") ∈ lw_tbl := lw_at lw_m1 136 rfl
theorem q242 : (Jvm.Cond.stringRef "BelowWorth" (72 : Nat) "against") ∈ lw_tbl := lw_at lw_m1 137 rfl
theorem q243 : (Jvm.Cond.stringRef "BelowWorth" (78 : Nat) "near") ∈ lw_tbl := lw_at lw_m1 138 rfl
theorem q244 : (Jvm.Cond.stringRef "BelowWorth" (80 : Nat) "back") ∈ lw_tbl := lw_at lw_m1 139 rfl
theorem q245 : (Jvm.Cond.stringRef "BelowWorth" (82 : Nat) "profit") ∈ lw_tbl := lw_at lw_m1 140 rfl
theorem q246 : (Jvm.Cond.stringRef "BelowWorth" (84 : Nat) "least") ∈ lw_tbl := lw_at lw_m1 141 rfl
theorem q247 : (Jvm.Cond.classLink "BelowWorth" (89 : Nat) "BelowWorth$Act") ∈ lw_all := lw_g (lw_at lw_m1 142 rfl) rfl
theorem q250 : (Jvm.Cond.methodLinkNest "BelowWorth" (95 : Nat) ({ cls := "BelowWorth$Act", name := "<init>", desc := "()V" } : Jvm.MethodName) "BelowWorth") ∈ lw_tbl := lw_at lw_m1 145 rfl
theorem q263 : (Jvm.Cond.fieldLinkNest "BelowWorth" (319 : Nat) "BelowWorth$Act" "numbers" "[I" "BelowWorth") ∈ lw_tbl := lw_at lw_m1 158 rfl
theorem q265 : (Jvm.Cond.fieldLinkNest "BelowWorth" (298 : Nat) "BelowWorth$Act" "binds" "I" "BelowWorth") ∈ lw_tbl := lw_at lw_m1 160 rfl
theorem q267 : (Jvm.Cond.fieldLinkNest "BelowWorth" (315 : Nat) "BelowWorth$Act" "hasZero" "Z" "BelowWorth") ∈ lw_tbl := lw_at lw_m1 162 rfl
theorem q269 : (Jvm.Cond.fieldLinkNest "BelowWorth" (521 : Nat) "BelowWorth$Act" "duty" "LBelowWorth$Value;" "BelowWorth") ∈ lw_tbl := lw_at lw_m1 164 rfl
theorem q287 : (Jvm.Cond.classLink "BelowWorth" (100 : Nat) "BelowWorth$Look") ∈ lw_all := lw_g (lw_at lw_m1 182 rfl) rfl
theorem q289 : (Jvm.Cond.methodLinkNest "BelowWorth" (102 : Nat) ({ cls := "BelowWorth$Look", name := "<init>", desc := "(LBelowWorth;)V" } : Jvm.MethodName) "BelowWorth") ∈ lw_tbl := lw_at lw_m1 184 rfl
theorem q328 : (Jvm.Cond.fieldLinkNest "BelowWorth" (330 : Nat) "BelowWorth$Look" "net" "[I" "BelowWorth") ∈ lw_tbl := lw_at lw_m1 223 rfl
theorem q330 : (Jvm.Cond.fieldLinkNest "BelowWorth" (333 : Nat) "BelowWorth$Look" "isDropped" "[Z" "BelowWorth") ∈ lw_tbl := lw_at lw_m1 225 rfl
theorem q337 : (Jvm.Cond.fieldLinkNest "BelowWorth" (352 : Nat) "BelowWorth$Look" "act" "LBelowWorth$Act;" "BelowWorth") ∈ lw_tbl := lw_at lw_m1 232 rfl
theorem q341 : (Jvm.Cond.fieldLinkNest "BelowWorth" (344 : Nat) "BelowWorth$Look" "byGrade" "I" "BelowWorth") ∈ lw_tbl := lw_at lw_m1 236 rfl
theorem q343 : (Jvm.Cond.fieldLinkNest "BelowWorth" (345 : Nat) "BelowWorth$Look" "byMonth" "I" "BelowWorth") ∈ lw_tbl := lw_at lw_m1 238 rfl
theorem q370 : (Jvm.Cond.classLink "BelowWorth" (123 : Nat) "BelowWorth$Matcher") ∈ lw_all := lw_g (lw_at lw_m2 25 rfl) rfl
theorem q372 : (Jvm.Cond.methodLinkNest "BelowWorth" (125 : Nat) ({ cls := "BelowWorth$Matcher", name := "<init>", desc := "(LBelowWorth;)V" } : Jvm.MethodName) "BelowWorth") ∈ lw_tbl := lw_at lw_m2 27 rfl
theorem q378 : (Jvm.Cond.fieldLinkNest "BelowWorth" (410 : Nat) "BelowWorth$Matcher" "here" "[I" "BelowWorth") ∈ lw_tbl := lw_at lw_m2 33 rfl
theorem q380 : (Jvm.Cond.fieldLinkNest "BelowWorth" (413 : Nat) "BelowWorth$Matcher" "home" "[I" "BelowWorth") ∈ lw_tbl := lw_at lw_m2 35 rfl
theorem q382 : (Jvm.Cond.fieldLinkNest "BelowWorth" (407 : Nat) "BelowWorth$Matcher" "to" "[I" "BelowWorth") ∈ lw_tbl := lw_at lw_m2 37 rfl
theorem q385 : (Jvm.Cond.fieldLinkNest "BelowWorth" (401 : Nat) "BelowWorth$Matcher" "many" "I" "BelowWorth") ∈ lw_tbl := lw_at lw_m2 40 rfl
theorem q406 : (Jvm.Cond.classLink "BelowWorth" (136 : Nat) "[[LBelowWorth$Figure;") ∈ lw_all := lw_g (lw_at lw_m2 61 rfl) rfl
theorem q409 : (Jvm.Cond.classLink "BelowWorth" (156 : Nat) "[[J") ∈ lw_all := lw_g (lw_at lw_m2 64 rfl) rfl
theorem q410 : (Jvm.Cond.classLink "BelowWorth" (185 : Nat) "BelowWorth$Rate") ∈ lw_all := lw_g (lw_at lw_m2 65 rfl) rfl
theorem q412 : (Jvm.Cond.classLink "BelowWorth" (191 : Nat) "BelowWorth$Case") ∈ lw_all := lw_g (lw_at lw_m2 67 rfl) rfl
theorem q413 : (Jvm.Cond.methodLinkNest "BelowWorth" (193 : Nat) ({ cls := "BelowWorth$Case", name := "<init>", desc := "(LBelowWorth;)V" } : Jvm.MethodName) "BelowWorth") ∈ lw_tbl := lw_at lw_m2 68 rfl
theorem q414 : (Jvm.Cond.classLink "BelowWorth" (198 : Nat) "BelowWorth$Entry") ∈ lw_all := lw_g (lw_at lw_m2 69 rfl) rfl
theorem q416 : (Jvm.Cond.fieldLink "BelowWorth" (204 : Nat) "BelowWorth" "now" "I") ∈ lw_all := lw_g (lw_at lw_m2 71 rfl) rfl
theorem q417 : (Jvm.Cond.fieldLink "BelowWorth" (9 : Nat) "BelowWorth" "landOf" "[I") ∈ lw_all := lw_g (lw_at lw_m2 72 rfl) rfl
theorem q420 : (Jvm.Cond.fieldLink "BelowWorth" (15 : Nat) "BelowWorth" "far" "[[I") ∈ lw_all := lw_g (lw_at lw_m2 75 rfl) rfl
theorem q422 : (Jvm.Cond.fieldLink "BelowWorth" (213 : Nat) "BelowWorth" "firmMany" "I") ∈ lw_all := lw_g (lw_at lw_m2 77 rfl) rfl
theorem q423 : (Jvm.Cond.fieldLink "BelowWorth" (20 : Nat) "BelowWorth" "costs" "[LBelowWorth$Cost;") ∈ lw_all := lw_g (lw_at lw_m2 78 rfl) rfl
theorem q424 : (Jvm.Cond.fieldLink "BelowWorth" (224 : Nat) "BelowWorth" "costMany" "I") ∈ lw_all := lw_g (lw_at lw_m2 79 rfl) rfl
theorem q427 : (Jvm.Cond.fieldLink "BelowWorth" (26 : Nat) "BelowWorth" "sales" "[LBelowWorth$Sale;") ∈ lw_all := lw_g (lw_at lw_m2 82 rfl) rfl
theorem q429 : (Jvm.Cond.fieldLink "BelowWorth" (32 : Nat) "BelowWorth" "adjusts" "[LBelowWorth$Adjustment;") ∈ lw_all := lw_g (lw_at lw_m2 84 rfl) rfl
theorem q432 : (Jvm.Cond.fieldLink "BelowWorth" (257 : Nat) "BelowWorth" "saleMany" "I") ∈ lw_all := lw_g (lw_at lw_m2 87 rfl) rfl
theorem q434 : (Jvm.Cond.fieldLink "BelowWorth" (271 : Nat) "BelowWorth" "adjustMany" "I") ∈ lw_all := lw_g (lw_at lw_m2 89 rfl) rfl
theorem q436 : (Jvm.Cond.fieldLink "BelowWorth" (39 : Nat) "BelowWorth" "fault" "LBelowWorth$Fault;") ∈ lw_all := lw_g (lw_at lw_m2 91 rfl) rfl
theorem q438 : (Jvm.Cond.fieldLink "BelowWorth" (43 : Nat) "BelowWorth" "tape" "[B") ∈ lw_all := lw_g (lw_at lw_m2 93 rfl) rfl
theorem q440 : (Jvm.Cond.fieldLink "BelowWorth" (281 : Nat) "BelowWorth" "taped" "I") ∈ lw_all := lw_g (lw_at lw_m2 95 rfl) rfl
theorem q441 : (Jvm.Cond.fieldLink "BelowWorth" (74 : Nat) "BelowWorth" "words" "[Ljava/lang/String;") ∈ lw_all := lw_g (lw_at lw_m2 96 rfl) rfl
theorem q443 : (Jvm.Cond.fieldLink "BelowWorth" (86 : Nat) "BelowWorth" "plain" "[Ljava/lang/String;") ∈ lw_all := lw_g (lw_at lw_m2 98 rfl) rfl
theorem q445 : (Jvm.Cond.fieldLink "BelowWorth" (91 : Nat) "BelowWorth" "acts" "[LBelowWorth$Act;") ∈ lw_all := lw_g (lw_at lw_m2 100 rfl) rfl
theorem q446 : (Jvm.Cond.fieldLink "BelowWorth" (96 : Nat) "BelowWorth" "without" "LBelowWorth$Act;") ∈ lw_all := lw_g (lw_at lw_m2 101 rfl) rfl
theorem q447 : (Jvm.Cond.fieldLink "BelowWorth" (288 : Nat) "BelowWorth" "actMany" "I") ∈ lw_all := lw_g (lw_at lw_m2 102 rfl) rfl
theorem q449 : (Jvm.Cond.fieldLink "BelowWorth" (105 : Nat) "BelowWorth" "look" "LBelowWorth$Look;") ∈ lw_all := lw_g (lw_at lw_m2 104 rfl) rfl
theorem q450 : (Jvm.Cond.fieldLink "BelowWorth" (109 : Nat) "BelowWorth" "byGrade" "I") ∈ lw_all := lw_g (lw_at lw_m2 105 rfl) rfl
theorem q451 : (Jvm.Cond.fieldLink "BelowWorth" (113 : Nat) "BelowWorth" "byMonth" "I") ∈ lw_all := lw_g (lw_at lw_m2 106 rfl) rfl
theorem q452 : (Jvm.Cond.fieldLink "BelowWorth" (348 : Nat) "BelowWorth" "above" "J") ∈ lw_all := lw_g (lw_at lw_m2 107 rfl) rfl
theorem q453 : (Jvm.Cond.fieldLink "BelowWorth" (360 : Nat) "BelowWorth" "below" "J") ∈ lw_all := lw_g (lw_at lw_m2 108 rfl) rfl
theorem q454 : (Jvm.Cond.fieldLink "BelowWorth" (363 : Nat) "BelowWorth" "without1" "I") ∈ lw_all := lw_g (lw_at lw_m2 109 rfl) rfl
theorem q455 : (Jvm.Cond.fieldLink "BelowWorth" (116 : Nat) "BelowWorth" "cellNet" "[J") ∈ lw_all := lw_g (lw_at lw_m2 110 rfl) rfl
theorem q456 : (Jvm.Cond.fieldLink "BelowWorth" (120 : Nat) "BelowWorth" "cellTons" "[J") ∈ lw_all := lw_g (lw_at lw_m2 111 rfl) rfl
theorem q457 : (Jvm.Cond.fieldLink "BelowWorth" (126 : Nat) "BelowWorth" "matcher" "LBelowWorth$Matcher;") ∈ lw_all := lw_g (lw_at lw_m2 112 rfl) rfl
theorem q458 : (Jvm.Cond.fieldLink "BelowWorth" (398 : Nat) "BelowWorth" "hasMatched" "Z") ∈ lw_all := lw_g (lw_at lw_m2 113 rfl) rfl
theorem q459 : (Jvm.Cond.fieldLink "BelowWorth" (404 : Nat) "BelowWorth" "matchedMany" "I") ∈ lw_all := lw_g (lw_at lw_m2 114 rfl) rfl
theorem q460 : (Jvm.Cond.fieldLink "BelowWorth" (130 : Nat) "BelowWorth" "matched" "[[I") ∈ lw_all := lw_g (lw_at lw_m2 115 rfl) rfl
theorem q461 : (Jvm.Cond.fieldLink "BelowWorth" (133 : Nat) "BelowWorth" "matchSums" "[J") ∈ lw_all := lw_g (lw_at lw_m2 116 rfl) rfl
theorem q462 : (Jvm.Cond.fieldLink "BelowWorth" (138 : Nat) "BelowWorth" "figures" "[[LBelowWorth$Figure;") ∈ lw_all := lw_g (lw_at lw_m2 117 rfl) rfl
theorem q463 : (Jvm.Cond.fieldLink "BelowWorth" (141 : Nat) "BelowWorth" "figureMany" "[I") ∈ lw_all := lw_g (lw_at lw_m2 118 rfl) rfl
theorem q464 : (Jvm.Cond.fieldLink "BelowWorth" (144 : Nat) "BelowWorth" "thirty" "[I") ∈ lw_all := lw_g (lw_at lw_m2 119 rfl) rfl
theorem q465 : (Jvm.Cond.fieldLink "BelowWorth" (147 : Nat) "BelowWorth" "out" "[I") ∈ lw_all := lw_g (lw_at lw_m2 120 rfl) rfl
theorem q466 : (Jvm.Cond.fieldLink "BelowWorth" (150 : Nat) "BelowWorth" "explained" "[I") ∈ lw_all := lw_g (lw_at lw_m2 121 rfl) rfl
theorem q467 : (Jvm.Cond.fieldLink "BelowWorth" (153 : Nat) "BelowWorth" "more" "[I") ∈ lw_all := lw_g (lw_at lw_m2 122 rfl) rfl
theorem q468 : (Jvm.Cond.fieldLink "BelowWorth" (453 : Nat) "BelowWorth" "explainedMany" "I") ∈ lw_all := lw_g (lw_at lw_m2 123 rfl) rfl
theorem q469 : (Jvm.Cond.fieldLink "BelowWorth" (158 : Nat) "BelowWorth" "flows" "[[J") ∈ lw_all := lw_g (lw_at lw_m2 124 rfl) rfl
theorem q470 : (Jvm.Cond.fieldLink "BelowWorth" (161 : Nat) "BelowWorth" "owns" "[I") ∈ lw_all := lw_g (lw_at lw_m2 125 rfl) rfl
theorem q471 : (Jvm.Cond.fieldLink "BelowWorth" (462 : Nat) "BelowWorth" "flowMany" "I") ∈ lw_all := lw_g (lw_at lw_m2 126 rfl) rfl
theorem q472 : (Jvm.Cond.fieldLink "BelowWorth" (164 : Nat) "BelowWorth" "trial" "[I") ∈ lw_all := lw_g (lw_at lw_m2 127 rfl) rfl
theorem q473 : (Jvm.Cond.fieldLink "BelowWorth" (167 : Nat) "BelowWorth" "wayFound" "[I") ∈ lw_all := lw_g (lw_at lw_m2 128 rfl) rfl
theorem q474 : (Jvm.Cond.fieldLink "BelowWorth" (477 : Nat) "BelowWorth" "wayMany" "I") ∈ lw_all := lw_g (lw_at lw_m2 129 rfl) rfl
theorem q475 : (Jvm.Cond.fieldLink "BelowWorth" (474 : Nat) "BelowWorth" "wayLeast" "J") ∈ lw_all := lw_g (lw_at lw_m2 130 rfl) rfl
theorem q476 : (Jvm.Cond.fieldLink "BelowWorth" (170 : Nat) "BelowWorth" "promiseFirm" "[I") ∈ lw_all := lw_g (lw_at lw_m2 131 rfl) rfl
theorem q477 : (Jvm.Cond.fieldLink "BelowWorth" (173 : Nat) "BelowWorth" "promiseGrade" "[I") ∈ lw_all := lw_g (lw_at lw_m2 132 rfl) rfl
theorem q478 : (Jvm.Cond.fieldLink "BelowWorth" (176 : Nat) "BelowWorth" "promiseDay" "[I") ∈ lw_all := lw_g (lw_at lw_m2 133 rfl) rfl
theorem q479 : (Jvm.Cond.fieldLink "BelowWorth" (179 : Nat) "BelowWorth" "promisePrice" "[I") ∈ lw_all := lw_g (lw_at lw_m2 134 rfl) rfl
theorem q480 : (Jvm.Cond.fieldLink "BelowWorth" (182 : Nat) "BelowWorth" "promiseTold" "[I") ∈ lw_all := lw_g (lw_at lw_m2 135 rfl) rfl
theorem q481 : (Jvm.Cond.fieldLink "BelowWorth" (488 : Nat) "BelowWorth" "promiseMany" "I") ∈ lw_all := lw_g (lw_at lw_m2 136 rfl) rfl
theorem q482 : (Jvm.Cond.fieldLink "BelowWorth" (187 : Nat) "BelowWorth" "rates" "[LBelowWorth$Rate;") ∈ lw_all := lw_g (lw_at lw_m2 137 rfl) rfl
theorem q483 : (Jvm.Cond.fieldLink "BelowWorth" (194 : Nat) "BelowWorth" "decides" "LBelowWorth$Case;") ∈ lw_all := lw_g (lw_at lw_m2 138 rfl) rfl
theorem q484 : (Jvm.Cond.fieldLink "BelowWorth" (507 : Nat) "BelowWorth" "rateMany" "I") ∈ lw_all := lw_g (lw_at lw_m2 139 rfl) rfl
theorem q485 : (Jvm.Cond.fieldLink "BelowWorth" (200 : Nat) "BelowWorth" "entries" "[LBelowWorth$Entry;") ∈ lw_all := lw_g (lw_at lw_m2 140 rfl) rfl
theorem q486 : (Jvm.Cond.fieldLink "BelowWorth" (549 : Nat) "BelowWorth" "entryMany" "I") ∈ lw_all := lw_g (lw_at lw_m2 141 rfl) rfl
theorem q487 : (Jvm.Cond.lays "BelowWorth" "BelowWorth" "now" "I") ∈ lw_all := lw_g (lw_at lw_m2 142 rfl) rfl
theorem q488 : (Jvm.Cond.soleField "BelowWorth" "now") ∈ lw_all := lw_g (lw_at lw_m2 143 rfl) rfl
theorem q489 : (Jvm.Cond.laysFinal "BelowWorth" "BelowWorth" "landOf" "[I") ∈ lw_all := lw_g (lw_at lw_m2 144 rfl) rfl
theorem q490 : (Jvm.Cond.soleField "BelowWorth" "landOf") ∈ lw_all := lw_g (lw_at lw_m2 145 rfl) rfl
theorem q491 : (Jvm.Cond.laysFinal "BelowWorth" "BelowWorth" "far" "[[I") ∈ lw_all := lw_g (lw_at lw_m2 146 rfl) rfl
theorem q492 : (Jvm.Cond.soleField "BelowWorth" "far") ∈ lw_all := lw_g (lw_at lw_m2 147 rfl) rfl
theorem q493 : (Jvm.Cond.lays "BelowWorth" "BelowWorth" "firmMany" "I") ∈ lw_all := lw_g (lw_at lw_m2 148 rfl) rfl
theorem q494 : (Jvm.Cond.soleField "BelowWorth" "firmMany") ∈ lw_all := lw_g (lw_at lw_m2 149 rfl) rfl
theorem q495 : (Jvm.Cond.laysFinal "BelowWorth" "BelowWorth" "costs" "[LBelowWorth$Cost;") ∈ lw_all := lw_g (lw_at lw_m2 150 rfl) rfl
theorem q496 : (Jvm.Cond.soleField "BelowWorth" "costs") ∈ lw_all := lw_g (lw_at lw_m2 151 rfl) rfl
theorem q497 : (Jvm.Cond.lays "BelowWorth" "BelowWorth" "costMany" "I") ∈ lw_all := lw_g (lw_at lw_m2 152 rfl) rfl
theorem q498 : (Jvm.Cond.soleField "BelowWorth" "costMany") ∈ lw_all := lw_g (lw_at lw_m2 153 rfl) rfl
theorem q499 : (Jvm.Cond.laysFinal "BelowWorth" "BelowWorth" "sales" "[LBelowWorth$Sale;") ∈ lw_all := lw_g (lw_at lw_m2 154 rfl) rfl
theorem q500 : (Jvm.Cond.soleField "BelowWorth" "sales") ∈ lw_all := lw_g (lw_at lw_m2 155 rfl) rfl
theorem q501 : (Jvm.Cond.laysFinal "BelowWorth" "BelowWorth" "adjusts" "[LBelowWorth$Adjustment;") ∈ lw_all := lw_g (lw_at lw_m2 156 rfl) rfl
theorem q502 : (Jvm.Cond.soleField "BelowWorth" "adjusts") ∈ lw_all := lw_g (lw_at lw_m2 157 rfl) rfl
theorem q503 : (Jvm.Cond.lays "BelowWorth" "BelowWorth" "saleMany" "I") ∈ lw_all := lw_g (lw_at lw_m2 158 rfl) rfl
theorem q504 : (Jvm.Cond.soleField "BelowWorth" "saleMany") ∈ lw_all := lw_g (lw_at lw_m2 159 rfl) rfl
theorem q505 : (Jvm.Cond.lays "BelowWorth" "BelowWorth" "adjustMany" "I") ∈ lw_all := lw_g (lw_at lw_m2 160 rfl) rfl
theorem q506 : (Jvm.Cond.soleField "BelowWorth" "adjustMany") ∈ lw_all := lw_g (lw_at lw_m2 161 rfl) rfl
theorem q507 : (Jvm.Cond.laysFinal "BelowWorth" "BelowWorth" "fault" "LBelowWorth$Fault;") ∈ lw_all := lw_g (lw_at lw_m2 162 rfl) rfl
theorem q508 : (Jvm.Cond.soleField "BelowWorth" "fault") ∈ lw_all := lw_g (lw_at lw_m2 163 rfl) rfl
theorem q509 : (Jvm.Cond.laysFinal "BelowWorth" "BelowWorth" "tape" "[B") ∈ lw_all := lw_g (lw_at lw_m2 164 rfl) rfl
theorem q510 : (Jvm.Cond.soleField "BelowWorth" "tape") ∈ lw_all := lw_g (lw_at lw_m2 165 rfl) rfl
theorem q511 : (Jvm.Cond.lays "BelowWorth" "BelowWorth" "taped" "I") ∈ lw_all := lw_g (lw_at lw_m2 166 rfl) rfl
theorem q512 : (Jvm.Cond.soleField "BelowWorth" "taped") ∈ lw_all := lw_g (lw_at lw_m2 167 rfl) rfl
theorem q513 : (Jvm.Cond.laysFinal "BelowWorth" "BelowWorth" "words" "[Ljava/lang/String;") ∈ lw_all := lw_g (lw_at lw_m2 168 rfl) rfl
theorem q514 : (Jvm.Cond.soleField "BelowWorth" "words") ∈ lw_all := lw_g (lw_at lw_m2 169 rfl) rfl
theorem q515 : (Jvm.Cond.laysFinal "BelowWorth" "BelowWorth" "plain" "[Ljava/lang/String;") ∈ lw_all := lw_g (lw_at lw_m2 170 rfl) rfl
theorem q516 : (Jvm.Cond.soleField "BelowWorth" "plain") ∈ lw_all := lw_g (lw_at lw_m2 171 rfl) rfl
theorem q517 : (Jvm.Cond.laysFinal "BelowWorth" "BelowWorth" "acts" "[LBelowWorth$Act;") ∈ lw_all := lw_g (lw_at lw_m2 172 rfl) rfl
theorem q518 : (Jvm.Cond.soleField "BelowWorth" "acts") ∈ lw_all := lw_g (lw_at lw_m2 173 rfl) rfl
theorem q519 : (Jvm.Cond.laysFinal "BelowWorth" "BelowWorth" "without" "LBelowWorth$Act;") ∈ lw_all := lw_g (lw_at lw_m2 174 rfl) rfl
theorem q520 : (Jvm.Cond.soleField "BelowWorth" "without") ∈ lw_all := lw_g (lw_at lw_m2 175 rfl) rfl
theorem q521 : (Jvm.Cond.lays "BelowWorth" "BelowWorth" "actMany" "I") ∈ lw_all := lw_g (lw_at lw_m2 176 rfl) rfl
theorem q522 : (Jvm.Cond.soleField "BelowWorth" "actMany") ∈ lw_all := lw_g (lw_at lw_m2 177 rfl) rfl
theorem q523 : (Jvm.Cond.laysFinal "BelowWorth" "BelowWorth" "look" "LBelowWorth$Look;") ∈ lw_all := lw_g (lw_at lw_m2 178 rfl) rfl
theorem q524 : (Jvm.Cond.soleField "BelowWorth" "look") ∈ lw_all := lw_g (lw_at lw_m2 179 rfl) rfl
theorem q525 : (Jvm.Cond.lays "BelowWorth" "BelowWorth" "byGrade" "I") ∈ lw_all := lw_g (lw_at lw_m2 180 rfl) rfl
theorem q526 : (Jvm.Cond.soleField "BelowWorth" "byGrade") ∈ lw_all := lw_g (lw_at lw_m2 181 rfl) rfl
theorem q527 : (Jvm.Cond.lays "BelowWorth" "BelowWorth" "byMonth" "I") ∈ lw_all := lw_g (lw_at lw_m2 182 rfl) rfl
theorem q528 : (Jvm.Cond.soleField "BelowWorth" "byMonth") ∈ lw_all := lw_g (lw_at lw_m2 183 rfl) rfl
theorem q529 : (Jvm.Cond.lays "BelowWorth" "BelowWorth" "above" "J") ∈ lw_all := lw_g (lw_at lw_m2 184 rfl) rfl
theorem q530 : (Jvm.Cond.soleField "BelowWorth" "above") ∈ lw_all := lw_g (lw_at lw_m2 185 rfl) rfl
theorem q531 : (Jvm.Cond.lays "BelowWorth" "BelowWorth" "below" "J") ∈ lw_all := lw_g (lw_at lw_m2 186 rfl) rfl
theorem q532 : (Jvm.Cond.soleField "BelowWorth" "below") ∈ lw_all := lw_g (lw_at lw_m2 187 rfl) rfl
theorem q533 : (Jvm.Cond.lays "BelowWorth" "BelowWorth" "without1" "I") ∈ lw_all := lw_g (lw_at lw_m2 188 rfl) rfl
theorem q534 : (Jvm.Cond.soleField "BelowWorth" "without1") ∈ lw_all := lw_g (lw_at lw_m2 189 rfl) rfl
theorem q535 : (Jvm.Cond.laysFinal "BelowWorth" "BelowWorth" "cellNet" "[J") ∈ lw_all := lw_g (lw_at lw_m2 190 rfl) rfl
theorem q536 : (Jvm.Cond.soleField "BelowWorth" "cellNet") ∈ lw_all := lw_g (lw_at lw_m2 191 rfl) rfl
theorem q537 : (Jvm.Cond.laysFinal "BelowWorth" "BelowWorth" "cellTons" "[J") ∈ lw_all := lw_g (lw_at lw_m2 192 rfl) rfl
theorem q538 : (Jvm.Cond.soleField "BelowWorth" "cellTons") ∈ lw_all := lw_g (lw_at lw_m2 193 rfl) rfl
theorem q539 : (Jvm.Cond.laysFinal "BelowWorth" "BelowWorth" "matcher" "LBelowWorth$Matcher;") ∈ lw_all := lw_g (lw_at lw_m2 194 rfl) rfl
theorem q540 : (Jvm.Cond.soleField "BelowWorth" "matcher") ∈ lw_all := lw_g (lw_at lw_m2 195 rfl) rfl
theorem q541 : (Jvm.Cond.lays "BelowWorth" "BelowWorth" "hasMatched" "Z") ∈ lw_all := lw_g (lw_at lw_m2 196 rfl) rfl
theorem q542 : (Jvm.Cond.soleField "BelowWorth" "hasMatched") ∈ lw_all := lw_g (lw_at lw_m2 197 rfl) rfl
theorem q543 : (Jvm.Cond.lays "BelowWorth" "BelowWorth" "matchedMany" "I") ∈ lw_all := lw_g (lw_at lw_m2 198 rfl) rfl
theorem q544 : (Jvm.Cond.soleField "BelowWorth" "matchedMany") ∈ lw_all := lw_g (lw_at lw_m2 199 rfl) rfl
theorem q545 : (Jvm.Cond.laysFinal "BelowWorth" "BelowWorth" "matched" "[[I") ∈ lw_all := lw_g (lw_at lw_m2 200 rfl) rfl
theorem q546 : (Jvm.Cond.soleField "BelowWorth" "matched") ∈ lw_all := lw_g (lw_at lw_m2 201 rfl) rfl
theorem q547 : (Jvm.Cond.laysFinal "BelowWorth" "BelowWorth" "matchSums" "[J") ∈ lw_all := lw_g (lw_at lw_m2 202 rfl) rfl
theorem q548 : (Jvm.Cond.soleField "BelowWorth" "matchSums") ∈ lw_all := lw_g (lw_at lw_m2 203 rfl) rfl
theorem q549 : (Jvm.Cond.laysFinal "BelowWorth" "BelowWorth" "figures" "[[LBelowWorth$Figure;") ∈ lw_all := lw_g (lw_at lw_m2 204 rfl) rfl
theorem q550 : (Jvm.Cond.soleField "BelowWorth" "figures") ∈ lw_all := lw_g (lw_at lw_m2 205 rfl) rfl
theorem q551 : (Jvm.Cond.laysFinal "BelowWorth" "BelowWorth" "figureMany" "[I") ∈ lw_all := lw_g (lw_at lw_m2 206 rfl) rfl
theorem q552 : (Jvm.Cond.soleField "BelowWorth" "figureMany") ∈ lw_all := lw_g (lw_at lw_m2 207 rfl) rfl
theorem q553 : (Jvm.Cond.laysFinal "BelowWorth" "BelowWorth" "thirty" "[I") ∈ lw_all := lw_g (lw_at lw_m2 208 rfl) rfl
theorem q554 : (Jvm.Cond.soleField "BelowWorth" "thirty") ∈ lw_all := lw_g (lw_at lw_m2 209 rfl) rfl
theorem q555 : (Jvm.Cond.laysFinal "BelowWorth" "BelowWorth" "out" "[I") ∈ lw_all := lw_g (lw_at lw_m2 210 rfl) rfl
theorem q556 : (Jvm.Cond.soleField "BelowWorth" "out") ∈ lw_all := lw_g (lw_at lw_m2 211 rfl) rfl
theorem q557 : (Jvm.Cond.laysFinal "BelowWorth" "BelowWorth" "explained" "[I") ∈ lw_all := lw_g (lw_at lw_m2 212 rfl) rfl
theorem q558 : (Jvm.Cond.soleField "BelowWorth" "explained") ∈ lw_all := lw_g (lw_at lw_m2 213 rfl) rfl
theorem q559 : (Jvm.Cond.laysFinal "BelowWorth" "BelowWorth" "more" "[I") ∈ lw_all := lw_g (lw_at lw_m2 214 rfl) rfl
theorem q560 : (Jvm.Cond.soleField "BelowWorth" "more") ∈ lw_all := lw_g (lw_at lw_m2 215 rfl) rfl
theorem q561 : (Jvm.Cond.lays "BelowWorth" "BelowWorth" "explainedMany" "I") ∈ lw_all := lw_g (lw_at lw_m2 216 rfl) rfl
theorem q562 : (Jvm.Cond.soleField "BelowWorth" "explainedMany") ∈ lw_all := lw_g (lw_at lw_m2 217 rfl) rfl
theorem q563 : (Jvm.Cond.laysFinal "BelowWorth" "BelowWorth" "flows" "[[J") ∈ lw_all := lw_g (lw_at lw_m2 218 rfl) rfl
theorem q564 : (Jvm.Cond.soleField "BelowWorth" "flows") ∈ lw_all := lw_g (lw_at lw_m2 219 rfl) rfl
theorem q565 : (Jvm.Cond.laysFinal "BelowWorth" "BelowWorth" "owns" "[I") ∈ lw_all := lw_g (lw_at lw_m2 220 rfl) rfl
theorem q566 : (Jvm.Cond.soleField "BelowWorth" "owns") ∈ lw_all := lw_g (lw_at lw_m2 221 rfl) rfl
theorem q567 : (Jvm.Cond.lays "BelowWorth" "BelowWorth" "flowMany" "I") ∈ lw_all := lw_g (lw_at lw_m2 222 rfl) rfl
theorem q568 : (Jvm.Cond.soleField "BelowWorth" "flowMany") ∈ lw_all := lw_g (lw_at lw_m2 223 rfl) rfl
theorem q569 : (Jvm.Cond.laysFinal "BelowWorth" "BelowWorth" "trial" "[I") ∈ lw_all := lw_g (lw_at lw_m2 224 rfl) rfl
theorem q570 : (Jvm.Cond.soleField "BelowWorth" "trial") ∈ lw_all := lw_g (lw_at lw_m2 225 rfl) rfl
theorem q571 : (Jvm.Cond.laysFinal "BelowWorth" "BelowWorth" "wayFound" "[I") ∈ lw_all := lw_g (lw_at lw_m2 226 rfl) rfl
theorem q572 : (Jvm.Cond.soleField "BelowWorth" "wayFound") ∈ lw_all := lw_g (lw_at lw_m2 227 rfl) rfl
theorem q573 : (Jvm.Cond.lays "BelowWorth" "BelowWorth" "wayMany" "I") ∈ lw_all := lw_g (lw_at lw_m2 228 rfl) rfl
theorem q574 : (Jvm.Cond.soleField "BelowWorth" "wayMany") ∈ lw_all := lw_g (lw_at lw_m2 229 rfl) rfl
theorem q575 : (Jvm.Cond.lays "BelowWorth" "BelowWorth" "wayLeast" "J") ∈ lw_all := lw_g (lw_at lw_m2 230 rfl) rfl
theorem q576 : (Jvm.Cond.soleField "BelowWorth" "wayLeast") ∈ lw_all := lw_g (lw_at lw_m2 231 rfl) rfl
theorem q577 : (Jvm.Cond.laysFinal "BelowWorth" "BelowWorth" "promiseFirm" "[I") ∈ lw_all := lw_g (lw_at lw_m2 232 rfl) rfl
theorem q578 : (Jvm.Cond.soleField "BelowWorth" "promiseFirm") ∈ lw_all := lw_g (lw_at lw_m2 233 rfl) rfl
theorem q579 : (Jvm.Cond.laysFinal "BelowWorth" "BelowWorth" "promiseGrade" "[I") ∈ lw_all := lw_g (lw_at lw_m2 234 rfl) rfl
theorem q580 : (Jvm.Cond.soleField "BelowWorth" "promiseGrade") ∈ lw_all := lw_g (lw_at lw_m2 235 rfl) rfl
theorem q581 : (Jvm.Cond.laysFinal "BelowWorth" "BelowWorth" "promiseDay" "[I") ∈ lw_all := lw_g (lw_at lw_m2 236 rfl) rfl
theorem q582 : (Jvm.Cond.soleField "BelowWorth" "promiseDay") ∈ lw_all := lw_g (lw_at lw_m2 237 rfl) rfl
theorem q583 : (Jvm.Cond.laysFinal "BelowWorth" "BelowWorth" "promisePrice" "[I") ∈ lw_all := lw_g (lw_at lw_m2 238 rfl) rfl
theorem q584 : (Jvm.Cond.soleField "BelowWorth" "promisePrice") ∈ lw_all := lw_g (lw_at lw_m2 239 rfl) rfl
theorem q585 : (Jvm.Cond.laysFinal "BelowWorth" "BelowWorth" "promiseTold" "[I") ∈ lw_all := lw_g (lw_at lw_m3 0 rfl) rfl
theorem q586 : (Jvm.Cond.soleField "BelowWorth" "promiseTold") ∈ lw_all := lw_g (lw_at lw_m3 1 rfl) rfl
theorem q587 : (Jvm.Cond.lays "BelowWorth" "BelowWorth" "promiseMany" "I") ∈ lw_all := lw_g (lw_at lw_m3 2 rfl) rfl
theorem q588 : (Jvm.Cond.soleField "BelowWorth" "promiseMany") ∈ lw_all := lw_g (lw_at lw_m3 3 rfl) rfl
theorem q589 : (Jvm.Cond.laysFinal "BelowWorth" "BelowWorth" "rates" "[LBelowWorth$Rate;") ∈ lw_all := lw_g (lw_at lw_m3 4 rfl) rfl
theorem q590 : (Jvm.Cond.soleField "BelowWorth" "rates") ∈ lw_all := lw_g (lw_at lw_m3 5 rfl) rfl
theorem q591 : (Jvm.Cond.laysFinal "BelowWorth" "BelowWorth" "decides" "LBelowWorth$Case;") ∈ lw_all := lw_g (lw_at lw_m3 6 rfl) rfl
theorem q592 : (Jvm.Cond.soleField "BelowWorth" "decides") ∈ lw_all := lw_g (lw_at lw_m3 7 rfl) rfl
theorem q593 : (Jvm.Cond.lays "BelowWorth" "BelowWorth" "rateMany" "I") ∈ lw_all := lw_g (lw_at lw_m3 8 rfl) rfl
theorem q594 : (Jvm.Cond.soleField "BelowWorth" "rateMany") ∈ lw_all := lw_g (lw_at lw_m3 9 rfl) rfl
theorem q595 : (Jvm.Cond.laysFinal "BelowWorth" "BelowWorth" "entries" "[LBelowWorth$Entry;") ∈ lw_all := lw_g (lw_at lw_m3 10 rfl) rfl
theorem q596 : (Jvm.Cond.soleField "BelowWorth" "entries") ∈ lw_all := lw_g (lw_at lw_m3 11 rfl) rfl
theorem q597 : (Jvm.Cond.lays "BelowWorth" "BelowWorth" "entryMany" "I") ∈ lw_all := lw_g (lw_at lw_m3 12 rfl) rfl
theorem q598 : (Jvm.Cond.soleField "BelowWorth" "entryMany") ∈ lw_all := lw_g (lw_at lw_m3 13 rfl) rfl
theorem q599 : (Jvm.Cond.superclass "BelowWorth" "java/lang/Object") ∈ lw_all := lw_g (lw_at lw_m3 14 rfl) rfl
theorem q601 : (Jvm.Cond.instanceMethod ({ cls := "BelowWorth", name := "clock", desc := "(I)Z" } : Jvm.MethodName)) ∈ lw_all := lw_g (lw_at lw_m3 16 rfl) rfl
theorem q602 : (Jvm.Cond.selects "BelowWorth" ({ cls := "BelowWorth", name := "clock", desc := "(I)Z" } : Jvm.MethodName) ({ cls := "BelowWorth", name := "clock", desc := "(I)Z" } : Jvm.MethodName)) ∈ lw_all := lw_g (lw_at lw_m3 17 rfl) rfl
theorem q603 : (Jvm.Cond.code ({ cls := "BelowWorth", name := "clock", desc := "(I)Z" } : Jvm.MethodName) prog_1_method_4_code (2 : Nat) (Option.some Jvm.ClassFile.FieldType.boolean)) ∈ lw_all := lw_g (lw_at lw_m3 18 rfl) rfl
theorem q604 : (Jvm.Cond.constantLong "BelowWorth" (207 : Nat) (3999 : Int64)) ∈ lw_all := lw_g (lw_at lw_m3 19 rfl) rfl
theorem q605 : (Jvm.Cond.methodLink "BelowWorth" (209 : Nat) ({ cls := "BelowWorth", name := "in", desc := "(JJJ)Z" } : Jvm.MethodName)) ∈ lw_all := lw_g (lw_at lw_m3 20 rfl) rfl
theorem q606 : (Jvm.Cond.static ({ cls := "BelowWorth", name := "in", desc := "(JJJ)Z" } : Jvm.MethodName)) ∈ lw_all := lw_g (lw_at lw_m3 21 rfl) rfl
theorem q607 : (Jvm.Cond.code ({ cls := "BelowWorth", name := "in", desc := "(JJJ)Z" } : Jvm.MethodName) prog_1_method_1_code (6 : Nat) (Option.some Jvm.ClassFile.FieldType.boolean)) ∈ lw_all := lw_g (lw_at lw_m3 22 rfl) rfl
theorem q609 : (Jvm.Cond.instanceMethod ({ cls := "BelowWorth", name := "firm", desc := "(I)I" } : Jvm.MethodName)) ∈ lw_all := lw_g (lw_at lw_m3 24 rfl) rfl
theorem q610 : (Jvm.Cond.selects "BelowWorth" ({ cls := "BelowWorth", name := "firm", desc := "(I)I" } : Jvm.MethodName) ({ cls := "BelowWorth", name := "firm", desc := "(I)I" } : Jvm.MethodName)) ∈ lw_all := lw_g (lw_at lw_m3 25 rfl) rfl
theorem q611 : (Jvm.Cond.code ({ cls := "BelowWorth", name := "firm", desc := "(I)I" } : Jvm.MethodName) prog_1_method_8_code (2 : Nat) (Option.some Jvm.ClassFile.FieldType.int)) ∈ lw_all := lw_g (lw_at lw_m3 26 rfl) rfl
theorem q612 : (Jvm.Cond.constantLong "BelowWorth" (216 : Nat) (7 : Int64)) ∈ lw_all := lw_g (lw_at lw_m3 27 rfl) rfl
theorem q614 : (Jvm.Cond.instanceMethod ({ cls := "BelowWorth", name := "far", desc := "(III)I" } : Jvm.MethodName)) ∈ lw_all := lw_g (lw_at lw_m3 29 rfl) rfl
theorem q615 : (Jvm.Cond.selects "BelowWorth" ({ cls := "BelowWorth", name := "far", desc := "(III)I" } : Jvm.MethodName) ({ cls := "BelowWorth", name := "far", desc := "(III)I" } : Jvm.MethodName)) ∈ lw_all := lw_g (lw_at lw_m3 30 rfl) rfl
theorem q616 : (Jvm.Cond.code ({ cls := "BelowWorth", name := "far", desc := "(III)I" } : Jvm.MethodName) prog_1_method_9_code (5 : Nat) (Option.some Jvm.ClassFile.FieldType.int)) ∈ lw_all := lw_g (lw_at lw_m3 31 rfl) rfl
theorem q617 : (Jvm.Cond.methodLink "BelowWorth" (218 : Nat) ({ cls := "BelowWorth", name := "isGrade", desc := "(I)Z" } : Jvm.MethodName)) ∈ lw_all := lw_g (lw_at lw_m3 32 rfl) rfl
theorem q618 : (Jvm.Cond.static ({ cls := "BelowWorth", name := "isGrade", desc := "(I)Z" } : Jvm.MethodName)) ∈ lw_all := lw_g (lw_at lw_m3 33 rfl) rfl
theorem q619 : (Jvm.Cond.code ({ cls := "BelowWorth", name := "isGrade", desc := "(I)Z" } : Jvm.MethodName) prog_1_method_6_code (1 : Nat) (Option.some Jvm.ClassFile.FieldType.boolean)) ∈ lw_all := lw_g (lw_at lw_m3 34 rfl) rfl
theorem q620 : (Jvm.Cond.constantLong "BelowWorth" (222 : Nat) (9 : Int64)) ∈ lw_all := lw_g (lw_at lw_m3 35 rfl) rfl
theorem q622 : (Jvm.Cond.instanceMethod ({ cls := "BelowWorth", name := "cost", desc := "(IIII)I" } : Jvm.MethodName)) ∈ lw_all := lw_g (lw_at lw_m3 37 rfl) rfl
theorem q623 : (Jvm.Cond.selects "BelowWorth" ({ cls := "BelowWorth", name := "cost", desc := "(IIII)I" } : Jvm.MethodName) ({ cls := "BelowWorth", name := "cost", desc := "(IIII)I" } : Jvm.MethodName)) ∈ lw_all := lw_g (lw_at lw_m3 38 rfl) rfl
theorem q624 : (Jvm.Cond.code ({ cls := "BelowWorth", name := "cost", desc := "(IIII)I" } : Jvm.MethodName) prog_1_method_10_code (5 : Nat) (Option.some Jvm.ClassFile.FieldType.int)) ∈ lw_all := lw_g (lw_at lw_m3 39 rfl) rfl
theorem q625 : (Jvm.Cond.methodLink "BelowWorth" (227 : Nat) ({ cls := "BelowWorth", name := "isFirm", desc := "(I)Z" } : Jvm.MethodName)) ∈ lw_all := lw_g (lw_at lw_m3 40 rfl) rfl
theorem q626 : (Jvm.Cond.privateMethod ({ cls := "BelowWorth", name := "isFirm", desc := "(I)Z" } : Jvm.MethodName)) ∈ lw_tbl := lw_at lw_m3 41 rfl
theorem q627 : (Jvm.Cond.instanceMethod ({ cls := "BelowWorth", name := "isFirm", desc := "(I)Z" } : Jvm.MethodName)) ∈ lw_all := lw_g (lw_at lw_m3 42 rfl) rfl
theorem q628 : (Jvm.Cond.code ({ cls := "BelowWorth", name := "isFirm", desc := "(I)Z" } : Jvm.MethodName) prog_1_method_5_code (2 : Nat) (Option.some Jvm.ClassFile.FieldType.boolean)) ∈ lw_all := lw_g (lw_at lw_m3 43 rfl) rfl
theorem q629 : (Jvm.Cond.methodLink "BelowWorth" (230 : Nat) ({ cls := "BelowWorth", name := "isMonth", desc := "(I)Z" } : Jvm.MethodName)) ∈ lw_all := lw_g (lw_at lw_m3 44 rfl) rfl
theorem q630 : (Jvm.Cond.static ({ cls := "BelowWorth", name := "isMonth", desc := "(I)Z" } : Jvm.MethodName)) ∈ lw_all := lw_g (lw_at lw_m3 45 rfl) rfl
theorem q631 : (Jvm.Cond.code ({ cls := "BelowWorth", name := "isMonth", desc := "(I)Z" } : Jvm.MethodName) prog_1_method_7_code (1 : Nat) (Option.some Jvm.ClassFile.FieldType.boolean)) ∈ lw_all := lw_g (lw_at lw_m3 46 rfl) rfl
theorem q632 : (Jvm.Cond.constantLong "BelowWorth" (233 : Nat) (9999 : Int64)) ∈ lw_all := lw_g (lw_at lw_m3 47 rfl) rfl
theorem q634 : (Jvm.Cond.methodLink "BelowWorth" (235 : Nat) ({ cls := "BelowWorth$Cost", name := "<init>", desc := "(IIIII)V" } : Jvm.MethodName)) ∈ lw_all := lw_g (lw_at lw_m3 49 rfl) rfl
theorem q639 : (Jvm.Cond.fieldLinkNest "BelowWorth" (238 : Nat) "BelowWorth$Cost" "firm" "I" "BelowWorth") ∈ lw_tbl := lw_at lw_m3 54 rfl
theorem q641 : (Jvm.Cond.fieldLinkNest "BelowWorth" (241 : Nat) "BelowWorth$Cost" "grade" "I" "BelowWorth") ∈ lw_tbl := lw_at lw_m3 56 rfl
theorem q643 : (Jvm.Cond.fieldLinkNest "BelowWorth" (243 : Nat) "BelowWorth$Cost" "month" "I" "BelowWorth") ∈ lw_tbl := lw_at lw_m3 58 rfl
theorem q645 : (Jvm.Cond.fieldLinkNest "BelowWorth" (248 : Nat) "BelowWorth$Cost" "coins" "I" "BelowWorth") ∈ lw_tbl := lw_at lw_m3 60 rfl
theorem q647 : (Jvm.Cond.fieldLinkNest "BelowWorth" (245 : Nat) "BelowWorth$Cost" "told" "I" "BelowWorth") ∈ lw_tbl := lw_at lw_m3 62 rfl
theorem q660 : (Jvm.Cond.instanceMethod ({ cls := "BelowWorth", name := "costs", desc := "(IIII)I" } : Jvm.MethodName)) ∈ lw_all := lw_g (lw_at lw_m3 75 rfl) rfl
theorem q661 : (Jvm.Cond.selects "BelowWorth" ({ cls := "BelowWorth", name := "costs", desc := "(IIII)I" } : Jvm.MethodName) ({ cls := "BelowWorth", name := "costs", desc := "(IIII)I" } : Jvm.MethodName)) ∈ lw_all := lw_g (lw_at lw_m3 76 rfl) rfl
theorem q662 : (Jvm.Cond.code ({ cls := "BelowWorth", name := "costs", desc := "(IIII)I" } : Jvm.MethodName) prog_1_method_12_code (5 : Nat) (Option.some Jvm.ClassFile.FieldType.int)) ∈ lw_all := lw_g (lw_at lw_m3 77 rfl) rfl
theorem q663 : (Jvm.Cond.methodLink "BelowWorth" (250 : Nat) ({ cls := "BelowWorth", name := "isDay", desc := "(I)Z" } : Jvm.MethodName)) ∈ lw_all := lw_g (lw_at lw_m3 78 rfl) rfl
theorem q664 : (Jvm.Cond.static ({ cls := "BelowWorth", name := "isDay", desc := "(I)Z" } : Jvm.MethodName)) ∈ lw_all := lw_g (lw_at lw_m3 79 rfl) rfl
theorem q665 : (Jvm.Cond.code ({ cls := "BelowWorth", name := "isDay", desc := "(I)Z" } : Jvm.MethodName) prog_1_method_2_code (1 : Nat) (Option.some Jvm.ClassFile.FieldType.boolean)) ∈ lw_all := lw_g (lw_at lw_m3 80 rfl) rfl
theorem q666 : (Jvm.Cond.methodLink "BelowWorth" (253 : Nat) ({ cls := "BelowWorth", name := "costIn", desc := "(IIII)I" } : Jvm.MethodName)) ∈ lw_all := lw_g (lw_at lw_m3 81 rfl) rfl
theorem q667 : (Jvm.Cond.privateMethod ({ cls := "BelowWorth", name := "costIn", desc := "(IIII)I" } : Jvm.MethodName)) ∈ lw_tbl := lw_at lw_m3 82 rfl
theorem q668 : (Jvm.Cond.instanceMethod ({ cls := "BelowWorth", name := "costIn", desc := "(IIII)I" } : Jvm.MethodName)) ∈ lw_all := lw_g (lw_at lw_m3 83 rfl) rfl
theorem q669 : (Jvm.Cond.code ({ cls := "BelowWorth", name := "costIn", desc := "(IIII)I" } : Jvm.MethodName) prog_1_method_11_code (8 : Nat) (Option.some Jvm.ClassFile.FieldType.int)) ∈ lw_all := lw_g (lw_at lw_m3 84 rfl) rfl
theorem q671 : (Jvm.Cond.instanceMethod ({ cls := "BelowWorth", name := "sale", desc := "(IZIIIIZ)I" } : Jvm.MethodName)) ∈ lw_all := lw_g (lw_at lw_m3 86 rfl) rfl
theorem q672 : (Jvm.Cond.selects "BelowWorth" ({ cls := "BelowWorth", name := "sale", desc := "(IZIIIIZ)I" } : Jvm.MethodName) ({ cls := "BelowWorth", name := "sale", desc := "(IZIIIIZ)I" } : Jvm.MethodName)) ∈ lw_all := lw_g (lw_at lw_m3 87 rfl) rfl
theorem q673 : (Jvm.Cond.code ({ cls := "BelowWorth", name := "sale", desc := "(IZIIIIZ)I" } : Jvm.MethodName) prog_1_method_14_code (8 : Nat) (Option.some Jvm.ClassFile.FieldType.int)) ∈ lw_all := lw_g (lw_at lw_m3 88 rfl) rfl
theorem q674 : (Jvm.Cond.constantLong "BelowWorth" (260 : Nat) (999 : Int64)) ∈ lw_all := lw_g (lw_at lw_m3 89 rfl) rfl
theorem q676 : (Jvm.Cond.methodLink "BelowWorth" (262 : Nat) ({ cls := "BelowWorth$Sale", name := "<init>", desc := "(IZIIIIZI)V" } : Jvm.MethodName)) ∈ lw_all := lw_g (lw_at lw_m3 91 rfl) rfl
theorem q683 : (Jvm.Cond.fieldLinkNest "BelowWorth" (436 : Nat) "BelowWorth$Sale" "firm" "I" "BelowWorth") ∈ lw_tbl := lw_at lw_m3 98 rfl
theorem q689 : (Jvm.Cond.fieldLinkNest "BelowWorth" (370 : Nat) "BelowWorth$Sale" "grade" "I" "BelowWorth") ∈ lw_tbl := lw_at lw_m3 104 rfl
theorem q695 : (Jvm.Cond.fieldLinkNest "BelowWorth" (371 : Nat) "BelowWorth$Sale" "month" "I" "BelowWorth") ∈ lw_tbl := lw_at lw_m3 110 rfl
theorem q697 : (Jvm.Cond.fieldLinkNest "BelowWorth" (491 : Nat) "BelowWorth$Sale" "day" "I" "BelowWorth") ∈ lw_tbl := lw_at lw_m3 112 rfl
theorem q703 : (Jvm.Cond.fieldLinkNest "BelowWorth" (372 : Nat) "BelowWorth$Sale" "tons" "I" "BelowWorth") ∈ lw_tbl := lw_at lw_m3 118 rfl
theorem q711 : (Jvm.Cond.fieldLinkNest "BelowWorth" (440 : Nat) "BelowWorth$Sale" "isHere" "Z" "BelowWorth") ∈ lw_tbl := lw_at lw_m3 126 rfl
theorem q715 : (Jvm.Cond.fieldLinkNest "BelowWorth" (268 : Nat) "BelowWorth$Sale" "struck" "I" "BelowWorth") ∈ lw_tbl := lw_at lw_m3 130 rfl
theorem q738 : (Jvm.Cond.instanceMethod ({ cls := "BelowWorth", name := "strike", desc := "(I)Z" } : Jvm.MethodName)) ∈ lw_all := lw_g (lw_at lw_m3 153 rfl) rfl
theorem q739 : (Jvm.Cond.selects "BelowWorth" ({ cls := "BelowWorth", name := "strike", desc := "(I)Z" } : Jvm.MethodName) ({ cls := "BelowWorth", name := "strike", desc := "(I)Z" } : Jvm.MethodName)) ∈ lw_all := lw_g (lw_at lw_m3 154 rfl) rfl
theorem q740 : (Jvm.Cond.code ({ cls := "BelowWorth", name := "strike", desc := "(I)Z" } : Jvm.MethodName) prog_1_method_15_code (2 : Nat) (Option.some Jvm.ClassFile.FieldType.boolean)) ∈ lw_all := lw_g (lw_at lw_m3 155 rfl) rfl
theorem q741 : (Jvm.Cond.methodLink "BelowWorth" (265 : Nat) ({ cls := "BelowWorth", name := "isSale", desc := "(I)Z" } : Jvm.MethodName)) ∈ lw_all := lw_g (lw_at lw_m3 156 rfl) rfl
theorem q742 : (Jvm.Cond.privateMethod ({ cls := "BelowWorth", name := "isSale", desc := "(I)Z" } : Jvm.MethodName)) ∈ lw_tbl := lw_at lw_m3 157 rfl
theorem q743 : (Jvm.Cond.instanceMethod ({ cls := "BelowWorth", name := "isSale", desc := "(I)Z" } : Jvm.MethodName)) ∈ lw_all := lw_g (lw_at lw_m3 158 rfl) rfl
theorem q744 : (Jvm.Cond.code ({ cls := "BelowWorth", name := "isSale", desc := "(I)Z" } : Jvm.MethodName) prog_1_method_13_code (2 : Nat) (Option.some Jvm.ClassFile.FieldType.boolean)) ∈ lw_all := lw_g (lw_at lw_m3 159 rfl) rfl
theorem q746 : (Jvm.Cond.instanceMethod ({ cls := "BelowWorth", name := "adjust", desc := "(IIIZ)I" } : Jvm.MethodName)) ∈ lw_all := lw_g (lw_at lw_m3 161 rfl) rfl
theorem q747 : (Jvm.Cond.selects "BelowWorth" ({ cls := "BelowWorth", name := "adjust", desc := "(IIIZ)I" } : Jvm.MethodName) ({ cls := "BelowWorth", name := "adjust", desc := "(IIIZ)I" } : Jvm.MethodName)) ∈ lw_all := lw_g (lw_at lw_m3 162 rfl) rfl
theorem q748 : (Jvm.Cond.code ({ cls := "BelowWorth", name := "adjust", desc := "(IIIZ)I" } : Jvm.MethodName) prog_1_method_16_code (5 : Nat) (Option.some Jvm.ClassFile.FieldType.int)) ∈ lw_all := lw_g (lw_at lw_m3 163 rfl) rfl
theorem q749 : (Jvm.Cond.constantLong "BelowWorth" (274 : Nat) (5 : Int64)) ∈ lw_all := lw_g (lw_at lw_m3 164 rfl) rfl
theorem q750 : (Jvm.Cond.constantLong "BelowWorth" (276 : Nat) (-999 : Int64)) ∈ lw_all := lw_g (lw_at lw_m3 165 rfl) rfl
theorem q752 : (Jvm.Cond.methodLink "BelowWorth" (278 : Nat) ({ cls := "BelowWorth$Adjustment", name := "<init>", desc := "(IIIZI)V" } : Jvm.MethodName)) ∈ lw_all := lw_g (lw_at lw_m3 167 rfl) rfl
theorem q779 : (Jvm.Cond.instanceMethod ({ cls := "BelowWorth", name := "feed", desc := "(IIIII)I" } : Jvm.MethodName)) ∈ lw_all := lw_g (lw_at lw_m3 194 rfl) rfl
theorem q780 : (Jvm.Cond.selects "BelowWorth" ({ cls := "BelowWorth", name := "feed", desc := "(IIIII)I" } : Jvm.MethodName) ({ cls := "BelowWorth", name := "feed", desc := "(IIIII)I" } : Jvm.MethodName)) ∈ lw_all := lw_g (lw_at lw_m3 195 rfl) rfl
theorem q781 : (Jvm.Cond.code ({ cls := "BelowWorth", name := "feed", desc := "(IIIII)I" } : Jvm.MethodName) prog_1_method_17_code (6 : Nat) (Option.some Jvm.ClassFile.FieldType.int)) ∈ lw_all := lw_g (lw_at lw_m3 196 rfl) rfl
theorem q782 : (Jvm.Cond.methodLink "BelowWorth" (284 : Nat) ({ cls := "BelowWorth", name := "four", desc := "(I)V" } : Jvm.MethodName)) ∈ lw_all := lw_g (lw_at lw_m3 197 rfl) rfl
theorem q783 : (Jvm.Cond.privateMethod ({ cls := "BelowWorth", name := "four", desc := "(I)V" } : Jvm.MethodName)) ∈ lw_tbl := lw_at lw_m3 198 rfl
theorem q784 : (Jvm.Cond.instanceMethod ({ cls := "BelowWorth", name := "four", desc := "(I)V" } : Jvm.MethodName)) ∈ lw_all := lw_g (lw_at lw_m3 199 rfl) rfl
theorem q785 : (Jvm.Cond.code ({ cls := "BelowWorth", name := "four", desc := "(I)V" } : Jvm.MethodName) prog_1_method_18_code (3 : Nat) (Option.none : Option Jvm.ClassFile.FieldType)) ∈ lw_all := lw_g (lw_at lw_m3 200 rfl) rfl
theorem q787 : (Jvm.Cond.instanceMethod ({ cls := "BelowWorth", name := "end", desc := "(I)I" } : Jvm.MethodName)) ∈ lw_all := lw_g (lw_at lw_m3 202 rfl) rfl
theorem q788 : (Jvm.Cond.selects "BelowWorth" ({ cls := "BelowWorth", name := "end", desc := "(I)I" } : Jvm.MethodName) ({ cls := "BelowWorth", name := "end", desc := "(I)I" } : Jvm.MethodName)) ∈ lw_all := lw_g (lw_at lw_m3 203 rfl) rfl
theorem q789 : (Jvm.Cond.code ({ cls := "BelowWorth", name := "end", desc := "(I)I" } : Jvm.MethodName) prog_1_method_19_code (2 : Nat) (Option.some Jvm.ClassFile.FieldType.int)) ∈ lw_all := lw_g (lw_at lw_m3 204 rfl) rfl
theorem q791 : (Jvm.Cond.instanceMethod ({ cls := "BelowWorth", name := "act", desc := "(I)I" } : Jvm.MethodName)) ∈ lw_all := lw_g (lw_at lw_m3 206 rfl) rfl
theorem q792 : (Jvm.Cond.selects "BelowWorth" ({ cls := "BelowWorth", name := "act", desc := "(I)I" } : Jvm.MethodName) ({ cls := "BelowWorth", name := "act", desc := "(I)I" } : Jvm.MethodName)) ∈ lw_all := lw_g (lw_at lw_m3 207 rfl) rfl
theorem q793 : (Jvm.Cond.codeWith ({ cls := "BelowWorth", name := "act", desc := "(I)I" } : Jvm.MethodName) prog_1_method_20_code (4 : Nat) (Option.some Jvm.ClassFile.FieldType.int) [((32 : Nat), (69 : Nat), (72 : Nat), (36 : Nat))]) ∈ lw_all := lw_g (lw_at lw_m3 208 rfl) rfl
theorem q794 : (Jvm.Cond.classLink "BelowWorth" (291 : Nat) "BelowWorth$Text") ∈ lw_all := lw_g (lw_at lw_m3 209 rfl) rfl
theorem q796 : (Jvm.Cond.methodLinkNest "BelowWorth" (293 : Nat) ({ cls := "BelowWorth$Text", name := "<init>", desc := "(LBelowWorth;)V" } : Jvm.MethodName) "BelowWorth") ∈ lw_tbl := lw_at lw_m3 211 rfl
theorem q824 : (Jvm.Cond.methodLink "BelowWorth" (294 : Nat) ({ cls := "BelowWorth$Text", name := "act", desc := "()LBelowWorth$Act;" } : Jvm.MethodName)) ∈ lw_all := lw_g (lw_at lw_m3 239 rfl) rfl
theorem q1059 : (Jvm.Cond.laysStatic "BelowWorth" "MOST" "[I") ∈ lw_tbl := lw_at lw_m4 234 rfl
theorem q1061 : (Jvm.Cond.instanceMethod ({ cls := "BelowWorth", name := "force", desc := "(II)I" } : Jvm.MethodName)) ∈ lw_all := lw_g (lw_at lw_m4 236 rfl) rfl
theorem q1062 : (Jvm.Cond.selects "BelowWorth" ({ cls := "BelowWorth", name := "force", desc := "(II)I" } : Jvm.MethodName) ({ cls := "BelowWorth", name := "force", desc := "(II)I" } : Jvm.MethodName)) ∈ lw_all := lw_g (lw_at lw_m4 237 rfl) rfl
theorem q1063 : (Jvm.Cond.code ({ cls := "BelowWorth", name := "force", desc := "(II)I" } : Jvm.MethodName) prog_1_method_23_code (4 : Nat) (Option.some Jvm.ClassFile.FieldType.int)) ∈ lw_all := lw_g (lw_at lw_m4 238 rfl) rfl
theorem q1064 : (Jvm.Cond.methodLink "BelowWorth" (311 : Nat) ({ cls := "BelowWorth", name := "actOn", desc := "(I)LBelowWorth$Act;" } : Jvm.MethodName)) ∈ lw_all := lw_g (lw_at lw_m4 239 rfl) rfl
theorem q1065 : (Jvm.Cond.privateMethod ({ cls := "BelowWorth", name := "actOn", desc := "(I)LBelowWorth$Act;" } : Jvm.MethodName)) ∈ lw_tbl := lw_at lw_m5 0 rfl
theorem q1066 : (Jvm.Cond.instanceMethod ({ cls := "BelowWorth", name := "actOn", desc := "(I)LBelowWorth$Act;" } : Jvm.MethodName)) ∈ lw_all := lw_g (lw_at lw_m5 1 rfl) rfl
theorem q1067 : (Jvm.Cond.code ({ cls := "BelowWorth", name := "actOn", desc := "(I)LBelowWorth$Act;" } : Jvm.MethodName) prog_1_method_22_code (3 : Nat) (Option.some (Jvm.ClassFile.FieldType.object "BelowWorth$Act"))) ∈ lw_all := lw_g (lw_at lw_m5 2 rfl) rfl
theorem q1068 : (Jvm.Cond.methodLink "BelowWorth" (307 : Nat) ({ cls := "BelowWorth", name := "inForce", desc := "(I)I" } : Jvm.MethodName)) ∈ lw_all := lw_g (lw_at lw_m5 3 rfl) rfl
theorem q1069 : (Jvm.Cond.privateMethod ({ cls := "BelowWorth", name := "inForce", desc := "(I)I" } : Jvm.MethodName)) ∈ lw_tbl := lw_at lw_m5 4 rfl
theorem q1070 : (Jvm.Cond.instanceMethod ({ cls := "BelowWorth", name := "inForce", desc := "(I)I" } : Jvm.MethodName)) ∈ lw_all := lw_g (lw_at lw_m5 5 rfl) rfl
theorem q1071 : (Jvm.Cond.code ({ cls := "BelowWorth", name := "inForce", desc := "(I)I" } : Jvm.MethodName) prog_1_method_21_code (4 : Nat) (Option.some Jvm.ClassFile.FieldType.int)) ∈ lw_all := lw_g (lw_at lw_m5 6 rfl) rfl
theorem q1073 : (Jvm.Cond.instanceMethod ({ cls := "BelowWorth", name := "sales", desc := "(III)I" } : Jvm.MethodName)) ∈ lw_all := lw_g (lw_at lw_m5 8 rfl) rfl
theorem q1074 : (Jvm.Cond.selects "BelowWorth" ({ cls := "BelowWorth", name := "sales", desc := "(III)I" } : Jvm.MethodName) ({ cls := "BelowWorth", name := "sales", desc := "(III)I" } : Jvm.MethodName)) ∈ lw_all := lw_g (lw_at lw_m5 9 rfl) rfl
theorem q1075 : (Jvm.Cond.code ({ cls := "BelowWorth", name := "sales", desc := "(III)I" } : Jvm.MethodName) prog_1_method_24_code (5 : Nat) (Option.some Jvm.ClassFile.FieldType.int)) ∈ lw_all := lw_g (lw_at lw_m5 10 rfl) rfl
theorem q1076 : (Jvm.Cond.constantLong "BelowWorth" (322 : Nat) (2 : Int64)) ∈ lw_all := lw_g (lw_at lw_m5 11 rfl) rfl
theorem q1077 : (Jvm.Cond.methodLink "BelowWorth" (324 : Nat) ({ cls := "BelowWorth$Sale", name := "isThere", desc := "(I)Z" } : Jvm.MethodName)) ∈ lw_all := lw_g (lw_at lw_m5 12 rfl) rfl
theorem q1081 : (Jvm.Cond.methodLink "BelowWorth" (327 : Nat) ({ cls := "BelowWorth$Look", name := "looks", desc := "(I)V" } : Jvm.MethodName)) ∈ lw_all := lw_g (lw_at lw_m5 16 rfl) rfl
theorem q1133 : (Jvm.Cond.privateMethod ({ cls := "BelowWorth", name := "lacksOf", desc := "(II)I" } : Jvm.MethodName)) ∈ lw_tbl := lw_at lw_m5 68 rfl
theorem q1134 : (Jvm.Cond.instanceMethod ({ cls := "BelowWorth", name := "lacksOf", desc := "(II)I" } : Jvm.MethodName)) ∈ lw_all := lw_g (lw_at lw_m5 69 rfl) rfl
theorem q1135 : (Jvm.Cond.code ({ cls := "BelowWorth", name := "lacksOf", desc := "(II)I" } : Jvm.MethodName) prog_1_method_37_code (7 : Nat) (Option.some Jvm.ClassFile.FieldType.int)) ∈ lw_all := lw_g (lw_at lw_m5 70 rfl) rfl
theorem q1136 : (Jvm.Cond.methodLink "BelowWorth" (437 : Nat) ({ cls := "BelowWorth$Figure", name := "of", desc := "(LBelowWorth$Sale;)I" } : Jvm.MethodName)) ∈ lw_all := lw_g (lw_at lw_m5 71 rfl) rfl
theorem q1142 : (Jvm.Cond.privateMethod ({ cls := "BelowWorth", name := "salesHere", desc := "(II)I" } : Jvm.MethodName)) ∈ lw_tbl := lw_at lw_m5 77 rfl
theorem q1143 : (Jvm.Cond.instanceMethod ({ cls := "BelowWorth", name := "salesHere", desc := "(II)I" } : Jvm.MethodName)) ∈ lw_all := lw_g (lw_at lw_m5 78 rfl) rfl
theorem q1144 : (Jvm.Cond.code ({ cls := "BelowWorth", name := "salesHere", desc := "(II)I" } : Jvm.MethodName) prog_1_method_38_code (5 : Nat) (Option.some Jvm.ClassFile.FieldType.int)) ∈ lw_all := lw_g (lw_at lw_m5 79 rfl) rfl
theorem q1155 : (Jvm.Cond.instanceMethod ({ cls := "BelowWorth", name := "worth", desc := "(IIII)I" } : Jvm.MethodName)) ∈ lw_all := lw_g (lw_at lw_m5 90 rfl) rfl
theorem q1156 : (Jvm.Cond.selects "BelowWorth" ({ cls := "BelowWorth", name := "worth", desc := "(IIII)I" } : Jvm.MethodName) ({ cls := "BelowWorth", name := "worth", desc := "(IIII)I" } : Jvm.MethodName)) ∈ lw_all := lw_g (lw_at lw_m5 91 rfl) rfl
theorem q1157 : (Jvm.Cond.code ({ cls := "BelowWorth", name := "worth", desc := "(IIII)I" } : Jvm.MethodName) prog_1_method_25_code (6 : Nat) (Option.some Jvm.ClassFile.FieldType.int)) ∈ lw_all := lw_g (lw_at lw_m5 92 rfl) rfl
theorem q1158 : (Jvm.Cond.methodLink "BelowWorth" (337 : Nat) ({ cls := "BelowWorth$Look", name := "of", desc := "(I)V" } : Jvm.MethodName)) ∈ lw_all := lw_g (lw_at lw_m5 93 rfl) rfl
theorem q1171 : (Jvm.Cond.methodLink "BelowWorth" (340 : Nat) ({ cls := "BelowWorth$Look", name := "worth", desc := "(II)I" } : Jvm.MethodName)) ∈ lw_all := lw_g (lw_at lw_m5 106 rfl) rfl
theorem q1183 : (Jvm.Cond.instanceMethod ({ cls := "BelowWorth", name := "by", desc := "(I)I" } : Jvm.MethodName)) ∈ lw_all := lw_g (lw_at lw_m5 118 rfl) rfl
theorem q1184 : (Jvm.Cond.selects "BelowWorth" ({ cls := "BelowWorth", name := "by", desc := "(I)I" } : Jvm.MethodName) ({ cls := "BelowWorth", name := "by", desc := "(I)I" } : Jvm.MethodName)) ∈ lw_all := lw_g (lw_at lw_m5 119 rfl) rfl
theorem q1185 : (Jvm.Cond.code ({ cls := "BelowWorth", name := "by", desc := "(I)I" } : Jvm.MethodName) prog_1_method_26_code (2 : Nat) (Option.some Jvm.ClassFile.FieldType.int)) ∈ lw_all := lw_g (lw_at lw_m5 120 rfl) rfl
theorem q1187 : (Jvm.Cond.instanceMethod ({ cls := "BelowWorth", name := "margin", desc := "(IIIIII)J" } : Jvm.MethodName)) ∈ lw_all := lw_g (lw_at lw_m5 122 rfl) rfl
theorem q1188 : (Jvm.Cond.selects "BelowWorth" ({ cls := "BelowWorth", name := "margin", desc := "(IIIIII)J" } : Jvm.MethodName) ({ cls := "BelowWorth", name := "margin", desc := "(IIIIII)J" } : Jvm.MethodName)) ∈ lw_all := lw_g (lw_at lw_m5 123 rfl) rfl
theorem q1189 : (Jvm.Cond.code ({ cls := "BelowWorth", name := "margin", desc := "(IIIIII)J" } : Jvm.MethodName) prog_1_method_31_code (9 : Nat) (Option.some Jvm.ClassFile.FieldType.long)) ∈ lw_all := lw_g (lw_at lw_m5 124 rfl) rfl
theorem q1190 : (Jvm.Cond.methodLink "BelowWorth" (381 : Nat) ({ cls := "BelowWorth", name := "isSpan", desc := "(IIII)Z" } : Jvm.MethodName)) ∈ lw_all := lw_g (lw_at lw_m5 125 rfl) rfl
theorem q1191 : (Jvm.Cond.privateMethod ({ cls := "BelowWorth", name := "isSpan", desc := "(IIII)Z" } : Jvm.MethodName)) ∈ lw_tbl := lw_at lw_m5 126 rfl
theorem q1192 : (Jvm.Cond.instanceMethod ({ cls := "BelowWorth", name := "isSpan", desc := "(IIII)Z" } : Jvm.MethodName)) ∈ lw_all := lw_g (lw_at lw_m5 127 rfl) rfl
theorem q1193 : (Jvm.Cond.code ({ cls := "BelowWorth", name := "isSpan", desc := "(IIII)Z" } : Jvm.MethodName) prog_1_method_30_code (5 : Nat) (Option.some Jvm.ClassFile.FieldType.boolean)) ∈ lw_all := lw_g (lw_at lw_m5 128 rfl) rfl
theorem q1194 : (Jvm.Cond.constantLong "BelowWorth" (384 : Nat) (-9000000000000000000 : Int64)) ∈ lw_all := lw_g (lw_at lw_m5 129 rfl) rfl
theorem q1195 : (Jvm.Cond.methodLink "BelowWorth" (386 : Nat) ({ cls := "BelowWorth", name := "margins", desc := "(IIII)V" } : Jvm.MethodName)) ∈ lw_all := lw_g (lw_at lw_m5 130 rfl) rfl
theorem q1196 : (Jvm.Cond.privateMethod ({ cls := "BelowWorth", name := "margins", desc := "(IIII)V" } : Jvm.MethodName)) ∈ lw_tbl := lw_at lw_m5 131 rfl
theorem q1197 : (Jvm.Cond.instanceMethod ({ cls := "BelowWorth", name := "margins", desc := "(IIII)V" } : Jvm.MethodName)) ∈ lw_all := lw_g (lw_at lw_m5 132 rfl) rfl
theorem q1198 : (Jvm.Cond.code ({ cls := "BelowWorth", name := "margins", desc := "(IIII)V" } : Jvm.MethodName) prog_1_method_28_code (8 : Nat) (Option.none : Option Jvm.ClassFile.FieldType)) ∈ lw_all := lw_g (lw_at lw_m5 133 rfl) rfl
theorem q1199 : (Jvm.Cond.methodLink "BelowWorth" (366 : Nat) ({ cls := "BelowWorth$Look", name := "isHere", desc := "(IIII)Z" } : Jvm.MethodName)) ∈ lw_all := lw_g (lw_at lw_m5 134 rfl) rfl
theorem q1204 : (Jvm.Cond.methodLink "BelowWorth" (374 : Nat) ({ cls := "BelowWorth", name := "adds", desc := "(JJJ)V" } : Jvm.MethodName)) ∈ lw_all := lw_g (lw_at lw_m5 139 rfl) rfl
theorem q1205 : (Jvm.Cond.privateMethod ({ cls := "BelowWorth", name := "adds", desc := "(JJJ)V" } : Jvm.MethodName)) ∈ lw_tbl := lw_at lw_m5 140 rfl
theorem q1206 : (Jvm.Cond.instanceMethod ({ cls := "BelowWorth", name := "adds", desc := "(JJJ)V" } : Jvm.MethodName)) ∈ lw_all := lw_g (lw_at lw_m5 141 rfl) rfl
theorem q1207 : (Jvm.Cond.code ({ cls := "BelowWorth", name := "adds", desc := "(JJJ)V" } : Jvm.MethodName) prog_1_method_27_code (9 : Nat) (Option.none : Option Jvm.ClassFile.FieldType)) ∈ lw_all := lw_g (lw_at lw_m5 142 rfl) rfl
theorem q1208 : (Jvm.Cond.constantLong "BelowWorth" (346 : Nat) (100 : Int64)) ∈ lw_all := lw_g (lw_at lw_m5 143 rfl) rfl
theorem q1209 : (Jvm.Cond.methodLink "BelowWorth" (354 : Nat) ({ cls := "java/lang/Math", name := "max", desc := "(JJ)J" } : Jvm.MethodName)) ∈ lw_all := lw_g (lw_at lw_m5 144 rfl) rfl
theorem q1212 : (Jvm.Cond.methodLink "BelowWorth" (390 : Nat) ({ cls := "java/lang/Math", name := "abs", desc := "(J)J" } : Jvm.MethodName)) ∈ lw_all := lw_g (lw_at lw_m5 147 rfl) rfl
theorem q1215 : (Jvm.Cond.methodLink "BelowWorth" (378 : Nat) ({ cls := "BelowWorth", name := "divisor", desc := "(JJ)J" } : Jvm.MethodName)) ∈ lw_all := lw_g (lw_at lw_m5 150 rfl) rfl
theorem q1216 : (Jvm.Cond.static ({ cls := "BelowWorth", name := "divisor", desc := "(JJ)J" } : Jvm.MethodName)) ∈ lw_all := lw_g (lw_at lw_m5 151 rfl) rfl
theorem q1217 : (Jvm.Cond.code ({ cls := "BelowWorth", name := "divisor", desc := "(JJ)J" } : Jvm.MethodName) prog_1_method_29_code (4 : Nat) (Option.some Jvm.ClassFile.FieldType.long)) ∈ lw_all := lw_g (lw_at lw_m5 152 rfl) rfl
theorem q1219 : (Jvm.Cond.instanceMethod ({ cls := "BelowWorth", name := "without", desc := "(IIII)I" } : Jvm.MethodName)) ∈ lw_all := lw_g (lw_at lw_m5 154 rfl) rfl
theorem q1220 : (Jvm.Cond.selects "BelowWorth" ({ cls := "BelowWorth", name := "without", desc := "(IIII)I" } : Jvm.MethodName) ({ cls := "BelowWorth", name := "without", desc := "(IIII)I" } : Jvm.MethodName)) ∈ lw_all := lw_g (lw_at lw_m5 155 rfl) rfl
theorem q1221 : (Jvm.Cond.code ({ cls := "BelowWorth", name := "without", desc := "(IIII)I" } : Jvm.MethodName) prog_1_method_32_code (5 : Nat) (Option.some Jvm.ClassFile.FieldType.int)) ∈ lw_all := lw_g (lw_at lw_m5 156 rfl) rfl
theorem q1223 : (Jvm.Cond.instanceMethod ({ cls := "BelowWorth", name := "match", desc := "(IIIZI)I" } : Jvm.MethodName)) ∈ lw_all := lw_g (lw_at lw_m5 158 rfl) rfl
theorem q1224 : (Jvm.Cond.selects "BelowWorth" ({ cls := "BelowWorth", name := "match", desc := "(IIIZI)I" } : Jvm.MethodName) ({ cls := "BelowWorth", name := "match", desc := "(IIIZI)I" } : Jvm.MethodName)) ∈ lw_all := lw_g (lw_at lw_m5 159 rfl) rfl
theorem q1225 : (Jvm.Cond.code ({ cls := "BelowWorth", name := "match", desc := "(IIIZI)I" } : Jvm.MethodName) prog_1_method_33_code (9 : Nat) (Option.some Jvm.ClassFile.FieldType.int)) ∈ lw_all := lw_g (lw_at lw_m5 160 rfl) rfl
theorem q1226 : (Jvm.Cond.methodLink "BelowWorth" (394 : Nat) ({ cls := "BelowWorth$Matcher", name := "matches", desc := "(IIIZ)I" } : Jvm.MethodName)) ∈ lw_all := lw_g (lw_at lw_m5 161 rfl) rfl
theorem q1263 : (Jvm.Cond.methodLinkNest "BelowWorth" (416 : Nat) ({ cls := "BelowWorth$Matcher", name := "grades", desc := "(II)I" } : Jvm.MethodName) "BelowWorth") ∈ lw_tbl := lw_at lw_m5 198 rfl
theorem q1264 : (Jvm.Cond.methodLinkNest "BelowWorth" (419 : Nat) ({ cls := "BelowWorth$Matcher", name := "months", desc := "(II)I" } : Jvm.MethodName) "BelowWorth") ∈ lw_tbl := lw_at lw_m5 199 rfl
theorem q1265 : (Jvm.Cond.methodLinkNest "BelowWorth" (422 : Nat) ({ cls := "BelowWorth$Matcher", name := "less", desc := "(II)J" } : Jvm.MethodName) "BelowWorth") ∈ lw_tbl := lw_at lw_m5 200 rfl
theorem q1267 : (Jvm.Cond.instanceMethod ({ cls := "BelowWorth", name := "matched", desc := "(II)I" } : Jvm.MethodName)) ∈ lw_all := lw_g (lw_at lw_m5 202 rfl) rfl
theorem q1268 : (Jvm.Cond.selects "BelowWorth" ({ cls := "BelowWorth", name := "matched", desc := "(II)I" } : Jvm.MethodName) ({ cls := "BelowWorth", name := "matched", desc := "(II)I" } : Jvm.MethodName)) ∈ lw_all := lw_g (lw_at lw_m5 203 rfl) rfl
theorem q1269 : (Jvm.Cond.code ({ cls := "BelowWorth", name := "matched", desc := "(II)I" } : Jvm.MethodName) prog_1_method_34_code (3 : Nat) (Option.some Jvm.ClassFile.FieldType.int)) ∈ lw_all := lw_g (lw_at lw_m5 204 rfl) rfl
theorem q1271 : (Jvm.Cond.instanceMethod ({ cls := "BelowWorth", name := "matches", desc := "(I)J" } : Jvm.MethodName)) ∈ lw_all := lw_g (lw_at lw_m5 206 rfl) rfl
theorem q1272 : (Jvm.Cond.selects "BelowWorth" ({ cls := "BelowWorth", name := "matches", desc := "(I)J" } : Jvm.MethodName) ({ cls := "BelowWorth", name := "matches", desc := "(I)J" } : Jvm.MethodName)) ∈ lw_all := lw_g (lw_at lw_m5 207 rfl) rfl
theorem q1273 : (Jvm.Cond.code ({ cls := "BelowWorth", name := "matches", desc := "(I)J" } : Jvm.MethodName) prog_1_method_35_code (2 : Nat) (Option.some Jvm.ClassFile.FieldType.long)) ∈ lw_all := lw_g (lw_at lw_m5 208 rfl) rfl
theorem q1275 : (Jvm.Cond.instanceMethod ({ cls := "BelowWorth", name := "figure", desc := "(IZIIII)I" } : Jvm.MethodName)) ∈ lw_all := lw_g (lw_at lw_m5 210 rfl) rfl
theorem q1276 : (Jvm.Cond.selects "BelowWorth" ({ cls := "BelowWorth", name := "figure", desc := "(IZIIII)I" } : Jvm.MethodName) ({ cls := "BelowWorth", name := "figure", desc := "(IZIIII)I" } : Jvm.MethodName)) ∈ lw_all := lw_g (lw_at lw_m5 211 rfl) rfl
theorem q1277 : (Jvm.Cond.code ({ cls := "BelowWorth", name := "figure", desc := "(IZIIII)I" } : Jvm.MethodName) prog_1_method_36_code (7 : Nat) (Option.some Jvm.ClassFile.FieldType.int)) ∈ lw_all := lw_g (lw_at lw_m5 212 rfl) rfl
theorem q1278 : (Jvm.Cond.constantLong "BelowWorth" (426 : Nat) (65535 : Int64)) ∈ lw_all := lw_g (lw_at lw_m5 213 rfl) rfl
theorem q1279 : (Jvm.Cond.constantLong "BelowWorth" (428 : Nat) (99999 : Int64)) ∈ lw_all := lw_g (lw_at lw_m5 214 rfl) rfl
theorem q1280 : (Jvm.Cond.classLink "BelowWorth" (430 : Nat) "BelowWorth$Figure") ∈ lw_all := lw_g (lw_at lw_m5 215 rfl) rfl
theorem q1282 : (Jvm.Cond.methodLink "BelowWorth" (432 : Nat) ({ cls := "BelowWorth$Figure", name := "<init>", desc := "(ZIIII)V" } : Jvm.MethodName)) ∈ lw_all := lw_g (lw_at lw_m5 217 rfl) rfl
theorem q1291 : (Jvm.Cond.fieldLinkNest "BelowWorth" (435 : Nat) "BelowWorth$Figure" "tons" "I" "BelowWorth") ∈ lw_tbl := lw_at lw_m5 226 rfl
theorem q1304 : (Jvm.Cond.instanceMethod ({ cls := "BelowWorth", name := "lacks", desc := "(II)I" } : Jvm.MethodName)) ∈ lw_all := lw_g (lw_at lw_m5 239 rfl) rfl
theorem q1305 : (Jvm.Cond.selects "BelowWorth" ({ cls := "BelowWorth", name := "lacks", desc := "(II)I" } : Jvm.MethodName) ({ cls := "BelowWorth", name := "lacks", desc := "(II)I" } : Jvm.MethodName)) ∈ lw_all := lw_g (lw_at lw_m6 0 rfl) rfl
theorem q1306 : (Jvm.Cond.code ({ cls := "BelowWorth", name := "lacks", desc := "(II)I" } : Jvm.MethodName) prog_1_method_39_code (3 : Nat) (Option.some Jvm.ClassFile.FieldType.int)) ∈ lw_all := lw_g (lw_at lw_m6 1 rfl) rfl
theorem q1307 : (Jvm.Cond.methodLink "BelowWorth" (442 : Nat) ({ cls := "BelowWorth", name := "lacksOf", desc := "(II)I" } : Jvm.MethodName)) ∈ lw_all := lw_g (lw_at lw_m6 2 rfl) rfl
theorem q1309 : (Jvm.Cond.instanceMethod ({ cls := "BelowWorth", name := "explain", desc := "(II)I" } : Jvm.MethodName)) ∈ lw_all := lw_g (lw_at lw_m6 4 rfl) rfl
theorem q1310 : (Jvm.Cond.selects "BelowWorth" ({ cls := "BelowWorth", name := "explain", desc := "(II)I" } : Jvm.MethodName) ({ cls := "BelowWorth", name := "explain", desc := "(II)I" } : Jvm.MethodName)) ∈ lw_all := lw_g (lw_at lw_m6 5 rfl) rfl
theorem q1311 : (Jvm.Cond.code ({ cls := "BelowWorth", name := "explain", desc := "(II)I" } : Jvm.MethodName) prog_1_method_42_code (5 : Nat) (Option.some Jvm.ClassFile.FieldType.int)) ∈ lw_all := lw_g (lw_at lw_m6 6 rfl) rfl
theorem q1312 : (Jvm.Cond.methodLink "BelowWorth" (449 : Nat) ({ cls := "BelowWorth", name := "leaves", desc := "(IIIII)Z" } : Jvm.MethodName)) ∈ lw_all := lw_g (lw_at lw_m6 7 rfl) rfl
theorem q1313 : (Jvm.Cond.privateMethod ({ cls := "BelowWorth", name := "leaves", desc := "(IIIII)Z" } : Jvm.MethodName)) ∈ lw_tbl := lw_at lw_m6 8 rfl
theorem q1314 : (Jvm.Cond.instanceMethod ({ cls := "BelowWorth", name := "leaves", desc := "(IIIII)Z" } : Jvm.MethodName)) ∈ lw_all := lw_g (lw_at lw_m6 9 rfl) rfl
theorem q1315 : (Jvm.Cond.code ({ cls := "BelowWorth", name := "leaves", desc := "(IIIII)Z" } : Jvm.MethodName) prog_1_method_41_code (7 : Nat) (Option.some Jvm.ClassFile.FieldType.boolean)) ∈ lw_all := lw_g (lw_at lw_m6 10 rfl) rfl
theorem q1316 : (Jvm.Cond.methodLink "BelowWorth" (445 : Nat) ({ cls := "BelowWorth", name := "agrees", desc := "(II)Z" } : Jvm.MethodName)) ∈ lw_all := lw_g (lw_at lw_m6 11 rfl) rfl
theorem q1317 : (Jvm.Cond.privateMethod ({ cls := "BelowWorth", name := "agrees", desc := "(II)Z" } : Jvm.MethodName)) ∈ lw_tbl := lw_at lw_m6 12 rfl
theorem q1318 : (Jvm.Cond.instanceMethod ({ cls := "BelowWorth", name := "agrees", desc := "(II)Z" } : Jvm.MethodName)) ∈ lw_all := lw_g (lw_at lw_m6 13 rfl) rfl
theorem q1319 : (Jvm.Cond.code ({ cls := "BelowWorth", name := "agrees", desc := "(II)Z" } : Jvm.MethodName) prog_1_method_40_code (6 : Nat) (Option.some Jvm.ClassFile.FieldType.boolean)) ∈ lw_all := lw_g (lw_at lw_m6 14 rfl) rfl
theorem q1320 : (Jvm.Cond.methodLink "BelowWorth" (456 : Nat) ({ cls := "java/lang/System", name := "arraycopy", desc := "(Ljava/lang/Object;ILjava/lang/Object;II)V" } : Jvm.MethodName)) ∈ lw_all := lw_g (lw_at lw_m6 15 rfl) rfl
theorem q1324 : (Jvm.Cond.instanceMethod ({ cls := "BelowWorth", name := "explained", desc := "(I)I" } : Jvm.MethodName)) ∈ lw_all := lw_g (lw_at lw_m6 19 rfl) rfl
theorem q1325 : (Jvm.Cond.selects "BelowWorth" ({ cls := "BelowWorth", name := "explained", desc := "(I)I" } : Jvm.MethodName) ({ cls := "BelowWorth", name := "explained", desc := "(I)I" } : Jvm.MethodName)) ∈ lw_all := lw_g (lw_at lw_m6 20 rfl) rfl
theorem q1326 : (Jvm.Cond.code ({ cls := "BelowWorth", name := "explained", desc := "(I)I" } : Jvm.MethodName) prog_1_method_43_code (2 : Nat) (Option.some Jvm.ClassFile.FieldType.int)) ∈ lw_all := lw_g (lw_at lw_m6 21 rfl) rfl
theorem q1328 : (Jvm.Cond.instanceMethod ({ cls := "BelowWorth", name := "flow", desc := "(III)I" } : Jvm.MethodName)) ∈ lw_all := lw_g (lw_at lw_m6 23 rfl) rfl
theorem q1329 : (Jvm.Cond.selects "BelowWorth" ({ cls := "BelowWorth", name := "flow", desc := "(III)I" } : Jvm.MethodName) ({ cls := "BelowWorth", name := "flow", desc := "(III)I" } : Jvm.MethodName)) ∈ lw_all := lw_g (lw_at lw_m6 24 rfl) rfl
theorem q1330 : (Jvm.Cond.code ({ cls := "BelowWorth", name := "flow", desc := "(III)I" } : Jvm.MethodName) prog_1_method_44_code (4 : Nat) (Option.some Jvm.ClassFile.FieldType.int)) ∈ lw_all := lw_g (lw_at lw_m6 25 rfl) rfl
theorem q1332 : (Jvm.Cond.instanceMethod ({ cls := "BelowWorth", name := "own", desc := "(II)I" } : Jvm.MethodName)) ∈ lw_all := lw_g (lw_at lw_m6 27 rfl) rfl
theorem q1333 : (Jvm.Cond.selects "BelowWorth" ({ cls := "BelowWorth", name := "own", desc := "(II)I" } : Jvm.MethodName) ({ cls := "BelowWorth", name := "own", desc := "(II)I" } : Jvm.MethodName)) ∈ lw_all := lw_g (lw_at lw_m6 28 rfl) rfl
theorem q1334 : (Jvm.Cond.code ({ cls := "BelowWorth", name := "own", desc := "(II)I" } : Jvm.MethodName) prog_1_method_45_code (4 : Nat) (Option.some Jvm.ClassFile.FieldType.int)) ∈ lw_all := lw_g (lw_at lw_m6 29 rfl) rfl
theorem q1336 : (Jvm.Cond.instanceMethod ({ cls := "BelowWorth", name := "taint", desc := "(II)I" } : Jvm.MethodName)) ∈ lw_all := lw_g (lw_at lw_m6 31 rfl) rfl
theorem q1337 : (Jvm.Cond.selects "BelowWorth" ({ cls := "BelowWorth", name := "taint", desc := "(II)I" } : Jvm.MethodName) ({ cls := "BelowWorth", name := "taint", desc := "(II)I" } : Jvm.MethodName)) ∈ lw_all := lw_g (lw_at lw_m6 32 rfl) rfl
theorem q1338 : (Jvm.Cond.code ({ cls := "BelowWorth", name := "taint", desc := "(II)I" } : Jvm.MethodName) prog_1_method_47_code (5 : Nat) (Option.some Jvm.ClassFile.FieldType.int)) ∈ lw_all := lw_g (lw_at lw_m6 33 rfl) rfl
theorem q1339 : (Jvm.Cond.constantLong "BelowWorth" (465 : Nat) (1000 : Int64)) ∈ lw_all := lw_g (lw_at lw_m6 34 rfl) rfl
theorem q1340 : (Jvm.Cond.methodLink "BelowWorth" (467 : Nat) ({ cls := "BelowWorth", name := "spreads", desc := "(I[J)[J" } : Jvm.MethodName)) ∈ lw_all := lw_g (lw_at lw_m6 35 rfl) rfl
theorem q1341 : (Jvm.Cond.privateMethod ({ cls := "BelowWorth", name := "spreads", desc := "(I[J)[J" } : Jvm.MethodName)) ∈ lw_tbl := lw_at lw_m6 36 rfl
theorem q1342 : (Jvm.Cond.instanceMethod ({ cls := "BelowWorth", name := "spreads", desc := "(I[J)[J" } : Jvm.MethodName)) ∈ lw_all := lw_g (lw_at lw_m6 37 rfl) rfl
theorem q1343 : (Jvm.Cond.code ({ cls := "BelowWorth", name := "spreads", desc := "(I[J)[J" } : Jvm.MethodName) prog_1_method_46_code (10 : Nat) (Option.some (Jvm.ClassFile.FieldType.array Jvm.ClassFile.FieldType.long))) ∈ lw_all := lw_g (lw_at lw_m6 38 rfl) rfl
theorem q1345 : (Jvm.Cond.instanceMethod ({ cls := "BelowWorth", name := "way", desc := "(II)I" } : Jvm.MethodName)) ∈ lw_all := lw_g (lw_at lw_m6 40 rfl) rfl
theorem q1346 : (Jvm.Cond.selects "BelowWorth" ({ cls := "BelowWorth", name := "way", desc := "(II)I" } : Jvm.MethodName) ({ cls := "BelowWorth", name := "way", desc := "(II)I" } : Jvm.MethodName)) ∈ lw_all := lw_g (lw_at lw_m6 41 rfl) rfl
theorem q1347 : (Jvm.Cond.code ({ cls := "BelowWorth", name := "way", desc := "(II)I" } : Jvm.MethodName) prog_1_method_49_code (4 : Nat) (Option.some Jvm.ClassFile.FieldType.int)) ∈ lw_all := lw_g (lw_at lw_m6 42 rfl) rfl
theorem q1348 : (Jvm.Cond.constantLong "BelowWorth" (486 : Nat) (9223372036854775807 : Int64)) ∈ lw_all := lw_g (lw_at lw_m6 43 rfl) rfl
theorem q1349 : (Jvm.Cond.methodLink "BelowWorth" (480 : Nat) ({ cls := "BelowWorth", name := "goes", desc := "(IIIJ)V" } : Jvm.MethodName)) ∈ lw_all := lw_g (lw_at lw_m6 44 rfl) rfl
theorem q1350 : (Jvm.Cond.privateMethod ({ cls := "BelowWorth", name := "goes", desc := "(IIIJ)V" } : Jvm.MethodName)) ∈ lw_tbl := lw_at lw_m6 45 rfl
theorem q1351 : (Jvm.Cond.instanceMethod ({ cls := "BelowWorth", name := "goes", desc := "(IIIJ)V" } : Jvm.MethodName)) ∈ lw_all := lw_g (lw_at lw_m6 46 rfl) rfl
theorem q1352 : (Jvm.Cond.code ({ cls := "BelowWorth", name := "goes", desc := "(IIIJ)V" } : Jvm.MethodName) prog_1_method_48_code (8 : Nat) (Option.none : Option Jvm.ClassFile.FieldType)) ∈ lw_all := lw_g (lw_at lw_m6 47 rfl) rfl
theorem q1353 : (Jvm.Cond.methodLink "BelowWorth" (471 : Nat) ({ cls := "java/lang/Math", name := "min", desc := "(JJ)J" } : Jvm.MethodName)) ∈ lw_all := lw_g (lw_at lw_m6 48 rfl) rfl
theorem q1357 : (Jvm.Cond.instanceMethod ({ cls := "BelowWorth", name := "ways", desc := "(I)I" } : Jvm.MethodName)) ∈ lw_all := lw_g (lw_at lw_m6 52 rfl) rfl
theorem q1358 : (Jvm.Cond.selects "BelowWorth" ({ cls := "BelowWorth", name := "ways", desc := "(I)I" } : Jvm.MethodName) ({ cls := "BelowWorth", name := "ways", desc := "(I)I" } : Jvm.MethodName)) ∈ lw_all := lw_g (lw_at lw_m6 53 rfl) rfl
theorem q1359 : (Jvm.Cond.code ({ cls := "BelowWorth", name := "ways", desc := "(I)I" } : Jvm.MethodName) prog_1_method_50_code (2 : Nat) (Option.some Jvm.ClassFile.FieldType.int)) ∈ lw_all := lw_g (lw_at lw_m6 54 rfl) rfl
theorem q1361 : (Jvm.Cond.instanceMethod ({ cls := "BelowWorth", name := "promise", desc := "(IIII)I" } : Jvm.MethodName)) ∈ lw_all := lw_g (lw_at lw_m6 56 rfl) rfl
theorem q1362 : (Jvm.Cond.selects "BelowWorth" ({ cls := "BelowWorth", name := "promise", desc := "(IIII)I" } : Jvm.MethodName) ({ cls := "BelowWorth", name := "promise", desc := "(IIII)I" } : Jvm.MethodName)) ∈ lw_all := lw_g (lw_at lw_m6 57 rfl) rfl
theorem q1363 : (Jvm.Cond.code ({ cls := "BelowWorth", name := "promise", desc := "(IIII)I" } : Jvm.MethodName) prog_1_method_51_code (5 : Nat) (Option.some Jvm.ClassFile.FieldType.int)) ∈ lw_all := lw_g (lw_at lw_m6 58 rfl) rfl
theorem q1365 : (Jvm.Cond.instanceMethod ({ cls := "BelowWorth", name := "broken", desc := "(III)I" } : Jvm.MethodName)) ∈ lw_all := lw_g (lw_at lw_m6 60 rfl) rfl
theorem q1366 : (Jvm.Cond.selects "BelowWorth" ({ cls := "BelowWorth", name := "broken", desc := "(III)I" } : Jvm.MethodName) ({ cls := "BelowWorth", name := "broken", desc := "(III)I" } : Jvm.MethodName)) ∈ lw_all := lw_g (lw_at lw_m6 61 rfl) rfl
theorem q1367 : (Jvm.Cond.code ({ cls := "BelowWorth", name := "broken", desc := "(III)I" } : Jvm.MethodName) prog_1_method_53_code (6 : Nat) (Option.some Jvm.ClassFile.FieldType.int)) ∈ lw_all := lw_g (lw_at lw_m6 62 rfl) rfl
theorem q1368 : (Jvm.Cond.methodLink "BelowWorth" (494 : Nat) ({ cls := "BelowWorth", name := "breaks", desc := "(II)Z" } : Jvm.MethodName)) ∈ lw_all := lw_g (lw_at lw_m6 63 rfl) rfl
theorem q1369 : (Jvm.Cond.privateMethod ({ cls := "BelowWorth", name := "breaks", desc := "(II)Z" } : Jvm.MethodName)) ∈ lw_tbl := lw_at lw_m6 64 rfl
theorem q1370 : (Jvm.Cond.instanceMethod ({ cls := "BelowWorth", name := "breaks", desc := "(II)Z" } : Jvm.MethodName)) ∈ lw_all := lw_g (lw_at lw_m6 65 rfl) rfl
theorem q1371 : (Jvm.Cond.code ({ cls := "BelowWorth", name := "breaks", desc := "(II)Z" } : Jvm.MethodName) prog_1_method_52_code (6 : Nat) (Option.some Jvm.ClassFile.FieldType.boolean)) ∈ lw_all := lw_g (lw_at lw_m6 66 rfl) rfl
theorem q1373 : (Jvm.Cond.instanceMethod ({ cls := "BelowWorth", name := "against", desc := "(II)I" } : Jvm.MethodName)) ∈ lw_all := lw_g (lw_at lw_m6 68 rfl) rfl
theorem q1374 : (Jvm.Cond.selects "BelowWorth" ({ cls := "BelowWorth", name := "against", desc := "(II)I" } : Jvm.MethodName) ({ cls := "BelowWorth", name := "against", desc := "(II)I" } : Jvm.MethodName)) ∈ lw_all := lw_g (lw_at lw_m6 69 rfl) rfl
theorem q1375 : (Jvm.Cond.code ({ cls := "BelowWorth", name := "against", desc := "(II)I" } : Jvm.MethodName) prog_1_method_55_code (3 : Nat) (Option.some Jvm.ClassFile.FieldType.int)) ∈ lw_all := lw_g (lw_at lw_m6 70 rfl) rfl
theorem q1376 : (Jvm.Cond.methodLink "BelowWorth" (504 : Nat) ({ cls := "BelowWorth", name := "isAgainst", desc := "(II)Z" } : Jvm.MethodName)) ∈ lw_all := lw_g (lw_at lw_m6 71 rfl) rfl
theorem q1377 : (Jvm.Cond.privateMethod ({ cls := "BelowWorth", name := "isAgainst", desc := "(II)Z" } : Jvm.MethodName)) ∈ lw_tbl := lw_at lw_m6 72 rfl
theorem q1378 : (Jvm.Cond.instanceMethod ({ cls := "BelowWorth", name := "isAgainst", desc := "(II)Z" } : Jvm.MethodName)) ∈ lw_all := lw_g (lw_at lw_m6 73 rfl) rfl
theorem q1379 : (Jvm.Cond.code ({ cls := "BelowWorth", name := "isAgainst", desc := "(II)Z" } : Jvm.MethodName) prog_1_method_54_code (3 : Nat) (Option.some Jvm.ClassFile.FieldType.boolean)) ∈ lw_all := lw_g (lw_at lw_m6 74 rfl) rfl
theorem q1380 : (Jvm.Cond.methodLink "BelowWorth" (497 : Nat) ({ cls := "BelowWorth$Case", name := "of", desc := "(IIJZ)LBelowWorth$Case;" } : Jvm.MethodName)) ∈ lw_all := lw_g (lw_at lw_m6 75 rfl) rfl
theorem q1384 : (Jvm.Cond.methodLink "BelowWorth" (500 : Nat) ({ cls := "BelowWorth$Act", name := "has", desc := "(IILBelowWorth$Case;)Z" } : Jvm.MethodName)) ∈ lw_all := lw_g (lw_at lw_m6 79 rfl) rfl
theorem q1386 : (Jvm.Cond.instanceMethod ({ cls := "BelowWorth", name := "decide", desc := "(IIII)I" } : Jvm.MethodName)) ∈ lw_all := lw_g (lw_at lw_m6 81 rfl) rfl
theorem q1387 : (Jvm.Cond.selects "BelowWorth" ({ cls := "BelowWorth", name := "decide", desc := "(IIII)I" } : Jvm.MethodName) ({ cls := "BelowWorth", name := "decide", desc := "(IIII)I" } : Jvm.MethodName)) ∈ lw_all := lw_g (lw_at lw_m6 82 rfl) rfl
theorem q1388 : (Jvm.Cond.code ({ cls := "BelowWorth", name := "decide", desc := "(IIII)I" } : Jvm.MethodName) prog_1_method_57_code (10 : Nat) (Option.some Jvm.ClassFile.FieldType.int)) ∈ lw_all := lw_g (lw_at lw_m6 83 rfl) rfl
theorem q1389 : (Jvm.Cond.methodLink "BelowWorth" (517 : Nat) ({ cls := "BelowWorth", name := "marginNow", desc := "(Z)I" } : Jvm.MethodName)) ∈ lw_all := lw_g (lw_at lw_m6 84 rfl) rfl
theorem q1390 : (Jvm.Cond.privateMethod ({ cls := "BelowWorth", name := "marginNow", desc := "(Z)I" } : Jvm.MethodName)) ∈ lw_tbl := lw_at lw_m6 85 rfl
theorem q1391 : (Jvm.Cond.instanceMethod ({ cls := "BelowWorth", name := "marginNow", desc := "(Z)I" } : Jvm.MethodName)) ∈ lw_all := lw_g (lw_at lw_m6 86 rfl) rfl
theorem q1392 : (Jvm.Cond.code ({ cls := "BelowWorth", name := "marginNow", desc := "(Z)I" } : Jvm.MethodName) prog_1_method_56_code (5 : Nat) (Option.some Jvm.ClassFile.FieldType.int)) ∈ lw_all := lw_g (lw_at lw_m6 87 rfl) rfl
theorem q1393 : (Jvm.Cond.constantLong "BelowWorth" (513 : Nat) (-1000000000 : Int64)) ∈ lw_all := lw_g (lw_at lw_m6 88 rfl) rfl
theorem q1394 : (Jvm.Cond.constantLong "BelowWorth" (515 : Nat) (1000000000 : Int64)) ∈ lw_all := lw_g (lw_at lw_m6 89 rfl) rfl
theorem q1395 : (Jvm.Cond.methodLink "BelowWorth" (525 : Nat) ({ cls := "BelowWorth$Value", name := "of", desc := "(LBelowWorth$Case;)J" } : Jvm.MethodName)) ∈ lw_all := lw_g (lw_at lw_m6 90 rfl) rfl
theorem q1397 : (Jvm.Cond.methodLink "BelowWorth" (530 : Nat) ({ cls := "BelowWorth$Rate", name := "<init>", desc := "(IIIJZ)V" } : Jvm.MethodName)) ∈ lw_all := lw_g (lw_at lw_m6 92 rfl) rfl
theorem q1402 : (Jvm.Cond.fieldLinkNest "BelowWorth" (533 : Nat) "BelowWorth$Rate" "firm" "I" "BelowWorth") ∈ lw_tbl := lw_at lw_m6 97 rfl
theorem q1404 : (Jvm.Cond.fieldLinkNest "BelowWorth" (571 : Nat) "BelowWorth$Rate" "told" "I" "BelowWorth") ∈ lw_tbl := lw_at lw_m6 99 rfl
theorem q1406 : (Jvm.Cond.fieldLinkNest "BelowWorth" (510 : Nat) "BelowWorth$Rate" "rate" "I" "BelowWorth") ∈ lw_tbl := lw_at lw_m6 101 rfl
theorem q1408 : (Jvm.Cond.fieldLinkNest "BelowWorth" (543 : Nat) "BelowWorth$Rate" "coins" "J" "BelowWorth") ∈ lw_tbl := lw_at lw_m6 103 rfl
theorem q1410 : (Jvm.Cond.fieldLinkNest "BelowWorth" (541 : Nat) "BelowWorth$Rate" "isAgainst" "Z" "BelowWorth") ∈ lw_tbl := lw_at lw_m6 105 rfl
theorem q1423 : (Jvm.Cond.instanceMethod ({ cls := "BelowWorth", name := "rate", desc := "(III)I" } : Jvm.MethodName)) ∈ lw_all := lw_g (lw_at lw_m6 118 rfl) rfl
theorem q1424 : (Jvm.Cond.selects "BelowWorth" ({ cls := "BelowWorth", name := "rate", desc := "(III)I" } : Jvm.MethodName) ({ cls := "BelowWorth", name := "rate", desc := "(III)I" } : Jvm.MethodName)) ∈ lw_all := lw_g (lw_at lw_m6 119 rfl) rfl
theorem q1425 : (Jvm.Cond.code ({ cls := "BelowWorth", name := "rate", desc := "(III)I" } : Jvm.MethodName) prog_1_method_60_code (4 : Nat) (Option.some Jvm.ClassFile.FieldType.int)) ∈ lw_all := lw_g (lw_at lw_m6 120 rfl) rfl
theorem q1426 : (Jvm.Cond.methodLink "BelowWorth" (545 : Nat) ({ cls := "BelowWorth", name := "rateOf", desc := "(III)I" } : Jvm.MethodName)) ∈ lw_all := lw_g (lw_at lw_m6 121 rfl) rfl
theorem q1427 : (Jvm.Cond.privateMethod ({ cls := "BelowWorth", name := "rateOf", desc := "(III)I" } : Jvm.MethodName)) ∈ lw_tbl := lw_at lw_m6 122 rfl
theorem q1428 : (Jvm.Cond.instanceMethod ({ cls := "BelowWorth", name := "rateOf", desc := "(III)I" } : Jvm.MethodName)) ∈ lw_all := lw_g (lw_at lw_m6 123 rfl) rfl
theorem q1429 : (Jvm.Cond.code ({ cls := "BelowWorth", name := "rateOf", desc := "(III)I" } : Jvm.MethodName) prog_1_method_59_code (11 : Nat) (Option.some Jvm.ClassFile.FieldType.int)) ∈ lw_all := lw_g (lw_at lw_m6 124 rfl) rfl
theorem q1430 : (Jvm.Cond.methodLink "BelowWorth" (537 : Nat) ({ cls := "BelowWorth", name := "ofFirm", desc := "(III)LBelowWorth$Rate;" } : Jvm.MethodName)) ∈ lw_all := lw_g (lw_at lw_m6 125 rfl) rfl
theorem q1431 : (Jvm.Cond.privateMethod ({ cls := "BelowWorth", name := "ofFirm", desc := "(III)LBelowWorth$Rate;" } : Jvm.MethodName)) ∈ lw_tbl := lw_at lw_m6 126 rfl
theorem q1432 : (Jvm.Cond.instanceMethod ({ cls := "BelowWorth", name := "ofFirm", desc := "(III)LBelowWorth$Rate;" } : Jvm.MethodName)) ∈ lw_all := lw_g (lw_at lw_m6 127 rfl) rfl
theorem q1433 : (Jvm.Cond.code ({ cls := "BelowWorth", name := "ofFirm", desc := "(III)LBelowWorth$Rate;" } : Jvm.MethodName) prog_1_method_58_code (5 : Nat) (Option.some (Jvm.ClassFile.FieldType.object "BelowWorth$Rate"))) ∈ lw_all := lw_g (lw_at lw_m6 128 rfl) rfl
theorem q1434 : (Jvm.Cond.methodLink "BelowWorth" (534 : Nat) ({ cls := "BelowWorth$Rate", name := "holds", desc := "(II)Z" } : Jvm.MethodName)) ∈ lw_all := lw_g (lw_at lw_m6 129 rfl) rfl
theorem q1439 : (Jvm.Cond.instanceMethod ({ cls := "BelowWorth", name := "entry", desc := "(III)I" } : Jvm.MethodName)) ∈ lw_all := lw_g (lw_at lw_m6 134 rfl) rfl
theorem q1440 : (Jvm.Cond.selects "BelowWorth" ({ cls := "BelowWorth", name := "entry", desc := "(III)I" } : Jvm.MethodName) ({ cls := "BelowWorth", name := "entry", desc := "(III)I" } : Jvm.MethodName)) ∈ lw_all := lw_g (lw_at lw_m6 135 rfl) rfl
theorem q1441 : (Jvm.Cond.code ({ cls := "BelowWorth", name := "entry", desc := "(III)I" } : Jvm.MethodName) prog_1_method_61_code (5 : Nat) (Option.some Jvm.ClassFile.FieldType.int)) ∈ lw_all := lw_g (lw_at lw_m6 136 rfl) rfl
theorem q1442 : (Jvm.Cond.constantLong "BelowWorth" (552 : Nat) (999999 : Int64)) ∈ lw_all := lw_g (lw_at lw_m6 137 rfl) rfl
theorem q1444 : (Jvm.Cond.methodLink "BelowWorth" (554 : Nat) ({ cls := "BelowWorth$Entry", name := "<init>", desc := "(IIII)V" } : Jvm.MethodName)) ∈ lw_all := lw_g (lw_at lw_m6 139 rfl) rfl
theorem q1449 : (Jvm.Cond.fieldLinkNest "BelowWorth" (570 : Nat) "BelowWorth$Entry" "firm" "I" "BelowWorth") ∈ lw_tbl := lw_at lw_m6 144 rfl
theorem q1451 : (Jvm.Cond.fieldLinkNest "BelowWorth" (572 : Nat) "BelowWorth$Entry" "day" "I" "BelowWorth") ∈ lw_tbl := lw_at lw_m6 146 rfl
theorem q1453 : (Jvm.Cond.fieldLinkNest "BelowWorth" (573 : Nat) "BelowWorth$Entry" "coins" "I" "BelowWorth") ∈ lw_tbl := lw_at lw_m6 148 rfl
theorem q1455 : (Jvm.Cond.fieldLinkNest "BelowWorth" (559 : Nat) "BelowWorth$Entry" "paid" "I" "BelowWorth") ∈ lw_tbl := lw_at lw_m6 150 rfl
theorem q1456 : (Jvm.Cond.fieldLinkNest "BelowWorth" (566 : Nat) "BelowWorth$Entry" "isSettled" "Z" "BelowWorth") ∈ lw_tbl := lw_at lw_m6 151 rfl
theorem q1468 : (Jvm.Cond.methodLink "BelowWorth" (556 : Nat) ({ cls := "BelowWorth$Entry", name := "by", desc := "(I)I" } : Jvm.MethodName)) ∈ lw_all := lw_g (lw_at lw_m6 163 rfl) rfl
theorem q1475 : (Jvm.Cond.instanceMethod ({ cls := "BelowWorth", name := "settle", desc := "(I)I" } : Jvm.MethodName)) ∈ lw_all := lw_g (lw_at lw_m6 170 rfl) rfl
theorem q1476 : (Jvm.Cond.selects "BelowWorth" ({ cls := "BelowWorth", name := "settle", desc := "(I)I" } : Jvm.MethodName) ({ cls := "BelowWorth", name := "settle", desc := "(I)I" } : Jvm.MethodName)) ∈ lw_all := lw_g (lw_at lw_m6 171 rfl) rfl
theorem q1477 : (Jvm.Cond.code ({ cls := "BelowWorth", name := "settle", desc := "(I)I" } : Jvm.MethodName) prog_1_method_63_code (5 : Nat) (Option.some Jvm.ClassFile.FieldType.int)) ∈ lw_all := lw_g (lw_at lw_m6 172 rfl) rfl
theorem q1478 : (Jvm.Cond.methodLink "BelowWorth" (562 : Nat) ({ cls := "BelowWorth", name := "entryOf", desc := "(I)LBelowWorth$Entry;" } : Jvm.MethodName)) ∈ lw_all := lw_g (lw_at lw_m6 173 rfl) rfl
theorem q1479 : (Jvm.Cond.privateMethod ({ cls := "BelowWorth", name := "entryOf", desc := "(I)LBelowWorth$Entry;" } : Jvm.MethodName)) ∈ lw_tbl := lw_at lw_m6 174 rfl
theorem q1480 : (Jvm.Cond.instanceMethod ({ cls := "BelowWorth", name := "entryOf", desc := "(I)LBelowWorth$Entry;" } : Jvm.MethodName)) ∈ lw_all := lw_g (lw_at lw_m6 175 rfl) rfl
theorem q1481 : (Jvm.Cond.code ({ cls := "BelowWorth", name := "entryOf", desc := "(I)LBelowWorth$Entry;" } : Jvm.MethodName) prog_1_method_62_code (2 : Nat) (Option.some (Jvm.ClassFile.FieldType.object "BelowWorth$Entry"))) ∈ lw_all := lw_g (lw_at lw_m6 176 rfl) rfl
theorem q1482 : (Jvm.Cond.constant "BelowWorth" (569 : Nat) (-2000000000 : Int32)) ∈ lw_all := lw_g (lw_at lw_m6 177 rfl) rfl
theorem q1484 : (Jvm.Cond.instanceMethod ({ cls := "BelowWorth", name := "entries", desc := "(II)I" } : Jvm.MethodName)) ∈ lw_all := lw_g (lw_at lw_m6 179 rfl) rfl
theorem q1485 : (Jvm.Cond.selects "BelowWorth" ({ cls := "BelowWorth", name := "entries", desc := "(II)I" } : Jvm.MethodName) ({ cls := "BelowWorth", name := "entries", desc := "(II)I" } : Jvm.MethodName)) ∈ lw_all := lw_g (lw_at lw_m6 180 rfl) rfl
theorem q1486 : (Jvm.Cond.code ({ cls := "BelowWorth", name := "entries", desc := "(II)I" } : Jvm.MethodName) prog_1_method_64_code (4 : Nat) (Option.some Jvm.ClassFile.FieldType.int)) ∈ lw_all := lw_g (lw_at lw_m6 181 rfl) rfl
theorem q1488 : (Jvm.Cond.instanceMethod ({ cls := "BelowWorth", name := "count", desc := "(I)J" } : Jvm.MethodName)) ∈ lw_all := lw_g (lw_at lw_m6 183 rfl) rfl
theorem q1489 : (Jvm.Cond.selects "BelowWorth" ({ cls := "BelowWorth", name := "count", desc := "(I)J" } : Jvm.MethodName) ({ cls := "BelowWorth", name := "count", desc := "(I)J" } : Jvm.MethodName)) ∈ lw_all := lw_g (lw_at lw_m6 184 rfl) rfl
theorem q1490 : (Jvm.Cond.code ({ cls := "BelowWorth", name := "count", desc := "(I)J" } : Jvm.MethodName) prog_1_method_65_code (5 : Nat) (Option.some Jvm.ClassFile.FieldType.long)) ∈ lw_all := lw_g (lw_at lw_m6 185 rfl) rfl
theorem q1491 : (Jvm.Cond.constantLong "BelowWorth" (574 : Nat) (-1 : Int64)) ∈ lw_all := lw_g (lw_at lw_m6 186 rfl) rfl
theorem in_X0 : ∀ w ∈ wsX00, w ∈ lw_all := lw_in wsX00 [487, 489, 491, 493, 495, 497, 499, 501, 503, 505, 507, 509, 511, 513, 515, 517, 519, 521, 523, 525, 527, 529, 531, 533, 535, 537, 539, 541, 543, 545, 547, 549, 551, 553, 555, 557, 559, 561, 563, 565, 567, 569, 571, 573, 575, 577, 579, 581, 583, 585, 587, 589, 591, 593, 595, 597] (by decide +kernel) (by decide +kernel)
def RX1 : String := "BelowWorth$Fault"
def TX1 : u_T := fun k => match k with
  | 0 => ("java/lang/Throwable", "cause", "Ljava/lang/Throwable;", false)
  | 1 => ("java/lang/Throwable", "stackTrace", "[Ljava/lang/StackTraceElement;", false)
  | 2 => ("java/lang/Throwable", "suppressedExceptions", "Ljava/util/List;", false)
  | 3 => ("java/lang/Throwable", "detailMessage", "Ljava/lang/String;", false)
  | 4 => ("java/lang/Throwable", "backtrace", "Ljava/lang/Object;", false)
  | 5 => ("java/lang/Throwable", "depth", "I", false)
  | 6 => ("BelowWorth$Fault", "kind", "I", false)
  | _ => ("BelowWorth$Fault", "place", "I", false)
def tyX1 : Nat → FieldType := fun k => match k with
  | 0 => .object "java/lang/Throwable"
  | 1 => .array (.object "java/lang/StackTraceElement")
  | 2 => .object "java/util/List"
  | 3 => .object "java/lang/String"
  | 4 => .object "java/lang/Object"
  | 5 => .int
  | 6 => .int
  | _ => .int
abbrev wsX10 : List Cond := u_ws RX1 TX1 8
theorem nmX1 : ∀ a, a < 8 → ∀ b, b < 8 → a ≠ b → (TX1 a).2.1 ≠ (TX1 b).2.1 := by decide +kernel
theorem tyX1_ok : ∀ k, k < 8 → parseFieldDescriptor (TX1 k).2.2.1 = some (tyX1 k) := by decide +kernel
abbrev cX1_init : ByteArray := prog_9_method_1_code
def yX1_init : MethodName := ⟨RX1, "<init>", "()V"⟩
theorem q110 : (Jvm.Cond.initialized "BelowWorth$Fault") ∈ lw_all := lw_g (lw_at lw_m1 5 rfl) rfl
theorem q154 : (Jvm.Cond.instantiable "BelowWorth$Fault" (8 : Nat)) ∈ lw_all := lw_g (lw_at lw_m1 49 rfl) rfl
theorem q155 : (Jvm.Cond.castable "BelowWorth$Fault" "BelowWorth$Fault") ∈ lw_tbl := lw_at lw_m1 50 rfl
theorem q162 : (Jvm.Cond.selects "BelowWorth$Fault" ({ cls := "java/lang/Throwable", name := "fillInStackTrace", desc := "(I)Ljava/lang/Throwable;" } : Jvm.MethodName) ({ cls := "java/lang/Throwable", name := "fillInStackTrace", desc := "(I)Ljava/lang/Throwable;" } : Jvm.MethodName)) ∈ lw_all := lw_g (lw_at lw_m1 57 rfl) rfl
theorem q163 : (Jvm.Cond.selects "BelowWorth$Fault" ({ cls := "java/lang/Throwable", name := "fillInStackTrace", desc := "()Ljava/lang/Throwable;" } : Jvm.MethodName) ({ cls := "java/lang/Throwable", name := "fillInStackTrace", desc := "()Ljava/lang/Throwable;" } : Jvm.MethodName)) ∈ lw_all := lw_g (lw_at lw_m1 58 rfl) rfl
theorem q164 : (Jvm.Cond.lays "BelowWorth$Fault" "java/lang/Throwable" "cause" "Ljava/lang/Throwable;") ∈ lw_all := lw_g (lw_at lw_m1 59 rfl) rfl
theorem q166 : (Jvm.Cond.lays "BelowWorth$Fault" "java/lang/Throwable" "stackTrace" "[Ljava/lang/StackTraceElement;") ∈ lw_all := lw_g (lw_at lw_m1 61 rfl) rfl
theorem q168 : (Jvm.Cond.lays "BelowWorth$Fault" "java/lang/Throwable" "suppressedExceptions" "Ljava/util/List;") ∈ lw_all := lw_g (lw_at lw_m1 63 rfl) rfl
theorem q170 : (Jvm.Cond.lays "BelowWorth$Fault" "java/lang/Throwable" "detailMessage" "Ljava/lang/String;") ∈ lw_all := lw_g (lw_at lw_m1 65 rfl) rfl
theorem q172 : (Jvm.Cond.lays "BelowWorth$Fault" "java/lang/Throwable" "backtrace" "Ljava/lang/Object;") ∈ lw_all := lw_g (lw_at lw_m1 67 rfl) rfl
theorem q193 : (Jvm.Cond.instanceMethod ({ cls := "BelowWorth$Fault", name := "<init>", desc := "()V" } : Jvm.MethodName)) ∈ lw_all := lw_g (lw_at lw_m1 88 rfl) rfl
theorem q194 : (Jvm.Cond.code ({ cls := "BelowWorth$Fault", name := "<init>", desc := "()V" } : Jvm.MethodName) prog_9_method_1_code (1 : Nat) (Option.none : Option Jvm.ClassFile.FieldType)) ∈ lw_all := lw_g (lw_at lw_m1 89 rfl) rfl
theorem q195 : (Jvm.Cond.stringRef "BelowWorth$Fault" (1 : Nat) "fault") ∈ lw_tbl := lw_at lw_m1 90 rfl
theorem q196 : (Jvm.Cond.methodLink "BelowWorth$Fault" (3 : Nat) ({ cls := "java/lang/RuntimeException", name := "<init>", desc := "(Ljava/lang/String;Ljava/lang/Throwable;ZZ)V" } : Jvm.MethodName)) ∈ lw_all := lw_g (lw_at lw_m1 91 rfl) rfl
theorem q214 : (Jvm.Cond.lays "BelowWorth$Fault" "BelowWorth$Fault" "kind" "I") ∈ lw_all := lw_g (lw_at lw_m1 109 rfl) rfl
theorem q215 : (Jvm.Cond.soleField "BelowWorth$Fault" "kind") ∈ lw_all := lw_g (lw_at lw_m1 110 rfl) rfl
theorem q216 : (Jvm.Cond.lays "BelowWorth$Fault" "BelowWorth$Fault" "place" "I") ∈ lw_all := lw_g (lw_at lw_m1 111 rfl) rfl
theorem q217 : (Jvm.Cond.soleField "BelowWorth$Fault" "place") ∈ lw_all := lw_g (lw_at lw_m1 112 rfl) rfl
theorem q222 : (Jvm.Cond.lays "BelowWorth$Fault" "java/lang/Throwable" "depth" "I") ∈ lw_all := lw_g (lw_at lw_m1 117 rfl) rfl
theorem q225 : (Jvm.Cond.superclass "BelowWorth$Fault" "java/lang/RuntimeException") ∈ lw_all := lw_g (lw_at lw_m1 120 rfl) rfl
theorem in_X1 : ∀ w ∈ wsX10, w ∈ lw_all := lw_in wsX10 [164, 166, 168, 170, 172, 222, 214, 216] (by decide +kernel) (by decide +kernel)
def RX2 : String := "BelowWorth$Act"
def TX2 : u_T := fun k => match k with
  | 0 => ("BelowWorth$Act", "sorts", "[I", true)
  | 1 => ("BelowWorth$Act", "kinds", "[I", true)
  | 2 => ("BelowWorth$Act", "tests", "[LBelowWorth$Test;", true)
  | 3 => ("BelowWorth$Act", "numbers", "[I", true)
  | 4 => ("BelowWorth$Act", "many", "I", false)
  | 5 => ("BelowWorth$Act", "binds", "I", false)
  | 6 => ("BelowWorth$Act", "hasZero", "Z", false)
  | _ => ("BelowWorth$Act", "duty", "LBelowWorth$Value;", false)
def tyX2 : Nat → FieldType := fun k => match k with
  | 0 => .array .int
  | 1 => .array .int
  | 2 => .array (.object "BelowWorth$Test")
  | 3 => .array .int
  | 4 => .int
  | 5 => .int
  | 6 => .boolean
  | _ => .object "BelowWorth$Value"
abbrev wsX20 : List Cond := u_ws RX2 TX2 8
theorem nmX2 : ∀ a, a < 8 → ∀ b, b < 8 → a ≠ b → (TX2 a).2.1 ≠ (TX2 b).2.1 := by decide +kernel
theorem tyX2_ok : ∀ k, k < 8 → parseFieldDescriptor (TX2 k).2.2.1 = some (tyX2 k) := by decide +kernel
abbrev cX2_init : ByteArray := prog_2_method_1_code
def yX2_init : MethodName := ⟨RX2, "<init>", "()V"⟩
abbrev cX2_add : ByteArray := prog_2_method_2_code
def yX2_add : MethodName := ⟨RX2, "add", "(IILBelowWorth$Test;)V"⟩
abbrev cX2_has : ByteArray := prog_2_method_3_code
def yX2_has : MethodName := ⟨RX2, "has", "(IILBelowWorth$Case;)Z"⟩
theorem q111 : (Jvm.Cond.initialized "BelowWorth$Act") ∈ lw_all := lw_g (lw_at lw_m1 6 rfl) rfl
theorem q249 : (Jvm.Cond.instantiable "BelowWorth$Act" (8 : Nat)) ∈ lw_all := lw_g (lw_at lw_m1 144 rfl) rfl
theorem q251 : (Jvm.Cond.instanceMethod ({ cls := "BelowWorth$Act", name := "<init>", desc := "()V" } : Jvm.MethodName)) ∈ lw_all := lw_g (lw_at lw_m1 146 rfl) rfl
theorem q252 : (Jvm.Cond.code ({ cls := "BelowWorth$Act", name := "<init>", desc := "()V" } : Jvm.MethodName) prog_2_method_1_code (1 : Nat) (Option.none : Option Jvm.ClassFile.FieldType)) ∈ lw_all := lw_g (lw_at lw_m1 147 rfl) rfl
theorem q253 : (Jvm.Cond.methodLink "BelowWorth$Act" (3 : Nat) ({ cls := "java/lang/Object", name := "<init>", desc := "()V" } : Jvm.MethodName)) ∈ lw_all := lw_g (lw_at lw_m1 148 rfl) rfl
theorem q254 : (Jvm.Cond.classLink "BelowWorth$Act" (18 : Nat) "BelowWorth$Test") ∈ lw_all := lw_g (lw_at lw_m1 149 rfl) rfl
theorem q256 : (Jvm.Cond.fieldLink "BelowWorth$Act" (9 : Nat) "BelowWorth$Act" "sorts" "[I") ∈ lw_all := lw_g (lw_at lw_m1 151 rfl) rfl
theorem q257 : (Jvm.Cond.fieldLink "BelowWorth$Act" (15 : Nat) "BelowWorth$Act" "kinds" "[I") ∈ lw_all := lw_g (lw_at lw_m1 152 rfl) rfl
theorem q258 : (Jvm.Cond.fieldLink "BelowWorth$Act" (20 : Nat) "BelowWorth$Act" "tests" "[LBelowWorth$Test;") ∈ lw_all := lw_g (lw_at lw_m1 153 rfl) rfl
theorem q259 : (Jvm.Cond.fieldLink "BelowWorth$Act" (24 : Nat) "BelowWorth$Act" "numbers" "[I") ∈ lw_all := lw_g (lw_at lw_m1 154 rfl) rfl
theorem q264 : (Jvm.Cond.fieldLink "BelowWorth$Act" (27 : Nat) "BelowWorth$Act" "many" "I") ∈ lw_all := lw_g (lw_at lw_m1 159 rfl) rfl
theorem q270 : (Jvm.Cond.laysFinal "BelowWorth$Act" "BelowWorth$Act" "sorts" "[I") ∈ lw_all := lw_g (lw_at lw_m1 165 rfl) rfl
theorem q271 : (Jvm.Cond.soleField "BelowWorth$Act" "sorts") ∈ lw_all := lw_g (lw_at lw_m1 166 rfl) rfl
theorem q272 : (Jvm.Cond.laysFinal "BelowWorth$Act" "BelowWorth$Act" "kinds" "[I") ∈ lw_all := lw_g (lw_at lw_m1 167 rfl) rfl
theorem q273 : (Jvm.Cond.soleField "BelowWorth$Act" "kinds") ∈ lw_all := lw_g (lw_at lw_m1 168 rfl) rfl
theorem q274 : (Jvm.Cond.laysFinal "BelowWorth$Act" "BelowWorth$Act" "tests" "[LBelowWorth$Test;") ∈ lw_all := lw_g (lw_at lw_m1 169 rfl) rfl
theorem q275 : (Jvm.Cond.soleField "BelowWorth$Act" "tests") ∈ lw_all := lw_g (lw_at lw_m1 170 rfl) rfl
theorem q276 : (Jvm.Cond.laysFinal "BelowWorth$Act" "BelowWorth$Act" "numbers" "[I") ∈ lw_all := lw_g (lw_at lw_m1 171 rfl) rfl
theorem q277 : (Jvm.Cond.soleField "BelowWorth$Act" "numbers") ∈ lw_all := lw_g (lw_at lw_m1 172 rfl) rfl
theorem q278 : (Jvm.Cond.lays "BelowWorth$Act" "BelowWorth$Act" "many" "I") ∈ lw_all := lw_g (lw_at lw_m1 173 rfl) rfl
theorem q279 : (Jvm.Cond.soleField "BelowWorth$Act" "many") ∈ lw_all := lw_g (lw_at lw_m1 174 rfl) rfl
theorem q280 : (Jvm.Cond.lays "BelowWorth$Act" "BelowWorth$Act" "binds" "I") ∈ lw_all := lw_g (lw_at lw_m1 175 rfl) rfl
theorem q281 : (Jvm.Cond.soleField "BelowWorth$Act" "binds") ∈ lw_all := lw_g (lw_at lw_m1 176 rfl) rfl
theorem q282 : (Jvm.Cond.lays "BelowWorth$Act" "BelowWorth$Act" "hasZero" "Z") ∈ lw_all := lw_g (lw_at lw_m1 177 rfl) rfl
theorem q283 : (Jvm.Cond.soleField "BelowWorth$Act" "hasZero") ∈ lw_all := lw_g (lw_at lw_m1 178 rfl) rfl
theorem q284 : (Jvm.Cond.lays "BelowWorth$Act" "BelowWorth$Act" "duty" "LBelowWorth$Value;") ∈ lw_all := lw_g (lw_at lw_m1 179 rfl) rfl
theorem q285 : (Jvm.Cond.soleField "BelowWorth$Act" "duty") ∈ lw_all := lw_g (lw_at lw_m1 180 rfl) rfl
theorem q286 : (Jvm.Cond.superclass "BelowWorth$Act" "java/lang/Object") ∈ lw_all := lw_g (lw_at lw_m1 181 rfl) rfl
theorem q1051 : (Jvm.Cond.instanceMethod ({ cls := "BelowWorth$Act", name := "add", desc := "(IILBelowWorth$Test;)V" } : Jvm.MethodName)) ∈ lw_all := lw_g (lw_at lw_m4 226 rfl) rfl
theorem q1052 : (Jvm.Cond.selects "BelowWorth$Act" ({ cls := "BelowWorth$Act", name := "add", desc := "(IILBelowWorth$Test;)V" } : Jvm.MethodName) ({ cls := "BelowWorth$Act", name := "add", desc := "(IILBelowWorth$Test;)V" } : Jvm.MethodName)) ∈ lw_all := lw_g (lw_at lw_m4 227 rfl) rfl
theorem q1053 : (Jvm.Cond.code ({ cls := "BelowWorth$Act", name := "add", desc := "(IILBelowWorth$Test;)V" } : Jvm.MethodName) prog_2_method_2_code (4 : Nat) (Option.none : Option Jvm.ClassFile.FieldType)) ∈ lw_all := lw_g (lw_at lw_m4 228 rfl) rfl
theorem q1095 : (Jvm.Cond.instanceMethod ({ cls := "BelowWorth$Act", name := "has", desc := "(IILBelowWorth$Case;)Z" } : Jvm.MethodName)) ∈ lw_all := lw_g (lw_at lw_m5 30 rfl) rfl
theorem q1096 : (Jvm.Cond.selects "BelowWorth$Act" ({ cls := "BelowWorth$Act", name := "has", desc := "(IILBelowWorth$Case;)Z" } : Jvm.MethodName) ({ cls := "BelowWorth$Act", name := "has", desc := "(IILBelowWorth$Case;)Z" } : Jvm.MethodName)) ∈ lw_all := lw_g (lw_at lw_m5 31 rfl) rfl
theorem q1097 : (Jvm.Cond.code ({ cls := "BelowWorth$Act", name := "has", desc := "(IILBelowWorth$Case;)Z" } : Jvm.MethodName) prog_2_method_3_code (5 : Nat) (Option.some Jvm.ClassFile.FieldType.boolean)) ∈ lw_all := lw_g (lw_at lw_m5 32 rfl) rfl
theorem q1098 : (Jvm.Cond.methodLink "BelowWorth$Act" (31 : Nat) ({ cls := "BelowWorth$Test", name := "is", desc := "(LBelowWorth$Case;)Z" } : Jvm.MethodName)) ∈ lw_all := lw_g (lw_at lw_m5 33 rfl) rfl
theorem in_X2 : ∀ w ∈ wsX20, w ∈ lw_all := lw_in wsX20 [270, 272, 274, 276, 278, 280, 282, 284] (by decide +kernel) (by decide +kernel)
def RX3 : String := "BelowWorth$Look"
def TX3 : u_T := fun k => match k with
  | 0 => ("BelowWorth$Look", "net", "[I", true)
  | 1 => ("BelowWorth$Look", "isDropped", "[Z", true)
  | 2 => ("BelowWorth$Look", "latest", "[LBelowWorth$Adjustment;", true)
  | 3 => ("BelowWorth$Look", "tons", "[[J", true)
  | 4 => ("BelowWorth$Look", "value", "[[J", true)
  | 5 => ("BelowWorth$Look", "asked", "LBelowWorth$Case;", true)
  | 6 => ("BelowWorth$Look", "act", "LBelowWorth$Act;", false)
  | 7 => ("BelowWorth$Look", "known", "I", false)
  | 8 => ("BelowWorth$Look", "firm", "I", false)
  | 9 => ("BelowWorth$Look", "byGrade", "I", false)
  | 10 => ("BelowWorth$Look", "byMonth", "I", false)
  | _ => ("BelowWorth$Look", "this$0", "LBelowWorth;", true)
def tyX3 : Nat → FieldType := fun k => match k with
  | 0 => .array .int
  | 1 => .array .boolean
  | 2 => .array (.object "BelowWorth$Adjustment")
  | 3 => .array (.array .long)
  | 4 => .array (.array .long)
  | 5 => .object "BelowWorth$Case"
  | 6 => .object "BelowWorth$Act"
  | 7 => .int
  | 8 => .int
  | 9 => .int
  | 10 => .int
  | _ => .object "BelowWorth"
abbrev wsX30 : List Cond := u_ws RX3 TX3 12
theorem nmX3 : ∀ a, a < 12 → ∀ b, b < 12 → a ≠ b → (TX3 a).2.1 ≠ (TX3 b).2.1 := by decide +kernel
theorem tyX3_ok : ∀ k, k < 12 → parseFieldDescriptor (TX3 k).2.2.1 = some (tyX3 k) := by decide +kernel
abbrev cX3_init : ByteArray := prog_11_method_1_code
def yX3_init : MethodName := ⟨RX3, "<init>", "(LBelowWorth;)V"⟩
abbrev cX3_looks : ByteArray := prog_11_method_2_code
def yX3_looks : MethodName := ⟨RX3, "looks", "(I)V"⟩
abbrev cX3_netOf : ByteArray := prog_11_method_3_code
def yX3_netOf : MethodName := ⟨RX3, "netOf", "(I)I"⟩
abbrev cX3_of : ByteArray := prog_11_method_7_code
def yX3_of : MethodName := ⟨RX3, "of", "(I)V"⟩
abbrev cX3_isAtHome : ByteArray := prog_11_method_5_code
def yX3_isAtHome : MethodName := ⟨RX3, "isAtHome", "(II)Z"⟩
abbrev cX3_isThere : ByteArray := prog_11_method_4_code
def yX3_isThere : MethodName := ⟨RX3, "isThere", "(I)Z"⟩
abbrev cX3_worth : ByteArray := prog_11_method_9_code
def yX3_worth : MethodName := ⟨RX3, "worth", "(II)I"⟩
abbrev cX3_finds : ByteArray := prog_11_method_8_code
def yX3_finds : MethodName := ⟨RX3, "finds", "(II)Z"⟩
abbrev cX3_isHere : ByteArray := prog_11_method_6_code
def yX3_isHere : MethodName := ⟨RX3, "isHere", "(IIII)Z"⟩
theorem q112 : (Jvm.Cond.initialized "BelowWorth$Look") ∈ lw_all := lw_g (lw_at lw_m1 7 rfl) rfl
theorem q261 : (Jvm.Cond.fieldLinkNest "BelowWorth$Look" (137 : Nat) "BelowWorth$Act" "numbers" "[I" "BelowWorth") ∈ lw_tbl := lw_at lw_m1 156 rfl
theorem q288 : (Jvm.Cond.instantiable "BelowWorth$Look" (12 : Nat)) ∈ lw_all := lw_g (lw_at lw_m1 183 rfl) rfl
theorem q290 : (Jvm.Cond.instanceMethod ({ cls := "BelowWorth$Look", name := "<init>", desc := "(LBelowWorth;)V" } : Jvm.MethodName)) ∈ lw_all := lw_g (lw_at lw_m1 185 rfl) rfl
theorem q291 : (Jvm.Cond.code ({ cls := "BelowWorth$Look", name := "<init>", desc := "(LBelowWorth;)V" } : Jvm.MethodName) prog_11_method_1_code (2 : Nat) (Option.none : Option Jvm.ClassFile.FieldType)) ∈ lw_all := lw_g (lw_at lw_m1 186 rfl) rfl
theorem q292 : (Jvm.Cond.methodLink "BelowWorth$Look" (9 : Nat) ({ cls := "java/lang/Object", name := "<init>", desc := "()V" } : Jvm.MethodName)) ∈ lw_all := lw_g (lw_at lw_m1 187 rfl) rfl
theorem q293 : (Jvm.Cond.classLink "BelowWorth$Look" (23 : Nat) "BelowWorth$Adjustment") ∈ lw_all := lw_g (lw_at lw_m1 188 rfl) rfl
theorem q294 : (Jvm.Cond.classLink "BelowWorth$Look" (29 : Nat) "[[J") ∈ lw_all := lw_g (lw_at lw_m1 189 rfl) rfl
theorem q296 : (Jvm.Cond.classLink "BelowWorth$Look" (37 : Nat) "BelowWorth$Case") ∈ lw_all := lw_g (lw_at lw_m1 191 rfl) rfl
theorem q298 : (Jvm.Cond.methodLinkNest "BelowWorth$Look" (39 : Nat) ({ cls := "BelowWorth$Case", name := "<init>", desc := "(LBelowWorth;)V" } : Jvm.MethodName) "BelowWorth") ∈ lw_tbl := lw_at lw_m1 193 rfl
theorem q326 : (Jvm.Cond.fieldLink "BelowWorth$Look" (15 : Nat) "BelowWorth$Look" "net" "[I") ∈ lw_all := lw_g (lw_at lw_m1 221 rfl) rfl
theorem q329 : (Jvm.Cond.fieldLink "BelowWorth$Look" (19 : Nat) "BelowWorth$Look" "isDropped" "[Z") ∈ lw_all := lw_g (lw_at lw_m1 224 rfl) rfl
theorem q331 : (Jvm.Cond.fieldLink "BelowWorth$Look" (25 : Nat) "BelowWorth$Look" "latest" "[LBelowWorth$Adjustment;") ∈ lw_all := lw_g (lw_at lw_m1 226 rfl) rfl
theorem q332 : (Jvm.Cond.fieldLink "BelowWorth$Look" (31 : Nat) "BelowWorth$Look" "tons" "[[J") ∈ lw_all := lw_g (lw_at lw_m1 227 rfl) rfl
theorem q333 : (Jvm.Cond.fieldLink "BelowWorth$Look" (34 : Nat) "BelowWorth$Look" "value" "[[J") ∈ lw_all := lw_g (lw_at lw_m1 228 rfl) rfl
theorem q334 : (Jvm.Cond.fieldLink "BelowWorth$Look" (42 : Nat) "BelowWorth$Look" "asked" "LBelowWorth$Case;") ∈ lw_all := lw_g (lw_at lw_m1 229 rfl) rfl
theorem q335 : (Jvm.Cond.fieldLink "BelowWorth$Look" (54 : Nat) "BelowWorth$Look" "act" "LBelowWorth$Act;") ∈ lw_all := lw_g (lw_at lw_m1 230 rfl) rfl
theorem q338 : (Jvm.Cond.fieldLink "BelowWorth$Look" (46 : Nat) "BelowWorth$Look" "known" "I") ∈ lw_all := lw_g (lw_at lw_m1 233 rfl) rfl
theorem q339 : (Jvm.Cond.fieldLink "BelowWorth$Look" (127 : Nat) "BelowWorth$Look" "firm" "I") ∈ lw_all := lw_g (lw_at lw_m1 234 rfl) rfl
theorem q340 : (Jvm.Cond.fieldLink "BelowWorth$Look" (140 : Nat) "BelowWorth$Look" "byGrade" "I") ∈ lw_all := lw_g (lw_at lw_m1 235 rfl) rfl
theorem q342 : (Jvm.Cond.fieldLink "BelowWorth$Look" (143 : Nat) "BelowWorth$Look" "byMonth" "I") ∈ lw_all := lw_g (lw_at lw_m1 237 rfl) rfl
theorem q344 : (Jvm.Cond.fieldLink "BelowWorth$Look" (3 : Nat) "BelowWorth$Look" "this$0" "LBelowWorth;") ∈ lw_all := lw_g (lw_at lw_m1 239 rfl) rfl
theorem q345 : (Jvm.Cond.laysFinal "BelowWorth$Look" "BelowWorth$Look" "net" "[I") ∈ lw_all := lw_g (lw_at lw_m2 0 rfl) rfl
theorem q346 : (Jvm.Cond.soleField "BelowWorth$Look" "net") ∈ lw_all := lw_g (lw_at lw_m2 1 rfl) rfl
theorem q347 : (Jvm.Cond.laysFinal "BelowWorth$Look" "BelowWorth$Look" "isDropped" "[Z") ∈ lw_all := lw_g (lw_at lw_m2 2 rfl) rfl
theorem q348 : (Jvm.Cond.soleField "BelowWorth$Look" "isDropped") ∈ lw_all := lw_g (lw_at lw_m2 3 rfl) rfl
theorem q349 : (Jvm.Cond.laysFinal "BelowWorth$Look" "BelowWorth$Look" "latest" "[LBelowWorth$Adjustment;") ∈ lw_all := lw_g (lw_at lw_m2 4 rfl) rfl
theorem q350 : (Jvm.Cond.soleField "BelowWorth$Look" "latest") ∈ lw_all := lw_g (lw_at lw_m2 5 rfl) rfl
theorem q351 : (Jvm.Cond.laysFinal "BelowWorth$Look" "BelowWorth$Look" "tons" "[[J") ∈ lw_all := lw_g (lw_at lw_m2 6 rfl) rfl
theorem q352 : (Jvm.Cond.soleField "BelowWorth$Look" "tons") ∈ lw_all := lw_g (lw_at lw_m2 7 rfl) rfl
theorem q353 : (Jvm.Cond.laysFinal "BelowWorth$Look" "BelowWorth$Look" "value" "[[J") ∈ lw_all := lw_g (lw_at lw_m2 8 rfl) rfl
theorem q354 : (Jvm.Cond.soleField "BelowWorth$Look" "value") ∈ lw_all := lw_g (lw_at lw_m2 9 rfl) rfl
theorem q355 : (Jvm.Cond.laysFinal "BelowWorth$Look" "BelowWorth$Look" "asked" "LBelowWorth$Case;") ∈ lw_all := lw_g (lw_at lw_m2 10 rfl) rfl
theorem q356 : (Jvm.Cond.soleField "BelowWorth$Look" "asked") ∈ lw_all := lw_g (lw_at lw_m2 11 rfl) rfl
theorem q357 : (Jvm.Cond.lays "BelowWorth$Look" "BelowWorth$Look" "act" "LBelowWorth$Act;") ∈ lw_all := lw_g (lw_at lw_m2 12 rfl) rfl
theorem q358 : (Jvm.Cond.soleField "BelowWorth$Look" "act") ∈ lw_all := lw_g (lw_at lw_m2 13 rfl) rfl
theorem q359 : (Jvm.Cond.lays "BelowWorth$Look" "BelowWorth$Look" "known" "I") ∈ lw_all := lw_g (lw_at lw_m2 14 rfl) rfl
theorem q360 : (Jvm.Cond.soleField "BelowWorth$Look" "known") ∈ lw_all := lw_g (lw_at lw_m2 15 rfl) rfl
theorem q361 : (Jvm.Cond.lays "BelowWorth$Look" "BelowWorth$Look" "firm" "I") ∈ lw_all := lw_g (lw_at lw_m2 16 rfl) rfl
theorem q362 : (Jvm.Cond.soleField "BelowWorth$Look" "firm") ∈ lw_all := lw_g (lw_at lw_m2 17 rfl) rfl
theorem q363 : (Jvm.Cond.lays "BelowWorth$Look" "BelowWorth$Look" "byGrade" "I") ∈ lw_all := lw_g (lw_at lw_m2 18 rfl) rfl
theorem q364 : (Jvm.Cond.soleField "BelowWorth$Look" "byGrade") ∈ lw_all := lw_g (lw_at lw_m2 19 rfl) rfl
theorem q365 : (Jvm.Cond.lays "BelowWorth$Look" "BelowWorth$Look" "byMonth" "I") ∈ lw_all := lw_g (lw_at lw_m2 20 rfl) rfl
theorem q366 : (Jvm.Cond.soleField "BelowWorth$Look" "byMonth") ∈ lw_all := lw_g (lw_at lw_m2 21 rfl) rfl
theorem q367 : (Jvm.Cond.laysFinal "BelowWorth$Look" "BelowWorth$Look" "this$0" "LBelowWorth;") ∈ lw_all := lw_g (lw_at lw_m2 22 rfl) rfl
theorem q368 : (Jvm.Cond.soleField "BelowWorth$Look" "this$0") ∈ lw_all := lw_g (lw_at lw_m2 23 rfl) rfl
theorem q369 : (Jvm.Cond.superclass "BelowWorth$Look" "java/lang/Object") ∈ lw_all := lw_g (lw_at lw_m2 24 rfl) rfl
theorem q421 : (Jvm.Cond.fieldLinkNest "BelowWorth$Look" (146 : Nat) "BelowWorth" "far" "[[I" "BelowWorth") ∈ lw_tbl := lw_at lw_m2 76 rfl
theorem q426 : (Jvm.Cond.fieldLinkNest "BelowWorth$Look" (80 : Nat) "BelowWorth" "sales" "[LBelowWorth$Sale;" "BelowWorth") ∈ lw_tbl := lw_at lw_m2 81 rfl
theorem q428 : (Jvm.Cond.fieldLinkNest "BelowWorth$Look" (64 : Nat) "BelowWorth" "adjusts" "[LBelowWorth$Adjustment;" "BelowWorth") ∈ lw_tbl := lw_at lw_m2 83 rfl
theorem q431 : (Jvm.Cond.fieldLinkNest "BelowWorth$Look" (58 : Nat) "BelowWorth" "saleMany" "I" "BelowWorth") ∈ lw_tbl := lw_at lw_m2 86 rfl
theorem q433 : (Jvm.Cond.fieldLinkNest "BelowWorth$Look" (61 : Nat) "BelowWorth" "adjustMany" "I" "BelowWorth") ∈ lw_tbl := lw_at lw_m2 88 rfl
theorem q681 : (Jvm.Cond.fieldLinkNest "BelowWorth$Look" (116 : Nat) "BelowWorth$Sale" "firm" "I" "BelowWorth") ∈ lw_tbl := lw_at lw_m3 96 rfl
theorem q688 : (Jvm.Cond.fieldLinkNest "BelowWorth$Look" (132 : Nat) "BelowWorth$Sale" "grade" "I" "BelowWorth") ∈ lw_tbl := lw_at lw_m3 103 rfl
theorem q694 : (Jvm.Cond.fieldLinkNest "BelowWorth$Look" (120 : Nat) "BelowWorth$Sale" "month" "I" "BelowWorth") ∈ lw_tbl := lw_at lw_m3 109 rfl
theorem q702 : (Jvm.Cond.fieldLinkNest "BelowWorth$Look" (135 : Nat) "BelowWorth$Sale" "tons" "I" "BelowWorth") ∈ lw_tbl := lw_at lw_m3 117 rfl
theorem q705 : (Jvm.Cond.fieldLinkNest "BelowWorth$Look" (100 : Nat) "BelowWorth$Sale" "price" "I" "BelowWorth") ∈ lw_tbl := lw_at lw_m3 120 rfl
theorem q710 : (Jvm.Cond.fieldLinkNest "BelowWorth$Look" (84 : Nat) "BelowWorth$Sale" "isHere" "Z" "BelowWorth") ∈ lw_tbl := lw_at lw_m3 125 rfl
theorem q757 : (Jvm.Cond.fieldLinkNest "BelowWorth$Look" (70 : Nat) "BelowWorth$Adjustment" "sale" "I" "BelowWorth") ∈ lw_tbl := lw_at lw_m3 172 rfl
theorem q759 : (Jvm.Cond.fieldLinkNest "BelowWorth$Look" (73 : Nat) "BelowWorth$Adjustment" "kind" "I" "BelowWorth") ∈ lw_tbl := lw_at lw_m3 174 rfl
theorem q761 : (Jvm.Cond.fieldLinkNest "BelowWorth$Look" (103 : Nat) "BelowWorth$Adjustment" "coins" "I" "BelowWorth") ∈ lw_tbl := lw_at lw_m3 176 rfl
theorem q764 : (Jvm.Cond.fieldLinkNest "BelowWorth$Look" (67 : Nat) "BelowWorth$Adjustment" "told" "I" "BelowWorth") ∈ lw_tbl := lw_at lw_m3 179 rfl
theorem q1082 : (Jvm.Cond.instanceMethod ({ cls := "BelowWorth$Look", name := "looks", desc := "(I)V" } : Jvm.MethodName)) ∈ lw_all := lw_g (lw_at lw_m5 17 rfl) rfl
theorem q1083 : (Jvm.Cond.selects "BelowWorth$Look" ({ cls := "BelowWorth$Look", name := "looks", desc := "(I)V" } : Jvm.MethodName) ({ cls := "BelowWorth$Look", name := "looks", desc := "(I)V" } : Jvm.MethodName)) ∈ lw_all := lw_g (lw_at lw_m5 18 rfl) rfl
theorem q1084 : (Jvm.Cond.code ({ cls := "BelowWorth$Look", name := "looks", desc := "(I)V" } : Jvm.MethodName) prog_11_method_2_code (3 : Nat) (Option.none : Option Jvm.ClassFile.FieldType)) ∈ lw_all := lw_g (lw_at lw_m5 19 rfl) rfl
theorem q1085 : (Jvm.Cond.methodLinkNest "BelowWorth$Look" (50 : Nat) ({ cls := "BelowWorth", name := "actOn", desc := "(I)LBelowWorth$Act;" } : Jvm.MethodName) "BelowWorth") ∈ lw_tbl := lw_at lw_m5 20 rfl
theorem q1086 : (Jvm.Cond.methodLink "BelowWorth$Look" (76 : Nat) ({ cls := "BelowWorth$Look", name := "netOf", desc := "(I)I" } : Jvm.MethodName)) ∈ lw_all := lw_g (lw_at lw_m5 21 rfl) rfl
theorem q1087 : (Jvm.Cond.privateMethod ({ cls := "BelowWorth$Look", name := "netOf", desc := "(I)I" } : Jvm.MethodName)) ∈ lw_tbl := lw_at lw_m5 22 rfl
theorem q1088 : (Jvm.Cond.instanceMethod ({ cls := "BelowWorth$Look", name := "netOf", desc := "(I)I" } : Jvm.MethodName)) ∈ lw_all := lw_g (lw_at lw_m5 23 rfl) rfl
theorem q1089 : (Jvm.Cond.code ({ cls := "BelowWorth$Look", name := "netOf", desc := "(I)I" } : Jvm.MethodName) prog_11_method_3_code (5 : Nat) (Option.some Jvm.ClassFile.FieldType.int)) ∈ lw_all := lw_g (lw_at lw_m5 24 rfl) rfl
theorem q1090 : (Jvm.Cond.methodLink "BelowWorth$Look" (92 : Nat) ({ cls := "BelowWorth$Case", name := "of", desc := "(LBelowWorth$Sale;LBelowWorth$Adjustment;I)LBelowWorth$Case;" } : Jvm.MethodName)) ∈ lw_all := lw_g (lw_at lw_m5 25 rfl) rfl
theorem q1094 : (Jvm.Cond.methodLink "BelowWorth$Look" (96 : Nat) ({ cls := "BelowWorth$Act", name := "has", desc := "(IILBelowWorth$Case;)Z" } : Jvm.MethodName)) ∈ lw_all := lw_g (lw_at lw_m5 29 rfl) rfl
theorem q1151 : (Jvm.Cond.methodLink "BelowWorth$Look" (106 : Nat) ({ cls := "java/lang/Math", name := "max", desc := "(II)I" } : Jvm.MethodName)) ∈ lw_all := lw_g (lw_at lw_m5 86 rfl) rfl
theorem q1159 : (Jvm.Cond.instanceMethod ({ cls := "BelowWorth$Look", name := "of", desc := "(I)V" } : Jvm.MethodName)) ∈ lw_all := lw_g (lw_at lw_m5 94 rfl) rfl
theorem q1160 : (Jvm.Cond.selects "BelowWorth$Look" ({ cls := "BelowWorth$Look", name := "of", desc := "(I)V" } : Jvm.MethodName) ({ cls := "BelowWorth$Look", name := "of", desc := "(I)V" } : Jvm.MethodName)) ∈ lw_all := lw_g (lw_at lw_m5 95 rfl) rfl
theorem q1161 : (Jvm.Cond.code ({ cls := "BelowWorth$Look", name := "of", desc := "(I)V" } : Jvm.MethodName) prog_11_method_7_code (4 : Nat) (Option.none : Option Jvm.ClassFile.FieldType)) ∈ lw_all := lw_g (lw_at lw_m5 96 rfl) rfl
theorem q1162 : (Jvm.Cond.methodLink "BelowWorth$Look" (128 : Nat) ({ cls := "BelowWorth$Look", name := "isAtHome", desc := "(II)Z" } : Jvm.MethodName)) ∈ lw_all := lw_g (lw_at lw_m5 97 rfl) rfl
theorem q1163 : (Jvm.Cond.instanceMethod ({ cls := "BelowWorth$Look", name := "isAtHome", desc := "(II)Z" } : Jvm.MethodName)) ∈ lw_all := lw_g (lw_at lw_m5 98 rfl) rfl
theorem q1164 : (Jvm.Cond.selects "BelowWorth$Look" ({ cls := "BelowWorth$Look", name := "isAtHome", desc := "(II)Z" } : Jvm.MethodName) ({ cls := "BelowWorth$Look", name := "isAtHome", desc := "(II)Z" } : Jvm.MethodName)) ∈ lw_all := lw_g (lw_at lw_m5 99 rfl) rfl
theorem q1165 : (Jvm.Cond.code ({ cls := "BelowWorth$Look", name := "isAtHome", desc := "(II)Z" } : Jvm.MethodName) prog_11_method_5_code (3 : Nat) (Option.some Jvm.ClassFile.FieldType.boolean)) ∈ lw_all := lw_g (lw_at lw_m5 100 rfl) rfl
theorem q1166 : (Jvm.Cond.methodLink "BelowWorth$Look" (119 : Nat) ({ cls := "BelowWorth$Look", name := "isThere", desc := "(I)Z" } : Jvm.MethodName)) ∈ lw_all := lw_g (lw_at lw_m5 101 rfl) rfl
theorem q1167 : (Jvm.Cond.instanceMethod ({ cls := "BelowWorth$Look", name := "isThere", desc := "(I)Z" } : Jvm.MethodName)) ∈ lw_all := lw_g (lw_at lw_m5 102 rfl) rfl
theorem q1168 : (Jvm.Cond.selects "BelowWorth$Look" ({ cls := "BelowWorth$Look", name := "isThere", desc := "(I)Z" } : Jvm.MethodName) ({ cls := "BelowWorth$Look", name := "isThere", desc := "(I)Z" } : Jvm.MethodName)) ∈ lw_all := lw_g (lw_at lw_m5 103 rfl) rfl
theorem q1169 : (Jvm.Cond.code ({ cls := "BelowWorth$Look", name := "isThere", desc := "(I)Z" } : Jvm.MethodName) prog_11_method_4_code (2 : Nat) (Option.some Jvm.ClassFile.FieldType.boolean)) ∈ lw_all := lw_g (lw_at lw_m5 104 rfl) rfl
theorem q1170 : (Jvm.Cond.methodLink "BelowWorth$Look" (112 : Nat) ({ cls := "BelowWorth$Sale", name := "isThere", desc := "(I)Z" } : Jvm.MethodName)) ∈ lw_all := lw_g (lw_at lw_m5 105 rfl) rfl
theorem q1172 : (Jvm.Cond.instanceMethod ({ cls := "BelowWorth$Look", name := "worth", desc := "(II)I" } : Jvm.MethodName)) ∈ lw_all := lw_g (lw_at lw_m5 107 rfl) rfl
theorem q1173 : (Jvm.Cond.selects "BelowWorth$Look" ({ cls := "BelowWorth$Look", name := "worth", desc := "(II)I" } : Jvm.MethodName) ({ cls := "BelowWorth$Look", name := "worth", desc := "(II)I" } : Jvm.MethodName)) ∈ lw_all := lw_g (lw_at lw_m5 108 rfl) rfl
theorem q1174 : (Jvm.Cond.code ({ cls := "BelowWorth$Look", name := "worth", desc := "(II)I" } : Jvm.MethodName) prog_11_method_9_code (5 : Nat) (Option.some Jvm.ClassFile.FieldType.int)) ∈ lw_all := lw_g (lw_at lw_m5 109 rfl) rfl
theorem q1175 : (Jvm.Cond.methodLink "BelowWorth$Look" (150 : Nat) ({ cls := "BelowWorth$Look", name := "finds", desc := "(II)Z" } : Jvm.MethodName)) ∈ lw_all := lw_g (lw_at lw_m5 110 rfl) rfl
theorem q1176 : (Jvm.Cond.privateMethod ({ cls := "BelowWorth$Look", name := "finds", desc := "(II)Z" } : Jvm.MethodName)) ∈ lw_tbl := lw_at lw_m5 111 rfl
theorem q1177 : (Jvm.Cond.instanceMethod ({ cls := "BelowWorth$Look", name := "finds", desc := "(II)Z" } : Jvm.MethodName)) ∈ lw_all := lw_g (lw_at lw_m5 112 rfl) rfl
theorem q1178 : (Jvm.Cond.code ({ cls := "BelowWorth$Look", name := "finds", desc := "(II)Z" } : Jvm.MethodName) prog_11_method_8_code (4 : Nat) (Option.some Jvm.ClassFile.FieldType.boolean)) ∈ lw_all := lw_g (lw_at lw_m5 113 rfl) rfl
theorem q1179 : (Jvm.Cond.constantLong "BelowWorth$Look" (153 : Nat) (100 : Int64)) ∈ lw_all := lw_g (lw_at lw_m5 114 rfl) rfl
theorem q1180 : (Jvm.Cond.methodLinkNest "BelowWorth$Look" (155 : Nat) ({ cls := "BelowWorth", name := "costIn", desc := "(IIII)I" } : Jvm.MethodName) "BelowWorth") ∈ lw_tbl := lw_at lw_m5 115 rfl
theorem q1181 : (Jvm.Cond.constantLong "BelowWorth$Look" (159 : Nat) (1000 : Int64)) ∈ lw_all := lw_g (lw_at lw_m5 116 rfl) rfl
theorem q1200 : (Jvm.Cond.instanceMethod ({ cls := "BelowWorth$Look", name := "isHere", desc := "(IIII)Z" } : Jvm.MethodName)) ∈ lw_all := lw_g (lw_at lw_m5 135 rfl) rfl
theorem q1201 : (Jvm.Cond.selects "BelowWorth$Look" ({ cls := "BelowWorth$Look", name := "isHere", desc := "(IIII)Z" } : Jvm.MethodName) ({ cls := "BelowWorth$Look", name := "isHere", desc := "(IIII)Z" } : Jvm.MethodName)) ∈ lw_all := lw_g (lw_at lw_m5 136 rfl) rfl
theorem q1202 : (Jvm.Cond.code ({ cls := "BelowWorth$Look", name := "isHere", desc := "(IIII)Z" } : Jvm.MethodName) prog_11_method_6_code (5 : Nat) (Option.some Jvm.ClassFile.FieldType.boolean)) ∈ lw_all := lw_g (lw_at lw_m5 137 rfl) rfl
theorem q1203 : (Jvm.Cond.methodLinkNest "BelowWorth$Look" (123 : Nat) ({ cls := "BelowWorth", name := "in", desc := "(JJJ)Z" } : Jvm.MethodName) "BelowWorth") ∈ lw_tbl := lw_at lw_m5 138 rfl
theorem in_X3 : ∀ w ∈ wsX30, w ∈ lw_all := lw_in wsX30 [345, 347, 349, 351, 353, 355, 357, 359, 361, 363, 365, 367] (by decide +kernel) (by decide +kernel)
def RX4 : String := "BelowWorth$Case"
def TX4 : u_T := fun k => match k with
  | 0 => ("BelowWorth$Case", "sale", "LBelowWorth$Sale;", false)
  | 1 => ("BelowWorth$Case", "adjustment", "LBelowWorth$Adjustment;", false)
  | 2 => ("BelowWorth$Case", "firm", "I", false)
  | 3 => ("BelowWorth$Case", "known", "I", false)
  | 4 => ("BelowWorth$Case", "margin", "J", false)
  | 5 => ("BelowWorth$Case", "against", "J", false)
  | _ => ("BelowWorth$Case", "this$0", "LBelowWorth;", true)
def tyX4 : Nat → FieldType := fun k => match k with
  | 0 => .object "BelowWorth$Sale"
  | 1 => .object "BelowWorth$Adjustment"
  | 2 => .int
  | 3 => .int
  | 4 => .long
  | 5 => .long
  | _ => .object "BelowWorth"
abbrev wsX40 : List Cond := u_ws RX4 TX4 7
theorem nmX4 : ∀ a, a < 7 → ∀ b, b < 7 → a ≠ b → (TX4 a).2.1 ≠ (TX4 b).2.1 := by decide +kernel
theorem tyX4_ok : ∀ k, k < 7 → parseFieldDescriptor (TX4 k).2.2.1 = some (tyX4 k) := by decide +kernel
abbrev cX4_init : ByteArray := prog_5_method_1_code
def yX4_init : MethodName := ⟨RX4, "<init>", "(LBelowWorth;)V"⟩
abbrev cX4_of : ByteArray := prog_5_method_2_code
def yX4_of : MethodName := ⟨RX4, "of", "(LBelowWorth$Sale;LBelowWorth$Adjustment;I)LBelowWorth$Case;"⟩
abbrev cX4_word : ByteArray := prog_5_method_4_code
def yX4_word : MethodName := ⟨RX4, "word", "(I)J"⟩
abbrev cX4_ofSale : ByteArray := prog_5_method_5_code
def yX4_ofSale : MethodName := ⟨RX4, "ofSale", "(I)J"⟩
abbrev cX4_ofFirm : ByteArray := prog_5_method_6_code
def yX4_ofFirm : MethodName := ⟨RX4, "ofFirm", "(I)J"⟩
abbrev cX4_of_2 : ByteArray := prog_5_method_3_code
def yX4_of_2 : MethodName := ⟨RX4, "of", "(IIJZ)LBelowWorth$Case;"⟩
theorem q113 : (Jvm.Cond.initialized "BelowWorth$Case") ∈ lw_all := lw_g (lw_at lw_m1 8 rfl) rfl
theorem q297 : (Jvm.Cond.instantiable "BelowWorth$Case" (7 : Nat)) ∈ lw_all := lw_g (lw_at lw_m1 192 rfl) rfl
theorem q299 : (Jvm.Cond.instanceMethod ({ cls := "BelowWorth$Case", name := "<init>", desc := "(LBelowWorth;)V" } : Jvm.MethodName)) ∈ lw_all := lw_g (lw_at lw_m1 194 rfl) rfl
theorem q300 : (Jvm.Cond.code ({ cls := "BelowWorth$Case", name := "<init>", desc := "(LBelowWorth;)V" } : Jvm.MethodName) prog_5_method_1_code (2 : Nat) (Option.none : Option Jvm.ClassFile.FieldType)) ∈ lw_all := lw_g (lw_at lw_m1 195 rfl) rfl
theorem q301 : (Jvm.Cond.methodLink "BelowWorth$Case" (7 : Nat) ({ cls := "java/lang/Object", name := "<init>", desc := "()V" } : Jvm.MethodName)) ∈ lw_all := lw_g (lw_at lw_m1 196 rfl) rfl
theorem q302 : (Jvm.Cond.fieldLink "BelowWorth$Case" (13 : Nat) "BelowWorth$Case" "sale" "LBelowWorth$Sale;") ∈ lw_all := lw_g (lw_at lw_m1 197 rfl) rfl
theorem q303 : (Jvm.Cond.fieldLink "BelowWorth$Case" (17 : Nat) "BelowWorth$Case" "adjustment" "LBelowWorth$Adjustment;") ∈ lw_all := lw_g (lw_at lw_m1 198 rfl) rfl
theorem q304 : (Jvm.Cond.fieldLink "BelowWorth$Case" (25 : Nat) "BelowWorth$Case" "firm" "I") ∈ lw_all := lw_g (lw_at lw_m1 199 rfl) rfl
theorem q305 : (Jvm.Cond.fieldLink "BelowWorth$Case" (21 : Nat) "BelowWorth$Case" "known" "I") ∈ lw_all := lw_g (lw_at lw_m1 200 rfl) rfl
theorem q306 : (Jvm.Cond.fieldLink "BelowWorth$Case" (28 : Nat) "BelowWorth$Case" "margin" "J") ∈ lw_all := lw_g (lw_at lw_m1 201 rfl) rfl
theorem q307 : (Jvm.Cond.fieldLink "BelowWorth$Case" (32 : Nat) "BelowWorth$Case" "against" "J") ∈ lw_all := lw_g (lw_at lw_m1 202 rfl) rfl
theorem q308 : (Jvm.Cond.fieldLink "BelowWorth$Case" (1 : Nat) "BelowWorth$Case" "this$0" "LBelowWorth;") ∈ lw_all := lw_g (lw_at lw_m1 203 rfl) rfl
theorem q309 : (Jvm.Cond.lays "BelowWorth$Case" "BelowWorth$Case" "sale" "LBelowWorth$Sale;") ∈ lw_all := lw_g (lw_at lw_m1 204 rfl) rfl
theorem q310 : (Jvm.Cond.soleField "BelowWorth$Case" "sale") ∈ lw_all := lw_g (lw_at lw_m1 205 rfl) rfl
theorem q311 : (Jvm.Cond.lays "BelowWorth$Case" "BelowWorth$Case" "adjustment" "LBelowWorth$Adjustment;") ∈ lw_all := lw_g (lw_at lw_m1 206 rfl) rfl
theorem q312 : (Jvm.Cond.soleField "BelowWorth$Case" "adjustment") ∈ lw_all := lw_g (lw_at lw_m1 207 rfl) rfl
theorem q313 : (Jvm.Cond.lays "BelowWorth$Case" "BelowWorth$Case" "firm" "I") ∈ lw_all := lw_g (lw_at lw_m1 208 rfl) rfl
theorem q314 : (Jvm.Cond.soleField "BelowWorth$Case" "firm") ∈ lw_all := lw_g (lw_at lw_m1 209 rfl) rfl
theorem q315 : (Jvm.Cond.lays "BelowWorth$Case" "BelowWorth$Case" "known" "I") ∈ lw_all := lw_g (lw_at lw_m1 210 rfl) rfl
theorem q316 : (Jvm.Cond.soleField "BelowWorth$Case" "known") ∈ lw_all := lw_g (lw_at lw_m1 211 rfl) rfl
theorem q317 : (Jvm.Cond.lays "BelowWorth$Case" "BelowWorth$Case" "margin" "J") ∈ lw_all := lw_g (lw_at lw_m1 212 rfl) rfl
theorem q318 : (Jvm.Cond.soleField "BelowWorth$Case" "margin") ∈ lw_all := lw_g (lw_at lw_m1 213 rfl) rfl
theorem q319 : (Jvm.Cond.lays "BelowWorth$Case" "BelowWorth$Case" "against" "J") ∈ lw_all := lw_g (lw_at lw_m1 214 rfl) rfl
theorem q320 : (Jvm.Cond.soleField "BelowWorth$Case" "against") ∈ lw_all := lw_g (lw_at lw_m1 215 rfl) rfl
theorem q321 : (Jvm.Cond.laysFinal "BelowWorth$Case" "BelowWorth$Case" "this$0" "LBelowWorth;") ∈ lw_all := lw_g (lw_at lw_m1 216 rfl) rfl
theorem q322 : (Jvm.Cond.soleField "BelowWorth$Case" "this$0") ∈ lw_all := lw_g (lw_at lw_m1 217 rfl) rfl
theorem q323 : (Jvm.Cond.superclass "BelowWorth$Case" "java/lang/Object") ∈ lw_all := lw_g (lw_at lw_m1 218 rfl) rfl
theorem q418 : (Jvm.Cond.fieldLinkNest "BelowWorth$Case" (75 : Nat) "BelowWorth" "landOf" "[I" "BelowWorth") ∈ lw_tbl := lw_at lw_m2 73 rfl
theorem q682 : (Jvm.Cond.fieldLinkNest "BelowWorth$Case" (60 : Nat) "BelowWorth$Sale" "firm" "I" "BelowWorth") ∈ lw_tbl := lw_at lw_m3 97 rfl
theorem q687 : (Jvm.Cond.fieldLinkNest "BelowWorth$Case" (50 : Nat) "BelowWorth$Sale" "grade" "I" "BelowWorth") ∈ lw_tbl := lw_at lw_m3 102 rfl
theorem q693 : (Jvm.Cond.fieldLinkNest "BelowWorth$Case" (53 : Nat) "BelowWorth$Sale" "month" "I" "BelowWorth") ∈ lw_tbl := lw_at lw_m3 108 rfl
theorem q701 : (Jvm.Cond.fieldLinkNest "BelowWorth$Case" (47 : Nat) "BelowWorth$Sale" "tons" "I" "BelowWorth") ∈ lw_tbl := lw_at lw_m3 116 rfl
theorem q706 : (Jvm.Cond.fieldLinkNest "BelowWorth$Case" (42 : Nat) "BelowWorth$Sale" "price" "I" "BelowWorth") ∈ lw_tbl := lw_at lw_m3 121 rfl
theorem q713 : (Jvm.Cond.fieldLinkNest "BelowWorth$Case" (56 : Nat) "BelowWorth$Sale" "isRelated" "Z" "BelowWorth") ∈ lw_tbl := lw_at lw_m3 128 rfl
theorem q762 : (Jvm.Cond.fieldLinkNest "BelowWorth$Case" (67 : Nat) "BelowWorth$Adjustment" "coins" "I" "BelowWorth") ∈ lw_tbl := lw_at lw_m3 177 rfl
theorem q766 : (Jvm.Cond.fieldLinkNest "BelowWorth$Case" (72 : Nat) "BelowWorth$Adjustment" "isProved" "Z" "BelowWorth") ∈ lw_tbl := lw_at lw_m3 181 rfl
theorem q1091 : (Jvm.Cond.instanceMethod ({ cls := "BelowWorth$Case", name := "of", desc := "(LBelowWorth$Sale;LBelowWorth$Adjustment;I)LBelowWorth$Case;" } : Jvm.MethodName)) ∈ lw_all := lw_g (lw_at lw_m5 26 rfl) rfl
theorem q1092 : (Jvm.Cond.selects "BelowWorth$Case" ({ cls := "BelowWorth$Case", name := "of", desc := "(LBelowWorth$Sale;LBelowWorth$Adjustment;I)LBelowWorth$Case;" } : Jvm.MethodName) ({ cls := "BelowWorth$Case", name := "of", desc := "(LBelowWorth$Sale;LBelowWorth$Adjustment;I)LBelowWorth$Case;" } : Jvm.MethodName)) ∈ lw_all := lw_g (lw_at lw_m5 27 rfl) rfl
theorem q1093 : (Jvm.Cond.code ({ cls := "BelowWorth$Case", name := "of", desc := "(LBelowWorth$Sale;LBelowWorth$Adjustment;I)LBelowWorth$Case;" } : Jvm.MethodName) prog_5_method_2_code (4 : Nat) (Option.some (Jvm.ClassFile.FieldType.object "BelowWorth$Case"))) ∈ lw_all := lw_g (lw_at lw_m5 28 rfl) rfl
theorem q1120 : (Jvm.Cond.instanceMethod ({ cls := "BelowWorth$Case", name := "word", desc := "(I)J" } : Jvm.MethodName)) ∈ lw_all := lw_g (lw_at lw_m5 55 rfl) rfl
theorem q1121 : (Jvm.Cond.selects "BelowWorth$Case" ({ cls := "BelowWorth$Case", name := "word", desc := "(I)J" } : Jvm.MethodName) ({ cls := "BelowWorth$Case", name := "word", desc := "(I)J" } : Jvm.MethodName)) ∈ lw_all := lw_g (lw_at lw_m5 56 rfl) rfl
theorem q1122 : (Jvm.Cond.code ({ cls := "BelowWorth$Case", name := "word", desc := "(I)J" } : Jvm.MethodName) prog_5_method_4_code (2 : Nat) (Option.some Jvm.ClassFile.FieldType.long)) ∈ lw_all := lw_g (lw_at lw_m5 57 rfl) rfl
theorem q1123 : (Jvm.Cond.methodLink "BelowWorth$Case" (35 : Nat) ({ cls := "BelowWorth$Case", name := "ofSale", desc := "(I)J" } : Jvm.MethodName)) ∈ lw_all := lw_g (lw_at lw_m5 58 rfl) rfl
theorem q1124 : (Jvm.Cond.privateMethod ({ cls := "BelowWorth$Case", name := "ofSale", desc := "(I)J" } : Jvm.MethodName)) ∈ lw_tbl := lw_at lw_m5 59 rfl
theorem q1125 : (Jvm.Cond.instanceMethod ({ cls := "BelowWorth$Case", name := "ofSale", desc := "(I)J" } : Jvm.MethodName)) ∈ lw_all := lw_g (lw_at lw_m5 60 rfl) rfl
theorem q1126 : (Jvm.Cond.code ({ cls := "BelowWorth$Case", name := "ofSale", desc := "(I)J" } : Jvm.MethodName) prog_5_method_5_code (2 : Nat) (Option.some Jvm.ClassFile.FieldType.long)) ∈ lw_all := lw_g (lw_at lw_m5 61 rfl) rfl
theorem q1127 : (Jvm.Cond.methodLinkNest "BelowWorth$Case" (61 : Nat) ({ cls := "BelowWorth", name := "costIn", desc := "(IIII)I" } : Jvm.MethodName) "BelowWorth") ∈ lw_tbl := lw_at lw_m5 62 rfl
theorem q1128 : (Jvm.Cond.methodLink "BelowWorth$Case" (39 : Nat) ({ cls := "BelowWorth$Case", name := "ofFirm", desc := "(I)J" } : Jvm.MethodName)) ∈ lw_all := lw_g (lw_at lw_m5 63 rfl) rfl
theorem q1129 : (Jvm.Cond.privateMethod ({ cls := "BelowWorth$Case", name := "ofFirm", desc := "(I)J" } : Jvm.MethodName)) ∈ lw_tbl := lw_at lw_m5 64 rfl
theorem q1130 : (Jvm.Cond.instanceMethod ({ cls := "BelowWorth$Case", name := "ofFirm", desc := "(I)J" } : Jvm.MethodName)) ∈ lw_all := lw_g (lw_at lw_m5 65 rfl) rfl
theorem q1131 : (Jvm.Cond.code ({ cls := "BelowWorth$Case", name := "ofFirm", desc := "(I)J" } : Jvm.MethodName) prog_5_method_6_code (2 : Nat) (Option.some Jvm.ClassFile.FieldType.long)) ∈ lw_all := lw_g (lw_at lw_m5 66 rfl) rfl
theorem q1132 : (Jvm.Cond.methodLinkNest "BelowWorth$Case" (79 : Nat) ({ cls := "BelowWorth", name := "lacksOf", desc := "(II)I" } : Jvm.MethodName) "BelowWorth") ∈ lw_tbl := lw_at lw_m5 67 rfl
theorem q1141 : (Jvm.Cond.methodLinkNest "BelowWorth$Case" (83 : Nat) ({ cls := "BelowWorth", name := "salesHere", desc := "(II)I" } : Jvm.MethodName) "BelowWorth") ∈ lw_tbl := lw_at lw_m5 76 rfl
theorem q1381 : (Jvm.Cond.instanceMethod ({ cls := "BelowWorth$Case", name := "of", desc := "(IIJZ)LBelowWorth$Case;" } : Jvm.MethodName)) ∈ lw_all := lw_g (lw_at lw_m6 76 rfl) rfl
theorem q1382 : (Jvm.Cond.selects "BelowWorth$Case" ({ cls := "BelowWorth$Case", name := "of", desc := "(IIJZ)LBelowWorth$Case;" } : Jvm.MethodName) ({ cls := "BelowWorth$Case", name := "of", desc := "(IIJZ)LBelowWorth$Case;" } : Jvm.MethodName)) ∈ lw_all := lw_g (lw_at lw_m6 77 rfl) rfl
theorem q1383 : (Jvm.Cond.code ({ cls := "BelowWorth$Case", name := "of", desc := "(IIJZ)LBelowWorth$Case;" } : Jvm.MethodName) prog_5_method_3_code (6 : Nat) (Option.some (Jvm.ClassFile.FieldType.object "BelowWorth$Case"))) ∈ lw_all := lw_g (lw_at lw_m6 78 rfl) rfl
theorem in_X4 : ∀ w ∈ wsX40, w ∈ lw_all := lw_in wsX40 [309, 311, 313, 315, 317, 319, 321] (by decide +kernel) (by decide +kernel)
def RX5 : String := "BelowWorth$Matcher"
def TX5 : u_T := fun k => match k with
  | 0 => ("BelowWorth$Matcher", "here", "[I", true)
  | 1 => ("BelowWorth$Matcher", "home", "[I", true)
  | 2 => ("BelowWorth$Matcher", "to", "[I", true)
  | 3 => ("BelowWorth$Matcher", "best", "[[J", true)
  | 4 => ("BelowWorth$Matcher", "many", "I", false)
  | 5 => ("BelowWorth$Matcher", "homes", "I", false)
  | 6 => ("BelowWorth$Matcher", "isText", "Z", false)
  | _ => ("BelowWorth$Matcher", "this$0", "LBelowWorth;", true)
def tyX5 : Nat → FieldType := fun k => match k with
  | 0 => .array .int
  | 1 => .array .int
  | 2 => .array .int
  | 3 => .array (.array .long)
  | 4 => .int
  | 5 => .int
  | 6 => .boolean
  | _ => .object "BelowWorth"
abbrev wsX50 : List Cond := u_ws RX5 TX5 8
theorem nmX5 : ∀ a, a < 8 → ∀ b, b < 8 → a ≠ b → (TX5 a).2.1 ≠ (TX5 b).2.1 := by decide +kernel
theorem tyX5_ok : ∀ k, k < 8 → parseFieldDescriptor (TX5 k).2.2.1 = some (tyX5 k) := by decide +kernel
abbrev cX5_init : ByteArray := prog_12_method_1_code
def yX5_init : MethodName := ⟨RX5, "<init>", "(LBelowWorth;)V"⟩
abbrev cX5_matches : ByteArray := prog_12_method_8_code
def yX5_matches : MethodName := ⟨RX5, "matches", "(IIIZ)I"⟩
abbrev cX5_gathers : ByteArray := prog_12_method_2_code
def yX5_gathers : MethodName := ⟨RX5, "gathers", "(III)V"⟩
abbrev cX5_may : ByteArray := prog_12_method_6_code
def yX5_may : MethodName := ⟨RX5, "may", "(III)Z"⟩
abbrev cX5_grades : ByteArray := prog_12_method_3_code
def yX5_grades : MethodName := ⟨RX5, "grades", "(II)I"⟩
abbrev cX5_months : ByteArray := prog_12_method_4_code
def yX5_months : MethodName := ⟨RX5, "months", "(II)I"⟩
abbrev cX5_worth : ByteArray := prog_12_method_7_code
def yX5_worth : MethodName := ⟨RX5, "worth", "(II)J"⟩
abbrev cX5_less : ByteArray := prog_12_method_5_code
def yX5_less : MethodName := ⟨RX5, "less", "(II)J"⟩
theorem q114 : (Jvm.Cond.initialized "BelowWorth$Matcher") ∈ lw_all := lw_g (lw_at lw_m1 9 rfl) rfl
theorem q260 : (Jvm.Cond.fieldLinkNest "BelowWorth$Matcher" (94 : Nat) "BelowWorth$Act" "numbers" "[I" "BelowWorth") ∈ lw_tbl := lw_at lw_m1 155 rfl
theorem q327 : (Jvm.Cond.fieldLinkNest "BelowWorth$Matcher" (80 : Nat) "BelowWorth$Look" "net" "[I" "BelowWorth") ∈ lw_tbl := lw_at lw_m1 222 rfl
theorem q336 : (Jvm.Cond.fieldLinkNest "BelowWorth$Matcher" (90 : Nat) "BelowWorth$Look" "act" "LBelowWorth$Act;" "BelowWorth") ∈ lw_tbl := lw_at lw_m1 231 rfl
theorem q371 : (Jvm.Cond.instantiable "BelowWorth$Matcher" (8 : Nat)) ∈ lw_all := lw_g (lw_at lw_m2 26 rfl) rfl
theorem q373 : (Jvm.Cond.instanceMethod ({ cls := "BelowWorth$Matcher", name := "<init>", desc := "(LBelowWorth;)V" } : Jvm.MethodName)) ∈ lw_all := lw_g (lw_at lw_m2 28 rfl) rfl
theorem q374 : (Jvm.Cond.code ({ cls := "BelowWorth$Matcher", name := "<init>", desc := "(LBelowWorth;)V" } : Jvm.MethodName) prog_12_method_1_code (2 : Nat) (Option.none : Option Jvm.ClassFile.FieldType)) ∈ lw_all := lw_g (lw_at lw_m2 29 rfl) rfl
theorem q375 : (Jvm.Cond.methodLink "BelowWorth$Matcher" (9 : Nat) ({ cls := "java/lang/Object", name := "<init>", desc := "()V" } : Jvm.MethodName)) ∈ lw_all := lw_g (lw_at lw_m2 30 rfl) rfl
theorem q376 : (Jvm.Cond.classLink "BelowWorth$Matcher" (25 : Nat) "[[J") ∈ lw_all := lw_g (lw_at lw_m2 31 rfl) rfl
theorem q377 : (Jvm.Cond.fieldLink "BelowWorth$Matcher" (15 : Nat) "BelowWorth$Matcher" "here" "[I") ∈ lw_all := lw_g (lw_at lw_m2 32 rfl) rfl
theorem q379 : (Jvm.Cond.fieldLink "BelowWorth$Matcher" (19 : Nat) "BelowWorth$Matcher" "home" "[I") ∈ lw_all := lw_g (lw_at lw_m2 34 rfl) rfl
theorem q381 : (Jvm.Cond.fieldLink "BelowWorth$Matcher" (22 : Nat) "BelowWorth$Matcher" "to" "[I") ∈ lw_all := lw_g (lw_at lw_m2 36 rfl) rfl
theorem q383 : (Jvm.Cond.fieldLink "BelowWorth$Matcher" (27 : Nat) "BelowWorth$Matcher" "best" "[[J") ∈ lw_all := lw_g (lw_at lw_m2 38 rfl) rfl
theorem q384 : (Jvm.Cond.fieldLink "BelowWorth$Matcher" (30 : Nat) "BelowWorth$Matcher" "many" "I") ∈ lw_all := lw_g (lw_at lw_m2 39 rfl) rfl
theorem q386 : (Jvm.Cond.fieldLink "BelowWorth$Matcher" (34 : Nat) "BelowWorth$Matcher" "homes" "I") ∈ lw_all := lw_g (lw_at lw_m2 41 rfl) rfl
theorem q387 : (Jvm.Cond.fieldLink "BelowWorth$Matcher" (104 : Nat) "BelowWorth$Matcher" "isText" "Z") ∈ lw_all := lw_g (lw_at lw_m2 42 rfl) rfl
theorem q388 : (Jvm.Cond.fieldLink "BelowWorth$Matcher" (3 : Nat) "BelowWorth$Matcher" "this$0" "LBelowWorth;") ∈ lw_all := lw_g (lw_at lw_m2 43 rfl) rfl
theorem q389 : (Jvm.Cond.laysFinal "BelowWorth$Matcher" "BelowWorth$Matcher" "here" "[I") ∈ lw_all := lw_g (lw_at lw_m2 44 rfl) rfl
theorem q390 : (Jvm.Cond.soleField "BelowWorth$Matcher" "here") ∈ lw_all := lw_g (lw_at lw_m2 45 rfl) rfl
theorem q391 : (Jvm.Cond.laysFinal "BelowWorth$Matcher" "BelowWorth$Matcher" "home" "[I") ∈ lw_all := lw_g (lw_at lw_m2 46 rfl) rfl
theorem q392 : (Jvm.Cond.soleField "BelowWorth$Matcher" "home") ∈ lw_all := lw_g (lw_at lw_m2 47 rfl) rfl
theorem q393 : (Jvm.Cond.laysFinal "BelowWorth$Matcher" "BelowWorth$Matcher" "to" "[I") ∈ lw_all := lw_g (lw_at lw_m2 48 rfl) rfl
theorem q394 : (Jvm.Cond.soleField "BelowWorth$Matcher" "to") ∈ lw_all := lw_g (lw_at lw_m2 49 rfl) rfl
theorem q395 : (Jvm.Cond.laysFinal "BelowWorth$Matcher" "BelowWorth$Matcher" "best" "[[J") ∈ lw_all := lw_g (lw_at lw_m2 50 rfl) rfl
theorem q396 : (Jvm.Cond.soleField "BelowWorth$Matcher" "best") ∈ lw_all := lw_g (lw_at lw_m2 51 rfl) rfl
theorem q397 : (Jvm.Cond.lays "BelowWorth$Matcher" "BelowWorth$Matcher" "many" "I") ∈ lw_all := lw_g (lw_at lw_m2 52 rfl) rfl
theorem q398 : (Jvm.Cond.soleField "BelowWorth$Matcher" "many") ∈ lw_all := lw_g (lw_at lw_m2 53 rfl) rfl
theorem q399 : (Jvm.Cond.lays "BelowWorth$Matcher" "BelowWorth$Matcher" "homes" "I") ∈ lw_all := lw_g (lw_at lw_m2 54 rfl) rfl
theorem q400 : (Jvm.Cond.soleField "BelowWorth$Matcher" "homes") ∈ lw_all := lw_g (lw_at lw_m2 55 rfl) rfl
theorem q401 : (Jvm.Cond.lays "BelowWorth$Matcher" "BelowWorth$Matcher" "isText" "Z") ∈ lw_all := lw_g (lw_at lw_m2 56 rfl) rfl
theorem q402 : (Jvm.Cond.soleField "BelowWorth$Matcher" "isText") ∈ lw_all := lw_g (lw_at lw_m2 57 rfl) rfl
theorem q403 : (Jvm.Cond.laysFinal "BelowWorth$Matcher" "BelowWorth$Matcher" "this$0" "LBelowWorth;") ∈ lw_all := lw_g (lw_at lw_m2 58 rfl) rfl
theorem q404 : (Jvm.Cond.soleField "BelowWorth$Matcher" "this$0") ∈ lw_all := lw_g (lw_at lw_m2 59 rfl) rfl
theorem q405 : (Jvm.Cond.superclass "BelowWorth$Matcher" "java/lang/Object") ∈ lw_all := lw_g (lw_at lw_m2 60 rfl) rfl
theorem q419 : (Jvm.Cond.fieldLinkNest "BelowWorth$Matcher" (67 : Nat) "BelowWorth" "far" "[[I" "BelowWorth") ∈ lw_tbl := lw_at lw_m2 74 rfl
theorem q425 : (Jvm.Cond.fieldLinkNest "BelowWorth$Matcher" (54 : Nat) "BelowWorth" "sales" "[LBelowWorth$Sale;" "BelowWorth") ∈ lw_tbl := lw_at lw_m2 80 rfl
theorem q430 : (Jvm.Cond.fieldLinkNest "BelowWorth$Matcher" (37 : Nat) "BelowWorth" "saleMany" "I" "BelowWorth") ∈ lw_tbl := lw_at lw_m2 85 rfl
theorem q448 : (Jvm.Cond.fieldLinkNest "BelowWorth$Matcher" (40 : Nat) "BelowWorth" "look" "LBelowWorth$Look;" "BelowWorth") ∈ lw_tbl := lw_at lw_m2 103 rfl
theorem q686 : (Jvm.Cond.fieldLinkNest "BelowWorth$Matcher" (71 : Nat) "BelowWorth$Sale" "grade" "I" "BelowWorth") ∈ lw_tbl := lw_at lw_m3 101 rfl
theorem q692 : (Jvm.Cond.fieldLinkNest "BelowWorth$Matcher" (58 : Nat) "BelowWorth$Sale" "month" "I" "BelowWorth") ∈ lw_tbl := lw_at lw_m3 107 rfl
theorem q700 : (Jvm.Cond.fieldLinkNest "BelowWorth$Matcher" (83 : Nat) "BelowWorth$Sale" "tons" "I" "BelowWorth") ∈ lw_tbl := lw_at lw_m3 115 rfl
theorem q1227 : (Jvm.Cond.instanceMethod ({ cls := "BelowWorth$Matcher", name := "matches", desc := "(IIIZ)I" } : Jvm.MethodName)) ∈ lw_all := lw_g (lw_at lw_m5 162 rfl) rfl
theorem q1228 : (Jvm.Cond.selects "BelowWorth$Matcher" ({ cls := "BelowWorth$Matcher", name := "matches", desc := "(IIIZ)I" } : Jvm.MethodName) ({ cls := "BelowWorth$Matcher", name := "matches", desc := "(IIIZ)I" } : Jvm.MethodName)) ∈ lw_all := lw_g (lw_at lw_m5 163 rfl) rfl
theorem q1229 : (Jvm.Cond.code ({ cls := "BelowWorth$Matcher", name := "matches", desc := "(IIIZ)I" } : Jvm.MethodName) prog_12_method_8_code (11 : Nat) (Option.some Jvm.ClassFile.FieldType.int)) ∈ lw_all := lw_g (lw_at lw_m5 164 rfl) rfl
theorem q1230 : (Jvm.Cond.methodLink "BelowWorth$Matcher" (114 : Nat) ({ cls := "BelowWorth$Matcher", name := "gathers", desc := "(III)V" } : Jvm.MethodName)) ∈ lw_all := lw_g (lw_at lw_m5 165 rfl) rfl
theorem q1231 : (Jvm.Cond.privateMethod ({ cls := "BelowWorth$Matcher", name := "gathers", desc := "(III)V" } : Jvm.MethodName)) ∈ lw_tbl := lw_at lw_m5 166 rfl
theorem q1232 : (Jvm.Cond.instanceMethod ({ cls := "BelowWorth$Matcher", name := "gathers", desc := "(III)V" } : Jvm.MethodName)) ∈ lw_all := lw_g (lw_at lw_m5 167 rfl) rfl
theorem q1233 : (Jvm.Cond.code ({ cls := "BelowWorth$Matcher", name := "gathers", desc := "(III)V" } : Jvm.MethodName) prog_12_method_2_code (5 : Nat) (Option.none : Option Jvm.ClassFile.FieldType)) ∈ lw_all := lw_g (lw_at lw_m5 168 rfl) rfl
theorem q1234 : (Jvm.Cond.methodLink "BelowWorth$Matcher" (44 : Nat) ({ cls := "BelowWorth$Look", name := "isHere", desc := "(IIII)Z" } : Jvm.MethodName)) ∈ lw_all := lw_g (lw_at lw_m5 169 rfl) rfl
theorem q1235 : (Jvm.Cond.methodLink "BelowWorth$Matcher" (50 : Nat) ({ cls := "BelowWorth$Look", name := "isAtHome", desc := "(II)Z" } : Jvm.MethodName)) ∈ lw_all := lw_g (lw_at lw_m5 170 rfl) rfl
theorem q1236 : (Jvm.Cond.methodLinkNest "BelowWorth$Matcher" (63 : Nat) ({ cls := "BelowWorth", name := "in", desc := "(JJJ)Z" } : Jvm.MethodName) "BelowWorth") ∈ lw_tbl := lw_at lw_m5 171 rfl
theorem q1237 : (Jvm.Cond.methodLink "BelowWorth$Matcher" (118 : Nat) ({ cls := "BelowWorth$Matcher", name := "may", desc := "(III)Z" } : Jvm.MethodName)) ∈ lw_all := lw_g (lw_at lw_m5 172 rfl) rfl
theorem q1238 : (Jvm.Cond.privateMethod ({ cls := "BelowWorth$Matcher", name := "may", desc := "(III)Z" } : Jvm.MethodName)) ∈ lw_tbl := lw_at lw_m5 173 rfl
theorem q1239 : (Jvm.Cond.instanceMethod ({ cls := "BelowWorth$Matcher", name := "may", desc := "(III)Z" } : Jvm.MethodName)) ∈ lw_all := lw_g (lw_at lw_m5 174 rfl) rfl
theorem q1240 : (Jvm.Cond.code ({ cls := "BelowWorth$Matcher", name := "may", desc := "(III)Z" } : Jvm.MethodName) prog_12_method_6_code (4 : Nat) (Option.some Jvm.ClassFile.FieldType.boolean)) ∈ lw_all := lw_g (lw_at lw_m5 175 rfl) rfl
theorem q1241 : (Jvm.Cond.methodLink "BelowWorth$Matcher" (86 : Nat) ({ cls := "BelowWorth$Matcher", name := "grades", desc := "(II)I" } : Jvm.MethodName)) ∈ lw_all := lw_g (lw_at lw_m5 176 rfl) rfl
theorem q1242 : (Jvm.Cond.privateMethod ({ cls := "BelowWorth$Matcher", name := "grades", desc := "(II)I" } : Jvm.MethodName)) ∈ lw_tbl := lw_at lw_m5 177 rfl
theorem q1243 : (Jvm.Cond.instanceMethod ({ cls := "BelowWorth$Matcher", name := "grades", desc := "(II)I" } : Jvm.MethodName)) ∈ lw_all := lw_g (lw_at lw_m5 178 rfl) rfl
theorem q1244 : (Jvm.Cond.code ({ cls := "BelowWorth$Matcher", name := "grades", desc := "(II)I" } : Jvm.MethodName) prog_12_method_3_code (3 : Nat) (Option.some Jvm.ClassFile.FieldType.int)) ∈ lw_all := lw_g (lw_at lw_m5 179 rfl) rfl
theorem q1245 : (Jvm.Cond.methodLink "BelowWorth$Matcher" (99 : Nat) ({ cls := "BelowWorth$Matcher", name := "months", desc := "(II)I" } : Jvm.MethodName)) ∈ lw_all := lw_g (lw_at lw_m5 180 rfl) rfl
theorem q1246 : (Jvm.Cond.privateMethod ({ cls := "BelowWorth$Matcher", name := "months", desc := "(II)I" } : Jvm.MethodName)) ∈ lw_tbl := lw_at lw_m5 181 rfl
theorem q1247 : (Jvm.Cond.instanceMethod ({ cls := "BelowWorth$Matcher", name := "months", desc := "(II)I" } : Jvm.MethodName)) ∈ lw_all := lw_g (lw_at lw_m5 182 rfl) rfl
theorem q1248 : (Jvm.Cond.code ({ cls := "BelowWorth$Matcher", name := "months", desc := "(II)I" } : Jvm.MethodName) prog_12_method_4_code (3 : Nat) (Option.some Jvm.ClassFile.FieldType.int)) ∈ lw_all := lw_g (lw_at lw_m5 183 rfl) rfl
theorem q1249 : (Jvm.Cond.methodLink "BelowWorth$Matcher" (74 : Nat) ({ cls := "java/lang/Math", name := "abs", desc := "(I)I" } : Jvm.MethodName)) ∈ lw_all := lw_g (lw_at lw_m5 184 rfl) rfl
theorem q1252 : (Jvm.Cond.methodLink "BelowWorth$Matcher" (122 : Nat) ({ cls := "BelowWorth$Matcher", name := "worth", desc := "(II)J" } : Jvm.MethodName)) ∈ lw_all := lw_g (lw_at lw_m5 187 rfl) rfl
theorem q1253 : (Jvm.Cond.privateMethod ({ cls := "BelowWorth$Matcher", name := "worth", desc := "(II)J" } : Jvm.MethodName)) ∈ lw_tbl := lw_at lw_m5 188 rfl
theorem q1254 : (Jvm.Cond.instanceMethod ({ cls := "BelowWorth$Matcher", name := "worth", desc := "(II)J" } : Jvm.MethodName)) ∈ lw_all := lw_g (lw_at lw_m5 189 rfl) rfl
theorem q1255 : (Jvm.Cond.code ({ cls := "BelowWorth$Matcher", name := "worth", desc := "(II)J" } : Jvm.MethodName) prog_12_method_7_code (3 : Nat) (Option.some Jvm.ClassFile.FieldType.long)) ∈ lw_all := lw_g (lw_at lw_m5 190 rfl) rfl
theorem q1256 : (Jvm.Cond.constantLong "BelowWorth$Matcher" (102 : Nat) (10000000000000 : Int64)) ∈ lw_all := lw_g (lw_at lw_m5 191 rfl) rfl
theorem q1257 : (Jvm.Cond.constantLong "BelowWorth$Matcher" (108 : Nat) (100000 : Int64)) ∈ lw_all := lw_g (lw_at lw_m5 192 rfl) rfl
theorem q1258 : (Jvm.Cond.methodLink "BelowWorth$Matcher" (110 : Nat) ({ cls := "BelowWorth$Matcher", name := "less", desc := "(II)J" } : Jvm.MethodName)) ∈ lw_all := lw_g (lw_at lw_m5 193 rfl) rfl
theorem q1259 : (Jvm.Cond.privateMethod ({ cls := "BelowWorth$Matcher", name := "less", desc := "(II)J" } : Jvm.MethodName)) ∈ lw_tbl := lw_at lw_m5 194 rfl
theorem q1260 : (Jvm.Cond.instanceMethod ({ cls := "BelowWorth$Matcher", name := "less", desc := "(II)J" } : Jvm.MethodName)) ∈ lw_all := lw_g (lw_at lw_m5 195 rfl) rfl
theorem q1261 : (Jvm.Cond.code ({ cls := "BelowWorth$Matcher", name := "less", desc := "(II)J" } : Jvm.MethodName) prog_12_method_5_code (3 : Nat) (Option.some Jvm.ClassFile.FieldType.long)) ∈ lw_all := lw_g (lw_at lw_m5 196 rfl) rfl
theorem q1262 : (Jvm.Cond.methodLink "BelowWorth$Matcher" (125 : Nat) ({ cls := "java/lang/Math", name := "max", desc := "(JJ)J" } : Jvm.MethodName)) ∈ lw_all := lw_g (lw_at lw_m5 197 rfl) rfl
theorem in_X5 : ∀ w ∈ wsX50, w ∈ lw_all := lw_in wsX50 [389, 391, 393, 395, 397, 399, 401, 403] (by decide +kernel) (by decide +kernel)
def RX6 : String := "BelowWorthModel"
def TX6 : u_T := fun k => match k with
  | 0 => ("BelowWorthModel", "thrown", "I", false)
  | 1 => ("BelowWorthModel", "now", "I", false)
  | 2 => ("BelowWorthModel", "firms", "I", false)
  | 3 => ("BelowWorthModel", "costs", "I", false)
  | 4 => ("BelowWorthModel", "land", "[I", true)
  | 5 => ("BelowWorthModel", "far", "[I", true)
  | 6 => ("BelowWorthModel", "cFirm", "[I", true)
  | 7 => ("BelowWorthModel", "cGrade", "[I", true)
  | 8 => ("BelowWorthModel", "cMonth", "[I", true)
  | 9 => ("BelowWorthModel", "cCoins", "[I", true)
  | 10 => ("BelowWorthModel", "cKnown", "[I", true)
  | 11 => ("BelowWorthModel", "sales", "I", false)
  | 12 => ("BelowWorthModel", "adjusts", "I", false)
  | 13 => ("BelowWorthModel", "sFirm", "[I", true)
  | 14 => ("BelowWorthModel", "sGrade", "[I", true)
  | 15 => ("BelowWorthModel", "sDay", "[I", true)
  | 16 => ("BelowWorthModel", "sTons", "[I", true)
  | 17 => ("BelowWorthModel", "sPrice", "[I", true)
  | 18 => ("BelowWorthModel", "sKnown", "[I", true)
  | 19 => ("BelowWorthModel", "sStruck", "[I", true)
  | 20 => ("BelowWorthModel", "isHere", "[Z", true)
  | 21 => ("BelowWorthModel", "isRelated", "[Z", true)
  | 22 => ("BelowWorthModel", "aSale", "[I", true)
  | 23 => ("BelowWorthModel", "aKind", "[I", true)
  | 24 => ("BelowWorthModel", "aCoins", "[I", true)
  | 25 => ("BelowWorthModel", "aKnown", "[I", true)
  | 26 => ("BelowWorthModel", "isProved", "[Z", true)
  | 27 => ("BelowWorthModel", "tape", "[B", true)
  | 28 => ("BelowWorthModel", "taped", "I", false)
  | 29 => ("BelowWorthModel", "p", "I", false)
  | 30 => ("BelowWorthModel", "from", "I", false)
  | 31 => ("BelowWorthModel", "fault", "I", false)
  | 32 => ("BelowWorthModel", "deep", "I", false)
  | 33 => ("BelowWorthModel", "counted", "I", false)
  | 34 => ("BelowWorthModel", "toldOf", "I", false)
  | 35 => ("BelowWorthModel", "acts", "I", false)
  | 36 => ("BelowWorthModel", "binds", "[I", true)
  | 37 => ("BelowWorthModel", "clauses", "[I", true)
  | 38 => ("BelowWorthModel", "kind", "[I", true)
  | 39 => ("BelowWorthModel", "worth", "[I", true)
  | 40 => ("BelowWorthModel", "first", "[I", true)
  | 41 => ("BelowWorthModel", "last", "[I", true)
  | 42 => ("BelowWorthModel", "op", "[I", true)
  | 43 => ("BelowWorthModel", "what0", "[I", true)
  | 44 => ("BelowWorthModel", "steps", "I", false)
  | 45 => ("BelowWorthModel", "open", "I", false)
  | 46 => ("BelowWorthModel", "kindAt", "[I", true)
  | 47 => ("BelowWorthModel", "pile", "[J", true)
  | 48 => ("BelowWorthModel", "fact", "[J", true)
  | 49 => ("BelowWorthModel", "firmAt", "I", false)
  | 50 => ("BelowWorthModel", "knownAt", "I", false)
  | 51 => ("BelowWorthModel", "actAt", "I", false)
  | 52 => ("BelowWorthModel", "lastOf", "[I", true)
  | 53 => ("BelowWorthModel", "net", "[I", true)
  | 54 => ("BelowWorthModel", "there", "[Z", true)
  | 55 => ("BelowWorthModel", "dropped", "[Z", true)
  | 56 => ("BelowWorthModel", "homeNet", "[J", true)
  | 57 => ("BelowWorthModel", "homeTons", "[J", true)
  | 58 => ("BelowWorthModel", "byGrade", "I", false)
  | 59 => ("BelowWorthModel", "byMonth", "I", false)
  | 60 => ("BelowWorthModel", "toldGrade", "I", false)
  | 61 => ("BelowWorthModel", "toldMonth", "I", false)
  | 62 => ("BelowWorthModel", "up", "J", false)
  | 63 => ("BelowWorthModel", "down", "J", false)
  | 64 => ("BelowWorthModel", "group", "[J", true)
  | 65 => ("BelowWorthModel", "matchedMany", "I", false)
  | 66 => ("BelowWorthModel", "mHere", "[I", true)
  | 67 => ("BelowWorthModel", "mHome", "[I", true)
  | 68 => ("BelowWorthModel", "pair", "[I", true)
  | 69 => ("BelowWorthModel", "keptHere", "[I", true)
  | 70 => ("BelowWorthModel", "keptPair", "[I", true)
  | 71 => ("BelowWorthModel", "best", "[J", true)
  | 72 => ("BelowWorthModel", "matchSum", "[J", true)
  | 73 => ("BelowWorthModel", "figures", "[I", true)
  | 74 => ("BelowWorthModel", "gSet", "[I", true)
  | 75 => ("BelowWorthModel", "gFrom", "[I", true)
  | 76 => ("BelowWorthModel", "gTo", "[I", true)
  | 77 => ("BelowWorthModel", "gTons", "[I", true)
  | 78 => ("BelowWorthModel", "lack", "[I", true)
  | 79 => ("BelowWorthModel", "ofFirst", "[I", true)
  | 80 => ("BelowWorthModel", "left", "[I", true)
  | 81 => ("BelowWorthModel", "gHere", "[Z", true)
  | 82 => ("BelowWorthModel", "leftMany", "I", false)
  | 83 => ("BelowWorthModel", "flows", "I", false)
  | 84 => ("BelowWorthModel", "wayLong", "I", false)
  | 85 => ("BelowWorthModel", "flow", "[I", true)
  | 86 => ("BelowWorthModel", "own", "[I", true)
  | 87 => ("BelowWorthModel", "way", "[I", true)
  | 88 => ("BelowWorthModel", "taints", "[I", true)
  | 89 => ("BelowWorthModel", "nextTaints", "[I", true)
  | 90 => ("BelowWorthModel", "promises", "I", false)
  | 91 => ("BelowWorthModel", "pFirm", "[I", true)
  | 92 => ("BelowWorthModel", "pGrade", "[I", true)
  | 93 => ("BelowWorthModel", "pDay", "[I", true)
  | 94 => ("BelowWorthModel", "pPrice", "[I", true)
  | 95 => ("BelowWorthModel", "rates", "I", false)
  | 96 => ("BelowWorthModel", "entries", "I", false)
  | 97 => ("BelowWorthModel", "rFirm", "[I", true)
  | 98 => ("BelowWorthModel", "rDay", "[I", true)
  | 99 => ("BelowWorthModel", "rate", "[I", true)
  | 100 => ("BelowWorthModel", "eFirm", "[I", true)
  | 101 => ("BelowWorthModel", "eDay", "[I", true)
  | 102 => ("BelowWorthModel", "eCoins", "[I", true)
  | 103 => ("BelowWorthModel", "ePaid", "[I", true)
  | 104 => ("BelowWorthModel", "weight", "[J", true)
  | 105 => ("BelowWorthModel", "byFacts", "[Z", true)
  | _ => ("BelowWorthModel", "isSettled", "[Z", true)
def tyX6 : Nat → FieldType := fun k => match k with
  | 0 => .int
  | 1 => .int
  | 2 => .int
  | 3 => .int
  | 4 => .array .int
  | 5 => .array .int
  | 6 => .array .int
  | 7 => .array .int
  | 8 => .array .int
  | 9 => .array .int
  | 10 => .array .int
  | 11 => .int
  | 12 => .int
  | 13 => .array .int
  | 14 => .array .int
  | 15 => .array .int
  | 16 => .array .int
  | 17 => .array .int
  | 18 => .array .int
  | 19 => .array .int
  | 20 => .array .boolean
  | 21 => .array .boolean
  | 22 => .array .int
  | 23 => .array .int
  | 24 => .array .int
  | 25 => .array .int
  | 26 => .array .boolean
  | 27 => .array .byte
  | 28 => .int
  | 29 => .int
  | 30 => .int
  | 31 => .int
  | 32 => .int
  | 33 => .int
  | 34 => .int
  | 35 => .int
  | 36 => .array .int
  | 37 => .array .int
  | 38 => .array .int
  | 39 => .array .int
  | 40 => .array .int
  | 41 => .array .int
  | 42 => .array .int
  | 43 => .array .int
  | 44 => .int
  | 45 => .int
  | 46 => .array .int
  | 47 => .array .long
  | 48 => .array .long
  | 49 => .int
  | 50 => .int
  | 51 => .int
  | 52 => .array .int
  | 53 => .array .int
  | 54 => .array .boolean
  | 55 => .array .boolean
  | 56 => .array .long
  | 57 => .array .long
  | 58 => .int
  | 59 => .int
  | 60 => .int
  | 61 => .int
  | 62 => .long
  | 63 => .long
  | 64 => .array .long
  | 65 => .int
  | 66 => .array .int
  | 67 => .array .int
  | 68 => .array .int
  | 69 => .array .int
  | 70 => .array .int
  | 71 => .array .long
  | 72 => .array .long
  | 73 => .array .int
  | 74 => .array .int
  | 75 => .array .int
  | 76 => .array .int
  | 77 => .array .int
  | 78 => .array .int
  | 79 => .array .int
  | 80 => .array .int
  | 81 => .array .boolean
  | 82 => .int
  | 83 => .int
  | 84 => .int
  | 85 => .array .int
  | 86 => .array .int
  | 87 => .array .int
  | 88 => .array .int
  | 89 => .array .int
  | 90 => .int
  | 91 => .array .int
  | 92 => .array .int
  | 93 => .array .int
  | 94 => .array .int
  | 95 => .int
  | 96 => .int
  | 97 => .array .int
  | 98 => .array .int
  | 99 => .array .int
  | 100 => .array .int
  | 101 => .array .int
  | 102 => .array .int
  | 103 => .array .int
  | 104 => .array .long
  | 105 => .array .boolean
  | _ => .array .boolean
abbrev wsX60 : List Cond := u_ws RX6 TX6 107
theorem nmX6 : ∀ a, a < 107 → ∀ b, b < 107 → a ≠ b → (TX6 a).2.1 ≠ (TX6 b).2.1 := by decide +kernel
theorem tyX6_ok : ∀ k, k < 107 → parseFieldDescriptor (TX6 k).2.2.1 = some (tyX6 k) := by decide +kernel
abbrev cX6_init : ByteArray := prog_23_method_1_code
def yX6_init : MethodName := ⟨RX6, "<init>", "()V"⟩
abbrev cX6_clock : ByteArray := prog_23_method_7_code
def yX6_clock : MethodName := ⟨RX6, "clock", "(I)Z"⟩
abbrev cX6_in : ByteArray := prog_23_method_3_code
def yX6_in : MethodName := ⟨RX6, "in", "(III)Z"⟩
abbrev cX6_firm : ByteArray := prog_23_method_8_code
def yX6_firm : MethodName := ⟨RX6, "firm", "(I)I"⟩
abbrev cX6_far : ByteArray := prog_23_method_10_code
def yX6_far : MethodName := ⟨RX6, "far", "(III)I"⟩
abbrev cX6_isGrade : ByteArray := prog_23_method_6_code
def yX6_isGrade : MethodName := ⟨RX6, "isGrade", "(I)Z"⟩
abbrev cX6_cost : ByteArray := prog_23_method_11_code
def yX6_cost : MethodName := ⟨RX6, "cost", "(IIII)I"⟩
abbrev cX6_isFirm : ByteArray := prog_23_method_9_code
def yX6_isFirm : MethodName := ⟨RX6, "isFirm", "(I)Z"⟩
abbrev cX6_isMonth : ByteArray := prog_23_method_5_code
def yX6_isMonth : MethodName := ⟨RX6, "isMonth", "(I)Z"⟩
abbrev cX6_costs : ByteArray := prog_23_method_13_code
def yX6_costs : MethodName := ⟨RX6, "costs", "(IIII)I"⟩
abbrev cX6_isDay : ByteArray := prog_23_method_4_code
def yX6_isDay : MethodName := ⟨RX6, "isDay", "(I)Z"⟩
abbrev cX6_costOf : ByteArray := prog_23_method_12_code
def yX6_costOf : MethodName := ⟨RX6, "costOf", "(IIII)I"⟩
abbrev cX6_sale : ByteArray := prog_23_method_14_code
def yX6_sale : MethodName := ⟨RX6, "sale", "(IZIIIIZ)I"⟩
abbrev cX6_strike : ByteArray := prog_23_method_16_code
def yX6_strike : MethodName := ⟨RX6, "strike", "(I)Z"⟩
abbrev cX6_isSale : ByteArray := prog_23_method_15_code
def yX6_isSale : MethodName := ⟨RX6, "isSale", "(I)Z"⟩
abbrev cX6_adjust : ByteArray := prog_23_method_17_code
def yX6_adjust : MethodName := ⟨RX6, "adjust", "(IIIZ)I"⟩
abbrev cX6_feed : ByteArray := prog_23_method_20_code
def yX6_feed : MethodName := ⟨RX6, "feed", "(IIIII)I"⟩
abbrev cX6_put : ByteArray := prog_23_method_21_code
def yX6_put : MethodName := ⟨RX6, "put", "(I)V"⟩
abbrev cX6_end : ByteArray := prog_23_method_22_code
def yX6_end : MethodName := ⟨RX6, "end", "(I)I"⟩
abbrev cX6_act : ByteArray := prog_23_method_49_code
def yX6_act : MethodName := ⟨RX6, "act", "(I)I"⟩
abbrev cX6_clause : ByteArray := prog_23_method_48_code
def yX6_clause : MethodName := ⟨RX6, "clause", "()V"⟩
abbrev cX6_begins : ByteArray := prog_23_method_46_code
def yX6_begins : MethodName := ⟨RX6, "begins", "()I"⟩
abbrev cX6_blanks : ByteArray := prog_23_method_24_code
def yX6_blanks : MethodName := ⟨RX6, "blanks", "()V"⟩
abbrev cX6_wordEnd : ByteArray := prog_23_method_27_code
def yX6_wordEnd : MethodName := ⟨RX6, "wordEnd", "()I"⟩
abbrev cX6_clauseOf : ByteArray := prog_23_method_30_code
def yX6_clauseOf : MethodName := ⟨RX6, "clauseOf", "(I)Ljava/lang/String;"⟩
abbrev cX6_is : ByteArray := prog_23_method_28_code
def yX6_is : MethodName := ⟨RX6, "is", "(Ljava/lang/String;I)Z"⟩
abbrev cX6_fails : ByteArray := prog_23_method_23_code
def yX6_fails : MethodName := ⟨RX6, "fails", "(II)V"⟩
abbrev cX6_sign : ByteArray := prog_23_method_25_code
def yX6_sign : MethodName := ⟨RX6, "sign", "()I"⟩
abbrev cX6_isDigit : ByteArray := prog_23_method_26_code
def yX6_isDigit : MethodName := ⟨RX6, "isDigit", "(I)Z"⟩
abbrev cX6_greatest : ByteArray := prog_23_method_31_code
def yX6_greatest : MethodName := ⟨RX6, "greatest", "(I)I"⟩
abbrev cX6_number : ByteArray := prog_23_method_32_code
def yX6_number : MethodName := ⟨RX6, "number", "(I)I"⟩
abbrev cX6_hasTest : ByteArray := prog_23_method_47_code
def yX6_hasTest : MethodName := ⟨RX6, "hasTest", "(I)Z"⟩
abbrev cX6_wantsFact : ByteArray := prog_23_method_42_code
def yX6_wantsFact : MethodName := ⟨RX6, "wantsFact", "()I"⟩
abbrev cX6_deeper : ByteArray := prog_23_method_37_code
def yX6_deeper : MethodName := ⟨RX6, "deeper", "(I)V"⟩
abbrev cX6_opens : ByteArray := prog_23_method_34_code
def yX6_opens : MethodName := ⟨RX6, "opens", "(I)V"⟩
abbrev cX6_value : ByteArray := prog_23_method_40_code
def yX6_value : MethodName := ⟨RX6, "value", "()Z"⟩
abbrev cX6_counts : ByteArray := prog_23_method_39_code
def yX6_counts : MethodName := ⟨RX6, "counts", "(I)V"⟩
abbrev cX6_emits : ByteArray := prog_23_method_33_code
def yX6_emits : MethodName := ⟨RX6, "emits", "(II)V"⟩
abbrev cX6_wordOf : ByteArray := prog_23_method_29_code
def yX6_wordOf : MethodName := ⟨RX6, "wordOf", "(I)Ljava/lang/String;"⟩
abbrev cX6_hasValue : ByteArray := prog_23_method_43_code
def yX6_hasValue : MethodName := ⟨RX6, "hasValue", "(Z)I"⟩
abbrev cX6_sums : ByteArray := prog_23_method_38_code
def yX6_sums : MethodName := ⟨RX6, "sums", "(Z)V"⟩
abbrev cX6_top : ByteArray := prog_23_method_35_code
def yX6_top : MethodName := ⟨RX6, "top", "()I"⟩
abbrev cX6_isSign : ByteArray := prog_23_method_36_code
def yX6_isSign : MethodName := ⟨RX6, "isSign", "(I)Z"⟩
abbrev cX6_compares : ByteArray := prog_23_method_41_code
def yX6_compares : MethodName := ⟨RX6, "compares", "()I"⟩
abbrev cX6_hasFact : ByteArray := prog_23_method_45_code
def yX6_hasFact : MethodName := ⟨RX6, "hasFact", "()I"⟩
abbrev cX6_ands : ByteArray := prog_23_method_44_code
def yX6_ands : MethodName := ⟨RX6, "ands", "(Z)V"⟩
abbrev cX6_force : ByteArray := prog_23_method_53_code
def yX6_force : MethodName := ⟨RX6, "force", "(II)I"⟩
abbrev cX6_inForce : ByteArray := prog_23_method_50_code
def yX6_inForce : MethodName := ⟨RX6, "inForce", "(I)I"⟩
abbrev cX6_numberIn : ByteArray := prog_23_method_52_code
def yX6_numberIn : MethodName := ⟨RX6, "numberIn", "(II)I"⟩
abbrev cX6_clauseIn : ByteArray := prog_23_method_51_code
def yX6_clauseIn : MethodName := ⟨RX6, "clauseIn", "(II)I"⟩
abbrev cX6_sales : ByteArray := prog_23_method_62_code
def yX6_sales : MethodName := ⟨RX6, "sales", "(III)I"⟩
abbrev cX6_isThere : ByteArray := prog_23_method_18_code
def yX6_isThere : MethodName := ⟨RX6, "isThere", "(II)Z"⟩
abbrev cX6_weigh : ByteArray := prog_23_method_61_code
def yX6_weigh : MethodName := ⟨RX6, "weigh", "(II)V"⟩
abbrev cX6_netOf : ByteArray := prog_23_method_60_code
def yX6_netOf : MethodName := ⟨RX6, "netOf", "(I)I"⟩
abbrev cX6_ofSale : ByteArray := prog_23_method_59_code
def yX6_ofSale : MethodName := ⟨RX6, "ofSale", "(I)V"⟩
abbrev cX6_clears : ByteArray := prog_23_method_58_code
def yX6_clears : MethodName := ⟨RX6, "clears", "()V"⟩
abbrev cX6_monthOf : ByteArray := prog_23_method_19_code
def yX6_monthOf : MethodName := ⟨RX6, "monthOf", "(I)I"⟩
abbrev cX6_truth : ByteArray := prog_23_method_54_code
def yX6_truth : MethodName := ⟨RX6, "truth", "(Z)J"⟩
abbrev cX6_some : ByteArray := prog_23_method_57_code
def yX6_some : MethodName := ⟨RX6, "some", "(III)Z"⟩
abbrev cX6_worked : ByteArray := prog_23_method_55_code
def yX6_worked : MethodName := ⟨RX6, "worked", "(I)J"⟩
abbrev cX6_joined : ByteArray := prog_23_method_56_code
def yX6_joined : MethodName := ⟨RX6, "joined", "(IJJ)J"⟩
abbrev cX6_worth : ByteArray := prog_23_method_64_code
def yX6_worth : MethodName := ⟨RX6, "worth", "(IIII)I"⟩
abbrev cX6_worthOf : ByteArray := prog_23_method_63_code
def yX6_worthOf : MethodName := ⟨RX6, "worthOf", "(II)I"⟩
abbrev cX6_by : ByteArray := prog_23_method_65_code
def yX6_by : MethodName := ⟨RX6, "by", "(I)I"⟩
abbrev cX6_margin : ByteArray := prog_23_method_69_code
def yX6_margin : MethodName := ⟨RX6, "margin", "(IIIIII)J"⟩
abbrev cX6_isSpan : ByteArray := prog_23_method_68_code
def yX6_isSpan : MethodName := ⟨RX6, "isSpan", "(III)Z"⟩
abbrev cX6_margins : ByteArray := prog_23_method_67_code
def yX6_margins : MethodName := ⟨RX6, "margins", "(III)V"⟩
abbrev cX6_counts_2 : ByteArray := prog_23_method_66_code
def yX6_counts_2 : MethodName := ⟨RX6, "counts", "(III)Z"⟩
abbrev cX6_without : ByteArray := prog_23_method_70_code
def yX6_without : MethodName := ⟨RX6, "without", "(IIII)I"⟩
abbrev cX6_match : ByteArray := prog_23_method_74_code
def yX6_match : MethodName := ⟨RX6, "match", "(IIIZI)I"⟩
abbrev cX6_pairs : ByteArray := prog_23_method_73_code
def yX6_pairs : MethodName := ⟨RX6, "pairs", "(IIZ)J"⟩
abbrev cX6_apart : ByteArray := prog_23_method_71_code
def yX6_apart : MethodName := ⟨RX6, "apart", "(II)I"⟩
abbrev cX6_gains : ByteArray := prog_23_method_72_code
def yX6_gains : MethodName := ⟨RX6, "gains", "(II)J"⟩
abbrev cX6_matched : ByteArray := prog_23_method_75_code
def yX6_matched : MethodName := ⟨RX6, "matched", "(II)I"⟩
abbrev cX6_matches : ByteArray := prog_23_method_76_code
def yX6_matches : MethodName := ⟨RX6, "matches", "(I)J"⟩
abbrev cX6_figure : ByteArray := prog_23_method_77_code
def yX6_figure : MethodName := ⟨RX6, "figure", "(IZIIII)I"⟩
abbrev cX6_lacks : ByteArray := prog_23_method_80_code
def yX6_lacks : MethodName := ⟨RX6, "lacks", "(II)I"⟩
abbrev cX6_lacksOf : ByteArray := prog_23_method_79_code
def yX6_lacksOf : MethodName := ⟨RX6, "lacksOf", "(II)I"⟩
abbrev cX6_tonsIn : ByteArray := prog_23_method_78_code
def yX6_tonsIn : MethodName := ⟨RX6, "tonsIn", "(II)I"⟩
abbrev cX6_explain : ByteArray := prog_23_method_83_code
def yX6_explain : MethodName := ⟨RX6, "explain", "(II)I"⟩
abbrev cX6_keeps : ByteArray := prog_23_method_82_code
def yX6_keeps : MethodName := ⟨RX6, "keeps", "(IIII)I"⟩
abbrev cX6_explains : ByteArray := prog_23_method_81_code
def yX6_explains : MethodName := ⟨RX6, "explains", "(IIII)Z"⟩
abbrev cX6_explained : ByteArray := prog_23_method_84_code
def yX6_explained : MethodName := ⟨RX6, "explained", "(I)I"⟩
abbrev cX6_flow : ByteArray := prog_23_method_86_code
def yX6_flow : MethodName := ⟨RX6, "flow", "(III)I"⟩
abbrev cX6_isLand : ByteArray := prog_23_method_85_code
def yX6_isLand : MethodName := ⟨RX6, "isLand", "(I)Z"⟩
abbrev cX6_own : ByteArray := prog_23_method_87_code
def yX6_own : MethodName := ⟨RX6, "own", "(II)I"⟩
abbrev cX6_taint : ByteArray := prog_23_method_88_code
def yX6_taint : MethodName := ⟨RX6, "taint", "(II)I"⟩
abbrev cX6_way : ByteArray := prog_23_method_89_code
def yX6_way : MethodName := ⟨RX6, "way", "(II)I"⟩
abbrev cX6_lesser : ByteArray := prog_23_method_90_code
def yX6_lesser : MethodName := ⟨RX6, "lesser", "(II)I"⟩
abbrev cX6_ways : ByteArray := prog_23_method_91_code
def yX6_ways : MethodName := ⟨RX6, "ways", "(I)I"⟩
abbrev cX6_promise : ByteArray := prog_23_method_92_code
def yX6_promise : MethodName := ⟨RX6, "promise", "(IIII)I"⟩
abbrev cX6_broken : ByteArray := prog_23_method_94_code
def yX6_broken : MethodName := ⟨RX6, "broken", "(III)I"⟩
abbrev cX6_breaks : ByteArray := prog_23_method_93_code
def yX6_breaks : MethodName := ⟨RX6, "breaks", "(I)Z"⟩
abbrev cX6_against : ByteArray := prog_23_method_97_code
def yX6_against : MethodName := ⟨RX6, "against", "(II)I"⟩
abbrev cX6_isAgainst : ByteArray := prog_23_method_96_code
def yX6_isAgainst : MethodName := ⟨RX6, "isAgainst", "(II)Z"⟩
abbrev cX6_ofFirm : ByteArray := prog_23_method_95_code
def yX6_ofFirm : MethodName := ⟨RX6, "ofFirm", "(II)V"⟩
abbrev cX6_decide : ByteArray := prog_23_method_99_code
def yX6_decide : MethodName := ⟨RX6, "decide", "(IIII)I"⟩
abbrev cX6_downwards : ByteArray := prog_23_method_98_code
def yX6_downwards : MethodName := ⟨RX6, "downwards", "(JJ)J"⟩
abbrev cX6_rate : ByteArray := prog_23_method_102_code
def yX6_rate : MethodName := ⟨RX6, "rate", "(III)I"⟩
abbrev cX6_rateOf : ByteArray := prog_23_method_101_code
def yX6_rateOf : MethodName := ⟨RX6, "rateOf", "(III)I"⟩
abbrev cX6_holds : ByteArray := prog_23_method_100_code
def yX6_holds : MethodName := ⟨RX6, "holds", "(III)I"⟩
abbrev cX6_entry : ByteArray := prog_23_method_104_code
def yX6_entry : MethodName := ⟨RX6, "entry", "(III)I"⟩
abbrev cX6_upwards : ByteArray := prog_23_method_103_code
def yX6_upwards : MethodName := ⟨RX6, "upwards", "(II)I"⟩
abbrev cX6_settle : ByteArray := prog_23_method_105_code
def yX6_settle : MethodName := ⟨RX6, "settle", "(I)I"⟩
abbrev cX6_entries : ByteArray := prog_23_method_106_code
def yX6_entries : MethodName := ⟨RX6, "entries", "(II)I"⟩
abbrev cX6_count : ByteArray := prog_23_method_107_code
def yX6_count : MethodName := ⟨RX6, "count", "(I)J"⟩
theorem q115 : (Jvm.Cond.initialized "BelowWorthModel") ∈ lw_all := lw_g (lw_at lw_m1 10 rfl) rfl
theorem q1493 : (Jvm.Cond.instantiable "BelowWorthModel" (107 : Nat)) ∈ lw_all := lw_g (lw_at lw_m6 188 rfl) rfl
theorem q1495 : (Jvm.Cond.instanceMethod ({ cls := "BelowWorthModel", name := "<init>", desc := "()V" } : Jvm.MethodName)) ∈ lw_all := lw_g (lw_at lw_m6 190 rfl) rfl
theorem q1496 : (Jvm.Cond.code ({ cls := "BelowWorthModel", name := "<init>", desc := "()V" } : Jvm.MethodName) prog_23_method_1_code (3 : Nat) (Option.none : Option Jvm.ClassFile.FieldType)) ∈ lw_all := lw_g (lw_at lw_m6 191 rfl) rfl
theorem q1497 : (Jvm.Cond.methodLink "BelowWorthModel" (1 : Nat) ({ cls := "java/lang/Object", name := "<init>", desc := "()V" } : Jvm.MethodName)) ∈ lw_all := lw_g (lw_at lw_m6 192 rfl) rfl
theorem q1498 : (Jvm.Cond.fieldLink "BelowWorthModel" (264 : Nat) "BelowWorthModel" "now" "I") ∈ lw_all := lw_g (lw_at lw_m6 193 rfl) rfl
theorem q1499 : (Jvm.Cond.fieldLink "BelowWorthModel" (267 : Nat) "BelowWorthModel" "firms" "I") ∈ lw_all := lw_g (lw_at lw_m6 194 rfl) rfl
theorem q1500 : (Jvm.Cond.fieldLink "BelowWorthModel" (274 : Nat) "BelowWorthModel" "costs" "I") ∈ lw_all := lw_g (lw_at lw_m6 195 rfl) rfl
theorem q1501 : (Jvm.Cond.fieldLink "BelowWorthModel" (9 : Nat) "BelowWorthModel" "land" "[I") ∈ lw_all := lw_g (lw_at lw_m6 196 rfl) rfl
theorem q1502 : (Jvm.Cond.fieldLink "BelowWorthModel" (13 : Nat) "BelowWorthModel" "far" "[I") ∈ lw_all := lw_g (lw_at lw_m6 197 rfl) rfl
theorem q1503 : (Jvm.Cond.fieldLink "BelowWorthModel" (16 : Nat) "BelowWorthModel" "cFirm" "[I") ∈ lw_all := lw_g (lw_at lw_m6 198 rfl) rfl
theorem q1504 : (Jvm.Cond.fieldLink "BelowWorthModel" (19 : Nat) "BelowWorthModel" "cGrade" "[I") ∈ lw_all := lw_g (lw_at lw_m6 199 rfl) rfl
theorem q1505 : (Jvm.Cond.fieldLink "BelowWorthModel" (22 : Nat) "BelowWorthModel" "cMonth" "[I") ∈ lw_all := lw_g (lw_at lw_m6 200 rfl) rfl
theorem q1506 : (Jvm.Cond.fieldLink "BelowWorthModel" (25 : Nat) "BelowWorthModel" "cCoins" "[I") ∈ lw_all := lw_g (lw_at lw_m6 201 rfl) rfl
theorem q1507 : (Jvm.Cond.fieldLink "BelowWorthModel" (28 : Nat) "BelowWorthModel" "cKnown" "[I") ∈ lw_all := lw_g (lw_at lw_m6 202 rfl) rfl
theorem q1508 : (Jvm.Cond.fieldLink "BelowWorthModel" (290 : Nat) "BelowWorthModel" "sales" "I") ∈ lw_all := lw_g (lw_at lw_m6 203 rfl) rfl
theorem q1509 : (Jvm.Cond.fieldLink "BelowWorthModel" (297 : Nat) "BelowWorthModel" "adjusts" "I") ∈ lw_all := lw_g (lw_at lw_m6 204 rfl) rfl
theorem q1510 : (Jvm.Cond.fieldLink "BelowWorthModel" (31 : Nat) "BelowWorthModel" "sFirm" "[I") ∈ lw_all := lw_g (lw_at lw_m6 205 rfl) rfl
theorem q1511 : (Jvm.Cond.fieldLink "BelowWorthModel" (34 : Nat) "BelowWorthModel" "sGrade" "[I") ∈ lw_all := lw_g (lw_at lw_m6 206 rfl) rfl
theorem q1512 : (Jvm.Cond.fieldLink "BelowWorthModel" (37 : Nat) "BelowWorthModel" "sDay" "[I") ∈ lw_all := lw_g (lw_at lw_m6 207 rfl) rfl
theorem q1513 : (Jvm.Cond.fieldLink "BelowWorthModel" (40 : Nat) "BelowWorthModel" "sTons" "[I") ∈ lw_all := lw_g (lw_at lw_m6 208 rfl) rfl
theorem q1514 : (Jvm.Cond.fieldLink "BelowWorthModel" (43 : Nat) "BelowWorthModel" "sPrice" "[I") ∈ lw_all := lw_g (lw_at lw_m6 209 rfl) rfl
theorem q1515 : (Jvm.Cond.fieldLink "BelowWorthModel" (46 : Nat) "BelowWorthModel" "sKnown" "[I") ∈ lw_all := lw_g (lw_at lw_m6 210 rfl) rfl
theorem q1516 : (Jvm.Cond.fieldLink "BelowWorthModel" (49 : Nat) "BelowWorthModel" "sStruck" "[I") ∈ lw_all := lw_g (lw_at lw_m6 211 rfl) rfl
theorem q1517 : (Jvm.Cond.fieldLink "BelowWorthModel" (52 : Nat) "BelowWorthModel" "isHere" "[Z") ∈ lw_all := lw_g (lw_at lw_m6 212 rfl) rfl
theorem q1518 : (Jvm.Cond.fieldLink "BelowWorthModel" (56 : Nat) "BelowWorthModel" "isRelated" "[Z") ∈ lw_all := lw_g (lw_at lw_m6 213 rfl) rfl
theorem q1519 : (Jvm.Cond.fieldLink "BelowWorthModel" (59 : Nat) "BelowWorthModel" "aSale" "[I") ∈ lw_all := lw_g (lw_at lw_m6 214 rfl) rfl
theorem q1520 : (Jvm.Cond.fieldLink "BelowWorthModel" (62 : Nat) "BelowWorthModel" "aKind" "[I") ∈ lw_all := lw_g (lw_at lw_m6 215 rfl) rfl
theorem q1521 : (Jvm.Cond.fieldLink "BelowWorthModel" (65 : Nat) "BelowWorthModel" "aCoins" "[I") ∈ lw_all := lw_g (lw_at lw_m6 216 rfl) rfl
theorem q1522 : (Jvm.Cond.fieldLink "BelowWorthModel" (68 : Nat) "BelowWorthModel" "aKnown" "[I") ∈ lw_all := lw_g (lw_at lw_m6 217 rfl) rfl
theorem q1523 : (Jvm.Cond.fieldLink "BelowWorthModel" (71 : Nat) "BelowWorthModel" "isProved" "[Z") ∈ lw_all := lw_g (lw_at lw_m6 218 rfl) rfl
theorem q1524 : (Jvm.Cond.fieldLink "BelowWorthModel" (74 : Nat) "BelowWorthModel" "tape" "[B") ∈ lw_all := lw_g (lw_at lw_m6 219 rfl) rfl
theorem q1525 : (Jvm.Cond.fieldLink "BelowWorthModel" (300 : Nat) "BelowWorthModel" "taped" "I") ∈ lw_all := lw_g (lw_at lw_m6 220 rfl) rfl
theorem q1526 : (Jvm.Cond.fieldLink "BelowWorthModel" (310 : Nat) "BelowWorthModel" "p" "I") ∈ lw_all := lw_g (lw_at lw_m6 221 rfl) rfl
theorem q1527 : (Jvm.Cond.fieldLink "BelowWorthModel" (313 : Nat) "BelowWorthModel" "from" "I") ∈ lw_all := lw_g (lw_at lw_m6 222 rfl) rfl
theorem q1528 : (Jvm.Cond.fieldLink "BelowWorthModel" (307 : Nat) "BelowWorthModel" "fault" "I") ∈ lw_all := lw_g (lw_at lw_m6 223 rfl) rfl
theorem q1529 : (Jvm.Cond.fieldLink "BelowWorthModel" (384 : Nat) "BelowWorthModel" "deep" "I") ∈ lw_all := lw_g (lw_at lw_m6 224 rfl) rfl
theorem q1530 : (Jvm.Cond.fieldLink "BelowWorthModel" (393 : Nat) "BelowWorthModel" "counted" "I") ∈ lw_all := lw_g (lw_at lw_m6 225 rfl) rfl
theorem q1531 : (Jvm.Cond.fieldLink "BelowWorthModel" (449 : Nat) "BelowWorthModel" "toldOf" "I") ∈ lw_all := lw_g (lw_at lw_m6 226 rfl) rfl
theorem q1532 : (Jvm.Cond.fieldLink "BelowWorthModel" (375 : Nat) "BelowWorthModel" "acts" "I") ∈ lw_all := lw_g (lw_at lw_m6 227 rfl) rfl
theorem q1533 : (Jvm.Cond.fieldLink "BelowWorthModel" (78 : Nat) "BelowWorthModel" "binds" "[I") ∈ lw_all := lw_g (lw_at lw_m6 228 rfl) rfl
theorem q1534 : (Jvm.Cond.fieldLink "BelowWorthModel" (81 : Nat) "BelowWorthModel" "clauses" "[I") ∈ lw_all := lw_g (lw_at lw_m6 229 rfl) rfl
theorem q1535 : (Jvm.Cond.fieldLink "BelowWorthModel" (84 : Nat) "BelowWorthModel" "kind" "[I") ∈ lw_all := lw_g (lw_at lw_m6 230 rfl) rfl
theorem q1536 : (Jvm.Cond.fieldLink "BelowWorthModel" (87 : Nat) "BelowWorthModel" "worth" "[I") ∈ lw_all := lw_g (lw_at lw_m6 231 rfl) rfl
theorem q1537 : (Jvm.Cond.fieldLink "BelowWorthModel" (90 : Nat) "BelowWorthModel" "first" "[I") ∈ lw_all := lw_g (lw_at lw_m6 232 rfl) rfl
theorem q1538 : (Jvm.Cond.fieldLink "BelowWorthModel" (93 : Nat) "BelowWorthModel" "last" "[I") ∈ lw_all := lw_g (lw_at lw_m6 233 rfl) rfl
theorem q1539 : (Jvm.Cond.fieldLink "BelowWorthModel" (96 : Nat) "BelowWorthModel" "op" "[I") ∈ lw_all := lw_g (lw_at lw_m6 234 rfl) rfl
theorem q1540 : (Jvm.Cond.fieldLink "BelowWorthModel" (99 : Nat) "BelowWorthModel" "what0" "[I") ∈ lw_all := lw_g (lw_at lw_m6 235 rfl) rfl
theorem q1541 : (Jvm.Cond.fieldLink "BelowWorthModel" (378 : Nat) "BelowWorthModel" "steps" "I") ∈ lw_all := lw_g (lw_at lw_m6 236 rfl) rfl
theorem q1542 : (Jvm.Cond.fieldLink "BelowWorthModel" (381 : Nat) "BelowWorthModel" "open" "I") ∈ lw_all := lw_g (lw_at lw_m6 237 rfl) rfl
theorem q1543 : (Jvm.Cond.fieldLink "BelowWorthModel" (102 : Nat) "BelowWorthModel" "kindAt" "[I") ∈ lw_all := lw_g (lw_at lw_m6 238 rfl) rfl
theorem q1544 : (Jvm.Cond.fieldLink "BelowWorthModel" (105 : Nat) "BelowWorthModel" "pile" "[J") ∈ lw_all := lw_g (lw_at lw_m6 239 rfl) rfl
theorem q1545 : (Jvm.Cond.fieldLink "BelowWorthModel" (109 : Nat) "BelowWorthModel" "fact" "[J") ∈ lw_all := lw_g (lw_at lw_m7 0 rfl) rfl
theorem q1546 : (Jvm.Cond.fieldLink "BelowWorthModel" (520 : Nat) "BelowWorthModel" "firmAt" "I") ∈ lw_all := lw_g (lw_at lw_m7 1 rfl) rfl
theorem q1547 : (Jvm.Cond.fieldLink "BelowWorthModel" (508 : Nat) "BelowWorthModel" "knownAt" "I") ∈ lw_all := lw_g (lw_at lw_m7 2 rfl) rfl
theorem q1548 : (Jvm.Cond.fieldLink "BelowWorthModel" (514 : Nat) "BelowWorthModel" "actAt" "I") ∈ lw_all := lw_g (lw_at lw_m7 3 rfl) rfl
theorem q1549 : (Jvm.Cond.fieldLink "BelowWorthModel" (112 : Nat) "BelowWorthModel" "lastOf" "[I") ∈ lw_all := lw_g (lw_at lw_m7 4 rfl) rfl
theorem q1550 : (Jvm.Cond.fieldLink "BelowWorthModel" (115 : Nat) "BelowWorthModel" "net" "[I") ∈ lw_all := lw_g (lw_at lw_m7 5 rfl) rfl
theorem q1551 : (Jvm.Cond.fieldLink "BelowWorthModel" (118 : Nat) "BelowWorthModel" "there" "[Z") ∈ lw_all := lw_g (lw_at lw_m7 6 rfl) rfl
theorem q1552 : (Jvm.Cond.fieldLink "BelowWorthModel" (121 : Nat) "BelowWorthModel" "dropped" "[Z") ∈ lw_all := lw_g (lw_at lw_m7 7 rfl) rfl
theorem q1553 : (Jvm.Cond.fieldLink "BelowWorthModel" (124 : Nat) "BelowWorthModel" "homeNet" "[J") ∈ lw_all := lw_g (lw_at lw_m7 8 rfl) rfl
theorem q1554 : (Jvm.Cond.fieldLink "BelowWorthModel" (127 : Nat) "BelowWorthModel" "homeTons" "[J") ∈ lw_all := lw_g (lw_at lw_m7 9 rfl) rfl
theorem q1555 : (Jvm.Cond.fieldLink "BelowWorthModel" (130 : Nat) "BelowWorthModel" "byGrade" "I") ∈ lw_all := lw_g (lw_at lw_m7 10 rfl) rfl
theorem q1556 : (Jvm.Cond.fieldLink "BelowWorthModel" (134 : Nat) "BelowWorthModel" "byMonth" "I") ∈ lw_all := lw_g (lw_at lw_m7 11 rfl) rfl
theorem q1557 : (Jvm.Cond.fieldLink "BelowWorthModel" (137 : Nat) "BelowWorthModel" "toldGrade" "I") ∈ lw_all := lw_g (lw_at lw_m7 12 rfl) rfl
theorem q1558 : (Jvm.Cond.fieldLink "BelowWorthModel" (140 : Nat) "BelowWorthModel" "toldMonth" "I") ∈ lw_all := lw_g (lw_at lw_m7 13 rfl) rfl
theorem q1559 : (Jvm.Cond.fieldLink "BelowWorthModel" (540 : Nat) "BelowWorthModel" "up" "J") ∈ lw_all := lw_g (lw_at lw_m7 14 rfl) rfl
theorem q1560 : (Jvm.Cond.fieldLink "BelowWorthModel" (544 : Nat) "BelowWorthModel" "down" "J") ∈ lw_all := lw_g (lw_at lw_m7 15 rfl) rfl
theorem q1561 : (Jvm.Cond.fieldLink "BelowWorthModel" (143 : Nat) "BelowWorthModel" "group" "[J") ∈ lw_all := lw_g (lw_at lw_m7 16 rfl) rfl
theorem q1562 : (Jvm.Cond.fieldLink "BelowWorthModel" (146 : Nat) "BelowWorthModel" "matchedMany" "I") ∈ lw_all := lw_g (lw_at lw_m7 17 rfl) rfl
theorem q1563 : (Jvm.Cond.fieldLink "BelowWorthModel" (149 : Nat) "BelowWorthModel" "mHere" "[I") ∈ lw_all := lw_g (lw_at lw_m7 18 rfl) rfl
theorem q1564 : (Jvm.Cond.fieldLink "BelowWorthModel" (152 : Nat) "BelowWorthModel" "mHome" "[I") ∈ lw_all := lw_g (lw_at lw_m7 19 rfl) rfl
theorem q1565 : (Jvm.Cond.fieldLink "BelowWorthModel" (155 : Nat) "BelowWorthModel" "pair" "[I") ∈ lw_all := lw_g (lw_at lw_m7 20 rfl) rfl
theorem q1566 : (Jvm.Cond.fieldLink "BelowWorthModel" (158 : Nat) "BelowWorthModel" "keptHere" "[I") ∈ lw_all := lw_g (lw_at lw_m7 21 rfl) rfl
theorem q1567 : (Jvm.Cond.fieldLink "BelowWorthModel" (161 : Nat) "BelowWorthModel" "keptPair" "[I") ∈ lw_all := lw_g (lw_at lw_m7 22 rfl) rfl
theorem q1568 : (Jvm.Cond.fieldLink "BelowWorthModel" (164 : Nat) "BelowWorthModel" "best" "[J") ∈ lw_all := lw_g (lw_at lw_m7 23 rfl) rfl
theorem q1569 : (Jvm.Cond.fieldLink "BelowWorthModel" (167 : Nat) "BelowWorthModel" "matchSum" "[J") ∈ lw_all := lw_g (lw_at lw_m7 24 rfl) rfl
theorem q1570 : (Jvm.Cond.fieldLink "BelowWorthModel" (170 : Nat) "BelowWorthModel" "figures" "[I") ∈ lw_all := lw_g (lw_at lw_m7 25 rfl) rfl
theorem q1571 : (Jvm.Cond.fieldLink "BelowWorthModel" (173 : Nat) "BelowWorthModel" "gSet" "[I") ∈ lw_all := lw_g (lw_at lw_m7 26 rfl) rfl
theorem q1572 : (Jvm.Cond.fieldLink "BelowWorthModel" (176 : Nat) "BelowWorthModel" "gFrom" "[I") ∈ lw_all := lw_g (lw_at lw_m7 27 rfl) rfl
theorem q1573 : (Jvm.Cond.fieldLink "BelowWorthModel" (179 : Nat) "BelowWorthModel" "gTo" "[I") ∈ lw_all := lw_g (lw_at lw_m7 28 rfl) rfl
theorem q1574 : (Jvm.Cond.fieldLink "BelowWorthModel" (182 : Nat) "BelowWorthModel" "gTons" "[I") ∈ lw_all := lw_g (lw_at lw_m7 29 rfl) rfl
theorem q1575 : (Jvm.Cond.fieldLink "BelowWorthModel" (185 : Nat) "BelowWorthModel" "lack" "[I") ∈ lw_all := lw_g (lw_at lw_m7 30 rfl) rfl
theorem q1576 : (Jvm.Cond.fieldLink "BelowWorthModel" (188 : Nat) "BelowWorthModel" "ofFirst" "[I") ∈ lw_all := lw_g (lw_at lw_m7 31 rfl) rfl
theorem q1577 : (Jvm.Cond.fieldLink "BelowWorthModel" (191 : Nat) "BelowWorthModel" "left" "[I") ∈ lw_all := lw_g (lw_at lw_m7 32 rfl) rfl
theorem q1578 : (Jvm.Cond.fieldLink "BelowWorthModel" (194 : Nat) "BelowWorthModel" "gHere" "[Z") ∈ lw_all := lw_g (lw_at lw_m7 33 rfl) rfl
theorem q1579 : (Jvm.Cond.fieldLink "BelowWorthModel" (197 : Nat) "BelowWorthModel" "leftMany" "I") ∈ lw_all := lw_g (lw_at lw_m7 34 rfl) rfl
theorem q1580 : (Jvm.Cond.fieldLink "BelowWorthModel" (587 : Nat) "BelowWorthModel" "flows" "I") ∈ lw_all := lw_g (lw_at lw_m7 35 rfl) rfl
theorem q1581 : (Jvm.Cond.fieldLink "BelowWorthModel" (593 : Nat) "BelowWorthModel" "wayLong" "I") ∈ lw_all := lw_g (lw_at lw_m7 36 rfl) rfl
theorem q1582 : (Jvm.Cond.fieldLink "BelowWorthModel" (200 : Nat) "BelowWorthModel" "flow" "[I") ∈ lw_all := lw_g (lw_at lw_m7 37 rfl) rfl
theorem q1583 : (Jvm.Cond.fieldLink "BelowWorthModel" (203 : Nat) "BelowWorthModel" "own" "[I") ∈ lw_all := lw_g (lw_at lw_m7 38 rfl) rfl
theorem q1584 : (Jvm.Cond.fieldLink "BelowWorthModel" (206 : Nat) "BelowWorthModel" "way" "[I") ∈ lw_all := lw_g (lw_at lw_m7 39 rfl) rfl
theorem q1585 : (Jvm.Cond.fieldLink "BelowWorthModel" (209 : Nat) "BelowWorthModel" "taints" "[I") ∈ lw_all := lw_g (lw_at lw_m7 40 rfl) rfl
theorem q1586 : (Jvm.Cond.fieldLink "BelowWorthModel" (212 : Nat) "BelowWorthModel" "nextTaints" "[I") ∈ lw_all := lw_g (lw_at lw_m7 41 rfl) rfl
theorem q1587 : (Jvm.Cond.fieldLink "BelowWorthModel" (599 : Nat) "BelowWorthModel" "promises" "I") ∈ lw_all := lw_g (lw_at lw_m7 42 rfl) rfl
theorem q1588 : (Jvm.Cond.fieldLink "BelowWorthModel" (215 : Nat) "BelowWorthModel" "pFirm" "[I") ∈ lw_all := lw_g (lw_at lw_m7 43 rfl) rfl
theorem q1589 : (Jvm.Cond.fieldLink "BelowWorthModel" (218 : Nat) "BelowWorthModel" "pGrade" "[I") ∈ lw_all := lw_g (lw_at lw_m7 44 rfl) rfl
theorem q1590 : (Jvm.Cond.fieldLink "BelowWorthModel" (221 : Nat) "BelowWorthModel" "pDay" "[I") ∈ lw_all := lw_g (lw_at lw_m7 45 rfl) rfl
theorem q1591 : (Jvm.Cond.fieldLink "BelowWorthModel" (224 : Nat) "BelowWorthModel" "pPrice" "[I") ∈ lw_all := lw_g (lw_at lw_m7 46 rfl) rfl
theorem q1592 : (Jvm.Cond.fieldLink "BelowWorthModel" (611 : Nat) "BelowWorthModel" "rates" "I") ∈ lw_all := lw_g (lw_at lw_m7 47 rfl) rfl
theorem q1593 : (Jvm.Cond.fieldLink "BelowWorthModel" (631 : Nat) "BelowWorthModel" "entries" "I") ∈ lw_all := lw_g (lw_at lw_m7 48 rfl) rfl
theorem q1594 : (Jvm.Cond.fieldLink "BelowWorthModel" (227 : Nat) "BelowWorthModel" "rFirm" "[I") ∈ lw_all := lw_g (lw_at lw_m7 49 rfl) rfl
theorem q1595 : (Jvm.Cond.fieldLink "BelowWorthModel" (230 : Nat) "BelowWorthModel" "rDay" "[I") ∈ lw_all := lw_g (lw_at lw_m7 50 rfl) rfl
theorem q1596 : (Jvm.Cond.fieldLink "BelowWorthModel" (233 : Nat) "BelowWorthModel" "rate" "[I") ∈ lw_all := lw_g (lw_at lw_m7 51 rfl) rfl
theorem q1597 : (Jvm.Cond.fieldLink "BelowWorthModel" (236 : Nat) "BelowWorthModel" "eFirm" "[I") ∈ lw_all := lw_g (lw_at lw_m7 52 rfl) rfl
theorem q1598 : (Jvm.Cond.fieldLink "BelowWorthModel" (239 : Nat) "BelowWorthModel" "eDay" "[I") ∈ lw_all := lw_g (lw_at lw_m7 53 rfl) rfl
theorem q1599 : (Jvm.Cond.fieldLink "BelowWorthModel" (242 : Nat) "BelowWorthModel" "eCoins" "[I") ∈ lw_all := lw_g (lw_at lw_m7 54 rfl) rfl
theorem q1600 : (Jvm.Cond.fieldLink "BelowWorthModel" (245 : Nat) "BelowWorthModel" "ePaid" "[I") ∈ lw_all := lw_g (lw_at lw_m7 55 rfl) rfl
theorem q1601 : (Jvm.Cond.fieldLink "BelowWorthModel" (248 : Nat) "BelowWorthModel" "weight" "[J") ∈ lw_all := lw_g (lw_at lw_m7 56 rfl) rfl
theorem q1602 : (Jvm.Cond.fieldLink "BelowWorthModel" (251 : Nat) "BelowWorthModel" "byFacts" "[Z") ∈ lw_all := lw_g (lw_at lw_m7 57 rfl) rfl
theorem q1603 : (Jvm.Cond.fieldLink "BelowWorthModel" (254 : Nat) "BelowWorthModel" "isSettled" "[Z") ∈ lw_all := lw_g (lw_at lw_m7 58 rfl) rfl
theorem q1604 : (Jvm.Cond.lays "BelowWorthModel" "BelowWorthModel" "thrown" "I") ∈ lw_all := lw_g (lw_at lw_m7 59 rfl) rfl
theorem q1605 : (Jvm.Cond.soleField "BelowWorthModel" "thrown") ∈ lw_all := lw_g (lw_at lw_m7 60 rfl) rfl
theorem q1606 : (Jvm.Cond.lays "BelowWorthModel" "BelowWorthModel" "now" "I") ∈ lw_all := lw_g (lw_at lw_m7 61 rfl) rfl
theorem q1607 : (Jvm.Cond.soleField "BelowWorthModel" "now") ∈ lw_all := lw_g (lw_at lw_m7 62 rfl) rfl
theorem q1608 : (Jvm.Cond.lays "BelowWorthModel" "BelowWorthModel" "firms" "I") ∈ lw_all := lw_g (lw_at lw_m7 63 rfl) rfl
theorem q1609 : (Jvm.Cond.soleField "BelowWorthModel" "firms") ∈ lw_all := lw_g (lw_at lw_m7 64 rfl) rfl
theorem q1610 : (Jvm.Cond.lays "BelowWorthModel" "BelowWorthModel" "costs" "I") ∈ lw_all := lw_g (lw_at lw_m7 65 rfl) rfl
theorem q1611 : (Jvm.Cond.soleField "BelowWorthModel" "costs") ∈ lw_all := lw_g (lw_at lw_m7 66 rfl) rfl
theorem q1612 : (Jvm.Cond.laysFinal "BelowWorthModel" "BelowWorthModel" "land" "[I") ∈ lw_all := lw_g (lw_at lw_m7 67 rfl) rfl
theorem q1613 : (Jvm.Cond.soleField "BelowWorthModel" "land") ∈ lw_all := lw_g (lw_at lw_m7 68 rfl) rfl
theorem q1614 : (Jvm.Cond.laysFinal "BelowWorthModel" "BelowWorthModel" "far" "[I") ∈ lw_all := lw_g (lw_at lw_m7 69 rfl) rfl
theorem q1615 : (Jvm.Cond.soleField "BelowWorthModel" "far") ∈ lw_all := lw_g (lw_at lw_m7 70 rfl) rfl
theorem q1616 : (Jvm.Cond.laysFinal "BelowWorthModel" "BelowWorthModel" "cFirm" "[I") ∈ lw_all := lw_g (lw_at lw_m7 71 rfl) rfl
theorem q1617 : (Jvm.Cond.soleField "BelowWorthModel" "cFirm") ∈ lw_all := lw_g (lw_at lw_m7 72 rfl) rfl
theorem q1618 : (Jvm.Cond.laysFinal "BelowWorthModel" "BelowWorthModel" "cGrade" "[I") ∈ lw_all := lw_g (lw_at lw_m7 73 rfl) rfl
theorem q1619 : (Jvm.Cond.soleField "BelowWorthModel" "cGrade") ∈ lw_all := lw_g (lw_at lw_m7 74 rfl) rfl
theorem q1620 : (Jvm.Cond.laysFinal "BelowWorthModel" "BelowWorthModel" "cMonth" "[I") ∈ lw_all := lw_g (lw_at lw_m7 75 rfl) rfl
theorem q1621 : (Jvm.Cond.soleField "BelowWorthModel" "cMonth") ∈ lw_all := lw_g (lw_at lw_m7 76 rfl) rfl
theorem q1622 : (Jvm.Cond.laysFinal "BelowWorthModel" "BelowWorthModel" "cCoins" "[I") ∈ lw_all := lw_g (lw_at lw_m7 77 rfl) rfl
theorem q1623 : (Jvm.Cond.soleField "BelowWorthModel" "cCoins") ∈ lw_all := lw_g (lw_at lw_m7 78 rfl) rfl
theorem q1624 : (Jvm.Cond.laysFinal "BelowWorthModel" "BelowWorthModel" "cKnown" "[I") ∈ lw_all := lw_g (lw_at lw_m7 79 rfl) rfl
theorem q1625 : (Jvm.Cond.soleField "BelowWorthModel" "cKnown") ∈ lw_all := lw_g (lw_at lw_m7 80 rfl) rfl
theorem q1626 : (Jvm.Cond.lays "BelowWorthModel" "BelowWorthModel" "sales" "I") ∈ lw_all := lw_g (lw_at lw_m7 81 rfl) rfl
theorem q1627 : (Jvm.Cond.soleField "BelowWorthModel" "sales") ∈ lw_all := lw_g (lw_at lw_m7 82 rfl) rfl
theorem q1628 : (Jvm.Cond.lays "BelowWorthModel" "BelowWorthModel" "adjusts" "I") ∈ lw_all := lw_g (lw_at lw_m7 83 rfl) rfl
theorem q1629 : (Jvm.Cond.soleField "BelowWorthModel" "adjusts") ∈ lw_all := lw_g (lw_at lw_m7 84 rfl) rfl
theorem q1630 : (Jvm.Cond.laysFinal "BelowWorthModel" "BelowWorthModel" "sFirm" "[I") ∈ lw_all := lw_g (lw_at lw_m7 85 rfl) rfl
theorem q1631 : (Jvm.Cond.soleField "BelowWorthModel" "sFirm") ∈ lw_all := lw_g (lw_at lw_m7 86 rfl) rfl
theorem q1632 : (Jvm.Cond.laysFinal "BelowWorthModel" "BelowWorthModel" "sGrade" "[I") ∈ lw_all := lw_g (lw_at lw_m7 87 rfl) rfl
theorem q1633 : (Jvm.Cond.soleField "BelowWorthModel" "sGrade") ∈ lw_all := lw_g (lw_at lw_m7 88 rfl) rfl
theorem q1634 : (Jvm.Cond.laysFinal "BelowWorthModel" "BelowWorthModel" "sDay" "[I") ∈ lw_all := lw_g (lw_at lw_m7 89 rfl) rfl
theorem q1635 : (Jvm.Cond.soleField "BelowWorthModel" "sDay") ∈ lw_all := lw_g (lw_at lw_m7 90 rfl) rfl
theorem q1636 : (Jvm.Cond.laysFinal "BelowWorthModel" "BelowWorthModel" "sTons" "[I") ∈ lw_all := lw_g (lw_at lw_m7 91 rfl) rfl
theorem q1637 : (Jvm.Cond.soleField "BelowWorthModel" "sTons") ∈ lw_all := lw_g (lw_at lw_m7 92 rfl) rfl
theorem q1638 : (Jvm.Cond.laysFinal "BelowWorthModel" "BelowWorthModel" "sPrice" "[I") ∈ lw_all := lw_g (lw_at lw_m7 93 rfl) rfl
theorem q1639 : (Jvm.Cond.soleField "BelowWorthModel" "sPrice") ∈ lw_all := lw_g (lw_at lw_m7 94 rfl) rfl
theorem q1640 : (Jvm.Cond.laysFinal "BelowWorthModel" "BelowWorthModel" "sKnown" "[I") ∈ lw_all := lw_g (lw_at lw_m7 95 rfl) rfl
theorem q1641 : (Jvm.Cond.soleField "BelowWorthModel" "sKnown") ∈ lw_all := lw_g (lw_at lw_m7 96 rfl) rfl
theorem q1642 : (Jvm.Cond.laysFinal "BelowWorthModel" "BelowWorthModel" "sStruck" "[I") ∈ lw_all := lw_g (lw_at lw_m7 97 rfl) rfl
theorem q1643 : (Jvm.Cond.soleField "BelowWorthModel" "sStruck") ∈ lw_all := lw_g (lw_at lw_m7 98 rfl) rfl
theorem q1644 : (Jvm.Cond.laysFinal "BelowWorthModel" "BelowWorthModel" "isHere" "[Z") ∈ lw_all := lw_g (lw_at lw_m7 99 rfl) rfl
theorem q1645 : (Jvm.Cond.soleField "BelowWorthModel" "isHere") ∈ lw_all := lw_g (lw_at lw_m7 100 rfl) rfl
theorem q1646 : (Jvm.Cond.laysFinal "BelowWorthModel" "BelowWorthModel" "isRelated" "[Z") ∈ lw_all := lw_g (lw_at lw_m7 101 rfl) rfl
theorem q1647 : (Jvm.Cond.soleField "BelowWorthModel" "isRelated") ∈ lw_all := lw_g (lw_at lw_m7 102 rfl) rfl
theorem q1648 : (Jvm.Cond.laysFinal "BelowWorthModel" "BelowWorthModel" "aSale" "[I") ∈ lw_all := lw_g (lw_at lw_m7 103 rfl) rfl
theorem q1649 : (Jvm.Cond.soleField "BelowWorthModel" "aSale") ∈ lw_all := lw_g (lw_at lw_m7 104 rfl) rfl
theorem q1650 : (Jvm.Cond.laysFinal "BelowWorthModel" "BelowWorthModel" "aKind" "[I") ∈ lw_all := lw_g (lw_at lw_m7 105 rfl) rfl
theorem q1651 : (Jvm.Cond.soleField "BelowWorthModel" "aKind") ∈ lw_all := lw_g (lw_at lw_m7 106 rfl) rfl
theorem q1652 : (Jvm.Cond.laysFinal "BelowWorthModel" "BelowWorthModel" "aCoins" "[I") ∈ lw_all := lw_g (lw_at lw_m7 107 rfl) rfl
theorem q1653 : (Jvm.Cond.soleField "BelowWorthModel" "aCoins") ∈ lw_all := lw_g (lw_at lw_m7 108 rfl) rfl
theorem q1654 : (Jvm.Cond.laysFinal "BelowWorthModel" "BelowWorthModel" "aKnown" "[I") ∈ lw_all := lw_g (lw_at lw_m7 109 rfl) rfl
theorem q1655 : (Jvm.Cond.soleField "BelowWorthModel" "aKnown") ∈ lw_all := lw_g (lw_at lw_m7 110 rfl) rfl
theorem q1656 : (Jvm.Cond.laysFinal "BelowWorthModel" "BelowWorthModel" "isProved" "[Z") ∈ lw_all := lw_g (lw_at lw_m7 111 rfl) rfl
theorem q1657 : (Jvm.Cond.soleField "BelowWorthModel" "isProved") ∈ lw_all := lw_g (lw_at lw_m7 112 rfl) rfl
theorem q1658 : (Jvm.Cond.laysFinal "BelowWorthModel" "BelowWorthModel" "tape" "[B") ∈ lw_all := lw_g (lw_at lw_m7 113 rfl) rfl
theorem q1659 : (Jvm.Cond.soleField "BelowWorthModel" "tape") ∈ lw_all := lw_g (lw_at lw_m7 114 rfl) rfl
theorem q1660 : (Jvm.Cond.lays "BelowWorthModel" "BelowWorthModel" "taped" "I") ∈ lw_all := lw_g (lw_at lw_m7 115 rfl) rfl
theorem q1661 : (Jvm.Cond.soleField "BelowWorthModel" "taped") ∈ lw_all := lw_g (lw_at lw_m7 116 rfl) rfl
theorem q1662 : (Jvm.Cond.lays "BelowWorthModel" "BelowWorthModel" "p" "I") ∈ lw_all := lw_g (lw_at lw_m7 117 rfl) rfl
theorem q1663 : (Jvm.Cond.soleField "BelowWorthModel" "p") ∈ lw_all := lw_g (lw_at lw_m7 118 rfl) rfl
theorem q1664 : (Jvm.Cond.lays "BelowWorthModel" "BelowWorthModel" "from" "I") ∈ lw_all := lw_g (lw_at lw_m7 119 rfl) rfl
theorem q1665 : (Jvm.Cond.soleField "BelowWorthModel" "from") ∈ lw_all := lw_g (lw_at lw_m7 120 rfl) rfl
theorem q1666 : (Jvm.Cond.lays "BelowWorthModel" "BelowWorthModel" "fault" "I") ∈ lw_all := lw_g (lw_at lw_m7 121 rfl) rfl
theorem q1667 : (Jvm.Cond.soleField "BelowWorthModel" "fault") ∈ lw_all := lw_g (lw_at lw_m7 122 rfl) rfl
theorem q1668 : (Jvm.Cond.lays "BelowWorthModel" "BelowWorthModel" "deep" "I") ∈ lw_all := lw_g (lw_at lw_m7 123 rfl) rfl
theorem q1669 : (Jvm.Cond.soleField "BelowWorthModel" "deep") ∈ lw_all := lw_g (lw_at lw_m7 124 rfl) rfl
theorem q1670 : (Jvm.Cond.lays "BelowWorthModel" "BelowWorthModel" "counted" "I") ∈ lw_all := lw_g (lw_at lw_m7 125 rfl) rfl
theorem q1671 : (Jvm.Cond.soleField "BelowWorthModel" "counted") ∈ lw_all := lw_g (lw_at lw_m7 126 rfl) rfl
theorem q1672 : (Jvm.Cond.lays "BelowWorthModel" "BelowWorthModel" "toldOf" "I") ∈ lw_all := lw_g (lw_at lw_m7 127 rfl) rfl
theorem q1673 : (Jvm.Cond.soleField "BelowWorthModel" "toldOf") ∈ lw_all := lw_g (lw_at lw_m7 128 rfl) rfl
theorem q1674 : (Jvm.Cond.lays "BelowWorthModel" "BelowWorthModel" "acts" "I") ∈ lw_all := lw_g (lw_at lw_m7 129 rfl) rfl
theorem q1675 : (Jvm.Cond.soleField "BelowWorthModel" "acts") ∈ lw_all := lw_g (lw_at lw_m7 130 rfl) rfl
theorem q1676 : (Jvm.Cond.laysFinal "BelowWorthModel" "BelowWorthModel" "binds" "[I") ∈ lw_all := lw_g (lw_at lw_m7 131 rfl) rfl
theorem q1677 : (Jvm.Cond.soleField "BelowWorthModel" "binds") ∈ lw_all := lw_g (lw_at lw_m7 132 rfl) rfl
theorem q1678 : (Jvm.Cond.laysFinal "BelowWorthModel" "BelowWorthModel" "clauses" "[I") ∈ lw_all := lw_g (lw_at lw_m7 133 rfl) rfl
theorem q1679 : (Jvm.Cond.soleField "BelowWorthModel" "clauses") ∈ lw_all := lw_g (lw_at lw_m7 134 rfl) rfl
theorem q1680 : (Jvm.Cond.laysFinal "BelowWorthModel" "BelowWorthModel" "kind" "[I") ∈ lw_all := lw_g (lw_at lw_m7 135 rfl) rfl
theorem q1681 : (Jvm.Cond.soleField "BelowWorthModel" "kind") ∈ lw_all := lw_g (lw_at lw_m7 136 rfl) rfl
theorem q1682 : (Jvm.Cond.laysFinal "BelowWorthModel" "BelowWorthModel" "worth" "[I") ∈ lw_all := lw_g (lw_at lw_m7 137 rfl) rfl
theorem q1683 : (Jvm.Cond.soleField "BelowWorthModel" "worth") ∈ lw_all := lw_g (lw_at lw_m7 138 rfl) rfl
theorem q1684 : (Jvm.Cond.laysFinal "BelowWorthModel" "BelowWorthModel" "first" "[I") ∈ lw_all := lw_g (lw_at lw_m7 139 rfl) rfl
theorem q1685 : (Jvm.Cond.soleField "BelowWorthModel" "first") ∈ lw_all := lw_g (lw_at lw_m7 140 rfl) rfl
theorem q1686 : (Jvm.Cond.laysFinal "BelowWorthModel" "BelowWorthModel" "last" "[I") ∈ lw_all := lw_g (lw_at lw_m7 141 rfl) rfl
theorem q1687 : (Jvm.Cond.soleField "BelowWorthModel" "last") ∈ lw_all := lw_g (lw_at lw_m7 142 rfl) rfl
theorem q1688 : (Jvm.Cond.laysFinal "BelowWorthModel" "BelowWorthModel" "op" "[I") ∈ lw_all := lw_g (lw_at lw_m7 143 rfl) rfl
theorem q1689 : (Jvm.Cond.soleField "BelowWorthModel" "op") ∈ lw_all := lw_g (lw_at lw_m7 144 rfl) rfl
theorem q1690 : (Jvm.Cond.laysFinal "BelowWorthModel" "BelowWorthModel" "what0" "[I") ∈ lw_all := lw_g (lw_at lw_m7 145 rfl) rfl
theorem q1691 : (Jvm.Cond.soleField "BelowWorthModel" "what0") ∈ lw_all := lw_g (lw_at lw_m7 146 rfl) rfl
theorem q1692 : (Jvm.Cond.lays "BelowWorthModel" "BelowWorthModel" "steps" "I") ∈ lw_all := lw_g (lw_at lw_m7 147 rfl) rfl
theorem q1693 : (Jvm.Cond.soleField "BelowWorthModel" "steps") ∈ lw_all := lw_g (lw_at lw_m7 148 rfl) rfl
theorem q1694 : (Jvm.Cond.lays "BelowWorthModel" "BelowWorthModel" "open" "I") ∈ lw_all := lw_g (lw_at lw_m7 149 rfl) rfl
theorem q1695 : (Jvm.Cond.soleField "BelowWorthModel" "open") ∈ lw_all := lw_g (lw_at lw_m7 150 rfl) rfl
theorem q1696 : (Jvm.Cond.laysFinal "BelowWorthModel" "BelowWorthModel" "kindAt" "[I") ∈ lw_all := lw_g (lw_at lw_m7 151 rfl) rfl
theorem q1697 : (Jvm.Cond.soleField "BelowWorthModel" "kindAt") ∈ lw_all := lw_g (lw_at lw_m7 152 rfl) rfl
theorem q1698 : (Jvm.Cond.laysFinal "BelowWorthModel" "BelowWorthModel" "pile" "[J") ∈ lw_all := lw_g (lw_at lw_m7 153 rfl) rfl
theorem q1699 : (Jvm.Cond.soleField "BelowWorthModel" "pile") ∈ lw_all := lw_g (lw_at lw_m7 154 rfl) rfl
theorem q1700 : (Jvm.Cond.laysFinal "BelowWorthModel" "BelowWorthModel" "fact" "[J") ∈ lw_all := lw_g (lw_at lw_m7 155 rfl) rfl
theorem q1701 : (Jvm.Cond.soleField "BelowWorthModel" "fact") ∈ lw_all := lw_g (lw_at lw_m7 156 rfl) rfl
theorem q1702 : (Jvm.Cond.lays "BelowWorthModel" "BelowWorthModel" "firmAt" "I") ∈ lw_all := lw_g (lw_at lw_m7 157 rfl) rfl
theorem q1703 : (Jvm.Cond.soleField "BelowWorthModel" "firmAt") ∈ lw_all := lw_g (lw_at lw_m7 158 rfl) rfl
theorem q1704 : (Jvm.Cond.lays "BelowWorthModel" "BelowWorthModel" "knownAt" "I") ∈ lw_all := lw_g (lw_at lw_m7 159 rfl) rfl
theorem q1705 : (Jvm.Cond.soleField "BelowWorthModel" "knownAt") ∈ lw_all := lw_g (lw_at lw_m7 160 rfl) rfl
theorem q1706 : (Jvm.Cond.lays "BelowWorthModel" "BelowWorthModel" "actAt" "I") ∈ lw_all := lw_g (lw_at lw_m7 161 rfl) rfl
theorem q1707 : (Jvm.Cond.soleField "BelowWorthModel" "actAt") ∈ lw_all := lw_g (lw_at lw_m7 162 rfl) rfl
theorem q1708 : (Jvm.Cond.laysFinal "BelowWorthModel" "BelowWorthModel" "lastOf" "[I") ∈ lw_all := lw_g (lw_at lw_m7 163 rfl) rfl
theorem q1709 : (Jvm.Cond.soleField "BelowWorthModel" "lastOf") ∈ lw_all := lw_g (lw_at lw_m7 164 rfl) rfl
theorem q1710 : (Jvm.Cond.laysFinal "BelowWorthModel" "BelowWorthModel" "net" "[I") ∈ lw_all := lw_g (lw_at lw_m7 165 rfl) rfl
theorem q1711 : (Jvm.Cond.soleField "BelowWorthModel" "net") ∈ lw_all := lw_g (lw_at lw_m7 166 rfl) rfl
theorem q1712 : (Jvm.Cond.laysFinal "BelowWorthModel" "BelowWorthModel" "there" "[Z") ∈ lw_all := lw_g (lw_at lw_m7 167 rfl) rfl
theorem q1713 : (Jvm.Cond.soleField "BelowWorthModel" "there") ∈ lw_all := lw_g (lw_at lw_m7 168 rfl) rfl
theorem q1714 : (Jvm.Cond.laysFinal "BelowWorthModel" "BelowWorthModel" "dropped" "[Z") ∈ lw_all := lw_g (lw_at lw_m7 169 rfl) rfl
theorem q1715 : (Jvm.Cond.soleField "BelowWorthModel" "dropped") ∈ lw_all := lw_g (lw_at lw_m7 170 rfl) rfl
theorem q1716 : (Jvm.Cond.laysFinal "BelowWorthModel" "BelowWorthModel" "homeNet" "[J") ∈ lw_all := lw_g (lw_at lw_m7 171 rfl) rfl
theorem q1717 : (Jvm.Cond.soleField "BelowWorthModel" "homeNet") ∈ lw_all := lw_g (lw_at lw_m7 172 rfl) rfl
theorem q1718 : (Jvm.Cond.laysFinal "BelowWorthModel" "BelowWorthModel" "homeTons" "[J") ∈ lw_all := lw_g (lw_at lw_m7 173 rfl) rfl
theorem q1719 : (Jvm.Cond.soleField "BelowWorthModel" "homeTons") ∈ lw_all := lw_g (lw_at lw_m7 174 rfl) rfl
theorem q1720 : (Jvm.Cond.lays "BelowWorthModel" "BelowWorthModel" "byGrade" "I") ∈ lw_all := lw_g (lw_at lw_m7 175 rfl) rfl
theorem q1721 : (Jvm.Cond.soleField "BelowWorthModel" "byGrade") ∈ lw_all := lw_g (lw_at lw_m7 176 rfl) rfl
theorem q1722 : (Jvm.Cond.lays "BelowWorthModel" "BelowWorthModel" "byMonth" "I") ∈ lw_all := lw_g (lw_at lw_m7 177 rfl) rfl
theorem q1723 : (Jvm.Cond.soleField "BelowWorthModel" "byMonth") ∈ lw_all := lw_g (lw_at lw_m7 178 rfl) rfl
theorem q1724 : (Jvm.Cond.lays "BelowWorthModel" "BelowWorthModel" "toldGrade" "I") ∈ lw_all := lw_g (lw_at lw_m7 179 rfl) rfl
theorem q1725 : (Jvm.Cond.soleField "BelowWorthModel" "toldGrade") ∈ lw_all := lw_g (lw_at lw_m7 180 rfl) rfl
theorem q1726 : (Jvm.Cond.lays "BelowWorthModel" "BelowWorthModel" "toldMonth" "I") ∈ lw_all := lw_g (lw_at lw_m7 181 rfl) rfl
theorem q1727 : (Jvm.Cond.soleField "BelowWorthModel" "toldMonth") ∈ lw_all := lw_g (lw_at lw_m7 182 rfl) rfl
theorem q1728 : (Jvm.Cond.lays "BelowWorthModel" "BelowWorthModel" "up" "J") ∈ lw_all := lw_g (lw_at lw_m7 183 rfl) rfl
theorem q1729 : (Jvm.Cond.soleField "BelowWorthModel" "up") ∈ lw_all := lw_g (lw_at lw_m7 184 rfl) rfl
theorem q1730 : (Jvm.Cond.lays "BelowWorthModel" "BelowWorthModel" "down" "J") ∈ lw_all := lw_g (lw_at lw_m7 185 rfl) rfl
theorem q1731 : (Jvm.Cond.soleField "BelowWorthModel" "down") ∈ lw_all := lw_g (lw_at lw_m7 186 rfl) rfl
theorem q1732 : (Jvm.Cond.laysFinal "BelowWorthModel" "BelowWorthModel" "group" "[J") ∈ lw_all := lw_g (lw_at lw_m7 187 rfl) rfl
theorem q1733 : (Jvm.Cond.soleField "BelowWorthModel" "group") ∈ lw_all := lw_g (lw_at lw_m7 188 rfl) rfl
theorem q1734 : (Jvm.Cond.lays "BelowWorthModel" "BelowWorthModel" "matchedMany" "I") ∈ lw_all := lw_g (lw_at lw_m7 189 rfl) rfl
theorem q1735 : (Jvm.Cond.soleField "BelowWorthModel" "matchedMany") ∈ lw_all := lw_g (lw_at lw_m7 190 rfl) rfl
theorem q1736 : (Jvm.Cond.laysFinal "BelowWorthModel" "BelowWorthModel" "mHere" "[I") ∈ lw_all := lw_g (lw_at lw_m7 191 rfl) rfl
theorem q1737 : (Jvm.Cond.soleField "BelowWorthModel" "mHere") ∈ lw_all := lw_g (lw_at lw_m7 192 rfl) rfl
theorem q1738 : (Jvm.Cond.laysFinal "BelowWorthModel" "BelowWorthModel" "mHome" "[I") ∈ lw_all := lw_g (lw_at lw_m7 193 rfl) rfl
theorem q1739 : (Jvm.Cond.soleField "BelowWorthModel" "mHome") ∈ lw_all := lw_g (lw_at lw_m7 194 rfl) rfl
theorem q1740 : (Jvm.Cond.laysFinal "BelowWorthModel" "BelowWorthModel" "pair" "[I") ∈ lw_all := lw_g (lw_at lw_m7 195 rfl) rfl
theorem q1741 : (Jvm.Cond.soleField "BelowWorthModel" "pair") ∈ lw_all := lw_g (lw_at lw_m7 196 rfl) rfl
theorem q1742 : (Jvm.Cond.laysFinal "BelowWorthModel" "BelowWorthModel" "keptHere" "[I") ∈ lw_all := lw_g (lw_at lw_m7 197 rfl) rfl
theorem q1743 : (Jvm.Cond.soleField "BelowWorthModel" "keptHere") ∈ lw_all := lw_g (lw_at lw_m7 198 rfl) rfl
theorem q1744 : (Jvm.Cond.laysFinal "BelowWorthModel" "BelowWorthModel" "keptPair" "[I") ∈ lw_all := lw_g (lw_at lw_m7 199 rfl) rfl
theorem q1745 : (Jvm.Cond.soleField "BelowWorthModel" "keptPair") ∈ lw_all := lw_g (lw_at lw_m7 200 rfl) rfl
theorem q1746 : (Jvm.Cond.laysFinal "BelowWorthModel" "BelowWorthModel" "best" "[J") ∈ lw_all := lw_g (lw_at lw_m7 201 rfl) rfl
theorem q1747 : (Jvm.Cond.soleField "BelowWorthModel" "best") ∈ lw_all := lw_g (lw_at lw_m7 202 rfl) rfl
theorem q1748 : (Jvm.Cond.laysFinal "BelowWorthModel" "BelowWorthModel" "matchSum" "[J") ∈ lw_all := lw_g (lw_at lw_m7 203 rfl) rfl
theorem q1749 : (Jvm.Cond.soleField "BelowWorthModel" "matchSum") ∈ lw_all := lw_g (lw_at lw_m7 204 rfl) rfl
theorem q1750 : (Jvm.Cond.laysFinal "BelowWorthModel" "BelowWorthModel" "figures" "[I") ∈ lw_all := lw_g (lw_at lw_m7 205 rfl) rfl
theorem q1751 : (Jvm.Cond.soleField "BelowWorthModel" "figures") ∈ lw_all := lw_g (lw_at lw_m7 206 rfl) rfl
theorem q1752 : (Jvm.Cond.laysFinal "BelowWorthModel" "BelowWorthModel" "gSet" "[I") ∈ lw_all := lw_g (lw_at lw_m7 207 rfl) rfl
theorem q1753 : (Jvm.Cond.soleField "BelowWorthModel" "gSet") ∈ lw_all := lw_g (lw_at lw_m7 208 rfl) rfl
theorem q1754 : (Jvm.Cond.laysFinal "BelowWorthModel" "BelowWorthModel" "gFrom" "[I") ∈ lw_all := lw_g (lw_at lw_m7 209 rfl) rfl
theorem q1755 : (Jvm.Cond.soleField "BelowWorthModel" "gFrom") ∈ lw_all := lw_g (lw_at lw_m7 210 rfl) rfl
theorem q1756 : (Jvm.Cond.laysFinal "BelowWorthModel" "BelowWorthModel" "gTo" "[I") ∈ lw_all := lw_g (lw_at lw_m7 211 rfl) rfl
theorem q1757 : (Jvm.Cond.soleField "BelowWorthModel" "gTo") ∈ lw_all := lw_g (lw_at lw_m7 212 rfl) rfl
theorem q1758 : (Jvm.Cond.laysFinal "BelowWorthModel" "BelowWorthModel" "gTons" "[I") ∈ lw_all := lw_g (lw_at lw_m7 213 rfl) rfl
theorem q1759 : (Jvm.Cond.soleField "BelowWorthModel" "gTons") ∈ lw_all := lw_g (lw_at lw_m7 214 rfl) rfl
theorem q1760 : (Jvm.Cond.laysFinal "BelowWorthModel" "BelowWorthModel" "lack" "[I") ∈ lw_all := lw_g (lw_at lw_m7 215 rfl) rfl
theorem q1761 : (Jvm.Cond.soleField "BelowWorthModel" "lack") ∈ lw_all := lw_g (lw_at lw_m7 216 rfl) rfl
theorem q1762 : (Jvm.Cond.laysFinal "BelowWorthModel" "BelowWorthModel" "ofFirst" "[I") ∈ lw_all := lw_g (lw_at lw_m7 217 rfl) rfl
theorem q1763 : (Jvm.Cond.soleField "BelowWorthModel" "ofFirst") ∈ lw_all := lw_g (lw_at lw_m7 218 rfl) rfl
theorem q1764 : (Jvm.Cond.laysFinal "BelowWorthModel" "BelowWorthModel" "left" "[I") ∈ lw_all := lw_g (lw_at lw_m7 219 rfl) rfl
theorem q1765 : (Jvm.Cond.soleField "BelowWorthModel" "left") ∈ lw_all := lw_g (lw_at lw_m7 220 rfl) rfl
theorem q1766 : (Jvm.Cond.laysFinal "BelowWorthModel" "BelowWorthModel" "gHere" "[Z") ∈ lw_all := lw_g (lw_at lw_m7 221 rfl) rfl
theorem q1767 : (Jvm.Cond.soleField "BelowWorthModel" "gHere") ∈ lw_all := lw_g (lw_at lw_m7 222 rfl) rfl
theorem q1768 : (Jvm.Cond.lays "BelowWorthModel" "BelowWorthModel" "leftMany" "I") ∈ lw_all := lw_g (lw_at lw_m7 223 rfl) rfl
theorem q1769 : (Jvm.Cond.soleField "BelowWorthModel" "leftMany") ∈ lw_all := lw_g (lw_at lw_m7 224 rfl) rfl
theorem q1770 : (Jvm.Cond.lays "BelowWorthModel" "BelowWorthModel" "flows" "I") ∈ lw_all := lw_g (lw_at lw_m7 225 rfl) rfl
theorem q1771 : (Jvm.Cond.soleField "BelowWorthModel" "flows") ∈ lw_all := lw_g (lw_at lw_m7 226 rfl) rfl
theorem q1772 : (Jvm.Cond.lays "BelowWorthModel" "BelowWorthModel" "wayLong" "I") ∈ lw_all := lw_g (lw_at lw_m7 227 rfl) rfl
theorem q1773 : (Jvm.Cond.soleField "BelowWorthModel" "wayLong") ∈ lw_all := lw_g (lw_at lw_m7 228 rfl) rfl
theorem q1774 : (Jvm.Cond.laysFinal "BelowWorthModel" "BelowWorthModel" "flow" "[I") ∈ lw_all := lw_g (lw_at lw_m7 229 rfl) rfl
theorem q1775 : (Jvm.Cond.soleField "BelowWorthModel" "flow") ∈ lw_all := lw_g (lw_at lw_m7 230 rfl) rfl
theorem q1776 : (Jvm.Cond.laysFinal "BelowWorthModel" "BelowWorthModel" "own" "[I") ∈ lw_all := lw_g (lw_at lw_m7 231 rfl) rfl
theorem q1777 : (Jvm.Cond.soleField "BelowWorthModel" "own") ∈ lw_all := lw_g (lw_at lw_m7 232 rfl) rfl
theorem q1778 : (Jvm.Cond.laysFinal "BelowWorthModel" "BelowWorthModel" "way" "[I") ∈ lw_all := lw_g (lw_at lw_m7 233 rfl) rfl
theorem q1779 : (Jvm.Cond.soleField "BelowWorthModel" "way") ∈ lw_all := lw_g (lw_at lw_m7 234 rfl) rfl
theorem q1780 : (Jvm.Cond.laysFinal "BelowWorthModel" "BelowWorthModel" "taints" "[I") ∈ lw_all := lw_g (lw_at lw_m7 235 rfl) rfl
theorem q1781 : (Jvm.Cond.soleField "BelowWorthModel" "taints") ∈ lw_all := lw_g (lw_at lw_m7 236 rfl) rfl
theorem q1782 : (Jvm.Cond.laysFinal "BelowWorthModel" "BelowWorthModel" "nextTaints" "[I") ∈ lw_all := lw_g (lw_at lw_m7 237 rfl) rfl
theorem q1783 : (Jvm.Cond.soleField "BelowWorthModel" "nextTaints") ∈ lw_all := lw_g (lw_at lw_m7 238 rfl) rfl
theorem q1784 : (Jvm.Cond.lays "BelowWorthModel" "BelowWorthModel" "promises" "I") ∈ lw_all := lw_g (lw_at lw_m7 239 rfl) rfl
theorem q1785 : (Jvm.Cond.soleField "BelowWorthModel" "promises") ∈ lw_all := lw_g (lw_at lw_m8 0 rfl) rfl
theorem q1786 : (Jvm.Cond.laysFinal "BelowWorthModel" "BelowWorthModel" "pFirm" "[I") ∈ lw_all := lw_g (lw_at lw_m8 1 rfl) rfl
theorem q1787 : (Jvm.Cond.soleField "BelowWorthModel" "pFirm") ∈ lw_all := lw_g (lw_at lw_m8 2 rfl) rfl
theorem q1788 : (Jvm.Cond.laysFinal "BelowWorthModel" "BelowWorthModel" "pGrade" "[I") ∈ lw_all := lw_g (lw_at lw_m8 3 rfl) rfl
theorem q1789 : (Jvm.Cond.soleField "BelowWorthModel" "pGrade") ∈ lw_all := lw_g (lw_at lw_m8 4 rfl) rfl
theorem q1790 : (Jvm.Cond.laysFinal "BelowWorthModel" "BelowWorthModel" "pDay" "[I") ∈ lw_all := lw_g (lw_at lw_m8 5 rfl) rfl
theorem q1791 : (Jvm.Cond.soleField "BelowWorthModel" "pDay") ∈ lw_all := lw_g (lw_at lw_m8 6 rfl) rfl
theorem q1792 : (Jvm.Cond.laysFinal "BelowWorthModel" "BelowWorthModel" "pPrice" "[I") ∈ lw_all := lw_g (lw_at lw_m8 7 rfl) rfl
theorem q1793 : (Jvm.Cond.soleField "BelowWorthModel" "pPrice") ∈ lw_all := lw_g (lw_at lw_m8 8 rfl) rfl
theorem q1794 : (Jvm.Cond.lays "BelowWorthModel" "BelowWorthModel" "rates" "I") ∈ lw_all := lw_g (lw_at lw_m8 9 rfl) rfl
theorem q1795 : (Jvm.Cond.soleField "BelowWorthModel" "rates") ∈ lw_all := lw_g (lw_at lw_m8 10 rfl) rfl
theorem q1796 : (Jvm.Cond.lays "BelowWorthModel" "BelowWorthModel" "entries" "I") ∈ lw_all := lw_g (lw_at lw_m8 11 rfl) rfl
theorem q1797 : (Jvm.Cond.soleField "BelowWorthModel" "entries") ∈ lw_all := lw_g (lw_at lw_m8 12 rfl) rfl
theorem q1798 : (Jvm.Cond.laysFinal "BelowWorthModel" "BelowWorthModel" "rFirm" "[I") ∈ lw_all := lw_g (lw_at lw_m8 13 rfl) rfl
theorem q1799 : (Jvm.Cond.soleField "BelowWorthModel" "rFirm") ∈ lw_all := lw_g (lw_at lw_m8 14 rfl) rfl
theorem q1800 : (Jvm.Cond.laysFinal "BelowWorthModel" "BelowWorthModel" "rDay" "[I") ∈ lw_all := lw_g (lw_at lw_m8 15 rfl) rfl
theorem q1801 : (Jvm.Cond.soleField "BelowWorthModel" "rDay") ∈ lw_all := lw_g (lw_at lw_m8 16 rfl) rfl
theorem q1802 : (Jvm.Cond.laysFinal "BelowWorthModel" "BelowWorthModel" "rate" "[I") ∈ lw_all := lw_g (lw_at lw_m8 17 rfl) rfl
theorem q1803 : (Jvm.Cond.soleField "BelowWorthModel" "rate") ∈ lw_all := lw_g (lw_at lw_m8 18 rfl) rfl
theorem q1804 : (Jvm.Cond.laysFinal "BelowWorthModel" "BelowWorthModel" "eFirm" "[I") ∈ lw_all := lw_g (lw_at lw_m8 19 rfl) rfl
theorem q1805 : (Jvm.Cond.soleField "BelowWorthModel" "eFirm") ∈ lw_all := lw_g (lw_at lw_m8 20 rfl) rfl
theorem q1806 : (Jvm.Cond.laysFinal "BelowWorthModel" "BelowWorthModel" "eDay" "[I") ∈ lw_all := lw_g (lw_at lw_m8 21 rfl) rfl
theorem q1807 : (Jvm.Cond.soleField "BelowWorthModel" "eDay") ∈ lw_all := lw_g (lw_at lw_m8 22 rfl) rfl
theorem q1808 : (Jvm.Cond.laysFinal "BelowWorthModel" "BelowWorthModel" "eCoins" "[I") ∈ lw_all := lw_g (lw_at lw_m8 23 rfl) rfl
theorem q1809 : (Jvm.Cond.soleField "BelowWorthModel" "eCoins") ∈ lw_all := lw_g (lw_at lw_m8 24 rfl) rfl
theorem q1810 : (Jvm.Cond.laysFinal "BelowWorthModel" "BelowWorthModel" "ePaid" "[I") ∈ lw_all := lw_g (lw_at lw_m8 25 rfl) rfl
theorem q1811 : (Jvm.Cond.soleField "BelowWorthModel" "ePaid") ∈ lw_all := lw_g (lw_at lw_m8 26 rfl) rfl
theorem q1812 : (Jvm.Cond.laysFinal "BelowWorthModel" "BelowWorthModel" "weight" "[J") ∈ lw_all := lw_g (lw_at lw_m8 27 rfl) rfl
theorem q1813 : (Jvm.Cond.soleField "BelowWorthModel" "weight") ∈ lw_all := lw_g (lw_at lw_m8 28 rfl) rfl
theorem q1814 : (Jvm.Cond.laysFinal "BelowWorthModel" "BelowWorthModel" "byFacts" "[Z") ∈ lw_all := lw_g (lw_at lw_m8 29 rfl) rfl
theorem q1815 : (Jvm.Cond.soleField "BelowWorthModel" "byFacts") ∈ lw_all := lw_g (lw_at lw_m8 30 rfl) rfl
theorem q1816 : (Jvm.Cond.laysFinal "BelowWorthModel" "BelowWorthModel" "isSettled" "[Z") ∈ lw_all := lw_g (lw_at lw_m8 31 rfl) rfl
theorem q1817 : (Jvm.Cond.soleField "BelowWorthModel" "isSettled") ∈ lw_all := lw_g (lw_at lw_m8 32 rfl) rfl
theorem q1818 : (Jvm.Cond.superclass "BelowWorthModel" "java/lang/Object") ∈ lw_all := lw_g (lw_at lw_m8 33 rfl) rfl
theorem q1820 : (Jvm.Cond.instanceMethod ({ cls := "BelowWorthModel", name := "clock", desc := "(I)Z" } : Jvm.MethodName)) ∈ lw_all := lw_g (lw_at lw_m8 35 rfl) rfl
theorem q1821 : (Jvm.Cond.selects "BelowWorthModel" ({ cls := "BelowWorthModel", name := "clock", desc := "(I)Z" } : Jvm.MethodName) ({ cls := "BelowWorthModel", name := "clock", desc := "(I)Z" } : Jvm.MethodName)) ∈ lw_all := lw_g (lw_at lw_m8 36 rfl) rfl
theorem q1822 : (Jvm.Cond.code ({ cls := "BelowWorthModel", name := "clock", desc := "(I)Z" } : Jvm.MethodName) prog_23_method_7_code (2 : Nat) (Option.some Jvm.ClassFile.FieldType.boolean)) ∈ lw_all := lw_g (lw_at lw_m8 37 rfl) rfl
theorem q1823 : (Jvm.Cond.methodLink "BelowWorthModel" (260 : Nat) ({ cls := "BelowWorthModel", name := "in", desc := "(III)Z" } : Jvm.MethodName)) ∈ lw_all := lw_g (lw_at lw_m8 38 rfl) rfl
theorem q1824 : (Jvm.Cond.static ({ cls := "BelowWorthModel", name := "in", desc := "(III)Z" } : Jvm.MethodName)) ∈ lw_all := lw_g (lw_at lw_m8 39 rfl) rfl
theorem q1825 : (Jvm.Cond.code ({ cls := "BelowWorthModel", name := "in", desc := "(III)Z" } : Jvm.MethodName) prog_23_method_3_code (3 : Nat) (Option.some Jvm.ClassFile.FieldType.boolean)) ∈ lw_all := lw_g (lw_at lw_m8 40 rfl) rfl
theorem q1827 : (Jvm.Cond.instanceMethod ({ cls := "BelowWorthModel", name := "firm", desc := "(I)I" } : Jvm.MethodName)) ∈ lw_all := lw_g (lw_at lw_m8 42 rfl) rfl
theorem q1828 : (Jvm.Cond.selects "BelowWorthModel" ({ cls := "BelowWorthModel", name := "firm", desc := "(I)I" } : Jvm.MethodName) ({ cls := "BelowWorthModel", name := "firm", desc := "(I)I" } : Jvm.MethodName)) ∈ lw_all := lw_g (lw_at lw_m8 43 rfl) rfl
theorem q1829 : (Jvm.Cond.code ({ cls := "BelowWorthModel", name := "firm", desc := "(I)I" } : Jvm.MethodName) prog_23_method_8_code (2 : Nat) (Option.some Jvm.ClassFile.FieldType.int)) ∈ lw_all := lw_g (lw_at lw_m8 44 rfl) rfl
theorem q1831 : (Jvm.Cond.instanceMethod ({ cls := "BelowWorthModel", name := "far", desc := "(III)I" } : Jvm.MethodName)) ∈ lw_all := lw_g (lw_at lw_m8 46 rfl) rfl
theorem q1832 : (Jvm.Cond.selects "BelowWorthModel" ({ cls := "BelowWorthModel", name := "far", desc := "(III)I" } : Jvm.MethodName) ({ cls := "BelowWorthModel", name := "far", desc := "(III)I" } : Jvm.MethodName)) ∈ lw_all := lw_g (lw_at lw_m8 47 rfl) rfl
theorem q1833 : (Jvm.Cond.code ({ cls := "BelowWorthModel", name := "far", desc := "(III)I" } : Jvm.MethodName) prog_23_method_10_code (5 : Nat) (Option.some Jvm.ClassFile.FieldType.int)) ∈ lw_all := lw_g (lw_at lw_m8 48 rfl) rfl
theorem q1834 : (Jvm.Cond.methodLink "BelowWorthModel" (270 : Nat) ({ cls := "BelowWorthModel", name := "isGrade", desc := "(I)Z" } : Jvm.MethodName)) ∈ lw_all := lw_g (lw_at lw_m8 49 rfl) rfl
theorem q1835 : (Jvm.Cond.static ({ cls := "BelowWorthModel", name := "isGrade", desc := "(I)Z" } : Jvm.MethodName)) ∈ lw_all := lw_g (lw_at lw_m8 50 rfl) rfl
theorem q1836 : (Jvm.Cond.code ({ cls := "BelowWorthModel", name := "isGrade", desc := "(I)Z" } : Jvm.MethodName) prog_23_method_6_code (1 : Nat) (Option.some Jvm.ClassFile.FieldType.boolean)) ∈ lw_all := lw_g (lw_at lw_m8 51 rfl) rfl
theorem q1838 : (Jvm.Cond.instanceMethod ({ cls := "BelowWorthModel", name := "cost", desc := "(IIII)I" } : Jvm.MethodName)) ∈ lw_all := lw_g (lw_at lw_m8 53 rfl) rfl
theorem q1839 : (Jvm.Cond.selects "BelowWorthModel" ({ cls := "BelowWorthModel", name := "cost", desc := "(IIII)I" } : Jvm.MethodName) ({ cls := "BelowWorthModel", name := "cost", desc := "(IIII)I" } : Jvm.MethodName)) ∈ lw_all := lw_g (lw_at lw_m8 54 rfl) rfl
theorem q1840 : (Jvm.Cond.code ({ cls := "BelowWorthModel", name := "cost", desc := "(IIII)I" } : Jvm.MethodName) prog_23_method_11_code (5 : Nat) (Option.some Jvm.ClassFile.FieldType.int)) ∈ lw_all := lw_g (lw_at lw_m8 55 rfl) rfl
theorem q1841 : (Jvm.Cond.methodLink "BelowWorthModel" (277 : Nat) ({ cls := "BelowWorthModel", name := "isFirm", desc := "(I)Z" } : Jvm.MethodName)) ∈ lw_all := lw_g (lw_at lw_m8 56 rfl) rfl
theorem q1842 : (Jvm.Cond.privateMethod ({ cls := "BelowWorthModel", name := "isFirm", desc := "(I)Z" } : Jvm.MethodName)) ∈ lw_tbl := lw_at lw_m8 57 rfl
theorem q1843 : (Jvm.Cond.instanceMethod ({ cls := "BelowWorthModel", name := "isFirm", desc := "(I)Z" } : Jvm.MethodName)) ∈ lw_all := lw_g (lw_at lw_m8 58 rfl) rfl
theorem q1844 : (Jvm.Cond.code ({ cls := "BelowWorthModel", name := "isFirm", desc := "(I)Z" } : Jvm.MethodName) prog_23_method_9_code (2 : Nat) (Option.some Jvm.ClassFile.FieldType.boolean)) ∈ lw_all := lw_g (lw_at lw_m8 59 rfl) rfl
theorem q1845 : (Jvm.Cond.methodLink "BelowWorthModel" (280 : Nat) ({ cls := "BelowWorthModel", name := "isMonth", desc := "(I)Z" } : Jvm.MethodName)) ∈ lw_all := lw_g (lw_at lw_m8 60 rfl) rfl
theorem q1846 : (Jvm.Cond.static ({ cls := "BelowWorthModel", name := "isMonth", desc := "(I)Z" } : Jvm.MethodName)) ∈ lw_all := lw_g (lw_at lw_m8 61 rfl) rfl
theorem q1847 : (Jvm.Cond.code ({ cls := "BelowWorthModel", name := "isMonth", desc := "(I)Z" } : Jvm.MethodName) prog_23_method_5_code (1 : Nat) (Option.some Jvm.ClassFile.FieldType.boolean)) ∈ lw_all := lw_g (lw_at lw_m8 62 rfl) rfl
theorem q1849 : (Jvm.Cond.instanceMethod ({ cls := "BelowWorthModel", name := "costs", desc := "(IIII)I" } : Jvm.MethodName)) ∈ lw_all := lw_g (lw_at lw_m8 64 rfl) rfl
theorem q1850 : (Jvm.Cond.selects "BelowWorthModel" ({ cls := "BelowWorthModel", name := "costs", desc := "(IIII)I" } : Jvm.MethodName) ({ cls := "BelowWorthModel", name := "costs", desc := "(IIII)I" } : Jvm.MethodName)) ∈ lw_all := lw_g (lw_at lw_m8 65 rfl) rfl
theorem q1851 : (Jvm.Cond.code ({ cls := "BelowWorthModel", name := "costs", desc := "(IIII)I" } : Jvm.MethodName) prog_23_method_13_code (5 : Nat) (Option.some Jvm.ClassFile.FieldType.int)) ∈ lw_all := lw_g (lw_at lw_m8 66 rfl) rfl
theorem q1852 : (Jvm.Cond.methodLink "BelowWorthModel" (283 : Nat) ({ cls := "BelowWorthModel", name := "isDay", desc := "(I)Z" } : Jvm.MethodName)) ∈ lw_all := lw_g (lw_at lw_m8 67 rfl) rfl
theorem q1853 : (Jvm.Cond.static ({ cls := "BelowWorthModel", name := "isDay", desc := "(I)Z" } : Jvm.MethodName)) ∈ lw_all := lw_g (lw_at lw_m8 68 rfl) rfl
theorem q1854 : (Jvm.Cond.code ({ cls := "BelowWorthModel", name := "isDay", desc := "(I)Z" } : Jvm.MethodName) prog_23_method_4_code (1 : Nat) (Option.some Jvm.ClassFile.FieldType.boolean)) ∈ lw_all := lw_g (lw_at lw_m8 69 rfl) rfl
theorem q1855 : (Jvm.Cond.methodLink "BelowWorthModel" (286 : Nat) ({ cls := "BelowWorthModel", name := "costOf", desc := "(IIII)I" } : Jvm.MethodName)) ∈ lw_all := lw_g (lw_at lw_m8 70 rfl) rfl
theorem q1856 : (Jvm.Cond.privateMethod ({ cls := "BelowWorthModel", name := "costOf", desc := "(IIII)I" } : Jvm.MethodName)) ∈ lw_tbl := lw_at lw_m8 71 rfl
theorem q1857 : (Jvm.Cond.instanceMethod ({ cls := "BelowWorthModel", name := "costOf", desc := "(IIII)I" } : Jvm.MethodName)) ∈ lw_all := lw_g (lw_at lw_m8 72 rfl) rfl
theorem q1858 : (Jvm.Cond.code ({ cls := "BelowWorthModel", name := "costOf", desc := "(IIII)I" } : Jvm.MethodName) prog_23_method_12_code (7 : Nat) (Option.some Jvm.ClassFile.FieldType.int)) ∈ lw_all := lw_g (lw_at lw_m8 73 rfl) rfl
theorem q1860 : (Jvm.Cond.instanceMethod ({ cls := "BelowWorthModel", name := "sale", desc := "(IZIIIIZ)I" } : Jvm.MethodName)) ∈ lw_all := lw_g (lw_at lw_m8 75 rfl) rfl
theorem q1861 : (Jvm.Cond.selects "BelowWorthModel" ({ cls := "BelowWorthModel", name := "sale", desc := "(IZIIIIZ)I" } : Jvm.MethodName) ({ cls := "BelowWorthModel", name := "sale", desc := "(IZIIIIZ)I" } : Jvm.MethodName)) ∈ lw_all := lw_g (lw_at lw_m8 76 rfl) rfl
theorem q1862 : (Jvm.Cond.code ({ cls := "BelowWorthModel", name := "sale", desc := "(IZIIIIZ)I" } : Jvm.MethodName) prog_23_method_14_code (8 : Nat) (Option.some Jvm.ClassFile.FieldType.int)) ∈ lw_all := lw_g (lw_at lw_m8 77 rfl) rfl
theorem q1863 : (Jvm.Cond.constant "BelowWorthModel" (293 : Nat) (100000 : Int32)) ∈ lw_all := lw_g (lw_at lw_m8 78 rfl) rfl
theorem q1865 : (Jvm.Cond.instanceMethod ({ cls := "BelowWorthModel", name := "strike", desc := "(I)Z" } : Jvm.MethodName)) ∈ lw_all := lw_g (lw_at lw_m8 80 rfl) rfl
theorem q1866 : (Jvm.Cond.selects "BelowWorthModel" ({ cls := "BelowWorthModel", name := "strike", desc := "(I)Z" } : Jvm.MethodName) ({ cls := "BelowWorthModel", name := "strike", desc := "(I)Z" } : Jvm.MethodName)) ∈ lw_all := lw_g (lw_at lw_m8 81 rfl) rfl
theorem q1867 : (Jvm.Cond.code ({ cls := "BelowWorthModel", name := "strike", desc := "(I)Z" } : Jvm.MethodName) prog_23_method_16_code (2 : Nat) (Option.some Jvm.ClassFile.FieldType.boolean)) ∈ lw_all := lw_g (lw_at lw_m8 82 rfl) rfl
theorem q1868 : (Jvm.Cond.methodLink "BelowWorthModel" (294 : Nat) ({ cls := "BelowWorthModel", name := "isSale", desc := "(I)Z" } : Jvm.MethodName)) ∈ lw_all := lw_g (lw_at lw_m8 83 rfl) rfl
theorem q1869 : (Jvm.Cond.privateMethod ({ cls := "BelowWorthModel", name := "isSale", desc := "(I)Z" } : Jvm.MethodName)) ∈ lw_tbl := lw_at lw_m8 84 rfl
theorem q1870 : (Jvm.Cond.instanceMethod ({ cls := "BelowWorthModel", name := "isSale", desc := "(I)Z" } : Jvm.MethodName)) ∈ lw_all := lw_g (lw_at lw_m8 85 rfl) rfl
theorem q1871 : (Jvm.Cond.code ({ cls := "BelowWorthModel", name := "isSale", desc := "(I)Z" } : Jvm.MethodName) prog_23_method_15_code (2 : Nat) (Option.some Jvm.ClassFile.FieldType.boolean)) ∈ lw_all := lw_g (lw_at lw_m8 86 rfl) rfl
theorem q1873 : (Jvm.Cond.instanceMethod ({ cls := "BelowWorthModel", name := "adjust", desc := "(IIIZ)I" } : Jvm.MethodName)) ∈ lw_all := lw_g (lw_at lw_m8 88 rfl) rfl
theorem q1874 : (Jvm.Cond.selects "BelowWorthModel" ({ cls := "BelowWorthModel", name := "adjust", desc := "(IIIZ)I" } : Jvm.MethodName) ({ cls := "BelowWorthModel", name := "adjust", desc := "(IIIZ)I" } : Jvm.MethodName)) ∈ lw_all := lw_g (lw_at lw_m8 89 rfl) rfl
theorem q1875 : (Jvm.Cond.code ({ cls := "BelowWorthModel", name := "adjust", desc := "(IIIZ)I" } : Jvm.MethodName) prog_23_method_17_code (5 : Nat) (Option.some Jvm.ClassFile.FieldType.int)) ∈ lw_all := lw_g (lw_at lw_m8 90 rfl) rfl
theorem q1877 : (Jvm.Cond.instanceMethod ({ cls := "BelowWorthModel", name := "feed", desc := "(IIIII)I" } : Jvm.MethodName)) ∈ lw_all := lw_g (lw_at lw_m8 92 rfl) rfl
theorem q1878 : (Jvm.Cond.selects "BelowWorthModel" ({ cls := "BelowWorthModel", name := "feed", desc := "(IIIII)I" } : Jvm.MethodName) ({ cls := "BelowWorthModel", name := "feed", desc := "(IIIII)I" } : Jvm.MethodName)) ∈ lw_all := lw_g (lw_at lw_m8 93 rfl) rfl
theorem q1879 : (Jvm.Cond.code ({ cls := "BelowWorthModel", name := "feed", desc := "(IIIII)I" } : Jvm.MethodName) prog_23_method_20_code (6 : Nat) (Option.some Jvm.ClassFile.FieldType.int)) ∈ lw_all := lw_g (lw_at lw_m8 94 rfl) rfl
theorem q1880 : (Jvm.Cond.methodLink "BelowWorthModel" (303 : Nat) ({ cls := "BelowWorthModel", name := "put", desc := "(I)V" } : Jvm.MethodName)) ∈ lw_all := lw_g (lw_at lw_m8 95 rfl) rfl
theorem q1881 : (Jvm.Cond.privateMethod ({ cls := "BelowWorthModel", name := "put", desc := "(I)V" } : Jvm.MethodName)) ∈ lw_tbl := lw_at lw_m8 96 rfl
theorem q1882 : (Jvm.Cond.instanceMethod ({ cls := "BelowWorthModel", name := "put", desc := "(I)V" } : Jvm.MethodName)) ∈ lw_all := lw_g (lw_at lw_m8 97 rfl) rfl
theorem q1883 : (Jvm.Cond.code ({ cls := "BelowWorthModel", name := "put", desc := "(I)V" } : Jvm.MethodName) prog_23_method_21_code (3 : Nat) (Option.none : Option Jvm.ClassFile.FieldType)) ∈ lw_all := lw_g (lw_at lw_m8 98 rfl) rfl
theorem q1885 : (Jvm.Cond.instanceMethod ({ cls := "BelowWorthModel", name := "end", desc := "(I)I" } : Jvm.MethodName)) ∈ lw_all := lw_g (lw_at lw_m8 100 rfl) rfl
theorem q1886 : (Jvm.Cond.selects "BelowWorthModel" ({ cls := "BelowWorthModel", name := "end", desc := "(I)I" } : Jvm.MethodName) ({ cls := "BelowWorthModel", name := "end", desc := "(I)I" } : Jvm.MethodName)) ∈ lw_all := lw_g (lw_at lw_m8 101 rfl) rfl
theorem q1887 : (Jvm.Cond.code ({ cls := "BelowWorthModel", name := "end", desc := "(I)I" } : Jvm.MethodName) prog_23_method_22_code (2 : Nat) (Option.some Jvm.ClassFile.FieldType.int)) ∈ lw_all := lw_g (lw_at lw_m8 102 rfl) rfl
theorem q1889 : (Jvm.Cond.instanceMethod ({ cls := "BelowWorthModel", name := "act", desc := "(I)I" } : Jvm.MethodName)) ∈ lw_all := lw_g (lw_at lw_m8 104 rfl) rfl
theorem q1890 : (Jvm.Cond.selects "BelowWorthModel" ({ cls := "BelowWorthModel", name := "act", desc := "(I)I" } : Jvm.MethodName) ({ cls := "BelowWorthModel", name := "act", desc := "(I)I" } : Jvm.MethodName)) ∈ lw_all := lw_g (lw_at lw_m8 105 rfl) rfl
theorem q1891 : (Jvm.Cond.code ({ cls := "BelowWorthModel", name := "act", desc := "(I)I" } : Jvm.MethodName) prog_23_method_49_code (3 : Nat) (Option.some Jvm.ClassFile.FieldType.int)) ∈ lw_all := lw_g (lw_at lw_m8 106 rfl) rfl
theorem q1892 : (Jvm.Cond.methodLink "BelowWorthModel" (477 : Nat) ({ cls := "BelowWorthModel", name := "clause", desc := "()V" } : Jvm.MethodName)) ∈ lw_all := lw_g (lw_at lw_m8 107 rfl) rfl
theorem q1893 : (Jvm.Cond.privateMethod ({ cls := "BelowWorthModel", name := "clause", desc := "()V" } : Jvm.MethodName)) ∈ lw_tbl := lw_at lw_m8 108 rfl
theorem q1894 : (Jvm.Cond.instanceMethod ({ cls := "BelowWorthModel", name := "clause", desc := "()V" } : Jvm.MethodName)) ∈ lw_all := lw_g (lw_at lw_m8 109 rfl) rfl
theorem q1895 : (Jvm.Cond.code ({ cls := "BelowWorthModel", name := "clause", desc := "()V" } : Jvm.MethodName) prog_23_method_48_code (5 : Nat) (Option.none : Option Jvm.ClassFile.FieldType)) ∈ lw_all := lw_g (lw_at lw_m8 110 rfl) rfl
theorem q1896 : (Jvm.Cond.methodLink "BelowWorthModel" (454 : Nat) ({ cls := "BelowWorthModel", name := "begins", desc := "()I" } : Jvm.MethodName)) ∈ lw_all := lw_g (lw_at lw_m8 111 rfl) rfl
theorem q1897 : (Jvm.Cond.privateMethod ({ cls := "BelowWorthModel", name := "begins", desc := "()I" } : Jvm.MethodName)) ∈ lw_tbl := lw_at lw_m8 112 rfl
theorem q1898 : (Jvm.Cond.instanceMethod ({ cls := "BelowWorthModel", name := "begins", desc := "()I" } : Jvm.MethodName)) ∈ lw_all := lw_g (lw_at lw_m8 113 rfl) rfl
theorem q1899 : (Jvm.Cond.code ({ cls := "BelowWorthModel", name := "begins", desc := "()I" } : Jvm.MethodName) prog_23_method_46_code (4 : Nat) (Option.some Jvm.ClassFile.FieldType.int)) ∈ lw_all := lw_g (lw_at lw_m8 114 rfl) rfl
theorem q1900 : (Jvm.Cond.methodLink "BelowWorthModel" (396 : Nat) ({ cls := "BelowWorthModel", name := "blanks", desc := "()V" } : Jvm.MethodName)) ∈ lw_all := lw_g (lw_at lw_m8 115 rfl) rfl
theorem q1901 : (Jvm.Cond.privateMethod ({ cls := "BelowWorthModel", name := "blanks", desc := "()V" } : Jvm.MethodName)) ∈ lw_tbl := lw_at lw_m8 116 rfl
theorem q1902 : (Jvm.Cond.instanceMethod ({ cls := "BelowWorthModel", name := "blanks", desc := "()V" } : Jvm.MethodName)) ∈ lw_all := lw_g (lw_at lw_m8 117 rfl) rfl
theorem q1903 : (Jvm.Cond.code ({ cls := "BelowWorthModel", name := "blanks", desc := "()V" } : Jvm.MethodName) prog_23_method_24_code (1 : Nat) (Option.none : Option Jvm.ClassFile.FieldType)) ∈ lw_all := lw_g (lw_at lw_m8 118 rfl) rfl
theorem q1904 : (Jvm.Cond.methodLink "BelowWorthModel" (416 : Nat) ({ cls := "BelowWorthModel", name := "wordEnd", desc := "()I" } : Jvm.MethodName)) ∈ lw_all := lw_g (lw_at lw_m8 119 rfl) rfl
theorem q1905 : (Jvm.Cond.privateMethod ({ cls := "BelowWorthModel", name := "wordEnd", desc := "()I" } : Jvm.MethodName)) ∈ lw_tbl := lw_at lw_m8 120 rfl
theorem q1906 : (Jvm.Cond.instanceMethod ({ cls := "BelowWorthModel", name := "wordEnd", desc := "()I" } : Jvm.MethodName)) ∈ lw_all := lw_g (lw_at lw_m8 121 rfl) rfl
theorem q1907 : (Jvm.Cond.code ({ cls := "BelowWorthModel", name := "wordEnd", desc := "()I" } : Jvm.MethodName) prog_23_method_27_code (2 : Nat) (Option.some Jvm.ClassFile.FieldType.int)) ∈ lw_all := lw_g (lw_at lw_m8 122 rfl) rfl
theorem q1908 : (Jvm.Cond.methodLink "BelowWorthModel" (446 : Nat) ({ cls := "BelowWorthModel", name := "clauseOf", desc := "(I)Ljava/lang/String;" } : Jvm.MethodName)) ∈ lw_all := lw_g (lw_at lw_m8 123 rfl) rfl
theorem q1909 : (Jvm.Cond.static ({ cls := "BelowWorthModel", name := "clauseOf", desc := "(I)Ljava/lang/String;" } : Jvm.MethodName)) ∈ lw_all := lw_g (lw_at lw_m8 124 rfl) rfl
theorem q1910 : (Jvm.Cond.code ({ cls := "BelowWorthModel", name := "clauseOf", desc := "(I)Ljava/lang/String;" } : Jvm.MethodName) prog_23_method_30_code (1 : Nat) (Option.some (Jvm.ClassFile.FieldType.object "java/lang/String"))) ∈ lw_all := lw_g (lw_at lw_m8 125 rfl) rfl
theorem q1911 : (Jvm.Cond.stringRef "BelowWorthModel" (350 : Nat) "adjust") ∈ lw_tbl := lw_at lw_m8 126 rfl
theorem q1912 : (Jvm.Cond.stringRef "BelowWorthModel" (352 : Nat) "drop") ∈ lw_tbl := lw_at lw_m8 127 rfl
theorem q1913 : (Jvm.Cond.stringRef "BelowWorthModel" (354 : Nat) "facts") ∈ lw_tbl := lw_at lw_m8 128 rfl
theorem q1914 : (Jvm.Cond.stringRef "BelowWorthModel" (356 : Nat) "duty") ∈ lw_tbl := lw_at lw_m8 129 rfl
theorem q1915 : (Jvm.Cond.stringRef "BelowWorthModel" (358 : Nat) "near") ∈ lw_tbl := lw_at lw_m8 130 rfl
theorem q1916 : (Jvm.Cond.stringRef "BelowWorthModel" (360 : Nat) "back") ∈ lw_tbl := lw_at lw_m8 131 rfl
theorem q1917 : (Jvm.Cond.stringRef "BelowWorthModel" (362 : Nat) "profit") ∈ lw_tbl := lw_at lw_m8 132 rfl
theorem q1918 : (Jvm.Cond.stringRef "BelowWorthModel" (364 : Nat) "least") ∈ lw_tbl := lw_at lw_m8 133 rfl
theorem q1919 : (Jvm.Cond.stringRef "BelowWorthModel" (366 : Nat) "zero") ∈ lw_tbl := lw_at lw_m8 134 rfl
theorem q1920 : (Jvm.Cond.methodLink "BelowWorthModel" (423 : Nat) ({ cls := "BelowWorthModel", name := "is", desc := "(Ljava/lang/String;I)Z" } : Jvm.MethodName)) ∈ lw_all := lw_g (lw_at lw_m8 135 rfl) rfl
theorem q1921 : (Jvm.Cond.privateMethod ({ cls := "BelowWorthModel", name := "is", desc := "(Ljava/lang/String;I)Z" } : Jvm.MethodName)) ∈ lw_tbl := lw_at lw_m8 136 rfl
theorem q1922 : (Jvm.Cond.instanceMethod ({ cls := "BelowWorthModel", name := "is", desc := "(Ljava/lang/String;I)Z" } : Jvm.MethodName)) ∈ lw_all := lw_g (lw_at lw_m8 137 rfl) rfl
theorem q1923 : (Jvm.Cond.code ({ cls := "BelowWorthModel", name := "is", desc := "(Ljava/lang/String;I)Z" } : Jvm.MethodName) prog_23_method_28_code (5 : Nat) (Option.some Jvm.ClassFile.FieldType.boolean)) ∈ lw_all := lw_g (lw_at lw_m8 138 rfl) rfl
theorem q1924 : (Jvm.Cond.methodLink "BelowWorthModel" (316 : Nat) ({ cls := "java/lang/String", name := "length", desc := "()I" } : Jvm.MethodName)) ∈ lw_all := lw_g (lw_at lw_m8 139 rfl) rfl
theorem q1925 : (Jvm.Cond.methodLink "BelowWorthModel" (322 : Nat) ({ cls := "java/lang/String", name := "charAt", desc := "(I)C" } : Jvm.MethodName)) ∈ lw_all := lw_g (lw_at lw_m8 140 rfl) rfl
theorem q1926 : (Jvm.Cond.methodLink "BelowWorthModel" (371 : Nat) ({ cls := "BelowWorthModel", name := "fails", desc := "(II)V" } : Jvm.MethodName)) ∈ lw_all := lw_g (lw_at lw_m8 141 rfl) rfl
theorem q1927 : (Jvm.Cond.privateMethod ({ cls := "BelowWorthModel", name := "fails", desc := "(II)V" } : Jvm.MethodName)) ∈ lw_tbl := lw_at lw_m8 142 rfl
theorem q1928 : (Jvm.Cond.instanceMethod ({ cls := "BelowWorthModel", name := "fails", desc := "(II)V" } : Jvm.MethodName)) ∈ lw_all := lw_g (lw_at lw_m8 143 rfl) rfl
theorem q1929 : (Jvm.Cond.code ({ cls := "BelowWorthModel", name := "fails", desc := "(II)V" } : Jvm.MethodName) prog_23_method_23_code (3 : Nat) (Option.none : Option Jvm.ClassFile.FieldType)) ∈ lw_all := lw_g (lw_at lw_m8 144 rfl) rfl
theorem q1930 : (Jvm.Cond.methodLink "BelowWorthModel" (399 : Nat) ({ cls := "BelowWorthModel", name := "sign", desc := "()I" } : Jvm.MethodName)) ∈ lw_all := lw_g (lw_at lw_m8 145 rfl) rfl
theorem q1931 : (Jvm.Cond.privateMethod ({ cls := "BelowWorthModel", name := "sign", desc := "()I" } : Jvm.MethodName)) ∈ lw_tbl := lw_at lw_m8 146 rfl
theorem q1932 : (Jvm.Cond.instanceMethod ({ cls := "BelowWorthModel", name := "sign", desc := "()I" } : Jvm.MethodName)) ∈ lw_all := lw_g (lw_at lw_m8 147 rfl) rfl
theorem q1933 : (Jvm.Cond.code ({ cls := "BelowWorthModel", name := "sign", desc := "()I" } : Jvm.MethodName) prog_23_method_25_code (1 : Nat) (Option.some Jvm.ClassFile.FieldType.int)) ∈ lw_all := lw_g (lw_at lw_m8 148 rfl) rfl
theorem q1934 : (Jvm.Cond.methodLink "BelowWorthModel" (368 : Nat) ({ cls := "BelowWorthModel", name := "isDigit", desc := "(I)Z" } : Jvm.MethodName)) ∈ lw_all := lw_g (lw_at lw_m8 149 rfl) rfl
theorem q1935 : (Jvm.Cond.static ({ cls := "BelowWorthModel", name := "isDigit", desc := "(I)Z" } : Jvm.MethodName)) ∈ lw_all := lw_g (lw_at lw_m8 150 rfl) rfl
theorem q1936 : (Jvm.Cond.code ({ cls := "BelowWorthModel", name := "isDigit", desc := "(I)Z" } : Jvm.MethodName) prog_23_method_26_code (1 : Nat) (Option.some Jvm.ClassFile.FieldType.boolean)) ∈ lw_all := lw_g (lw_at lw_m8 151 rfl) rfl
theorem q1937 : (Jvm.Cond.methodLink "BelowWorthModel" (457 : Nat) ({ cls := "BelowWorthModel", name := "greatest", desc := "(I)I" } : Jvm.MethodName)) ∈ lw_all := lw_g (lw_at lw_m8 152 rfl) rfl
theorem q1938 : (Jvm.Cond.static ({ cls := "BelowWorthModel", name := "greatest", desc := "(I)I" } : Jvm.MethodName)) ∈ lw_all := lw_g (lw_at lw_m8 153 rfl) rfl
theorem q1939 : (Jvm.Cond.code ({ cls := "BelowWorthModel", name := "greatest", desc := "(I)I" } : Jvm.MethodName) prog_23_method_31_code (1 : Nat) (Option.some Jvm.ClassFile.FieldType.int)) ∈ lw_all := lw_g (lw_at lw_m8 154 rfl) rfl
theorem q1940 : (Jvm.Cond.methodLink "BelowWorthModel" (412 : Nat) ({ cls := "BelowWorthModel", name := "number", desc := "(I)I" } : Jvm.MethodName)) ∈ lw_all := lw_g (lw_at lw_m8 155 rfl) rfl
theorem q1941 : (Jvm.Cond.privateMethod ({ cls := "BelowWorthModel", name := "number", desc := "(I)I" } : Jvm.MethodName)) ∈ lw_tbl := lw_at lw_m8 156 rfl
theorem q1942 : (Jvm.Cond.instanceMethod ({ cls := "BelowWorthModel", name := "number", desc := "(I)I" } : Jvm.MethodName)) ∈ lw_all := lw_g (lw_at lw_m8 157 rfl) rfl
theorem q1943 : (Jvm.Cond.code ({ cls := "BelowWorthModel", name := "number", desc := "(I)I" } : Jvm.MethodName) prog_23_method_32_code (4 : Nat) (Option.some Jvm.ClassFile.FieldType.int)) ∈ lw_all := lw_g (lw_at lw_m8 158 rfl) rfl
theorem q1944 : (Jvm.Cond.methodLink "BelowWorthModel" (460 : Nat) ({ cls := "BelowWorthModel", name := "hasTest", desc := "(I)Z" } : Jvm.MethodName)) ∈ lw_all := lw_g (lw_at lw_m8 159 rfl) rfl
theorem q1945 : (Jvm.Cond.privateMethod ({ cls := "BelowWorthModel", name := "hasTest", desc := "(I)Z" } : Jvm.MethodName)) ∈ lw_tbl := lw_at lw_m8 160 rfl
theorem q1946 : (Jvm.Cond.instanceMethod ({ cls := "BelowWorthModel", name := "hasTest", desc := "(I)Z" } : Jvm.MethodName)) ∈ lw_all := lw_g (lw_at lw_m8 161 rfl) rfl
theorem q1947 : (Jvm.Cond.code ({ cls := "BelowWorthModel", name := "hasTest", desc := "(I)Z" } : Jvm.MethodName) prog_23_method_47_code (3 : Nat) (Option.some Jvm.ClassFile.FieldType.boolean)) ∈ lw_all := lw_g (lw_at lw_m8 162 rfl) rfl
theorem q1948 : (Jvm.Cond.stringRef "BelowWorthModel" (452 : Nat) "if") ∈ lw_tbl := lw_at lw_m8 163 rfl
theorem q1949 : (Jvm.Cond.methodLink "BelowWorthModel" (463 : Nat) ({ cls := "BelowWorthModel", name := "wantsFact", desc := "()I" } : Jvm.MethodName)) ∈ lw_all := lw_g (lw_at lw_m8 164 rfl) rfl
theorem q1950 : (Jvm.Cond.privateMethod ({ cls := "BelowWorthModel", name := "wantsFact", desc := "()I" } : Jvm.MethodName)) ∈ lw_tbl := lw_at lw_m8 165 rfl
theorem q1951 : (Jvm.Cond.instanceMethod ({ cls := "BelowWorthModel", name := "wantsFact", desc := "()I" } : Jvm.MethodName)) ∈ lw_all := lw_g (lw_at lw_m8 166 rfl) rfl
theorem q1952 : (Jvm.Cond.code ({ cls := "BelowWorthModel", name := "wantsFact", desc := "()I" } : Jvm.MethodName) prog_23_method_42_code (3 : Nat) (Option.some Jvm.ClassFile.FieldType.int)) ∈ lw_all := lw_g (lw_at lw_m8 167 rfl) rfl
theorem q1953 : (Jvm.Cond.stringRef "BelowWorthModel" (427 : Nat) "not") ∈ lw_tbl := lw_at lw_m8 168 rfl
theorem q1954 : (Jvm.Cond.methodLink "BelowWorthModel" (402 : Nat) ({ cls := "BelowWorthModel", name := "deeper", desc := "(I)V" } : Jvm.MethodName)) ∈ lw_all := lw_g (lw_at lw_m8 169 rfl) rfl
theorem q1955 : (Jvm.Cond.privateMethod ({ cls := "BelowWorthModel", name := "deeper", desc := "(I)V" } : Jvm.MethodName)) ∈ lw_tbl := lw_at lw_m8 170 rfl
theorem q1956 : (Jvm.Cond.instanceMethod ({ cls := "BelowWorthModel", name := "deeper", desc := "(I)V" } : Jvm.MethodName)) ∈ lw_all := lw_g (lw_at lw_m8 171 rfl) rfl
theorem q1957 : (Jvm.Cond.code ({ cls := "BelowWorthModel", name := "deeper", desc := "(I)V" } : Jvm.MethodName) prog_23_method_37_code (2 : Nat) (Option.none : Option Jvm.ClassFile.FieldType)) ∈ lw_all := lw_g (lw_at lw_m8 172 rfl) rfl
theorem q1958 : (Jvm.Cond.methodLink "BelowWorthModel" (408 : Nat) ({ cls := "BelowWorthModel", name := "opens", desc := "(I)V" } : Jvm.MethodName)) ∈ lw_all := lw_g (lw_at lw_m8 173 rfl) rfl
theorem q1959 : (Jvm.Cond.privateMethod ({ cls := "BelowWorthModel", name := "opens", desc := "(I)V" } : Jvm.MethodName)) ∈ lw_tbl := lw_at lw_m8 174 rfl
theorem q1960 : (Jvm.Cond.instanceMethod ({ cls := "BelowWorthModel", name := "opens", desc := "(I)V" } : Jvm.MethodName)) ∈ lw_all := lw_g (lw_at lw_m8 175 rfl) rfl
theorem q1961 : (Jvm.Cond.code ({ cls := "BelowWorthModel", name := "opens", desc := "(I)V" } : Jvm.MethodName) prog_23_method_34_code (2 : Nat) (Option.none : Option Jvm.ClassFile.FieldType)) ∈ lw_all := lw_g (lw_at lw_m8 176 rfl) rfl
theorem q1962 : (Jvm.Cond.methodLink "BelowWorthModel" (466 : Nat) ({ cls := "BelowWorthModel", name := "value", desc := "()Z" } : Jvm.MethodName)) ∈ lw_all := lw_g (lw_at lw_m8 177 rfl) rfl
theorem q1963 : (Jvm.Cond.privateMethod ({ cls := "BelowWorthModel", name := "value", desc := "()Z" } : Jvm.MethodName)) ∈ lw_tbl := lw_at lw_m8 178 rfl
theorem q1964 : (Jvm.Cond.instanceMethod ({ cls := "BelowWorthModel", name := "value", desc := "()Z" } : Jvm.MethodName)) ∈ lw_all := lw_g (lw_at lw_m8 179 rfl) rfl
theorem q1965 : (Jvm.Cond.code ({ cls := "BelowWorthModel", name := "value", desc := "()Z" } : Jvm.MethodName) prog_23_method_40_code (5 : Nat) (Option.some Jvm.ClassFile.FieldType.boolean)) ∈ lw_all := lw_g (lw_at lw_m8 180 rfl) rfl
theorem q1966 : (Jvm.Cond.methodLink "BelowWorthModel" (405 : Nat) ({ cls := "BelowWorthModel", name := "counts", desc := "(I)V" } : Jvm.MethodName)) ∈ lw_all := lw_g (lw_at lw_m8 181 rfl) rfl
theorem q1967 : (Jvm.Cond.privateMethod ({ cls := "BelowWorthModel", name := "counts", desc := "(I)V" } : Jvm.MethodName)) ∈ lw_tbl := lw_at lw_m8 182 rfl
theorem q1968 : (Jvm.Cond.instanceMethod ({ cls := "BelowWorthModel", name := "counts", desc := "(I)V" } : Jvm.MethodName)) ∈ lw_all := lw_g (lw_at lw_m8 183 rfl) rfl
theorem q1969 : (Jvm.Cond.code ({ cls := "BelowWorthModel", name := "counts", desc := "(I)V" } : Jvm.MethodName) prog_23_method_39_code (2 : Nat) (Option.none : Option Jvm.ClassFile.FieldType)) ∈ lw_all := lw_g (lw_at lw_m8 184 rfl) rfl
theorem q1970 : (Jvm.Cond.constant "BelowWorthModel" (411 : Nat) (99999 : Int32)) ∈ lw_all := lw_g (lw_at lw_m8 185 rfl) rfl
theorem q1971 : (Jvm.Cond.methodLink "BelowWorthModel" (390 : Nat) ({ cls := "BelowWorthModel", name := "emits", desc := "(II)V" } : Jvm.MethodName)) ∈ lw_all := lw_g (lw_at lw_m8 186 rfl) rfl
theorem q1972 : (Jvm.Cond.privateMethod ({ cls := "BelowWorthModel", name := "emits", desc := "(II)V" } : Jvm.MethodName)) ∈ lw_tbl := lw_at lw_m8 187 rfl
theorem q1973 : (Jvm.Cond.instanceMethod ({ cls := "BelowWorthModel", name := "emits", desc := "(II)V" } : Jvm.MethodName)) ∈ lw_all := lw_g (lw_at lw_m8 188 rfl) rfl
theorem q1974 : (Jvm.Cond.code ({ cls := "BelowWorthModel", name := "emits", desc := "(II)V" } : Jvm.MethodName) prog_23_method_33_code (3 : Nat) (Option.none : Option Jvm.ClassFile.FieldType)) ∈ lw_all := lw_g (lw_at lw_m8 189 rfl) rfl
theorem q1975 : (Jvm.Cond.methodLink "BelowWorthModel" (419 : Nat) ({ cls := "BelowWorthModel", name := "wordOf", desc := "(I)Ljava/lang/String;" } : Jvm.MethodName)) ∈ lw_all := lw_g (lw_at lw_m8 190 rfl) rfl
theorem q1976 : (Jvm.Cond.static ({ cls := "BelowWorthModel", name := "wordOf", desc := "(I)Ljava/lang/String;" } : Jvm.MethodName)) ∈ lw_all := lw_g (lw_at lw_m8 191 rfl) rfl
theorem q1977 : (Jvm.Cond.code ({ cls := "BelowWorthModel", name := "wordOf", desc := "(I)Ljava/lang/String;" } : Jvm.MethodName) prog_23_method_29_code (1 : Nat) (Option.some (Jvm.ClassFile.FieldType.object "java/lang/String"))) ∈ lw_all := lw_g (lw_at lw_m8 192 rfl) rfl
theorem q1978 : (Jvm.Cond.stringRef "BelowWorthModel" (326 : Nat) "price") ∈ lw_tbl := lw_at lw_m8 193 rfl
theorem q1979 : (Jvm.Cond.stringRef "BelowWorthModel" (328 : Nat) "tons") ∈ lw_tbl := lw_at lw_m8 194 rfl
theorem q1980 : (Jvm.Cond.stringRef "BelowWorthModel" (330 : Nat) "grade") ∈ lw_tbl := lw_at lw_m8 195 rfl
theorem q1981 : (Jvm.Cond.stringRef "BelowWorthModel" (332 : Nat) "month") ∈ lw_tbl := lw_at lw_m8 196 rfl
theorem q1982 : (Jvm.Cond.stringRef "BelowWorthModel" (334 : Nat) "related") ∈ lw_tbl := lw_at lw_m8 197 rfl
theorem q1983 : (Jvm.Cond.stringRef "BelowWorthModel" (336 : Nat) "cost") ∈ lw_tbl := lw_at lw_m8 198 rfl
theorem q1984 : (Jvm.Cond.stringRef "BelowWorthModel" (338 : Nat) "coins") ∈ lw_tbl := lw_at lw_m8 199 rfl
theorem q1985 : (Jvm.Cond.stringRef "BelowWorthModel" (340 : Nat) "proved") ∈ lw_tbl := lw_at lw_m8 200 rfl
theorem q1986 : (Jvm.Cond.stringRef "BelowWorthModel" (342 : Nat) "land") ∈ lw_tbl := lw_at lw_m8 201 rfl
theorem q1987 : (Jvm.Cond.stringRef "BelowWorthModel" (343 : Nat) "lacks") ∈ lw_tbl := lw_at lw_m8 202 rfl
theorem q1988 : (Jvm.Cond.stringRef "BelowWorthModel" (345 : Nat) "sales") ∈ lw_tbl := lw_at lw_m8 203 rfl
theorem q1989 : (Jvm.Cond.stringRef "BelowWorthModel" (346 : Nat) "margin") ∈ lw_tbl := lw_at lw_m8 204 rfl
theorem q1990 : (Jvm.Cond.stringRef "BelowWorthModel" (348 : Nat) "against") ∈ lw_tbl := lw_at lw_m8 205 rfl
theorem q1991 : (Jvm.Cond.methodLink "BelowWorthModel" (470 : Nat) ({ cls := "BelowWorthModel", name := "hasValue", desc := "(Z)I" } : Jvm.MethodName)) ∈ lw_all := lw_g (lw_at lw_m8 206 rfl) rfl
theorem q1992 : (Jvm.Cond.privateMethod ({ cls := "BelowWorthModel", name := "hasValue", desc := "(Z)I" } : Jvm.MethodName)) ∈ lw_tbl := lw_at lw_m8 207 rfl
theorem q1993 : (Jvm.Cond.instanceMethod ({ cls := "BelowWorthModel", name := "hasValue", desc := "(Z)I" } : Jvm.MethodName)) ∈ lw_all := lw_g (lw_at lw_m8 208 rfl) rfl
theorem q1994 : (Jvm.Cond.code ({ cls := "BelowWorthModel", name := "hasValue", desc := "(Z)I" } : Jvm.MethodName) prog_23_method_43_code (5 : Nat) (Option.some Jvm.ClassFile.FieldType.int)) ∈ lw_all := lw_g (lw_at lw_m8 209 rfl) rfl
theorem q1995 : (Jvm.Cond.methodLink "BelowWorthModel" (429 : Nat) ({ cls := "BelowWorthModel", name := "sums", desc := "(Z)V" } : Jvm.MethodName)) ∈ lw_all := lw_g (lw_at lw_m8 210 rfl) rfl
theorem q1996 : (Jvm.Cond.privateMethod ({ cls := "BelowWorthModel", name := "sums", desc := "(Z)V" } : Jvm.MethodName)) ∈ lw_tbl := lw_at lw_m8 211 rfl
theorem q1997 : (Jvm.Cond.instanceMethod ({ cls := "BelowWorthModel", name := "sums", desc := "(Z)V" } : Jvm.MethodName)) ∈ lw_all := lw_g (lw_at lw_m8 212 rfl) rfl
theorem q1998 : (Jvm.Cond.code ({ cls := "BelowWorthModel", name := "sums", desc := "(Z)V" } : Jvm.MethodName) prog_23_method_38_code (2 : Nat) (Option.none : Option Jvm.ClassFile.FieldType)) ∈ lw_all := lw_g (lw_at lw_m8 213 rfl) rfl
theorem q1999 : (Jvm.Cond.methodLink "BelowWorthModel" (387 : Nat) ({ cls := "BelowWorthModel", name := "top", desc := "()I" } : Jvm.MethodName)) ∈ lw_all := lw_g (lw_at lw_m8 214 rfl) rfl
theorem q2000 : (Jvm.Cond.privateMethod ({ cls := "BelowWorthModel", name := "top", desc := "()I" } : Jvm.MethodName)) ∈ lw_tbl := lw_at lw_m8 215 rfl
theorem q2001 : (Jvm.Cond.instanceMethod ({ cls := "BelowWorthModel", name := "top", desc := "()I" } : Jvm.MethodName)) ∈ lw_all := lw_g (lw_at lw_m8 216 rfl) rfl
theorem q2002 : (Jvm.Cond.code ({ cls := "BelowWorthModel", name := "top", desc := "()I" } : Jvm.MethodName) prog_23_method_35_code (1 : Nat) (Option.some Jvm.ClassFile.FieldType.int)) ∈ lw_all := lw_g (lw_at lw_m8 217 rfl) rfl
theorem q2003 : (Jvm.Cond.methodLink "BelowWorthModel" (433 : Nat) ({ cls := "BelowWorthModel", name := "isSign", desc := "(I)Z" } : Jvm.MethodName)) ∈ lw_all := lw_g (lw_at lw_m8 218 rfl) rfl
theorem q2004 : (Jvm.Cond.static ({ cls := "BelowWorthModel", name := "isSign", desc := "(I)Z" } : Jvm.MethodName)) ∈ lw_all := lw_g (lw_at lw_m8 219 rfl) rfl
theorem q2005 : (Jvm.Cond.code ({ cls := "BelowWorthModel", name := "isSign", desc := "(I)Z" } : Jvm.MethodName) prog_23_method_36_code (1 : Nat) (Option.some Jvm.ClassFile.FieldType.boolean)) ∈ lw_all := lw_g (lw_at lw_m8 220 rfl) rfl
theorem q2006 : (Jvm.Cond.methodLink "BelowWorthModel" (436 : Nat) ({ cls := "BelowWorthModel", name := "compares", desc := "()I" } : Jvm.MethodName)) ∈ lw_all := lw_g (lw_at lw_m8 221 rfl) rfl
theorem q2007 : (Jvm.Cond.privateMethod ({ cls := "BelowWorthModel", name := "compares", desc := "()I" } : Jvm.MethodName)) ∈ lw_tbl := lw_at lw_m8 222 rfl
theorem q2008 : (Jvm.Cond.instanceMethod ({ cls := "BelowWorthModel", name := "compares", desc := "()I" } : Jvm.MethodName)) ∈ lw_all := lw_g (lw_at lw_m8 223 rfl) rfl
theorem q2009 : (Jvm.Cond.code ({ cls := "BelowWorthModel", name := "compares", desc := "()I" } : Jvm.MethodName) prog_23_method_41_code (3 : Nat) (Option.some Jvm.ClassFile.FieldType.int)) ∈ lw_all := lw_g (lw_at lw_m8 224 rfl) rfl
theorem q2010 : (Jvm.Cond.methodLink "BelowWorthModel" (474 : Nat) ({ cls := "BelowWorthModel", name := "hasFact", desc := "()I" } : Jvm.MethodName)) ∈ lw_all := lw_g (lw_at lw_m8 225 rfl) rfl
theorem q2011 : (Jvm.Cond.privateMethod ({ cls := "BelowWorthModel", name := "hasFact", desc := "()I" } : Jvm.MethodName)) ∈ lw_tbl := lw_at lw_m8 226 rfl
theorem q2012 : (Jvm.Cond.instanceMethod ({ cls := "BelowWorthModel", name := "hasFact", desc := "()I" } : Jvm.MethodName)) ∈ lw_all := lw_g (lw_at lw_m8 227 rfl) rfl
theorem q2013 : (Jvm.Cond.code ({ cls := "BelowWorthModel", name := "hasFact", desc := "()I" } : Jvm.MethodName) prog_23_method_45_code (3 : Nat) (Option.some Jvm.ClassFile.FieldType.int)) ∈ lw_all := lw_g (lw_at lw_m8 228 rfl) rfl
theorem q2014 : (Jvm.Cond.stringRef "BelowWorthModel" (439 : Nat) "and") ∈ lw_tbl := lw_at lw_m8 229 rfl
theorem q2015 : (Jvm.Cond.stringRef "BelowWorthModel" (441 : Nat) "or") ∈ lw_tbl := lw_at lw_m8 230 rfl
theorem q2016 : (Jvm.Cond.methodLink "BelowWorthModel" (443 : Nat) ({ cls := "BelowWorthModel", name := "ands", desc := "(Z)V" } : Jvm.MethodName)) ∈ lw_all := lw_g (lw_at lw_m8 231 rfl) rfl
theorem q2017 : (Jvm.Cond.privateMethod ({ cls := "BelowWorthModel", name := "ands", desc := "(Z)V" } : Jvm.MethodName)) ∈ lw_tbl := lw_at lw_m8 232 rfl
theorem q2018 : (Jvm.Cond.instanceMethod ({ cls := "BelowWorthModel", name := "ands", desc := "(Z)V" } : Jvm.MethodName)) ∈ lw_all := lw_g (lw_at lw_m8 233 rfl) rfl
theorem q2019 : (Jvm.Cond.code ({ cls := "BelowWorthModel", name := "ands", desc := "(Z)V" } : Jvm.MethodName) prog_23_method_44_code (2 : Nat) (Option.none : Option Jvm.ClassFile.FieldType)) ∈ lw_all := lw_g (lw_at lw_m8 234 rfl) rfl
theorem q2021 : (Jvm.Cond.instanceMethod ({ cls := "BelowWorthModel", name := "force", desc := "(II)I" } : Jvm.MethodName)) ∈ lw_all := lw_g (lw_at lw_m8 236 rfl) rfl
theorem q2022 : (Jvm.Cond.selects "BelowWorthModel" ({ cls := "BelowWorthModel", name := "force", desc := "(II)I" } : Jvm.MethodName) ({ cls := "BelowWorthModel", name := "force", desc := "(II)I" } : Jvm.MethodName)) ∈ lw_all := lw_g (lw_at lw_m8 237 rfl) rfl
theorem q2023 : (Jvm.Cond.code ({ cls := "BelowWorthModel", name := "force", desc := "(II)I" } : Jvm.MethodName) prog_23_method_53_code (4 : Nat) (Option.some Jvm.ClassFile.FieldType.int)) ∈ lw_all := lw_g (lw_at lw_m8 238 rfl) rfl
theorem q2024 : (Jvm.Cond.methodLink "BelowWorthModel" (484 : Nat) ({ cls := "BelowWorthModel", name := "inForce", desc := "(I)I" } : Jvm.MethodName)) ∈ lw_all := lw_g (lw_at lw_m8 239 rfl) rfl
theorem q2025 : (Jvm.Cond.privateMethod ({ cls := "BelowWorthModel", name := "inForce", desc := "(I)I" } : Jvm.MethodName)) ∈ lw_tbl := lw_at lw_m9 0 rfl
theorem q2026 : (Jvm.Cond.instanceMethod ({ cls := "BelowWorthModel", name := "inForce", desc := "(I)I" } : Jvm.MethodName)) ∈ lw_all := lw_g (lw_at lw_m9 1 rfl) rfl
theorem q2027 : (Jvm.Cond.code ({ cls := "BelowWorthModel", name := "inForce", desc := "(I)I" } : Jvm.MethodName) prog_23_method_50_code (4 : Nat) (Option.some Jvm.ClassFile.FieldType.int)) ∈ lw_all := lw_g (lw_at lw_m9 2 rfl) rfl
theorem q2028 : (Jvm.Cond.methodLink "BelowWorthModel" (487 : Nat) ({ cls := "BelowWorthModel", name := "numberIn", desc := "(II)I" } : Jvm.MethodName)) ∈ lw_all := lw_g (lw_at lw_m9 3 rfl) rfl
theorem q2029 : (Jvm.Cond.privateMethod ({ cls := "BelowWorthModel", name := "numberIn", desc := "(II)I" } : Jvm.MethodName)) ∈ lw_tbl := lw_at lw_m9 4 rfl
theorem q2030 : (Jvm.Cond.instanceMethod ({ cls := "BelowWorthModel", name := "numberIn", desc := "(II)I" } : Jvm.MethodName)) ∈ lw_all := lw_g (lw_at lw_m9 5 rfl) rfl
theorem q2031 : (Jvm.Cond.code ({ cls := "BelowWorthModel", name := "numberIn", desc := "(II)I" } : Jvm.MethodName) prog_23_method_52_code (4 : Nat) (Option.some Jvm.ClassFile.FieldType.int)) ∈ lw_all := lw_g (lw_at lw_m9 6 rfl) rfl
theorem q2032 : (Jvm.Cond.methodLink "BelowWorthModel" (480 : Nat) ({ cls := "BelowWorthModel", name := "clauseIn", desc := "(II)I" } : Jvm.MethodName)) ∈ lw_all := lw_g (lw_at lw_m9 7 rfl) rfl
theorem q2033 : (Jvm.Cond.privateMethod ({ cls := "BelowWorthModel", name := "clauseIn", desc := "(II)I" } : Jvm.MethodName)) ∈ lw_tbl := lw_at lw_m9 8 rfl
theorem q2034 : (Jvm.Cond.instanceMethod ({ cls := "BelowWorthModel", name := "clauseIn", desc := "(II)I" } : Jvm.MethodName)) ∈ lw_all := lw_g (lw_at lw_m9 9 rfl) rfl
theorem q2035 : (Jvm.Cond.code ({ cls := "BelowWorthModel", name := "clauseIn", desc := "(II)I" } : Jvm.MethodName) prog_23_method_51_code (4 : Nat) (Option.some Jvm.ClassFile.FieldType.int)) ∈ lw_all := lw_g (lw_at lw_m9 10 rfl) rfl
theorem q2037 : (Jvm.Cond.instanceMethod ({ cls := "BelowWorthModel", name := "sales", desc := "(III)I" } : Jvm.MethodName)) ∈ lw_all := lw_g (lw_at lw_m9 12 rfl) rfl
theorem q2038 : (Jvm.Cond.selects "BelowWorthModel" ({ cls := "BelowWorthModel", name := "sales", desc := "(III)I" } : Jvm.MethodName) ({ cls := "BelowWorthModel", name := "sales", desc := "(III)I" } : Jvm.MethodName)) ∈ lw_all := lw_g (lw_at lw_m9 13 rfl) rfl
theorem q2039 : (Jvm.Cond.code ({ cls := "BelowWorthModel", name := "sales", desc := "(III)I" } : Jvm.MethodName) prog_23_method_62_code (4 : Nat) (Option.some Jvm.ClassFile.FieldType.int)) ∈ lw_all := lw_g (lw_at lw_m9 14 rfl) rfl
theorem q2040 : (Jvm.Cond.methodLink "BelowWorthModel" (523 : Nat) ({ cls := "BelowWorthModel", name := "isThere", desc := "(II)Z" } : Jvm.MethodName)) ∈ lw_all := lw_g (lw_at lw_m9 15 rfl) rfl
theorem q2041 : (Jvm.Cond.privateMethod ({ cls := "BelowWorthModel", name := "isThere", desc := "(II)Z" } : Jvm.MethodName)) ∈ lw_tbl := lw_at lw_m9 16 rfl
theorem q2042 : (Jvm.Cond.instanceMethod ({ cls := "BelowWorthModel", name := "isThere", desc := "(II)Z" } : Jvm.MethodName)) ∈ lw_all := lw_g (lw_at lw_m9 17 rfl) rfl
theorem q2043 : (Jvm.Cond.code ({ cls := "BelowWorthModel", name := "isThere", desc := "(II)Z" } : Jvm.MethodName) prog_23_method_18_code (3 : Nat) (Option.some Jvm.ClassFile.FieldType.boolean)) ∈ lw_all := lw_g (lw_at lw_m9 18 rfl) rfl
theorem q2044 : (Jvm.Cond.methodLink "BelowWorthModel" (530 : Nat) ({ cls := "BelowWorthModel", name := "weigh", desc := "(II)V" } : Jvm.MethodName)) ∈ lw_all := lw_g (lw_at lw_m9 19 rfl) rfl
theorem q2045 : (Jvm.Cond.privateMethod ({ cls := "BelowWorthModel", name := "weigh", desc := "(II)V" } : Jvm.MethodName)) ∈ lw_tbl := lw_at lw_m9 20 rfl
theorem q2046 : (Jvm.Cond.instanceMethod ({ cls := "BelowWorthModel", name := "weigh", desc := "(II)V" } : Jvm.MethodName)) ∈ lw_all := lw_g (lw_at lw_m9 21 rfl) rfl
theorem q2047 : (Jvm.Cond.code ({ cls := "BelowWorthModel", name := "weigh", desc := "(II)V" } : Jvm.MethodName) prog_23_method_61_code (4 : Nat) (Option.none : Option Jvm.ClassFile.FieldType)) ∈ lw_all := lw_g (lw_at lw_m9 22 rfl) rfl
theorem q2048 : (Jvm.Cond.methodLink "BelowWorthModel" (527 : Nat) ({ cls := "BelowWorthModel", name := "netOf", desc := "(I)I" } : Jvm.MethodName)) ∈ lw_all := lw_g (lw_at lw_m9 23 rfl) rfl
theorem q2049 : (Jvm.Cond.privateMethod ({ cls := "BelowWorthModel", name := "netOf", desc := "(I)I" } : Jvm.MethodName)) ∈ lw_tbl := lw_at lw_m9 24 rfl
theorem q2050 : (Jvm.Cond.instanceMethod ({ cls := "BelowWorthModel", name := "netOf", desc := "(I)I" } : Jvm.MethodName)) ∈ lw_all := lw_g (lw_at lw_m9 25 rfl) rfl
theorem q2051 : (Jvm.Cond.code ({ cls := "BelowWorthModel", name := "netOf", desc := "(I)I" } : Jvm.MethodName) prog_23_method_60_code (5 : Nat) (Option.some Jvm.ClassFile.FieldType.int)) ∈ lw_all := lw_g (lw_at lw_m9 26 rfl) rfl
theorem q2052 : (Jvm.Cond.methodLink "BelowWorthModel" (511 : Nat) ({ cls := "BelowWorthModel", name := "ofSale", desc := "(I)V" } : Jvm.MethodName)) ∈ lw_all := lw_g (lw_at lw_m9 27 rfl) rfl
theorem q2053 : (Jvm.Cond.privateMethod ({ cls := "BelowWorthModel", name := "ofSale", desc := "(I)V" } : Jvm.MethodName)) ∈ lw_tbl := lw_at lw_m9 28 rfl
theorem q2054 : (Jvm.Cond.instanceMethod ({ cls := "BelowWorthModel", name := "ofSale", desc := "(I)V" } : Jvm.MethodName)) ∈ lw_all := lw_g (lw_at lw_m9 29 rfl) rfl
theorem q2055 : (Jvm.Cond.code ({ cls := "BelowWorthModel", name := "ofSale", desc := "(I)V" } : Jvm.MethodName) prog_23_method_59_code (2 : Nat) (Option.none : Option Jvm.ClassFile.FieldType)) ∈ lw_all := lw_g (lw_at lw_m9 30 rfl) rfl
theorem q2056 : (Jvm.Cond.methodLink "BelowWorthModel" (502 : Nat) ({ cls := "BelowWorthModel", name := "clears", desc := "()V" } : Jvm.MethodName)) ∈ lw_all := lw_g (lw_at lw_m9 31 rfl) rfl
theorem q2057 : (Jvm.Cond.privateMethod ({ cls := "BelowWorthModel", name := "clears", desc := "()V" } : Jvm.MethodName)) ∈ lw_tbl := lw_at lw_m9 32 rfl
theorem q2058 : (Jvm.Cond.instanceMethod ({ cls := "BelowWorthModel", name := "clears", desc := "()V" } : Jvm.MethodName)) ∈ lw_all := lw_g (lw_at lw_m9 33 rfl) rfl
theorem q2059 : (Jvm.Cond.code ({ cls := "BelowWorthModel", name := "clears", desc := "()V" } : Jvm.MethodName) prog_23_method_58_code (2 : Nat) (Option.none : Option Jvm.ClassFile.FieldType)) ∈ lw_all := lw_g (lw_at lw_m9 34 rfl) rfl
theorem q2060 : (Jvm.Cond.methodLink "BelowWorthModel" (505 : Nat) ({ cls := "BelowWorthModel", name := "monthOf", desc := "(I)I" } : Jvm.MethodName)) ∈ lw_all := lw_g (lw_at lw_m9 35 rfl) rfl
theorem q2061 : (Jvm.Cond.privateMethod ({ cls := "BelowWorthModel", name := "monthOf", desc := "(I)I" } : Jvm.MethodName)) ∈ lw_tbl := lw_at lw_m9 36 rfl
theorem q2062 : (Jvm.Cond.instanceMethod ({ cls := "BelowWorthModel", name := "monthOf", desc := "(I)I" } : Jvm.MethodName)) ∈ lw_all := lw_g (lw_at lw_m9 37 rfl) rfl
theorem q2063 : (Jvm.Cond.code ({ cls := "BelowWorthModel", name := "monthOf", desc := "(I)I" } : Jvm.MethodName) prog_23_method_19_code (2 : Nat) (Option.some Jvm.ClassFile.FieldType.int)) ∈ lw_all := lw_g (lw_at lw_m9 38 rfl) rfl
theorem q2064 : (Jvm.Cond.methodLink "BelowWorthModel" (494 : Nat) ({ cls := "BelowWorthModel", name := "truth", desc := "(Z)J" } : Jvm.MethodName)) ∈ lw_all := lw_g (lw_at lw_m9 39 rfl) rfl
theorem q2065 : (Jvm.Cond.static ({ cls := "BelowWorthModel", name := "truth", desc := "(Z)J" } : Jvm.MethodName)) ∈ lw_all := lw_g (lw_at lw_m9 40 rfl) rfl
theorem q2066 : (Jvm.Cond.code ({ cls := "BelowWorthModel", name := "truth", desc := "(Z)J" } : Jvm.MethodName) prog_23_method_54_code (1 : Nat) (Option.some Jvm.ClassFile.FieldType.long)) ∈ lw_all := lw_g (lw_at lw_m9 41 rfl) rfl
theorem q2067 : (Jvm.Cond.methodLink "BelowWorthModel" (517 : Nat) ({ cls := "BelowWorthModel", name := "some", desc := "(III)Z" } : Jvm.MethodName)) ∈ lw_all := lw_g (lw_at lw_m9 42 rfl) rfl
theorem q2068 : (Jvm.Cond.privateMethod ({ cls := "BelowWorthModel", name := "some", desc := "(III)Z" } : Jvm.MethodName)) ∈ lw_tbl := lw_at lw_m9 43 rfl
theorem q2069 : (Jvm.Cond.instanceMethod ({ cls := "BelowWorthModel", name := "some", desc := "(III)Z" } : Jvm.MethodName)) ∈ lw_all := lw_g (lw_at lw_m9 44 rfl) rfl
theorem q2070 : (Jvm.Cond.code ({ cls := "BelowWorthModel", name := "some", desc := "(III)Z" } : Jvm.MethodName) prog_23_method_57_code (6 : Nat) (Option.some Jvm.ClassFile.FieldType.boolean)) ∈ lw_all := lw_g (lw_at lw_m9 45 rfl) rfl
theorem q2071 : (Jvm.Cond.methodLink "BelowWorthModel" (498 : Nat) ({ cls := "BelowWorthModel", name := "worked", desc := "(I)J" } : Jvm.MethodName)) ∈ lw_all := lw_g (lw_at lw_m9 46 rfl) rfl
theorem q2072 : (Jvm.Cond.privateMethod ({ cls := "BelowWorthModel", name := "worked", desc := "(I)J" } : Jvm.MethodName)) ∈ lw_tbl := lw_at lw_m9 47 rfl
theorem q2073 : (Jvm.Cond.instanceMethod ({ cls := "BelowWorthModel", name := "worked", desc := "(I)J" } : Jvm.MethodName)) ∈ lw_all := lw_g (lw_at lw_m9 48 rfl) rfl
theorem q2074 : (Jvm.Cond.code ({ cls := "BelowWorthModel", name := "worked", desc := "(I)J" } : Jvm.MethodName) prog_23_method_55_code (7 : Nat) (Option.some Jvm.ClassFile.FieldType.long)) ∈ lw_all := lw_g (lw_at lw_m9 49 rfl) rfl
theorem q2075 : (Jvm.Cond.methodLink "BelowWorthModel" (490 : Nat) ({ cls := "BelowWorthModel", name := "joined", desc := "(IJJ)J" } : Jvm.MethodName)) ∈ lw_all := lw_g (lw_at lw_m9 50 rfl) rfl
theorem q2076 : (Jvm.Cond.static ({ cls := "BelowWorthModel", name := "joined", desc := "(IJJ)J" } : Jvm.MethodName)) ∈ lw_all := lw_g (lw_at lw_m9 51 rfl) rfl
theorem q2077 : (Jvm.Cond.code ({ cls := "BelowWorthModel", name := "joined", desc := "(IJJ)J" } : Jvm.MethodName) prog_23_method_56_code (5 : Nat) (Option.some Jvm.ClassFile.FieldType.long)) ∈ lw_all := lw_g (lw_at lw_m9 52 rfl) rfl
theorem q2079 : (Jvm.Cond.instanceMethod ({ cls := "BelowWorthModel", name := "worth", desc := "(IIII)I" } : Jvm.MethodName)) ∈ lw_all := lw_g (lw_at lw_m9 54 rfl) rfl
theorem q2080 : (Jvm.Cond.selects "BelowWorthModel" ({ cls := "BelowWorthModel", name := "worth", desc := "(IIII)I" } : Jvm.MethodName) ({ cls := "BelowWorthModel", name := "worth", desc := "(IIII)I" } : Jvm.MethodName)) ∈ lw_all := lw_g (lw_at lw_m9 55 rfl) rfl
theorem q2081 : (Jvm.Cond.code ({ cls := "BelowWorthModel", name := "worth", desc := "(IIII)I" } : Jvm.MethodName) prog_23_method_64_code (6 : Nat) (Option.some Jvm.ClassFile.FieldType.int)) ∈ lw_all := lw_g (lw_at lw_m9 56 rfl) rfl
theorem q2082 : (Jvm.Cond.methodLink "BelowWorthModel" (537 : Nat) ({ cls := "BelowWorthModel", name := "worthOf", desc := "(II)I" } : Jvm.MethodName)) ∈ lw_all := lw_g (lw_at lw_m9 57 rfl) rfl
theorem q2083 : (Jvm.Cond.privateMethod ({ cls := "BelowWorthModel", name := "worthOf", desc := "(II)I" } : Jvm.MethodName)) ∈ lw_tbl := lw_at lw_m9 58 rfl
theorem q2084 : (Jvm.Cond.instanceMethod ({ cls := "BelowWorthModel", name := "worthOf", desc := "(II)I" } : Jvm.MethodName)) ∈ lw_all := lw_g (lw_at lw_m9 59 rfl) rfl
theorem q2085 : (Jvm.Cond.code ({ cls := "BelowWorthModel", name := "worthOf", desc := "(II)I" } : Jvm.MethodName) prog_23_method_63_code (8 : Nat) (Option.some Jvm.ClassFile.FieldType.int)) ∈ lw_all := lw_g (lw_at lw_m9 60 rfl) rfl
theorem q2086 : (Jvm.Cond.constantLong "BelowWorthModel" (533 : Nat) (100 : Int64)) ∈ lw_all := lw_g (lw_at lw_m9 61 rfl) rfl
theorem q2087 : (Jvm.Cond.constantLong "BelowWorthModel" (535 : Nat) (1000 : Int64)) ∈ lw_all := lw_g (lw_at lw_m9 62 rfl) rfl
theorem q2089 : (Jvm.Cond.instanceMethod ({ cls := "BelowWorthModel", name := "by", desc := "(I)I" } : Jvm.MethodName)) ∈ lw_all := lw_g (lw_at lw_m9 64 rfl) rfl
theorem q2090 : (Jvm.Cond.selects "BelowWorthModel" ({ cls := "BelowWorthModel", name := "by", desc := "(I)I" } : Jvm.MethodName) ({ cls := "BelowWorthModel", name := "by", desc := "(I)I" } : Jvm.MethodName)) ∈ lw_all := lw_g (lw_at lw_m9 65 rfl) rfl
theorem q2091 : (Jvm.Cond.code ({ cls := "BelowWorthModel", name := "by", desc := "(I)I" } : Jvm.MethodName) prog_23_method_65_code (2 : Nat) (Option.some Jvm.ClassFile.FieldType.int)) ∈ lw_all := lw_g (lw_at lw_m9 66 rfl) rfl
theorem q2093 : (Jvm.Cond.instanceMethod ({ cls := "BelowWorthModel", name := "margin", desc := "(IIIIII)J" } : Jvm.MethodName)) ∈ lw_all := lw_g (lw_at lw_m9 68 rfl) rfl
theorem q2094 : (Jvm.Cond.selects "BelowWorthModel" ({ cls := "BelowWorthModel", name := "margin", desc := "(IIIIII)J" } : Jvm.MethodName) ({ cls := "BelowWorthModel", name := "margin", desc := "(IIIIII)J" } : Jvm.MethodName)) ∈ lw_all := lw_g (lw_at lw_m9 69 rfl) rfl
theorem q2095 : (Jvm.Cond.code ({ cls := "BelowWorthModel", name := "margin", desc := "(IIIIII)J" } : Jvm.MethodName) prog_23_method_69_code (13 : Nat) (Option.some Jvm.ClassFile.FieldType.long)) ∈ lw_all := lw_g (lw_at lw_m9 70 rfl) rfl
theorem q2096 : (Jvm.Cond.methodLink "BelowWorthModel" (549 : Nat) ({ cls := "BelowWorthModel", name := "isSpan", desc := "(III)Z" } : Jvm.MethodName)) ∈ lw_all := lw_g (lw_at lw_m9 71 rfl) rfl
theorem q2097 : (Jvm.Cond.privateMethod ({ cls := "BelowWorthModel", name := "isSpan", desc := "(III)Z" } : Jvm.MethodName)) ∈ lw_tbl := lw_at lw_m9 72 rfl
theorem q2098 : (Jvm.Cond.instanceMethod ({ cls := "BelowWorthModel", name := "isSpan", desc := "(III)Z" } : Jvm.MethodName)) ∈ lw_all := lw_g (lw_at lw_m9 73 rfl) rfl
theorem q2099 : (Jvm.Cond.code ({ cls := "BelowWorthModel", name := "isSpan", desc := "(III)Z" } : Jvm.MethodName) prog_23_method_68_code (4 : Nat) (Option.some Jvm.ClassFile.FieldType.boolean)) ∈ lw_all := lw_g (lw_at lw_m9 74 rfl) rfl
theorem q2100 : (Jvm.Cond.constantLong "BelowWorthModel" (552 : Nat) (-9000000000000000000 : Int64)) ∈ lw_all := lw_g (lw_at lw_m9 75 rfl) rfl
theorem q2101 : (Jvm.Cond.methodLink "BelowWorthModel" (554 : Nat) ({ cls := "BelowWorthModel", name := "margins", desc := "(III)V" } : Jvm.MethodName)) ∈ lw_all := lw_g (lw_at lw_m9 76 rfl) rfl
theorem q2102 : (Jvm.Cond.privateMethod ({ cls := "BelowWorthModel", name := "margins", desc := "(III)V" } : Jvm.MethodName)) ∈ lw_tbl := lw_at lw_m9 77 rfl
theorem q2103 : (Jvm.Cond.instanceMethod ({ cls := "BelowWorthModel", name := "margins", desc := "(III)V" } : Jvm.MethodName)) ∈ lw_all := lw_g (lw_at lw_m9 78 rfl) rfl
theorem q2104 : (Jvm.Cond.code ({ cls := "BelowWorthModel", name := "margins", desc := "(III)V" } : Jvm.MethodName) prog_23_method_67_code (9 : Nat) (Option.none : Option Jvm.ClassFile.FieldType)) ∈ lw_all := lw_g (lw_at lw_m9 79 rfl) rfl
theorem q2105 : (Jvm.Cond.methodLink "BelowWorthModel" (547 : Nat) ({ cls := "BelowWorthModel", name := "counts", desc := "(III)Z" } : Jvm.MethodName)) ∈ lw_all := lw_g (lw_at lw_m9 80 rfl) rfl
theorem q2106 : (Jvm.Cond.privateMethod ({ cls := "BelowWorthModel", name := "counts", desc := "(III)Z" } : Jvm.MethodName)) ∈ lw_tbl := lw_at lw_m9 81 rfl
theorem q2107 : (Jvm.Cond.instanceMethod ({ cls := "BelowWorthModel", name := "counts", desc := "(III)Z" } : Jvm.MethodName)) ∈ lw_all := lw_g (lw_at lw_m9 82 rfl) rfl
theorem q2108 : (Jvm.Cond.code ({ cls := "BelowWorthModel", name := "counts", desc := "(III)Z" } : Jvm.MethodName) prog_23_method_66_code (4 : Nat) (Option.some Jvm.ClassFile.FieldType.boolean)) ∈ lw_all := lw_g (lw_at lw_m9 83 rfl) rfl
theorem q2110 : (Jvm.Cond.instanceMethod ({ cls := "BelowWorthModel", name := "without", desc := "(IIII)I" } : Jvm.MethodName)) ∈ lw_all := lw_g (lw_at lw_m9 85 rfl) rfl
theorem q2111 : (Jvm.Cond.selects "BelowWorthModel" ({ cls := "BelowWorthModel", name := "without", desc := "(IIII)I" } : Jvm.MethodName) ({ cls := "BelowWorthModel", name := "without", desc := "(IIII)I" } : Jvm.MethodName)) ∈ lw_all := lw_g (lw_at lw_m9 86 rfl) rfl
theorem q2112 : (Jvm.Cond.code ({ cls := "BelowWorthModel", name := "without", desc := "(IIII)I" } : Jvm.MethodName) prog_23_method_70_code (7 : Nat) (Option.some Jvm.ClassFile.FieldType.int)) ∈ lw_all := lw_g (lw_at lw_m9 87 rfl) rfl
theorem q2114 : (Jvm.Cond.instanceMethod ({ cls := "BelowWorthModel", name := "match", desc := "(IIIZI)I" } : Jvm.MethodName)) ∈ lw_all := lw_g (lw_at lw_m9 89 rfl) rfl
theorem q2115 : (Jvm.Cond.selects "BelowWorthModel" ({ cls := "BelowWorthModel", name := "match", desc := "(IIIZI)I" } : Jvm.MethodName) ({ cls := "BelowWorthModel", name := "match", desc := "(IIIZI)I" } : Jvm.MethodName)) ∈ lw_all := lw_g (lw_at lw_m9 90 rfl) rfl
theorem q2116 : (Jvm.Cond.code ({ cls := "BelowWorthModel", name := "match", desc := "(IIIZI)I" } : Jvm.MethodName) prog_23_method_74_code (17 : Nat) (Option.some Jvm.ClassFile.FieldType.int)) ∈ lw_all := lw_g (lw_at lw_m9 91 rfl) rfl
theorem q2117 : (Jvm.Cond.methodLink "BelowWorthModel" (569 : Nat) ({ cls := "BelowWorthModel", name := "pairs", desc := "(IIZ)J" } : Jvm.MethodName)) ∈ lw_all := lw_g (lw_at lw_m9 92 rfl) rfl
theorem q2118 : (Jvm.Cond.privateMethod ({ cls := "BelowWorthModel", name := "pairs", desc := "(IIZ)J" } : Jvm.MethodName)) ∈ lw_tbl := lw_at lw_m9 93 rfl
theorem q2119 : (Jvm.Cond.instanceMethod ({ cls := "BelowWorthModel", name := "pairs", desc := "(IIZ)J" } : Jvm.MethodName)) ∈ lw_all := lw_g (lw_at lw_m9 94 rfl) rfl
theorem q2120 : (Jvm.Cond.code ({ cls := "BelowWorthModel", name := "pairs", desc := "(IIZ)J" } : Jvm.MethodName) prog_23_method_73_code (5 : Nat) (Option.some Jvm.ClassFile.FieldType.long)) ∈ lw_all := lw_g (lw_at lw_m9 95 rfl) rfl
theorem q2121 : (Jvm.Cond.methodLink "BelowWorthModel" (558 : Nat) ({ cls := "BelowWorthModel", name := "apart", desc := "(II)I" } : Jvm.MethodName)) ∈ lw_all := lw_g (lw_at lw_m9 96 rfl) rfl
theorem q2122 : (Jvm.Cond.privateMethod ({ cls := "BelowWorthModel", name := "apart", desc := "(II)I" } : Jvm.MethodName)) ∈ lw_tbl := lw_at lw_m9 97 rfl
theorem q2123 : (Jvm.Cond.instanceMethod ({ cls := "BelowWorthModel", name := "apart", desc := "(II)I" } : Jvm.MethodName)) ∈ lw_all := lw_g (lw_at lw_m9 98 rfl) rfl
theorem q2124 : (Jvm.Cond.code ({ cls := "BelowWorthModel", name := "apart", desc := "(II)I" } : Jvm.MethodName) prog_23_method_71_code (3 : Nat) (Option.some Jvm.ClassFile.FieldType.int)) ∈ lw_all := lw_g (lw_at lw_m9 99 rfl) rfl
theorem q2125 : (Jvm.Cond.constantLong "BelowWorthModel" (561 : Nat) (1000000 : Int64)) ∈ lw_all := lw_g (lw_at lw_m9 100 rfl) rfl
theorem q2126 : (Jvm.Cond.constantLong "BelowWorthModel" (563 : Nat) (1000000000 : Int64)) ∈ lw_all := lw_g (lw_at lw_m9 101 rfl) rfl
theorem q2127 : (Jvm.Cond.methodLink "BelowWorthModel" (565 : Nat) ({ cls := "BelowWorthModel", name := "gains", desc := "(II)J" } : Jvm.MethodName)) ∈ lw_all := lw_g (lw_at lw_m9 102 rfl) rfl
theorem q2128 : (Jvm.Cond.privateMethod ({ cls := "BelowWorthModel", name := "gains", desc := "(II)J" } : Jvm.MethodName)) ∈ lw_tbl := lw_at lw_m9 103 rfl
theorem q2129 : (Jvm.Cond.instanceMethod ({ cls := "BelowWorthModel", name := "gains", desc := "(II)J" } : Jvm.MethodName)) ∈ lw_all := lw_g (lw_at lw_m9 104 rfl) rfl
theorem q2130 : (Jvm.Cond.code ({ cls := "BelowWorthModel", name := "gains", desc := "(II)J" } : Jvm.MethodName) prog_23_method_72_code (3 : Nat) (Option.some Jvm.ClassFile.FieldType.long)) ∈ lw_all := lw_g (lw_at lw_m9 105 rfl) rfl
theorem q2132 : (Jvm.Cond.instanceMethod ({ cls := "BelowWorthModel", name := "matched", desc := "(II)I" } : Jvm.MethodName)) ∈ lw_all := lw_g (lw_at lw_m9 107 rfl) rfl
theorem q2133 : (Jvm.Cond.selects "BelowWorthModel" ({ cls := "BelowWorthModel", name := "matched", desc := "(II)I" } : Jvm.MethodName) ({ cls := "BelowWorthModel", name := "matched", desc := "(II)I" } : Jvm.MethodName)) ∈ lw_all := lw_g (lw_at lw_m9 108 rfl) rfl
theorem q2134 : (Jvm.Cond.code ({ cls := "BelowWorthModel", name := "matched", desc := "(II)I" } : Jvm.MethodName) prog_23_method_75_code (3 : Nat) (Option.some Jvm.ClassFile.FieldType.int)) ∈ lw_all := lw_g (lw_at lw_m9 109 rfl) rfl
theorem q2136 : (Jvm.Cond.instanceMethod ({ cls := "BelowWorthModel", name := "matches", desc := "(I)J" } : Jvm.MethodName)) ∈ lw_all := lw_g (lw_at lw_m9 111 rfl) rfl
theorem q2137 : (Jvm.Cond.selects "BelowWorthModel" ({ cls := "BelowWorthModel", name := "matches", desc := "(I)J" } : Jvm.MethodName) ({ cls := "BelowWorthModel", name := "matches", desc := "(I)J" } : Jvm.MethodName)) ∈ lw_all := lw_g (lw_at lw_m9 112 rfl) rfl
theorem q2138 : (Jvm.Cond.code ({ cls := "BelowWorthModel", name := "matches", desc := "(I)J" } : Jvm.MethodName) prog_23_method_76_code (2 : Nat) (Option.some Jvm.ClassFile.FieldType.long)) ∈ lw_all := lw_g (lw_at lw_m9 113 rfl) rfl
theorem q2140 : (Jvm.Cond.instanceMethod ({ cls := "BelowWorthModel", name := "figure", desc := "(IZIIII)I" } : Jvm.MethodName)) ∈ lw_all := lw_g (lw_at lw_m9 115 rfl) rfl
theorem q2141 : (Jvm.Cond.selects "BelowWorthModel" ({ cls := "BelowWorthModel", name := "figure", desc := "(IZIIII)I" } : Jvm.MethodName) ({ cls := "BelowWorthModel", name := "figure", desc := "(IZIIII)I" } : Jvm.MethodName)) ∈ lw_all := lw_g (lw_at lw_m9 116 rfl) rfl
theorem q2142 : (Jvm.Cond.code ({ cls := "BelowWorthModel", name := "figure", desc := "(IZIIII)I" } : Jvm.MethodName) prog_23_method_77_code (8 : Nat) (Option.some Jvm.ClassFile.FieldType.int)) ∈ lw_all := lw_g (lw_at lw_m9 117 rfl) rfl
theorem q2143 : (Jvm.Cond.constant "BelowWorthModel" (573 : Nat) (65535 : Int32)) ∈ lw_all := lw_g (lw_at lw_m9 118 rfl) rfl
theorem q2145 : (Jvm.Cond.instanceMethod ({ cls := "BelowWorthModel", name := "lacks", desc := "(II)I" } : Jvm.MethodName)) ∈ lw_all := lw_g (lw_at lw_m9 120 rfl) rfl
theorem q2146 : (Jvm.Cond.selects "BelowWorthModel" ({ cls := "BelowWorthModel", name := "lacks", desc := "(II)I" } : Jvm.MethodName) ({ cls := "BelowWorthModel", name := "lacks", desc := "(II)I" } : Jvm.MethodName)) ∈ lw_all := lw_g (lw_at lw_m9 121 rfl) rfl
theorem q2147 : (Jvm.Cond.code ({ cls := "BelowWorthModel", name := "lacks", desc := "(II)I" } : Jvm.MethodName) prog_23_method_80_code (3 : Nat) (Option.some Jvm.ClassFile.FieldType.int)) ∈ lw_all := lw_g (lw_at lw_m9 122 rfl) rfl
theorem q2148 : (Jvm.Cond.methodLink "BelowWorthModel" (577 : Nat) ({ cls := "BelowWorthModel", name := "lacksOf", desc := "(II)I" } : Jvm.MethodName)) ∈ lw_all := lw_g (lw_at lw_m9 123 rfl) rfl
theorem q2149 : (Jvm.Cond.privateMethod ({ cls := "BelowWorthModel", name := "lacksOf", desc := "(II)I" } : Jvm.MethodName)) ∈ lw_tbl := lw_at lw_m9 124 rfl
theorem q2150 : (Jvm.Cond.instanceMethod ({ cls := "BelowWorthModel", name := "lacksOf", desc := "(II)I" } : Jvm.MethodName)) ∈ lw_all := lw_g (lw_at lw_m9 125 rfl) rfl
theorem q2151 : (Jvm.Cond.code ({ cls := "BelowWorthModel", name := "lacksOf", desc := "(II)I" } : Jvm.MethodName) prog_23_method_79_code (6 : Nat) (Option.some Jvm.ClassFile.FieldType.int)) ∈ lw_all := lw_g (lw_at lw_m9 126 rfl) rfl
theorem q2152 : (Jvm.Cond.methodLink "BelowWorthModel" (574 : Nat) ({ cls := "BelowWorthModel", name := "tonsIn", desc := "(II)I" } : Jvm.MethodName)) ∈ lw_all := lw_g (lw_at lw_m9 127 rfl) rfl
theorem q2153 : (Jvm.Cond.privateMethod ({ cls := "BelowWorthModel", name := "tonsIn", desc := "(II)I" } : Jvm.MethodName)) ∈ lw_tbl := lw_at lw_m9 128 rfl
theorem q2154 : (Jvm.Cond.instanceMethod ({ cls := "BelowWorthModel", name := "tonsIn", desc := "(II)I" } : Jvm.MethodName)) ∈ lw_all := lw_g (lw_at lw_m9 129 rfl) rfl
theorem q2155 : (Jvm.Cond.code ({ cls := "BelowWorthModel", name := "tonsIn", desc := "(II)I" } : Jvm.MethodName) prog_23_method_78_code (3 : Nat) (Option.some Jvm.ClassFile.FieldType.int)) ∈ lw_all := lw_g (lw_at lw_m9 130 rfl) rfl
theorem q2157 : (Jvm.Cond.instanceMethod ({ cls := "BelowWorthModel", name := "explain", desc := "(II)I" } : Jvm.MethodName)) ∈ lw_all := lw_g (lw_at lw_m9 132 rfl) rfl
theorem q2158 : (Jvm.Cond.selects "BelowWorthModel" ({ cls := "BelowWorthModel", name := "explain", desc := "(II)I" } : Jvm.MethodName) ({ cls := "BelowWorthModel", name := "explain", desc := "(II)I" } : Jvm.MethodName)) ∈ lw_all := lw_g (lw_at lw_m9 133 rfl) rfl
theorem q2159 : (Jvm.Cond.code ({ cls := "BelowWorthModel", name := "explain", desc := "(II)I" } : Jvm.MethodName) prog_23_method_83_code (7 : Nat) (Option.some Jvm.ClassFile.FieldType.int)) ∈ lw_all := lw_g (lw_at lw_m9 134 rfl) rfl
theorem q2160 : (Jvm.Cond.methodLink "BelowWorthModel" (580 : Nat) ({ cls := "BelowWorthModel", name := "keeps", desc := "(IIII)I" } : Jvm.MethodName)) ∈ lw_all := lw_g (lw_at lw_m9 135 rfl) rfl
theorem q2161 : (Jvm.Cond.privateMethod ({ cls := "BelowWorthModel", name := "keeps", desc := "(IIII)I" } : Jvm.MethodName)) ∈ lw_tbl := lw_at lw_m9 136 rfl
theorem q2162 : (Jvm.Cond.instanceMethod ({ cls := "BelowWorthModel", name := "keeps", desc := "(IIII)I" } : Jvm.MethodName)) ∈ lw_all := lw_g (lw_at lw_m9 137 rfl) rfl
theorem q2163 : (Jvm.Cond.code ({ cls := "BelowWorthModel", name := "keeps", desc := "(IIII)I" } : Jvm.MethodName) prog_23_method_82_code (5 : Nat) (Option.some Jvm.ClassFile.FieldType.int)) ∈ lw_all := lw_g (lw_at lw_m9 138 rfl) rfl
theorem q2164 : (Jvm.Cond.methodLink "BelowWorthModel" (583 : Nat) ({ cls := "BelowWorthModel", name := "explains", desc := "(IIII)Z" } : Jvm.MethodName)) ∈ lw_all := lw_g (lw_at lw_m9 139 rfl) rfl
theorem q2165 : (Jvm.Cond.privateMethod ({ cls := "BelowWorthModel", name := "explains", desc := "(IIII)Z" } : Jvm.MethodName)) ∈ lw_tbl := lw_at lw_m9 140 rfl
theorem q2166 : (Jvm.Cond.instanceMethod ({ cls := "BelowWorthModel", name := "explains", desc := "(IIII)Z" } : Jvm.MethodName)) ∈ lw_all := lw_g (lw_at lw_m9 141 rfl) rfl
theorem q2167 : (Jvm.Cond.code ({ cls := "BelowWorthModel", name := "explains", desc := "(IIII)Z" } : Jvm.MethodName) prog_23_method_81_code (9 : Nat) (Option.some Jvm.ClassFile.FieldType.boolean)) ∈ lw_all := lw_g (lw_at lw_m9 142 rfl) rfl
theorem q2169 : (Jvm.Cond.instanceMethod ({ cls := "BelowWorthModel", name := "explained", desc := "(I)I" } : Jvm.MethodName)) ∈ lw_all := lw_g (lw_at lw_m9 144 rfl) rfl
theorem q2170 : (Jvm.Cond.selects "BelowWorthModel" ({ cls := "BelowWorthModel", name := "explained", desc := "(I)I" } : Jvm.MethodName) ({ cls := "BelowWorthModel", name := "explained", desc := "(I)I" } : Jvm.MethodName)) ∈ lw_all := lw_g (lw_at lw_m9 145 rfl) rfl
theorem q2171 : (Jvm.Cond.code ({ cls := "BelowWorthModel", name := "explained", desc := "(I)I" } : Jvm.MethodName) prog_23_method_84_code (2 : Nat) (Option.some Jvm.ClassFile.FieldType.int)) ∈ lw_all := lw_g (lw_at lw_m9 146 rfl) rfl
theorem q2173 : (Jvm.Cond.instanceMethod ({ cls := "BelowWorthModel", name := "flow", desc := "(III)I" } : Jvm.MethodName)) ∈ lw_all := lw_g (lw_at lw_m9 148 rfl) rfl
theorem q2174 : (Jvm.Cond.selects "BelowWorthModel" ({ cls := "BelowWorthModel", name := "flow", desc := "(III)I" } : Jvm.MethodName) ({ cls := "BelowWorthModel", name := "flow", desc := "(III)I" } : Jvm.MethodName)) ∈ lw_all := lw_g (lw_at lw_m9 149 rfl) rfl
theorem q2175 : (Jvm.Cond.code ({ cls := "BelowWorthModel", name := "flow", desc := "(III)I" } : Jvm.MethodName) prog_23_method_86_code (4 : Nat) (Option.some Jvm.ClassFile.FieldType.int)) ∈ lw_all := lw_g (lw_at lw_m9 150 rfl) rfl
theorem q2176 : (Jvm.Cond.methodLink "BelowWorthModel" (590 : Nat) ({ cls := "BelowWorthModel", name := "isLand", desc := "(I)Z" } : Jvm.MethodName)) ∈ lw_all := lw_g (lw_at lw_m9 151 rfl) rfl
theorem q2177 : (Jvm.Cond.static ({ cls := "BelowWorthModel", name := "isLand", desc := "(I)Z" } : Jvm.MethodName)) ∈ lw_all := lw_g (lw_at lw_m9 152 rfl) rfl
theorem q2178 : (Jvm.Cond.code ({ cls := "BelowWorthModel", name := "isLand", desc := "(I)Z" } : Jvm.MethodName) prog_23_method_85_code (1 : Nat) (Option.some Jvm.ClassFile.FieldType.boolean)) ∈ lw_all := lw_g (lw_at lw_m9 153 rfl) rfl
theorem q2180 : (Jvm.Cond.instanceMethod ({ cls := "BelowWorthModel", name := "own", desc := "(II)I" } : Jvm.MethodName)) ∈ lw_all := lw_g (lw_at lw_m9 155 rfl) rfl
theorem q2181 : (Jvm.Cond.selects "BelowWorthModel" ({ cls := "BelowWorthModel", name := "own", desc := "(II)I" } : Jvm.MethodName) ({ cls := "BelowWorthModel", name := "own", desc := "(II)I" } : Jvm.MethodName)) ∈ lw_all := lw_g (lw_at lw_m9 156 rfl) rfl
theorem q2182 : (Jvm.Cond.code ({ cls := "BelowWorthModel", name := "own", desc := "(II)I" } : Jvm.MethodName) prog_23_method_87_code (4 : Nat) (Option.some Jvm.ClassFile.FieldType.int)) ∈ lw_all := lw_g (lw_at lw_m9 157 rfl) rfl
theorem q2184 : (Jvm.Cond.instanceMethod ({ cls := "BelowWorthModel", name := "taint", desc := "(II)I" } : Jvm.MethodName)) ∈ lw_all := lw_g (lw_at lw_m9 159 rfl) rfl
theorem q2185 : (Jvm.Cond.selects "BelowWorthModel" ({ cls := "BelowWorthModel", name := "taint", desc := "(II)I" } : Jvm.MethodName) ({ cls := "BelowWorthModel", name := "taint", desc := "(II)I" } : Jvm.MethodName)) ∈ lw_all := lw_g (lw_at lw_m9 160 rfl) rfl
theorem q2186 : (Jvm.Cond.code ({ cls := "BelowWorthModel", name := "taint", desc := "(II)I" } : Jvm.MethodName) prog_23_method_88_code (10 : Nat) (Option.some Jvm.ClassFile.FieldType.int)) ∈ lw_all := lw_g (lw_at lw_m9 161 rfl) rfl
theorem q2188 : (Jvm.Cond.instanceMethod ({ cls := "BelowWorthModel", name := "way", desc := "(II)I" } : Jvm.MethodName)) ∈ lw_all := lw_g (lw_at lw_m9 163 rfl) rfl
theorem q2189 : (Jvm.Cond.selects "BelowWorthModel" ({ cls := "BelowWorthModel", name := "way", desc := "(II)I" } : Jvm.MethodName) ({ cls := "BelowWorthModel", name := "way", desc := "(II)I" } : Jvm.MethodName)) ∈ lw_all := lw_g (lw_at lw_m9 164 rfl) rfl
theorem q2190 : (Jvm.Cond.code ({ cls := "BelowWorthModel", name := "way", desc := "(II)I" } : Jvm.MethodName) prog_23_method_89_code (7 : Nat) (Option.some Jvm.ClassFile.FieldType.int)) ∈ lw_all := lw_g (lw_at lw_m9 165 rfl) rfl
theorem q2191 : (Jvm.Cond.methodLink "BelowWorthModel" (596 : Nat) ({ cls := "BelowWorthModel", name := "lesser", desc := "(II)I" } : Jvm.MethodName)) ∈ lw_all := lw_g (lw_at lw_m9 166 rfl) rfl
theorem q2192 : (Jvm.Cond.static ({ cls := "BelowWorthModel", name := "lesser", desc := "(II)I" } : Jvm.MethodName)) ∈ lw_all := lw_g (lw_at lw_m9 167 rfl) rfl
theorem q2193 : (Jvm.Cond.code ({ cls := "BelowWorthModel", name := "lesser", desc := "(II)I" } : Jvm.MethodName) prog_23_method_90_code (2 : Nat) (Option.some Jvm.ClassFile.FieldType.int)) ∈ lw_all := lw_g (lw_at lw_m9 168 rfl) rfl
theorem q2195 : (Jvm.Cond.instanceMethod ({ cls := "BelowWorthModel", name := "ways", desc := "(I)I" } : Jvm.MethodName)) ∈ lw_all := lw_g (lw_at lw_m9 170 rfl) rfl
theorem q2196 : (Jvm.Cond.selects "BelowWorthModel" ({ cls := "BelowWorthModel", name := "ways", desc := "(I)I" } : Jvm.MethodName) ({ cls := "BelowWorthModel", name := "ways", desc := "(I)I" } : Jvm.MethodName)) ∈ lw_all := lw_g (lw_at lw_m9 171 rfl) rfl
theorem q2197 : (Jvm.Cond.code ({ cls := "BelowWorthModel", name := "ways", desc := "(I)I" } : Jvm.MethodName) prog_23_method_91_code (2 : Nat) (Option.some Jvm.ClassFile.FieldType.int)) ∈ lw_all := lw_g (lw_at lw_m9 172 rfl) rfl
theorem q2199 : (Jvm.Cond.instanceMethod ({ cls := "BelowWorthModel", name := "promise", desc := "(IIII)I" } : Jvm.MethodName)) ∈ lw_all := lw_g (lw_at lw_m9 174 rfl) rfl
theorem q2200 : (Jvm.Cond.selects "BelowWorthModel" ({ cls := "BelowWorthModel", name := "promise", desc := "(IIII)I" } : Jvm.MethodName) ({ cls := "BelowWorthModel", name := "promise", desc := "(IIII)I" } : Jvm.MethodName)) ∈ lw_all := lw_g (lw_at lw_m9 175 rfl) rfl
theorem q2201 : (Jvm.Cond.code ({ cls := "BelowWorthModel", name := "promise", desc := "(IIII)I" } : Jvm.MethodName) prog_23_method_92_code (5 : Nat) (Option.some Jvm.ClassFile.FieldType.int)) ∈ lw_all := lw_g (lw_at lw_m9 176 rfl) rfl
theorem q2203 : (Jvm.Cond.instanceMethod ({ cls := "BelowWorthModel", name := "broken", desc := "(III)I" } : Jvm.MethodName)) ∈ lw_all := lw_g (lw_at lw_m9 178 rfl) rfl
theorem q2204 : (Jvm.Cond.selects "BelowWorthModel" ({ cls := "BelowWorthModel", name := "broken", desc := "(III)I" } : Jvm.MethodName) ({ cls := "BelowWorthModel", name := "broken", desc := "(III)I" } : Jvm.MethodName)) ∈ lw_all := lw_g (lw_at lw_m9 179 rfl) rfl
theorem q2205 : (Jvm.Cond.code ({ cls := "BelowWorthModel", name := "broken", desc := "(III)I" } : Jvm.MethodName) prog_23_method_94_code (6 : Nat) (Option.some Jvm.ClassFile.FieldType.int)) ∈ lw_all := lw_g (lw_at lw_m9 180 rfl) rfl
theorem q2206 : (Jvm.Cond.methodLink "BelowWorthModel" (602 : Nat) ({ cls := "BelowWorthModel", name := "breaks", desc := "(I)Z" } : Jvm.MethodName)) ∈ lw_all := lw_g (lw_at lw_m9 181 rfl) rfl
theorem q2207 : (Jvm.Cond.privateMethod ({ cls := "BelowWorthModel", name := "breaks", desc := "(I)Z" } : Jvm.MethodName)) ∈ lw_tbl := lw_at lw_m9 182 rfl
theorem q2208 : (Jvm.Cond.instanceMethod ({ cls := "BelowWorthModel", name := "breaks", desc := "(I)Z" } : Jvm.MethodName)) ∈ lw_all := lw_g (lw_at lw_m9 183 rfl) rfl
theorem q2209 : (Jvm.Cond.code ({ cls := "BelowWorthModel", name := "breaks", desc := "(I)Z" } : Jvm.MethodName) prog_23_method_93_code (4 : Nat) (Option.some Jvm.ClassFile.FieldType.boolean)) ∈ lw_all := lw_g (lw_at lw_m9 184 rfl) rfl
theorem q2211 : (Jvm.Cond.instanceMethod ({ cls := "BelowWorthModel", name := "against", desc := "(II)I" } : Jvm.MethodName)) ∈ lw_all := lw_g (lw_at lw_m9 186 rfl) rfl
theorem q2212 : (Jvm.Cond.selects "BelowWorthModel" ({ cls := "BelowWorthModel", name := "against", desc := "(II)I" } : Jvm.MethodName) ({ cls := "BelowWorthModel", name := "against", desc := "(II)I" } : Jvm.MethodName)) ∈ lw_all := lw_g (lw_at lw_m9 187 rfl) rfl
theorem q2213 : (Jvm.Cond.code ({ cls := "BelowWorthModel", name := "against", desc := "(II)I" } : Jvm.MethodName) prog_23_method_97_code (3 : Nat) (Option.some Jvm.ClassFile.FieldType.int)) ∈ lw_all := lw_g (lw_at lw_m9 188 rfl) rfl
theorem q2214 : (Jvm.Cond.methodLink "BelowWorthModel" (608 : Nat) ({ cls := "BelowWorthModel", name := "isAgainst", desc := "(II)Z" } : Jvm.MethodName)) ∈ lw_all := lw_g (lw_at lw_m9 189 rfl) rfl
theorem q2215 : (Jvm.Cond.privateMethod ({ cls := "BelowWorthModel", name := "isAgainst", desc := "(II)Z" } : Jvm.MethodName)) ∈ lw_tbl := lw_at lw_m9 190 rfl
theorem q2216 : (Jvm.Cond.instanceMethod ({ cls := "BelowWorthModel", name := "isAgainst", desc := "(II)Z" } : Jvm.MethodName)) ∈ lw_all := lw_g (lw_at lw_m9 191 rfl) rfl
theorem q2217 : (Jvm.Cond.code ({ cls := "BelowWorthModel", name := "isAgainst", desc := "(II)Z" } : Jvm.MethodName) prog_23_method_96_code (3 : Nat) (Option.some Jvm.ClassFile.FieldType.boolean)) ∈ lw_all := lw_g (lw_at lw_m9 192 rfl) rfl
theorem q2218 : (Jvm.Cond.methodLink "BelowWorthModel" (605 : Nat) ({ cls := "BelowWorthModel", name := "ofFirm", desc := "(II)V" } : Jvm.MethodName)) ∈ lw_all := lw_g (lw_at lw_m9 193 rfl) rfl
theorem q2219 : (Jvm.Cond.privateMethod ({ cls := "BelowWorthModel", name := "ofFirm", desc := "(II)V" } : Jvm.MethodName)) ∈ lw_tbl := lw_at lw_m9 194 rfl
theorem q2220 : (Jvm.Cond.instanceMethod ({ cls := "BelowWorthModel", name := "ofFirm", desc := "(II)V" } : Jvm.MethodName)) ∈ lw_all := lw_g (lw_at lw_m9 195 rfl) rfl
theorem q2221 : (Jvm.Cond.code ({ cls := "BelowWorthModel", name := "ofFirm", desc := "(II)V" } : Jvm.MethodName) prog_23_method_95_code (4 : Nat) (Option.none : Option Jvm.ClassFile.FieldType)) ∈ lw_all := lw_g (lw_at lw_m9 196 rfl) rfl
theorem q2223 : (Jvm.Cond.instanceMethod ({ cls := "BelowWorthModel", name := "decide", desc := "(IIII)I" } : Jvm.MethodName)) ∈ lw_all := lw_g (lw_at lw_m9 198 rfl) rfl
theorem q2224 : (Jvm.Cond.selects "BelowWorthModel" ({ cls := "BelowWorthModel", name := "decide", desc := "(IIII)I" } : Jvm.MethodName) ({ cls := "BelowWorthModel", name := "decide", desc := "(IIII)I" } : Jvm.MethodName)) ∈ lw_all := lw_g (lw_at lw_m9 199 rfl) rfl
theorem q2225 : (Jvm.Cond.code ({ cls := "BelowWorthModel", name := "decide", desc := "(IIII)I" } : Jvm.MethodName) prog_23_method_99_code (11 : Nat) (Option.some Jvm.ClassFile.FieldType.int)) ∈ lw_all := lw_g (lw_at lw_m9 200 rfl) rfl
theorem q2226 : (Jvm.Cond.methodLink "BelowWorthModel" (614 : Nat) ({ cls := "BelowWorthModel", name := "downwards", desc := "(JJ)J" } : Jvm.MethodName)) ∈ lw_all := lw_g (lw_at lw_m9 201 rfl) rfl
theorem q2227 : (Jvm.Cond.static ({ cls := "BelowWorthModel", name := "downwards", desc := "(JJ)J" } : Jvm.MethodName)) ∈ lw_all := lw_g (lw_at lw_m9 202 rfl) rfl
theorem q2228 : (Jvm.Cond.code ({ cls := "BelowWorthModel", name := "downwards", desc := "(JJ)J" } : Jvm.MethodName) prog_23_method_98_code (6 : Nat) (Option.some Jvm.ClassFile.FieldType.long)) ∈ lw_all := lw_g (lw_at lw_m9 203 rfl) rfl
theorem q2229 : (Jvm.Cond.constantLong "BelowWorthModel" (618 : Nat) (-1000000000 : Int64)) ∈ lw_all := lw_g (lw_at lw_m9 204 rfl) rfl
theorem q2230 : (Jvm.Cond.constantLong "BelowWorthModel" (620 : Nat) (9999 : Int64)) ∈ lw_all := lw_g (lw_at lw_m9 205 rfl) rfl
theorem q2232 : (Jvm.Cond.instanceMethod ({ cls := "BelowWorthModel", name := "rate", desc := "(III)I" } : Jvm.MethodName)) ∈ lw_all := lw_g (lw_at lw_m9 207 rfl) rfl
theorem q2233 : (Jvm.Cond.selects "BelowWorthModel" ({ cls := "BelowWorthModel", name := "rate", desc := "(III)I" } : Jvm.MethodName) ({ cls := "BelowWorthModel", name := "rate", desc := "(III)I" } : Jvm.MethodName)) ∈ lw_all := lw_g (lw_at lw_m9 208 rfl) rfl
theorem q2234 : (Jvm.Cond.code ({ cls := "BelowWorthModel", name := "rate", desc := "(III)I" } : Jvm.MethodName) prog_23_method_102_code (4 : Nat) (Option.some Jvm.ClassFile.FieldType.int)) ∈ lw_all := lw_g (lw_at lw_m9 209 rfl) rfl
theorem q2235 : (Jvm.Cond.methodLink "BelowWorthModel" (626 : Nat) ({ cls := "BelowWorthModel", name := "rateOf", desc := "(III)I" } : Jvm.MethodName)) ∈ lw_all := lw_g (lw_at lw_m9 210 rfl) rfl
theorem q2236 : (Jvm.Cond.privateMethod ({ cls := "BelowWorthModel", name := "rateOf", desc := "(III)I" } : Jvm.MethodName)) ∈ lw_tbl := lw_at lw_m9 211 rfl
theorem q2237 : (Jvm.Cond.instanceMethod ({ cls := "BelowWorthModel", name := "rateOf", desc := "(III)I" } : Jvm.MethodName)) ∈ lw_all := lw_g (lw_at lw_m9 212 rfl) rfl
theorem q2238 : (Jvm.Cond.code ({ cls := "BelowWorthModel", name := "rateOf", desc := "(III)I" } : Jvm.MethodName) prog_23_method_101_code (11 : Nat) (Option.some Jvm.ClassFile.FieldType.int)) ∈ lw_all := lw_g (lw_at lw_m9 213 rfl) rfl
theorem q2239 : (Jvm.Cond.methodLink "BelowWorthModel" (622 : Nat) ({ cls := "BelowWorthModel", name := "holds", desc := "(III)I" } : Jvm.MethodName)) ∈ lw_all := lw_g (lw_at lw_m9 214 rfl) rfl
theorem q2240 : (Jvm.Cond.privateMethod ({ cls := "BelowWorthModel", name := "holds", desc := "(III)I" } : Jvm.MethodName)) ∈ lw_tbl := lw_at lw_m9 215 rfl
theorem q2241 : (Jvm.Cond.instanceMethod ({ cls := "BelowWorthModel", name := "holds", desc := "(III)I" } : Jvm.MethodName)) ∈ lw_all := lw_g (lw_at lw_m9 216 rfl) rfl
theorem q2242 : (Jvm.Cond.code ({ cls := "BelowWorthModel", name := "holds", desc := "(III)I" } : Jvm.MethodName) prog_23_method_100_code (6 : Nat) (Option.some Jvm.ClassFile.FieldType.int)) ∈ lw_all := lw_g (lw_at lw_m9 217 rfl) rfl
theorem q2244 : (Jvm.Cond.instanceMethod ({ cls := "BelowWorthModel", name := "entry", desc := "(III)I" } : Jvm.MethodName)) ∈ lw_all := lw_g (lw_at lw_m9 219 rfl) rfl
theorem q2245 : (Jvm.Cond.selects "BelowWorthModel" ({ cls := "BelowWorthModel", name := "entry", desc := "(III)I" } : Jvm.MethodName) ({ cls := "BelowWorthModel", name := "entry", desc := "(III)I" } : Jvm.MethodName)) ∈ lw_all := lw_g (lw_at lw_m9 220 rfl) rfl
theorem q2246 : (Jvm.Cond.code ({ cls := "BelowWorthModel", name := "entry", desc := "(III)I" } : Jvm.MethodName) prog_23_method_104_code (4 : Nat) (Option.some Jvm.ClassFile.FieldType.int)) ∈ lw_all := lw_g (lw_at lw_m9 221 rfl) rfl
theorem q2247 : (Jvm.Cond.constant "BelowWorthModel" (634 : Nat) (999999 : Int32)) ∈ lw_all := lw_g (lw_at lw_m9 222 rfl) rfl
theorem q2248 : (Jvm.Cond.methodLink "BelowWorthModel" (635 : Nat) ({ cls := "BelowWorthModel", name := "upwards", desc := "(II)I" } : Jvm.MethodName)) ∈ lw_all := lw_g (lw_at lw_m9 223 rfl) rfl
theorem q2249 : (Jvm.Cond.static ({ cls := "BelowWorthModel", name := "upwards", desc := "(II)I" } : Jvm.MethodName)) ∈ lw_all := lw_g (lw_at lw_m9 224 rfl) rfl
theorem q2250 : (Jvm.Cond.code ({ cls := "BelowWorthModel", name := "upwards", desc := "(II)I" } : Jvm.MethodName) prog_23_method_103_code (2 : Nat) (Option.some Jvm.ClassFile.FieldType.int)) ∈ lw_all := lw_g (lw_at lw_m9 225 rfl) rfl
theorem q2251 : (Jvm.Cond.constantLong "BelowWorthModel" (629 : Nat) (999 : Int64)) ∈ lw_all := lw_g (lw_at lw_m9 226 rfl) rfl
theorem q2253 : (Jvm.Cond.instanceMethod ({ cls := "BelowWorthModel", name := "settle", desc := "(I)I" } : Jvm.MethodName)) ∈ lw_all := lw_g (lw_at lw_m9 228 rfl) rfl
theorem q2254 : (Jvm.Cond.selects "BelowWorthModel" ({ cls := "BelowWorthModel", name := "settle", desc := "(I)I" } : Jvm.MethodName) ({ cls := "BelowWorthModel", name := "settle", desc := "(I)I" } : Jvm.MethodName)) ∈ lw_all := lw_g (lw_at lw_m9 229 rfl) rfl
theorem q2255 : (Jvm.Cond.code ({ cls := "BelowWorthModel", name := "settle", desc := "(I)I" } : Jvm.MethodName) prog_23_method_105_code (5 : Nat) (Option.some Jvm.ClassFile.FieldType.int)) ∈ lw_all := lw_g (lw_at lw_m9 230 rfl) rfl
theorem q2256 : (Jvm.Cond.constant "BelowWorthModel" (638 : Nat) (-2000000000 : Int32)) ∈ lw_all := lw_g (lw_at lw_m9 231 rfl) rfl
theorem q2258 : (Jvm.Cond.instanceMethod ({ cls := "BelowWorthModel", name := "entries", desc := "(II)I" } : Jvm.MethodName)) ∈ lw_all := lw_g (lw_at lw_m9 233 rfl) rfl
theorem q2259 : (Jvm.Cond.selects "BelowWorthModel" ({ cls := "BelowWorthModel", name := "entries", desc := "(II)I" } : Jvm.MethodName) ({ cls := "BelowWorthModel", name := "entries", desc := "(II)I" } : Jvm.MethodName)) ∈ lw_all := lw_g (lw_at lw_m9 234 rfl) rfl
theorem q2260 : (Jvm.Cond.code ({ cls := "BelowWorthModel", name := "entries", desc := "(II)I" } : Jvm.MethodName) prog_23_method_106_code (3 : Nat) (Option.some Jvm.ClassFile.FieldType.int)) ∈ lw_all := lw_g (lw_at lw_m9 235 rfl) rfl
theorem q2262 : (Jvm.Cond.instanceMethod ({ cls := "BelowWorthModel", name := "count", desc := "(I)J" } : Jvm.MethodName)) ∈ lw_all := lw_g (lw_at lw_m9 237 rfl) rfl
theorem q2263 : (Jvm.Cond.selects "BelowWorthModel" ({ cls := "BelowWorthModel", name := "count", desc := "(I)J" } : Jvm.MethodName) ({ cls := "BelowWorthModel", name := "count", desc := "(I)J" } : Jvm.MethodName)) ∈ lw_all := lw_g (lw_at lw_m9 238 rfl) rfl
theorem q2264 : (Jvm.Cond.code ({ cls := "BelowWorthModel", name := "count", desc := "(I)J" } : Jvm.MethodName) prog_23_method_107_code (5 : Nat) (Option.some Jvm.ClassFile.FieldType.long)) ∈ lw_all := lw_g (lw_at lw_m9 239 rfl) rfl
theorem q2265 : (Jvm.Cond.constantLong "BelowWorthModel" (639 : Nat) (-1 : Int64)) ∈ lw_all := lw_g (lw_at lw_m10 0 rfl) rfl
theorem in_X6 : ∀ w ∈ wsX60, w ∈ lw_all := lw_in wsX60 [1604, 1606, 1608, 1610, 1612, 1614, 1616, 1618, 1620, 1622, 1624, 1626, 1628, 1630, 1632, 1634, 1636, 1638, 1640, 1642, 1644, 1646, 1648, 1650, 1652, 1654, 1656, 1658, 1660, 1662, 1664, 1666, 1668, 1670, 1672, 1674, 1676, 1678, 1680, 1682, 1684, 1686, 1688, 1690, 1692, 1694, 1696, 1698, 1700, 1702, 1704, 1706, 1708, 1710, 1712, 1714, 1716, 1718, 1720, 1722, 1724, 1726, 1728, 1730, 1732, 1734, 1736, 1738, 1740, 1742, 1744, 1746, 1748, 1750, 1752, 1754, 1756, 1758, 1760, 1762, 1764, 1766, 1768, 1770, 1772, 1774, 1776, 1778, 1780, 1782, 1784, 1786, 1788, 1790, 1792, 1794, 1796, 1798, 1800, 1802, 1804, 1806, 1808, 1810, 1812, 1814, 1816] (by decide +kernel) (by decide +kernel)
def RX7 : String := "BelowWorth$Cost"
def TX7 : u_T := fun k => match k with
  | 0 => ("BelowWorth$Cost", "firm", "I", true)
  | 1 => ("BelowWorth$Cost", "grade", "I", true)
  | 2 => ("BelowWorth$Cost", "month", "I", true)
  | 3 => ("BelowWorth$Cost", "coins", "I", true)
  | _ => ("BelowWorth$Cost", "told", "I", true)
def tyX7 : Nat → FieldType := fun k => match k with
  | 0 => .int
  | 1 => .int
  | 2 => .int
  | 3 => .int
  | _ => .int
abbrev wsX70 : List Cond := u_ws RX7 TX7 5
theorem nmX7 : ∀ a, a < 5 → ∀ b, b < 5 → a ≠ b → (TX7 a).2.1 ≠ (TX7 b).2.1 := by decide +kernel
theorem tyX7_ok : ∀ k, k < 5 → parseFieldDescriptor (TX7 k).2.2.1 = some (tyX7 k) := by decide +kernel
abbrev cX7_init : ByteArray := prog_7_method_1_code
def yX7_init : MethodName := ⟨RX7, "<init>", "(IIIII)V"⟩
theorem q116 : (Jvm.Cond.initialized "BelowWorth$Cost") ∈ lw_all := lw_g (lw_at lw_m1 11 rfl) rfl
theorem q633 : (Jvm.Cond.instantiable "BelowWorth$Cost" (5 : Nat)) ∈ lw_all := lw_g (lw_at lw_m3 48 rfl) rfl
theorem q635 : (Jvm.Cond.instanceMethod ({ cls := "BelowWorth$Cost", name := "<init>", desc := "(IIIII)V" } : Jvm.MethodName)) ∈ lw_all := lw_g (lw_at lw_m3 50 rfl) rfl
theorem q636 : (Jvm.Cond.code ({ cls := "BelowWorth$Cost", name := "<init>", desc := "(IIIII)V" } : Jvm.MethodName) prog_7_method_1_code (6 : Nat) (Option.none : Option Jvm.ClassFile.FieldType)) ∈ lw_all := lw_g (lw_at lw_m3 51 rfl) rfl
theorem q637 : (Jvm.Cond.methodLink "BelowWorth$Cost" (1 : Nat) ({ cls := "java/lang/Object", name := "<init>", desc := "()V" } : Jvm.MethodName)) ∈ lw_all := lw_g (lw_at lw_m3 52 rfl) rfl
theorem q638 : (Jvm.Cond.fieldLink "BelowWorth$Cost" (7 : Nat) "BelowWorth$Cost" "firm" "I") ∈ lw_all := lw_g (lw_at lw_m3 53 rfl) rfl
theorem q640 : (Jvm.Cond.fieldLink "BelowWorth$Cost" (13 : Nat) "BelowWorth$Cost" "grade" "I") ∈ lw_all := lw_g (lw_at lw_m3 55 rfl) rfl
theorem q642 : (Jvm.Cond.fieldLink "BelowWorth$Cost" (16 : Nat) "BelowWorth$Cost" "month" "I") ∈ lw_all := lw_g (lw_at lw_m3 57 rfl) rfl
theorem q644 : (Jvm.Cond.fieldLink "BelowWorth$Cost" (19 : Nat) "BelowWorth$Cost" "coins" "I") ∈ lw_all := lw_g (lw_at lw_m3 59 rfl) rfl
theorem q646 : (Jvm.Cond.fieldLink "BelowWorth$Cost" (22 : Nat) "BelowWorth$Cost" "told" "I") ∈ lw_all := lw_g (lw_at lw_m3 61 rfl) rfl
theorem q648 : (Jvm.Cond.laysFinal "BelowWorth$Cost" "BelowWorth$Cost" "firm" "I") ∈ lw_all := lw_g (lw_at lw_m3 63 rfl) rfl
theorem q649 : (Jvm.Cond.soleField "BelowWorth$Cost" "firm") ∈ lw_all := lw_g (lw_at lw_m3 64 rfl) rfl
theorem q650 : (Jvm.Cond.laysFinal "BelowWorth$Cost" "BelowWorth$Cost" "grade" "I") ∈ lw_all := lw_g (lw_at lw_m3 65 rfl) rfl
theorem q651 : (Jvm.Cond.soleField "BelowWorth$Cost" "grade") ∈ lw_all := lw_g (lw_at lw_m3 66 rfl) rfl
theorem q652 : (Jvm.Cond.laysFinal "BelowWorth$Cost" "BelowWorth$Cost" "month" "I") ∈ lw_all := lw_g (lw_at lw_m3 67 rfl) rfl
theorem q653 : (Jvm.Cond.soleField "BelowWorth$Cost" "month") ∈ lw_all := lw_g (lw_at lw_m3 68 rfl) rfl
theorem q654 : (Jvm.Cond.laysFinal "BelowWorth$Cost" "BelowWorth$Cost" "coins" "I") ∈ lw_all := lw_g (lw_at lw_m3 69 rfl) rfl
theorem q655 : (Jvm.Cond.soleField "BelowWorth$Cost" "coins") ∈ lw_all := lw_g (lw_at lw_m3 70 rfl) rfl
theorem q656 : (Jvm.Cond.laysFinal "BelowWorth$Cost" "BelowWorth$Cost" "told" "I") ∈ lw_all := lw_g (lw_at lw_m3 71 rfl) rfl
theorem q657 : (Jvm.Cond.soleField "BelowWorth$Cost" "told") ∈ lw_all := lw_g (lw_at lw_m3 72 rfl) rfl
theorem q658 : (Jvm.Cond.superclass "BelowWorth$Cost" "java/lang/Object") ∈ lw_all := lw_g (lw_at lw_m3 73 rfl) rfl
theorem in_X7 : ∀ w ∈ wsX70, w ∈ lw_all := lw_in wsX70 [648, 650, 652, 654, 656] (by decide +kernel) (by decide +kernel)
def RX8 : String := "BelowWorth$Sale"
def TX8 : u_T := fun k => match k with
  | 0 => ("BelowWorth$Sale", "firm", "I", true)
  | 1 => ("BelowWorth$Sale", "grade", "I", true)
  | 2 => ("BelowWorth$Sale", "month", "I", true)
  | 3 => ("BelowWorth$Sale", "day", "I", true)
  | 4 => ("BelowWorth$Sale", "tons", "I", true)
  | 5 => ("BelowWorth$Sale", "price", "I", true)
  | 6 => ("BelowWorth$Sale", "told", "I", true)
  | 7 => ("BelowWorth$Sale", "isHere", "Z", true)
  | 8 => ("BelowWorth$Sale", "isRelated", "Z", true)
  | _ => ("BelowWorth$Sale", "struck", "I", false)
def tyX8 : Nat → FieldType := fun k => match k with
  | 0 => .int
  | 1 => .int
  | 2 => .int
  | 3 => .int
  | 4 => .int
  | 5 => .int
  | 6 => .int
  | 7 => .boolean
  | 8 => .boolean
  | _ => .int
abbrev wsX80 : List Cond := u_ws RX8 TX8 10
theorem nmX8 : ∀ a, a < 10 → ∀ b, b < 10 → a ≠ b → (TX8 a).2.1 ≠ (TX8 b).2.1 := by decide +kernel
theorem tyX8_ok : ∀ k, k < 10 → parseFieldDescriptor (TX8 k).2.2.1 = some (tyX8 k) := by decide +kernel
abbrev cX8_init : ByteArray := prog_17_method_1_code
def yX8_init : MethodName := ⟨RX8, "<init>", "(IZIIIIZI)V"⟩
abbrev cX8_isThere : ByteArray := prog_17_method_2_code
def yX8_isThere : MethodName := ⟨RX8, "isThere", "(I)Z"⟩
theorem q117 : (Jvm.Cond.initialized "BelowWorth$Sale") ∈ lw_all := lw_g (lw_at lw_m1 12 rfl) rfl
theorem q675 : (Jvm.Cond.instantiable "BelowWorth$Sale" (10 : Nat)) ∈ lw_all := lw_g (lw_at lw_m3 90 rfl) rfl
theorem q677 : (Jvm.Cond.instanceMethod ({ cls := "BelowWorth$Sale", name := "<init>", desc := "(IZIIIIZI)V" } : Jvm.MethodName)) ∈ lw_all := lw_g (lw_at lw_m3 92 rfl) rfl
theorem q678 : (Jvm.Cond.code ({ cls := "BelowWorth$Sale", name := "<init>", desc := "(IZIIIIZI)V" } : Jvm.MethodName) prog_17_method_1_code (9 : Nat) (Option.none : Option Jvm.ClassFile.FieldType)) ∈ lw_all := lw_g (lw_at lw_m3 93 rfl) rfl
theorem q679 : (Jvm.Cond.methodLink "BelowWorth$Sale" (3 : Nat) ({ cls := "java/lang/Object", name := "<init>", desc := "()V" } : Jvm.MethodName)) ∈ lw_all := lw_g (lw_at lw_m3 94 rfl) rfl
theorem q680 : (Jvm.Cond.fieldLink "BelowWorth$Sale" (15 : Nat) "BelowWorth$Sale" "firm" "I") ∈ lw_all := lw_g (lw_at lw_m3 95 rfl) rfl
theorem q684 : (Jvm.Cond.fieldLink "BelowWorth$Sale" (22 : Nat) "BelowWorth$Sale" "grade" "I") ∈ lw_all := lw_g (lw_at lw_m3 99 rfl) rfl
theorem q690 : (Jvm.Cond.fieldLink "BelowWorth$Sale" (28 : Nat) "BelowWorth$Sale" "month" "I") ∈ lw_all := lw_g (lw_at lw_m3 105 rfl) rfl
theorem q696 : (Jvm.Cond.fieldLink "BelowWorth$Sale" (25 : Nat) "BelowWorth$Sale" "day" "I") ∈ lw_all := lw_g (lw_at lw_m3 111 rfl) rfl
theorem q698 : (Jvm.Cond.fieldLink "BelowWorth$Sale" (31 : Nat) "BelowWorth$Sale" "tons" "I") ∈ lw_all := lw_g (lw_at lw_m3 113 rfl) rfl
theorem q704 : (Jvm.Cond.fieldLink "BelowWorth$Sale" (34 : Nat) "BelowWorth$Sale" "price" "I") ∈ lw_all := lw_g (lw_at lw_m3 119 rfl) rfl
theorem q707 : (Jvm.Cond.fieldLink "BelowWorth$Sale" (40 : Nat) "BelowWorth$Sale" "told" "I") ∈ lw_all := lw_g (lw_at lw_m3 122 rfl) rfl
theorem q708 : (Jvm.Cond.fieldLink "BelowWorth$Sale" (18 : Nat) "BelowWorth$Sale" "isHere" "Z") ∈ lw_all := lw_g (lw_at lw_m3 123 rfl) rfl
theorem q712 : (Jvm.Cond.fieldLink "BelowWorth$Sale" (37 : Nat) "BelowWorth$Sale" "isRelated" "Z") ∈ lw_all := lw_g (lw_at lw_m3 127 rfl) rfl
theorem q714 : (Jvm.Cond.fieldLink "BelowWorth$Sale" (9 : Nat) "BelowWorth$Sale" "struck" "I") ∈ lw_all := lw_g (lw_at lw_m3 129 rfl) rfl
theorem q716 : (Jvm.Cond.laysFinal "BelowWorth$Sale" "BelowWorth$Sale" "firm" "I") ∈ lw_all := lw_g (lw_at lw_m3 131 rfl) rfl
theorem q717 : (Jvm.Cond.soleField "BelowWorth$Sale" "firm") ∈ lw_all := lw_g (lw_at lw_m3 132 rfl) rfl
theorem q718 : (Jvm.Cond.laysFinal "BelowWorth$Sale" "BelowWorth$Sale" "grade" "I") ∈ lw_all := lw_g (lw_at lw_m3 133 rfl) rfl
theorem q719 : (Jvm.Cond.soleField "BelowWorth$Sale" "grade") ∈ lw_all := lw_g (lw_at lw_m3 134 rfl) rfl
theorem q720 : (Jvm.Cond.laysFinal "BelowWorth$Sale" "BelowWorth$Sale" "month" "I") ∈ lw_all := lw_g (lw_at lw_m3 135 rfl) rfl
theorem q721 : (Jvm.Cond.soleField "BelowWorth$Sale" "month") ∈ lw_all := lw_g (lw_at lw_m3 136 rfl) rfl
theorem q722 : (Jvm.Cond.laysFinal "BelowWorth$Sale" "BelowWorth$Sale" "day" "I") ∈ lw_all := lw_g (lw_at lw_m3 137 rfl) rfl
theorem q723 : (Jvm.Cond.soleField "BelowWorth$Sale" "day") ∈ lw_all := lw_g (lw_at lw_m3 138 rfl) rfl
theorem q724 : (Jvm.Cond.laysFinal "BelowWorth$Sale" "BelowWorth$Sale" "tons" "I") ∈ lw_all := lw_g (lw_at lw_m3 139 rfl) rfl
theorem q725 : (Jvm.Cond.soleField "BelowWorth$Sale" "tons") ∈ lw_all := lw_g (lw_at lw_m3 140 rfl) rfl
theorem q726 : (Jvm.Cond.laysFinal "BelowWorth$Sale" "BelowWorth$Sale" "price" "I") ∈ lw_all := lw_g (lw_at lw_m3 141 rfl) rfl
theorem q727 : (Jvm.Cond.soleField "BelowWorth$Sale" "price") ∈ lw_all := lw_g (lw_at lw_m3 142 rfl) rfl
theorem q728 : (Jvm.Cond.laysFinal "BelowWorth$Sale" "BelowWorth$Sale" "told" "I") ∈ lw_all := lw_g (lw_at lw_m3 143 rfl) rfl
theorem q729 : (Jvm.Cond.soleField "BelowWorth$Sale" "told") ∈ lw_all := lw_g (lw_at lw_m3 144 rfl) rfl
theorem q730 : (Jvm.Cond.laysFinal "BelowWorth$Sale" "BelowWorth$Sale" "isHere" "Z") ∈ lw_all := lw_g (lw_at lw_m3 145 rfl) rfl
theorem q731 : (Jvm.Cond.soleField "BelowWorth$Sale" "isHere") ∈ lw_all := lw_g (lw_at lw_m3 146 rfl) rfl
theorem q732 : (Jvm.Cond.laysFinal "BelowWorth$Sale" "BelowWorth$Sale" "isRelated" "Z") ∈ lw_all := lw_g (lw_at lw_m3 147 rfl) rfl
theorem q733 : (Jvm.Cond.soleField "BelowWorth$Sale" "isRelated") ∈ lw_all := lw_g (lw_at lw_m3 148 rfl) rfl
theorem q734 : (Jvm.Cond.lays "BelowWorth$Sale" "BelowWorth$Sale" "struck" "I") ∈ lw_all := lw_g (lw_at lw_m3 149 rfl) rfl
theorem q735 : (Jvm.Cond.soleField "BelowWorth$Sale" "struck") ∈ lw_all := lw_g (lw_at lw_m3 150 rfl) rfl
theorem q736 : (Jvm.Cond.superclass "BelowWorth$Sale" "java/lang/Object") ∈ lw_all := lw_g (lw_at lw_m3 151 rfl) rfl
theorem q1078 : (Jvm.Cond.instanceMethod ({ cls := "BelowWorth$Sale", name := "isThere", desc := "(I)Z" } : Jvm.MethodName)) ∈ lw_all := lw_g (lw_at lw_m5 13 rfl) rfl
theorem q1079 : (Jvm.Cond.selects "BelowWorth$Sale" ({ cls := "BelowWorth$Sale", name := "isThere", desc := "(I)Z" } : Jvm.MethodName) ({ cls := "BelowWorth$Sale", name := "isThere", desc := "(I)Z" } : Jvm.MethodName)) ∈ lw_all := lw_g (lw_at lw_m5 14 rfl) rfl
theorem q1080 : (Jvm.Cond.code ({ cls := "BelowWorth$Sale", name := "isThere", desc := "(I)Z" } : Jvm.MethodName) prog_17_method_2_code (2 : Nat) (Option.some Jvm.ClassFile.FieldType.boolean)) ∈ lw_all := lw_g (lw_at lw_m5 15 rfl) rfl
theorem in_X8 : ∀ w ∈ wsX80, w ∈ lw_all := lw_in wsX80 [716, 718, 720, 722, 724, 726, 728, 730, 732, 734] (by decide +kernel) (by decide +kernel)
def RX9 : String := "BelowWorth$Adjustment"
def TX9 : u_T := fun k => match k with
  | 0 => ("BelowWorth$Adjustment", "sale", "I", true)
  | 1 => ("BelowWorth$Adjustment", "kind", "I", true)
  | 2 => ("BelowWorth$Adjustment", "coins", "I", true)
  | 3 => ("BelowWorth$Adjustment", "told", "I", true)
  | _ => ("BelowWorth$Adjustment", "isProved", "Z", true)
def tyX9 : Nat → FieldType := fun k => match k with
  | 0 => .int
  | 1 => .int
  | 2 => .int
  | 3 => .int
  | _ => .boolean
abbrev wsX90 : List Cond := u_ws RX9 TX9 5
theorem nmX9 : ∀ a, a < 5 → ∀ b, b < 5 → a ≠ b → (TX9 a).2.1 ≠ (TX9 b).2.1 := by decide +kernel
theorem tyX9_ok : ∀ k, k < 5 → parseFieldDescriptor (TX9 k).2.2.1 = some (tyX9 k) := by decide +kernel
abbrev cX9_init : ByteArray := prog_3_method_1_code
def yX9_init : MethodName := ⟨RX9, "<init>", "(IIIZI)V"⟩
theorem q118 : (Jvm.Cond.initialized "BelowWorth$Adjustment") ∈ lw_all := lw_g (lw_at lw_m1 13 rfl) rfl
theorem q751 : (Jvm.Cond.instantiable "BelowWorth$Adjustment" (5 : Nat)) ∈ lw_all := lw_g (lw_at lw_m3 166 rfl) rfl
theorem q753 : (Jvm.Cond.instanceMethod ({ cls := "BelowWorth$Adjustment", name := "<init>", desc := "(IIIZI)V" } : Jvm.MethodName)) ∈ lw_all := lw_g (lw_at lw_m3 168 rfl) rfl
theorem q754 : (Jvm.Cond.code ({ cls := "BelowWorth$Adjustment", name := "<init>", desc := "(IIIZI)V" } : Jvm.MethodName) prog_3_method_1_code (6 : Nat) (Option.none : Option Jvm.ClassFile.FieldType)) ∈ lw_all := lw_g (lw_at lw_m3 169 rfl) rfl
theorem q755 : (Jvm.Cond.methodLink "BelowWorth$Adjustment" (1 : Nat) ({ cls := "java/lang/Object", name := "<init>", desc := "()V" } : Jvm.MethodName)) ∈ lw_all := lw_g (lw_at lw_m3 170 rfl) rfl
theorem q756 : (Jvm.Cond.fieldLink "BelowWorth$Adjustment" (7 : Nat) "BelowWorth$Adjustment" "sale" "I") ∈ lw_all := lw_g (lw_at lw_m3 171 rfl) rfl
theorem q758 : (Jvm.Cond.fieldLink "BelowWorth$Adjustment" (13 : Nat) "BelowWorth$Adjustment" "kind" "I") ∈ lw_all := lw_g (lw_at lw_m3 173 rfl) rfl
theorem q760 : (Jvm.Cond.fieldLink "BelowWorth$Adjustment" (16 : Nat) "BelowWorth$Adjustment" "coins" "I") ∈ lw_all := lw_g (lw_at lw_m3 175 rfl) rfl
theorem q763 : (Jvm.Cond.fieldLink "BelowWorth$Adjustment" (23 : Nat) "BelowWorth$Adjustment" "told" "I") ∈ lw_all := lw_g (lw_at lw_m3 178 rfl) rfl
theorem q765 : (Jvm.Cond.fieldLink "BelowWorth$Adjustment" (19 : Nat) "BelowWorth$Adjustment" "isProved" "Z") ∈ lw_all := lw_g (lw_at lw_m3 180 rfl) rfl
theorem q767 : (Jvm.Cond.laysFinal "BelowWorth$Adjustment" "BelowWorth$Adjustment" "sale" "I") ∈ lw_all := lw_g (lw_at lw_m3 182 rfl) rfl
theorem q768 : (Jvm.Cond.soleField "BelowWorth$Adjustment" "sale") ∈ lw_all := lw_g (lw_at lw_m3 183 rfl) rfl
theorem q769 : (Jvm.Cond.laysFinal "BelowWorth$Adjustment" "BelowWorth$Adjustment" "kind" "I") ∈ lw_all := lw_g (lw_at lw_m3 184 rfl) rfl
theorem q770 : (Jvm.Cond.soleField "BelowWorth$Adjustment" "kind") ∈ lw_all := lw_g (lw_at lw_m3 185 rfl) rfl
theorem q771 : (Jvm.Cond.laysFinal "BelowWorth$Adjustment" "BelowWorth$Adjustment" "coins" "I") ∈ lw_all := lw_g (lw_at lw_m3 186 rfl) rfl
theorem q772 : (Jvm.Cond.soleField "BelowWorth$Adjustment" "coins") ∈ lw_all := lw_g (lw_at lw_m3 187 rfl) rfl
theorem q773 : (Jvm.Cond.laysFinal "BelowWorth$Adjustment" "BelowWorth$Adjustment" "told" "I") ∈ lw_all := lw_g (lw_at lw_m3 188 rfl) rfl
theorem q774 : (Jvm.Cond.soleField "BelowWorth$Adjustment" "told") ∈ lw_all := lw_g (lw_at lw_m3 189 rfl) rfl
theorem q775 : (Jvm.Cond.laysFinal "BelowWorth$Adjustment" "BelowWorth$Adjustment" "isProved" "Z") ∈ lw_all := lw_g (lw_at lw_m3 190 rfl) rfl
theorem q776 : (Jvm.Cond.soleField "BelowWorth$Adjustment" "isProved") ∈ lw_all := lw_g (lw_at lw_m3 191 rfl) rfl
theorem q777 : (Jvm.Cond.superclass "BelowWorth$Adjustment" "java/lang/Object") ∈ lw_all := lw_g (lw_at lw_m3 192 rfl) rfl
theorem in_X9 : ∀ w ∈ wsX90, w ∈ lw_all := lw_in wsX90 [767, 769, 771, 773, 775] (by decide +kernel) (by decide +kernel)
def RX10 : String := "BelowWorth$Text"
def TX10 : u_T := fun k => match k with
  | 0 => ("BelowWorth$Text", "act", "LBelowWorth$Act;", true)
  | 1 => ("BelowWorth$Text", "next", "I", false)
  | 2 => ("BelowWorth$Text", "deep", "I", false)
  | 3 => ("BelowWorth$Text", "made", "I", false)
  | 4 => ("BelowWorth$Text", "seen", "I", false)
  | 5 => ("BelowWorth$Text", "clauses", "I", false)
  | _ => ("BelowWorth$Text", "this$0", "LBelowWorth;", true)
def tyX10 : Nat → FieldType := fun k => match k with
  | 0 => .object "BelowWorth$Act"
  | 1 => .int
  | 2 => .int
  | 3 => .int
  | 4 => .int
  | 5 => .int
  | _ => .object "BelowWorth"
abbrev wsX100 : List Cond := u_ws RX10 TX10 7
theorem nmX10 : ∀ a, a < 7 → ∀ b, b < 7 → a ≠ b → (TX10 a).2.1 ≠ (TX10 b).2.1 := by decide +kernel
theorem tyX10_ok : ∀ k, k < 7 → parseFieldDescriptor (TX10 k).2.2.1 = some (tyX10 k) := by decide +kernel
abbrev cX10_init : ByteArray := prog_19_method_1_code
def yX10_init : MethodName := ⟨RX10, "<init>", "(LBelowWorth;)V"⟩
abbrev cX10_act : ByteArray := prog_19_method_12_code
def yX10_act : MethodName := ⟨RX10, "act", "()LBelowWorth$Act;"⟩
abbrev cX10_see : ByteArray := prog_19_method_3_code
def yX10_see : MethodName := ⟨RX10, "see", "()I"⟩
abbrev cX10_clause : ByteArray := prog_19_method_14_code
def yX10_clause : MethodName := ⟨RX10, "clause", "(I)V"⟩
abbrev cX10_plainHere : ByteArray := prog_19_method_13_code
def yX10_plainHere : MethodName := ⟨RX10, "plainHere", "()I"⟩
abbrev cX10_isWord : ByteArray := prog_19_method_6_code
def yX10_isWord : MethodName := ⟨RX10, "isWord", "(Ljava/lang/String;)Z"⟩
abbrev cX10_demand : ByteArray := prog_19_method_2_code
def yX10_demand : MethodName := ⟨RX10, "demand", "(ZII)V"⟩
abbrev cX10_tested : ByteArray := prog_19_method_16_code
def yX10_tested : MethodName := ⟨RX10, "tested", "()V"⟩
abbrev cX10_takesWord : ByteArray := prog_19_method_7_code
def yX10_takesWord : MethodName := ⟨RX10, "takesWord", "(Ljava/lang/String;)Z"⟩
abbrev cX10_number : ByteArray := prog_19_method_9_code
def yX10_number : MethodName := ⟨RX10, "number", "(I)I"⟩
abbrev cX10_isDigit : ByteArray := prog_19_method_8_code
def yX10_isDigit : MethodName := ⟨RX10, "isDigit", "(I)Z"⟩
abbrev cX10_test : ByteArray := prog_19_method_17_code
def yX10_test : MethodName := ⟨RX10, "test", "()LBelowWorth$Test;"⟩
abbrev cX10_part : ByteArray := prog_19_method_18_code
def yX10_part : MethodName := ⟨RX10, "part", "()LBelowWorth$Test;"⟩
abbrev cX10_fact : ByteArray := prog_19_method_19_code
def yX10_fact : MethodName := ⟨RX10, "fact", "()LBelowWorth$Test;"⟩
abbrev cX10_opens : ByteArray := prog_19_method_11_code
def yX10_opens : MethodName := ⟨RX10, "opens", "(I)V"⟩
abbrev cX10_wants : ByteArray := prog_19_method_5_code
def yX10_wants : MethodName := ⟨RX10, "wants", "(I)V"⟩
abbrev cX10_takes : ByteArray := prog_19_method_4_code
def yX10_takes : MethodName := ⟨RX10, "takes", "(I)Z"⟩
abbrev cX10_sum : ByteArray := prog_19_method_21_code
def yX10_sum : MethodName := ⟨RX10, "sum", "()LBelowWorth$Value;"⟩
abbrev cX10_term : ByteArray := prog_19_method_22_code
def yX10_term : MethodName := ⟨RX10, "term", "()LBelowWorth$Value;"⟩
abbrev cX10_value : ByteArray := prog_19_method_23_code
def yX10_value : MethodName := ⟨RX10, "value", "()LBelowWorth$Value;"⟩
abbrev cX10_makes : ByteArray := prog_19_method_10_code
def yX10_makes : MethodName := ⟨RX10, "makes", "(I)V"⟩
abbrev cX10_sign : ByteArray := prog_19_method_20_code
def yX10_sign : MethodName := ⟨RX10, "sign", "()I"⟩
abbrev cX10_onceTold : ByteArray := prog_19_method_15_code
def yX10_onceTold : MethodName := ⟨RX10, "onceTold", "(II)V"⟩
theorem q120 : (Jvm.Cond.initialized "BelowWorth$Text") ∈ lw_all := lw_g (lw_at lw_m1 15 rfl) rfl
theorem q205 : (Jvm.Cond.fieldLinkNest "BelowWorth$Text" (26 : Nat) "BelowWorth$Fault" "kind" "I" "BelowWorth") ∈ lw_tbl := lw_at lw_m1 100 rfl
theorem q207 : (Jvm.Cond.fieldLinkNest "BelowWorth$Text" (32 : Nat) "BelowWorth$Fault" "place" "I" "BelowWorth") ∈ lw_tbl := lw_at lw_m1 102 rfl
theorem q262 : (Jvm.Cond.fieldLinkNest "BelowWorth$Text" (113 : Nat) "BelowWorth$Act" "numbers" "[I" "BelowWorth") ∈ lw_tbl := lw_at lw_m1 157 rfl
theorem q266 : (Jvm.Cond.fieldLinkNest "BelowWorth$Text" (124 : Nat) "BelowWorth$Act" "hasZero" "Z" "BelowWorth") ∈ lw_tbl := lw_at lw_m1 161 rfl
theorem q268 : (Jvm.Cond.fieldLinkNest "BelowWorth$Text" (132 : Nat) "BelowWorth$Act" "duty" "LBelowWorth$Value;" "BelowWorth") ∈ lw_tbl := lw_at lw_m1 163 rfl
theorem q435 : (Jvm.Cond.fieldLinkNest "BelowWorth$Text" (22 : Nat) "BelowWorth" "fault" "LBelowWorth$Fault;" "BelowWorth") ∈ lw_tbl := lw_at lw_m2 90 rfl
theorem q437 : (Jvm.Cond.fieldLinkNest "BelowWorth$Text" (41 : Nat) "BelowWorth" "tape" "[B" "BelowWorth") ∈ lw_tbl := lw_at lw_m2 92 rfl
theorem q439 : (Jvm.Cond.fieldLinkNest "BelowWorth$Text" (38 : Nat) "BelowWorth" "taped" "I" "BelowWorth") ∈ lw_tbl := lw_at lw_m2 94 rfl
theorem q442 : (Jvm.Cond.fieldLinkNest "BelowWorth$Text" (202 : Nat) "BelowWorth" "words" "[Ljava/lang/String;" "BelowWorth") ∈ lw_tbl := lw_at lw_m2 97 rfl
theorem q444 : (Jvm.Cond.fieldLinkNest "BelowWorth$Text" (83 : Nat) "BelowWorth" "plain" "[Ljava/lang/String;" "BelowWorth") ∈ lw_tbl := lw_at lw_m2 99 rfl
theorem q795 : (Jvm.Cond.instantiable "BelowWorth$Text" (7 : Nat)) ∈ lw_all := lw_g (lw_at lw_m3 210 rfl) rfl
theorem q797 : (Jvm.Cond.instanceMethod ({ cls := "BelowWorth$Text", name := "<init>", desc := "(LBelowWorth;)V" } : Jvm.MethodName)) ∈ lw_all := lw_g (lw_at lw_m3 212 rfl) rfl
theorem q798 : (Jvm.Cond.code ({ cls := "BelowWorth$Text", name := "<init>", desc := "(LBelowWorth;)V" } : Jvm.MethodName) prog_19_method_1_code (2 : Nat) (Option.none : Option Jvm.ClassFile.FieldType)) ∈ lw_all := lw_g (lw_at lw_m3 213 rfl) rfl
theorem q799 : (Jvm.Cond.methodLink "BelowWorth$Text" (9 : Nat) ({ cls := "java/lang/Object", name := "<init>", desc := "()V" } : Jvm.MethodName)) ∈ lw_all := lw_g (lw_at lw_m3 214 rfl) rfl
theorem q800 : (Jvm.Cond.classLink "BelowWorth$Text" (15 : Nat) "BelowWorth$Act") ∈ lw_all := lw_g (lw_at lw_m3 215 rfl) rfl
theorem q801 : (Jvm.Cond.methodLinkNest "BelowWorth$Text" (17 : Nat) ({ cls := "BelowWorth$Act", name := "<init>", desc := "()V" } : Jvm.MethodName) "BelowWorth") ∈ lw_tbl := lw_at lw_m3 216 rfl
theorem q802 : (Jvm.Cond.fieldLink "BelowWorth$Text" (18 : Nat) "BelowWorth$Text" "act" "LBelowWorth$Act;") ∈ lw_all := lw_g (lw_at lw_m3 217 rfl) rfl
theorem q803 : (Jvm.Cond.fieldLink "BelowWorth$Text" (35 : Nat) "BelowWorth$Text" "next" "I") ∈ lw_all := lw_g (lw_at lw_m3 218 rfl) rfl
theorem q804 : (Jvm.Cond.fieldLink "BelowWorth$Text" (76 : Nat) "BelowWorth$Text" "deep" "I") ∈ lw_all := lw_g (lw_at lw_m3 219 rfl) rfl
theorem q805 : (Jvm.Cond.fieldLink "BelowWorth$Text" (73 : Nat) "BelowWorth$Text" "made" "I") ∈ lw_all := lw_g (lw_at lw_m3 220 rfl) rfl
theorem q806 : (Jvm.Cond.fieldLink "BelowWorth$Text" (110 : Nat) "BelowWorth$Text" "seen" "I") ∈ lw_all := lw_g (lw_at lw_m3 221 rfl) rfl
theorem q807 : (Jvm.Cond.fieldLink "BelowWorth$Text" (100 : Nat) "BelowWorth$Text" "clauses" "I") ∈ lw_all := lw_g (lw_at lw_m3 222 rfl) rfl
theorem q808 : (Jvm.Cond.fieldLink "BelowWorth$Text" (3 : Nat) "BelowWorth$Text" "this$0" "LBelowWorth;") ∈ lw_all := lw_g (lw_at lw_m3 223 rfl) rfl
theorem q809 : (Jvm.Cond.laysFinal "BelowWorth$Text" "BelowWorth$Text" "act" "LBelowWorth$Act;") ∈ lw_all := lw_g (lw_at lw_m3 224 rfl) rfl
theorem q810 : (Jvm.Cond.soleField "BelowWorth$Text" "act") ∈ lw_all := lw_g (lw_at lw_m3 225 rfl) rfl
theorem q811 : (Jvm.Cond.lays "BelowWorth$Text" "BelowWorth$Text" "next" "I") ∈ lw_all := lw_g (lw_at lw_m3 226 rfl) rfl
theorem q812 : (Jvm.Cond.soleField "BelowWorth$Text" "next") ∈ lw_all := lw_g (lw_at lw_m3 227 rfl) rfl
theorem q813 : (Jvm.Cond.lays "BelowWorth$Text" "BelowWorth$Text" "deep" "I") ∈ lw_all := lw_g (lw_at lw_m3 228 rfl) rfl
theorem q814 : (Jvm.Cond.soleField "BelowWorth$Text" "deep") ∈ lw_all := lw_g (lw_at lw_m3 229 rfl) rfl
theorem q815 : (Jvm.Cond.lays "BelowWorth$Text" "BelowWorth$Text" "made" "I") ∈ lw_all := lw_g (lw_at lw_m3 230 rfl) rfl
theorem q816 : (Jvm.Cond.soleField "BelowWorth$Text" "made") ∈ lw_all := lw_g (lw_at lw_m3 231 rfl) rfl
theorem q817 : (Jvm.Cond.lays "BelowWorth$Text" "BelowWorth$Text" "seen" "I") ∈ lw_all := lw_g (lw_at lw_m3 232 rfl) rfl
theorem q818 : (Jvm.Cond.soleField "BelowWorth$Text" "seen") ∈ lw_all := lw_g (lw_at lw_m3 233 rfl) rfl
theorem q819 : (Jvm.Cond.lays "BelowWorth$Text" "BelowWorth$Text" "clauses" "I") ∈ lw_all := lw_g (lw_at lw_m3 234 rfl) rfl
theorem q820 : (Jvm.Cond.soleField "BelowWorth$Text" "clauses") ∈ lw_all := lw_g (lw_at lw_m3 235 rfl) rfl
theorem q821 : (Jvm.Cond.laysFinal "BelowWorth$Text" "BelowWorth$Text" "this$0" "LBelowWorth;") ∈ lw_all := lw_g (lw_at lw_m3 236 rfl) rfl
theorem q822 : (Jvm.Cond.soleField "BelowWorth$Text" "this$0") ∈ lw_all := lw_g (lw_at lw_m3 237 rfl) rfl
theorem q823 : (Jvm.Cond.superclass "BelowWorth$Text" "java/lang/Object") ∈ lw_all := lw_g (lw_at lw_m3 238 rfl) rfl
theorem q825 : (Jvm.Cond.instanceMethod ({ cls := "BelowWorth$Text", name := "act", desc := "()LBelowWorth$Act;" } : Jvm.MethodName)) ∈ lw_all := lw_g (lw_at lw_m4 0 rfl) rfl
theorem q826 : (Jvm.Cond.selects "BelowWorth$Text" ({ cls := "BelowWorth$Text", name := "act", desc := "()LBelowWorth$Act;" } : Jvm.MethodName) ({ cls := "BelowWorth$Text", name := "act", desc := "()LBelowWorth$Act;" } : Jvm.MethodName)) ∈ lw_all := lw_g (lw_at lw_m4 1 rfl) rfl
theorem q827 : (Jvm.Cond.code ({ cls := "BelowWorth$Text", name := "act", desc := "()LBelowWorth$Act;" } : Jvm.MethodName) prog_19_method_12_code (1 : Nat) (Option.some (Jvm.ClassFile.FieldType.object "BelowWorth$Act"))) ∈ lw_all := lw_g (lw_at lw_m4 2 rfl) rfl
theorem q828 : (Jvm.Cond.methodLink "BelowWorth$Text" (45 : Nat) ({ cls := "BelowWorth$Text", name := "see", desc := "()I" } : Jvm.MethodName)) ∈ lw_all := lw_g (lw_at lw_m4 3 rfl) rfl
theorem q829 : (Jvm.Cond.privateMethod ({ cls := "BelowWorth$Text", name := "see", desc := "()I" } : Jvm.MethodName)) ∈ lw_tbl := lw_at lw_m4 4 rfl
theorem q830 : (Jvm.Cond.instanceMethod ({ cls := "BelowWorth$Text", name := "see", desc := "()I" } : Jvm.MethodName)) ∈ lw_all := lw_g (lw_at lw_m4 5 rfl) rfl
theorem q831 : (Jvm.Cond.code ({ cls := "BelowWorth$Text", name := "see", desc := "()I" } : Jvm.MethodName) prog_19_method_3_code (1 : Nat) (Option.some Jvm.ClassFile.FieldType.int)) ∈ lw_all := lw_g (lw_at lw_m4 6 rfl) rfl
theorem q832 : (Jvm.Cond.methodLink "BelowWorth$Text" (79 : Nat) ({ cls := "BelowWorth$Text", name := "clause", desc := "(I)V" } : Jvm.MethodName)) ∈ lw_all := lw_g (lw_at lw_m4 7 rfl) rfl
theorem q833 : (Jvm.Cond.privateMethod ({ cls := "BelowWorth$Text", name := "clause", desc := "(I)V" } : Jvm.MethodName)) ∈ lw_tbl := lw_at lw_m4 8 rfl
theorem q834 : (Jvm.Cond.instanceMethod ({ cls := "BelowWorth$Text", name := "clause", desc := "(I)V" } : Jvm.MethodName)) ∈ lw_all := lw_g (lw_at lw_m4 9 rfl) rfl
theorem q835 : (Jvm.Cond.code ({ cls := "BelowWorth$Text", name := "clause", desc := "(I)V" } : Jvm.MethodName) prog_19_method_14_code (4 : Nat) (Option.none : Option Jvm.ClassFile.FieldType)) ∈ lw_all := lw_g (lw_at lw_m4 10 rfl) rfl
theorem q836 : (Jvm.Cond.methodLink "BelowWorth$Text" (91 : Nat) ({ cls := "BelowWorth$Text", name := "plainHere", desc := "()I" } : Jvm.MethodName)) ∈ lw_all := lw_g (lw_at lw_m4 11 rfl) rfl
theorem q837 : (Jvm.Cond.privateMethod ({ cls := "BelowWorth$Text", name := "plainHere", desc := "()I" } : Jvm.MethodName)) ∈ lw_tbl := lw_at lw_m4 12 rfl
theorem q838 : (Jvm.Cond.instanceMethod ({ cls := "BelowWorth$Text", name := "plainHere", desc := "()I" } : Jvm.MethodName)) ∈ lw_all := lw_g (lw_at lw_m4 13 rfl) rfl
theorem q839 : (Jvm.Cond.code ({ cls := "BelowWorth$Text", name := "plainHere", desc := "()I" } : Jvm.MethodName) prog_19_method_13_code (2 : Nat) (Option.some Jvm.ClassFile.FieldType.int)) ∈ lw_all := lw_g (lw_at lw_m4 14 rfl) rfl
theorem q840 : (Jvm.Cond.methodLink "BelowWorth$Text" (66 : Nat) ({ cls := "BelowWorth$Text", name := "isWord", desc := "(Ljava/lang/String;)Z" } : Jvm.MethodName)) ∈ lw_all := lw_g (lw_at lw_m4 15 rfl) rfl
theorem q841 : (Jvm.Cond.privateMethod ({ cls := "BelowWorth$Text", name := "isWord", desc := "(Ljava/lang/String;)Z" } : Jvm.MethodName)) ∈ lw_tbl := lw_at lw_m4 16 rfl
theorem q842 : (Jvm.Cond.instanceMethod ({ cls := "BelowWorth$Text", name := "isWord", desc := "(Ljava/lang/String;)Z" } : Jvm.MethodName)) ∈ lw_all := lw_g (lw_at lw_m4 17 rfl) rfl
theorem q843 : (Jvm.Cond.code ({ cls := "BelowWorth$Text", name := "isWord", desc := "(Ljava/lang/String;)Z" } : Jvm.MethodName) prog_19_method_6_code (5 : Nat) (Option.some Jvm.ClassFile.FieldType.boolean)) ∈ lw_all := lw_g (lw_at lw_m4 18 rfl) rfl
theorem q844 : (Jvm.Cond.methodLink "BelowWorth$Text" (57 : Nat) ({ cls := "java/lang/String", name := "length", desc := "()I" } : Jvm.MethodName)) ∈ lw_all := lw_g (lw_at lw_m4 19 rfl) rfl
theorem q854 : (Jvm.Cond.methodLink "BelowWorth$Text" (62 : Nat) ({ cls := "java/lang/String", name := "charAt", desc := "(I)C" } : Jvm.MethodName)) ∈ lw_all := lw_g (lw_at lw_m4 29 rfl) rfl
theorem q892 : (Jvm.Cond.stringRef "BelowWorth$Text" (87 : Nat) "zero") ∈ lw_tbl := lw_at lw_m4 67 rfl
theorem q893 : (Jvm.Cond.stringRef "BelowWorth$Text" (89 : Nat) "duty") ∈ lw_tbl := lw_at lw_m4 68 rfl
theorem q894 : (Jvm.Cond.stringRef "BelowWorth$Text" (94 : Nat) "adjust") ∈ lw_tbl := lw_at lw_m4 69 rfl
theorem q895 : (Jvm.Cond.stringRef "BelowWorth$Text" (96 : Nat) "drop") ∈ lw_tbl := lw_at lw_m4 70 rfl
theorem q896 : (Jvm.Cond.stringRef "BelowWorth$Text" (98 : Nat) "facts") ∈ lw_tbl := lw_at lw_m4 71 rfl
theorem q897 : (Jvm.Cond.methodLink "BelowWorth$Text" (53 : Nat) ({ cls := "BelowWorth$Text", name := "demand", desc := "(ZII)V" } : Jvm.MethodName)) ∈ lw_all := lw_g (lw_at lw_m4 72 rfl) rfl
theorem q898 : (Jvm.Cond.privateMethod ({ cls := "BelowWorth$Text", name := "demand", desc := "(ZII)V" } : Jvm.MethodName)) ∈ lw_tbl := lw_at lw_m4 73 rfl
theorem q899 : (Jvm.Cond.instanceMethod ({ cls := "BelowWorth$Text", name := "demand", desc := "(ZII)V" } : Jvm.MethodName)) ∈ lw_all := lw_g (lw_at lw_m4 74 rfl) rfl
theorem q900 : (Jvm.Cond.code ({ cls := "BelowWorth$Text", name := "demand", desc := "(ZII)V" } : Jvm.MethodName) prog_19_method_2_code (4 : Nat) (Option.none : Option Jvm.ClassFile.FieldType)) ∈ lw_all := lw_g (lw_at lw_m4 75 rfl) rfl
theorem q901 : (Jvm.Cond.methodLink "BelowWorth$Text" (103 : Nat) ({ cls := "BelowWorth$Text", name := "tested", desc := "()V" } : Jvm.MethodName)) ∈ lw_all := lw_g (lw_at lw_m4 76 rfl) rfl
theorem q902 : (Jvm.Cond.privateMethod ({ cls := "BelowWorth$Text", name := "tested", desc := "()V" } : Jvm.MethodName)) ∈ lw_tbl := lw_at lw_m4 77 rfl
theorem q903 : (Jvm.Cond.instanceMethod ({ cls := "BelowWorth$Text", name := "tested", desc := "()V" } : Jvm.MethodName)) ∈ lw_all := lw_g (lw_at lw_m4 78 rfl) rfl
theorem q904 : (Jvm.Cond.code ({ cls := "BelowWorth$Text", name := "tested", desc := "()V" } : Jvm.MethodName) prog_19_method_16_code (2 : Nat) (Option.none : Option Jvm.ClassFile.FieldType)) ∈ lw_all := lw_g (lw_at lw_m4 79 rfl) rfl
theorem q905 : (Jvm.Cond.methodLink "BelowWorth$Text" (135 : Nat) ({ cls := "BelowWorth$Text", name := "takesWord", desc := "(Ljava/lang/String;)Z" } : Jvm.MethodName)) ∈ lw_all := lw_g (lw_at lw_m4 80 rfl) rfl
theorem q906 : (Jvm.Cond.privateMethod ({ cls := "BelowWorth$Text", name := "takesWord", desc := "(Ljava/lang/String;)Z" } : Jvm.MethodName)) ∈ lw_tbl := lw_at lw_m4 81 rfl
theorem q907 : (Jvm.Cond.instanceMethod ({ cls := "BelowWorth$Text", name := "takesWord", desc := "(Ljava/lang/String;)Z" } : Jvm.MethodName)) ∈ lw_all := lw_g (lw_at lw_m4 82 rfl) rfl
theorem q908 : (Jvm.Cond.code ({ cls := "BelowWorth$Text", name := "takesWord", desc := "(Ljava/lang/String;)Z" } : Jvm.MethodName) prog_19_method_7_code (2 : Nat) (Option.some Jvm.ClassFile.FieldType.boolean)) ∈ lw_all := lw_g (lw_at lw_m4 83 rfl) rfl
theorem q909 : (Jvm.Cond.methodLink "BelowWorth$Text" (120 : Nat) ({ cls := "BelowWorth$Text", name := "number", desc := "(I)I" } : Jvm.MethodName)) ∈ lw_all := lw_g (lw_at lw_m4 84 rfl) rfl
theorem q910 : (Jvm.Cond.privateMethod ({ cls := "BelowWorth$Text", name := "number", desc := "(I)I" } : Jvm.MethodName)) ∈ lw_tbl := lw_at lw_m4 85 rfl
theorem q911 : (Jvm.Cond.instanceMethod ({ cls := "BelowWorth$Text", name := "number", desc := "(I)I" } : Jvm.MethodName)) ∈ lw_all := lw_g (lw_at lw_m4 86 rfl) rfl
theorem q912 : (Jvm.Cond.code ({ cls := "BelowWorth$Text", name := "number", desc := "(I)I" } : Jvm.MethodName) prog_19_method_9_code (4 : Nat) (Option.some Jvm.ClassFile.FieldType.int)) ∈ lw_all := lw_g (lw_at lw_m4 87 rfl) rfl
theorem q913 : (Jvm.Cond.methodLink "BelowWorth$Text" (70 : Nat) ({ cls := "BelowWorth$Text", name := "isDigit", desc := "(I)Z" } : Jvm.MethodName)) ∈ lw_all := lw_g (lw_at lw_m4 88 rfl) rfl
theorem q914 : (Jvm.Cond.privateMethod ({ cls := "BelowWorth$Text", name := "isDigit", desc := "(I)Z" } : Jvm.MethodName)) ∈ lw_tbl := lw_at lw_m4 89 rfl
theorem q915 : (Jvm.Cond.instanceMethod ({ cls := "BelowWorth$Text", name := "isDigit", desc := "(I)Z" } : Jvm.MethodName)) ∈ lw_all := lw_g (lw_at lw_m4 90 rfl) rfl
theorem q916 : (Jvm.Cond.code ({ cls := "BelowWorth$Text", name := "isDigit", desc := "(I)Z" } : Jvm.MethodName) prog_19_method_8_code (2 : Nat) (Option.some Jvm.ClassFile.FieldType.boolean)) ∈ lw_all := lw_g (lw_at lw_m4 91 rfl) rfl
theorem q917 : (Jvm.Cond.stringRef "BelowWorth$Text" (138 : Nat) "if") ∈ lw_tbl := lw_at lw_m4 92 rfl
theorem q918 : (Jvm.Cond.methodLink "BelowWorth$Text" (140 : Nat) ({ cls := "BelowWorth$Text", name := "test", desc := "()LBelowWorth$Test;" } : Jvm.MethodName)) ∈ lw_all := lw_g (lw_at lw_m4 93 rfl) rfl
theorem q919 : (Jvm.Cond.privateMethod ({ cls := "BelowWorth$Text", name := "test", desc := "()LBelowWorth$Test;" } : Jvm.MethodName)) ∈ lw_tbl := lw_at lw_m4 94 rfl
theorem q920 : (Jvm.Cond.instanceMethod ({ cls := "BelowWorth$Text", name := "test", desc := "()LBelowWorth$Test;" } : Jvm.MethodName)) ∈ lw_all := lw_g (lw_at lw_m4 95 rfl) rfl
theorem q921 : (Jvm.Cond.code ({ cls := "BelowWorth$Text", name := "test", desc := "()LBelowWorth$Test;" } : Jvm.MethodName) prog_19_method_17_code (2 : Nat) (Option.some (Jvm.ClassFile.FieldType.object "BelowWorth$Test"))) ∈ lw_all := lw_g (lw_at lw_m4 96 rfl) rfl
theorem q922 : (Jvm.Cond.methodLink "BelowWorth$Text" (148 : Nat) ({ cls := "BelowWorth$Text", name := "part", desc := "()LBelowWorth$Test;" } : Jvm.MethodName)) ∈ lw_all := lw_g (lw_at lw_m4 97 rfl) rfl
theorem q923 : (Jvm.Cond.privateMethod ({ cls := "BelowWorth$Text", name := "part", desc := "()LBelowWorth$Test;" } : Jvm.MethodName)) ∈ lw_tbl := lw_at lw_m4 98 rfl
theorem q924 : (Jvm.Cond.instanceMethod ({ cls := "BelowWorth$Text", name := "part", desc := "()LBelowWorth$Test;" } : Jvm.MethodName)) ∈ lw_all := lw_g (lw_at lw_m4 99 rfl) rfl
theorem q925 : (Jvm.Cond.code ({ cls := "BelowWorth$Text", name := "part", desc := "()LBelowWorth$Test;" } : Jvm.MethodName) prog_19_method_18_code (2 : Nat) (Option.some (Jvm.ClassFile.FieldType.object "BelowWorth$Test"))) ∈ lw_all := lw_g (lw_at lw_m4 100 rfl) rfl
theorem q926 : (Jvm.Cond.methodLink "BelowWorth$Text" (158 : Nat) ({ cls := "BelowWorth$Text", name := "fact", desc := "()LBelowWorth$Test;" } : Jvm.MethodName)) ∈ lw_all := lw_g (lw_at lw_m4 101 rfl) rfl
theorem q927 : (Jvm.Cond.privateMethod ({ cls := "BelowWorth$Text", name := "fact", desc := "()LBelowWorth$Test;" } : Jvm.MethodName)) ∈ lw_tbl := lw_at lw_m4 102 rfl
theorem q928 : (Jvm.Cond.instanceMethod ({ cls := "BelowWorth$Text", name := "fact", desc := "()LBelowWorth$Test;" } : Jvm.MethodName)) ∈ lw_all := lw_g (lw_at lw_m4 103 rfl) rfl
theorem q929 : (Jvm.Cond.code ({ cls := "BelowWorth$Text", name := "fact", desc := "()LBelowWorth$Test;" } : Jvm.MethodName) prog_19_method_19_code (6 : Nat) (Option.some (Jvm.ClassFile.FieldType.object "BelowWorth$Test"))) ∈ lw_all := lw_g (lw_at lw_m4 104 rfl) rfl
theorem q930 : (Jvm.Cond.stringRef "BelowWorth$Text" (163 : Nat) "not") ∈ lw_tbl := lw_at lw_m4 105 rfl
theorem q931 : (Jvm.Cond.methodLink "BelowWorth$Text" (165 : Nat) ({ cls := "BelowWorth$Text", name := "opens", desc := "(I)V" } : Jvm.MethodName)) ∈ lw_all := lw_g (lw_at lw_m4 106 rfl) rfl
theorem q932 : (Jvm.Cond.privateMethod ({ cls := "BelowWorth$Text", name := "opens", desc := "(I)V" } : Jvm.MethodName)) ∈ lw_tbl := lw_at lw_m4 107 rfl
theorem q933 : (Jvm.Cond.instanceMethod ({ cls := "BelowWorth$Text", name := "opens", desc := "(I)V" } : Jvm.MethodName)) ∈ lw_all := lw_g (lw_at lw_m4 108 rfl) rfl
theorem q934 : (Jvm.Cond.code ({ cls := "BelowWorth$Text", name := "opens", desc := "(I)V" } : Jvm.MethodName) prog_19_method_11_code (2 : Nat) (Option.none : Option Jvm.ClassFile.FieldType)) ∈ lw_all := lw_g (lw_at lw_m4 109 rfl) rfl
theorem q935 : (Jvm.Cond.classLink "BelowWorth$Text" (168 : Nat) "BelowWorth$Not") ∈ lw_all := lw_g (lw_at lw_m4 110 rfl) rfl
theorem q937 : (Jvm.Cond.methodLink "BelowWorth$Text" (170 : Nat) ({ cls := "BelowWorth$Not", name := "<init>", desc := "(LBelowWorth$Test;)V" } : Jvm.MethodName)) ∈ lw_all := lw_g (lw_at lw_m4 112 rfl) rfl
theorem q948 : (Jvm.Cond.methodLink "BelowWorth$Text" (173 : Nat) ({ cls := "BelowWorth$Text", name := "wants", desc := "(I)V" } : Jvm.MethodName)) ∈ lw_all := lw_g (lw_at lw_m4 123 rfl) rfl
theorem q949 : (Jvm.Cond.privateMethod ({ cls := "BelowWorth$Text", name := "wants", desc := "(I)V" } : Jvm.MethodName)) ∈ lw_tbl := lw_at lw_m4 124 rfl
theorem q950 : (Jvm.Cond.instanceMethod ({ cls := "BelowWorth$Text", name := "wants", desc := "(I)V" } : Jvm.MethodName)) ∈ lw_all := lw_g (lw_at lw_m4 125 rfl) rfl
theorem q951 : (Jvm.Cond.code ({ cls := "BelowWorth$Text", name := "wants", desc := "(I)V" } : Jvm.MethodName) prog_19_method_5_code (2 : Nat) (Option.none : Option Jvm.ClassFile.FieldType)) ∈ lw_all := lw_g (lw_at lw_m4 126 rfl) rfl
theorem q952 : (Jvm.Cond.methodLink "BelowWorth$Text" (49 : Nat) ({ cls := "BelowWorth$Text", name := "takes", desc := "(I)Z" } : Jvm.MethodName)) ∈ lw_all := lw_g (lw_at lw_m4 127 rfl) rfl
theorem q953 : (Jvm.Cond.privateMethod ({ cls := "BelowWorth$Text", name := "takes", desc := "(I)Z" } : Jvm.MethodName)) ∈ lw_tbl := lw_at lw_m4 128 rfl
theorem q954 : (Jvm.Cond.instanceMethod ({ cls := "BelowWorth$Text", name := "takes", desc := "(I)Z" } : Jvm.MethodName)) ∈ lw_all := lw_g (lw_at lw_m4 129 rfl) rfl
theorem q955 : (Jvm.Cond.code ({ cls := "BelowWorth$Text", name := "takes", desc := "(I)Z" } : Jvm.MethodName) prog_19_method_4_code (2 : Nat) (Option.some Jvm.ClassFile.FieldType.boolean)) ∈ lw_all := lw_g (lw_at lw_m4 130 rfl) rfl
theorem q956 : (Jvm.Cond.methodLink "BelowWorth$Text" (128 : Nat) ({ cls := "BelowWorth$Text", name := "sum", desc := "()LBelowWorth$Value;" } : Jvm.MethodName)) ∈ lw_all := lw_g (lw_at lw_m4 131 rfl) rfl
theorem q957 : (Jvm.Cond.privateMethod ({ cls := "BelowWorth$Text", name := "sum", desc := "()LBelowWorth$Value;" } : Jvm.MethodName)) ∈ lw_tbl := lw_at lw_m4 132 rfl
theorem q958 : (Jvm.Cond.instanceMethod ({ cls := "BelowWorth$Text", name := "sum", desc := "()LBelowWorth$Value;" } : Jvm.MethodName)) ∈ lw_all := lw_g (lw_at lw_m4 133 rfl) rfl
theorem q959 : (Jvm.Cond.code ({ cls := "BelowWorth$Text", name := "sum", desc := "()LBelowWorth$Value;" } : Jvm.MethodName) prog_19_method_21_code (3 : Nat) (Option.some (Jvm.ClassFile.FieldType.object "BelowWorth$Value"))) ∈ lw_all := lw_g (lw_at lw_m4 134 rfl) rfl
theorem q960 : (Jvm.Cond.methodLink "BelowWorth$Text" (187 : Nat) ({ cls := "BelowWorth$Text", name := "term", desc := "()LBelowWorth$Value;" } : Jvm.MethodName)) ∈ lw_all := lw_g (lw_at lw_m4 135 rfl) rfl
theorem q961 : (Jvm.Cond.privateMethod ({ cls := "BelowWorth$Text", name := "term", desc := "()LBelowWorth$Value;" } : Jvm.MethodName)) ∈ lw_tbl := lw_at lw_m4 136 rfl
theorem q962 : (Jvm.Cond.instanceMethod ({ cls := "BelowWorth$Text", name := "term", desc := "()LBelowWorth$Value;" } : Jvm.MethodName)) ∈ lw_all := lw_g (lw_at lw_m4 137 rfl) rfl
theorem q963 : (Jvm.Cond.code ({ cls := "BelowWorth$Text", name := "term", desc := "()LBelowWorth$Value;" } : Jvm.MethodName) prog_19_method_22_code (2 : Nat) (Option.some (Jvm.ClassFile.FieldType.object "BelowWorth$Value"))) ∈ lw_all := lw_g (lw_at lw_m4 138 rfl) rfl
theorem q964 : (Jvm.Cond.methodLink "BelowWorth$Text" (193 : Nat) ({ cls := "BelowWorth$Text", name := "value", desc := "()LBelowWorth$Value;" } : Jvm.MethodName)) ∈ lw_all := lw_g (lw_at lw_m4 139 rfl) rfl
theorem q965 : (Jvm.Cond.privateMethod ({ cls := "BelowWorth$Text", name := "value", desc := "()LBelowWorth$Value;" } : Jvm.MethodName)) ∈ lw_tbl := lw_at lw_m4 140 rfl
theorem q966 : (Jvm.Cond.instanceMethod ({ cls := "BelowWorth$Text", name := "value", desc := "()LBelowWorth$Value;" } : Jvm.MethodName)) ∈ lw_all := lw_g (lw_at lw_m4 141 rfl) rfl
theorem q967 : (Jvm.Cond.code ({ cls := "BelowWorth$Text", name := "value", desc := "()LBelowWorth$Value;" } : Jvm.MethodName) prog_19_method_23_code (4 : Nat) (Option.some (Jvm.ClassFile.FieldType.object "BelowWorth$Value"))) ∈ lw_all := lw_g (lw_at lw_m4 142 rfl) rfl
theorem q968 : (Jvm.Cond.constant "BelowWorth$Text" (196 : Nat) (99999 : Int32)) ∈ lw_all := lw_g (lw_at lw_m4 143 rfl) rfl
theorem q969 : (Jvm.Cond.methodLink "BelowWorth$Text" (179 : Nat) ({ cls := "BelowWorth$Text", name := "makes", desc := "(I)V" } : Jvm.MethodName)) ∈ lw_all := lw_g (lw_at lw_m4 144 rfl) rfl
theorem q970 : (Jvm.Cond.privateMethod ({ cls := "BelowWorth$Text", name := "makes", desc := "(I)V" } : Jvm.MethodName)) ∈ lw_tbl := lw_at lw_m4 145 rfl
theorem q971 : (Jvm.Cond.instanceMethod ({ cls := "BelowWorth$Text", name := "makes", desc := "(I)V" } : Jvm.MethodName)) ∈ lw_all := lw_g (lw_at lw_m4 146 rfl) rfl
theorem q972 : (Jvm.Cond.code ({ cls := "BelowWorth$Text", name := "makes", desc := "(I)V" } : Jvm.MethodName) prog_19_method_10_code (2 : Nat) (Option.none : Option Jvm.ClassFile.FieldType)) ∈ lw_all := lw_g (lw_at lw_m4 147 rfl) rfl
theorem q973 : (Jvm.Cond.classLink "BelowWorth$Text" (197 : Nat) "BelowWorth$Number") ∈ lw_all := lw_g (lw_at lw_m4 148 rfl) rfl
theorem q975 : (Jvm.Cond.methodLink "BelowWorth$Text" (199 : Nat) ({ cls := "BelowWorth$Number", name := "<init>", desc := "(J)V" } : Jvm.MethodName)) ∈ lw_all := lw_g (lw_at lw_m4 150 rfl) rfl
theorem q986 : (Jvm.Cond.classLink "BelowWorth$Text" (205 : Nat) "BelowWorth$Word") ∈ lw_all := lw_g (lw_at lw_m4 161 rfl) rfl
theorem q988 : (Jvm.Cond.methodLink "BelowWorth$Text" (207 : Nat) ({ cls := "BelowWorth$Word", name := "<init>", desc := "(I)V" } : Jvm.MethodName)) ∈ lw_all := lw_g (lw_at lw_m4 163 rfl) rfl
theorem q996 : (Jvm.Cond.classLink "BelowWorth$Text" (190 : Nat) "BelowWorth$Pair") ∈ lw_all := lw_g (lw_at lw_m4 171 rfl) rfl
theorem q998 : (Jvm.Cond.methodLink "BelowWorth$Text" (192 : Nat) ({ cls := "BelowWorth$Pair", name := "<init>", desc := "(LBelowWorth$Value;ILBelowWorth$Value;)V" } : Jvm.MethodName)) ∈ lw_all := lw_g (lw_at lw_m4 173 rfl) rfl
theorem q1012 : (Jvm.Cond.methodLink "BelowWorth$Text" (176 : Nat) ({ cls := "BelowWorth$Text", name := "sign", desc := "()I" } : Jvm.MethodName)) ∈ lw_all := lw_g (lw_at lw_m4 187 rfl) rfl
theorem q1013 : (Jvm.Cond.privateMethod ({ cls := "BelowWorth$Text", name := "sign", desc := "()I" } : Jvm.MethodName)) ∈ lw_tbl := lw_at lw_m4 188 rfl
theorem q1014 : (Jvm.Cond.instanceMethod ({ cls := "BelowWorth$Text", name := "sign", desc := "()I" } : Jvm.MethodName)) ∈ lw_all := lw_g (lw_at lw_m4 189 rfl) rfl
theorem q1015 : (Jvm.Cond.code ({ cls := "BelowWorth$Text", name := "sign", desc := "()I" } : Jvm.MethodName) prog_19_method_20_code (3 : Nat) (Option.some Jvm.ClassFile.FieldType.int)) ∈ lw_all := lw_g (lw_at lw_m4 190 rfl) rfl
theorem q1016 : (Jvm.Cond.classLink "BelowWorth$Text" (182 : Nat) "BelowWorth$Compare") ∈ lw_all := lw_g (lw_at lw_m4 191 rfl) rfl
theorem q1018 : (Jvm.Cond.methodLink "BelowWorth$Text" (184 : Nat) ({ cls := "BelowWorth$Compare", name := "<init>", desc := "(LBelowWorth$Value;ILBelowWorth$Value;)V" } : Jvm.MethodName)) ∈ lw_all := lw_g (lw_at lw_m4 193 rfl) rfl
theorem q1032 : (Jvm.Cond.stringRef "BelowWorth$Text" (161 : Nat) "and") ∈ lw_tbl := lw_at lw_m4 207 rfl
theorem q1033 : (Jvm.Cond.classLink "BelowWorth$Text" (153 : Nat) "BelowWorth$Both") ∈ lw_all := lw_g (lw_at lw_m4 208 rfl) rfl
theorem q1035 : (Jvm.Cond.methodLink "BelowWorth$Text" (155 : Nat) ({ cls := "BelowWorth$Both", name := "<init>", desc := "(LBelowWorth$Test;ZLBelowWorth$Test;)V" } : Jvm.MethodName)) ∈ lw_all := lw_g (lw_at lw_m4 210 rfl) rfl
theorem q1049 : (Jvm.Cond.stringRef "BelowWorth$Text" (151 : Nat) "or") ∈ lw_tbl := lw_at lw_m4 224 rfl
theorem q1050 : (Jvm.Cond.methodLink "BelowWorth$Text" (144 : Nat) ({ cls := "BelowWorth$Act", name := "add", desc := "(IILBelowWorth$Test;)V" } : Jvm.MethodName)) ∈ lw_all := lw_g (lw_at lw_m4 225 rfl) rfl
theorem q1054 : (Jvm.Cond.methodLink "BelowWorth$Text" (106 : Nat) ({ cls := "BelowWorth$Text", name := "onceTold", desc := "(II)V" } : Jvm.MethodName)) ∈ lw_all := lw_g (lw_at lw_m4 229 rfl) rfl
theorem q1055 : (Jvm.Cond.privateMethod ({ cls := "BelowWorth$Text", name := "onceTold", desc := "(II)V" } : Jvm.MethodName)) ∈ lw_tbl := lw_at lw_m4 230 rfl
theorem q1056 : (Jvm.Cond.instanceMethod ({ cls := "BelowWorth$Text", name := "onceTold", desc := "(II)V" } : Jvm.MethodName)) ∈ lw_all := lw_g (lw_at lw_m4 231 rfl) rfl
theorem q1057 : (Jvm.Cond.code ({ cls := "BelowWorth$Text", name := "onceTold", desc := "(II)V" } : Jvm.MethodName) prog_19_method_15_code (3 : Nat) (Option.none : Option Jvm.ClassFile.FieldType)) ∈ lw_all := lw_g (lw_at lw_m4 232 rfl) rfl
theorem q1058 : (Jvm.Cond.fieldLinkNest "BelowWorth$Text" (117 : Nat) "BelowWorth" "MOST" "[I" "BelowWorth") ∈ lw_tbl := lw_at lw_m4 233 rfl
theorem in_X10 : ∀ w ∈ wsX100, w ∈ lw_all := lw_in wsX100 [809, 811, 813, 815, 817, 819, 821] (by decide +kernel) (by decide +kernel)
def RX11 : String := "BelowWorth$Test"
abbrev cX11_init : ByteArray := prog_18_method_1_code
def yX11_init : MethodName := ⟨RX11, "<init>", "()V"⟩
theorem q125 : (Jvm.Cond.initialized "BelowWorth$Test") ∈ lw_all := lw_g (lw_at lw_m1 20 rfl) rfl
theorem q941 : (Jvm.Cond.instanceMethod ({ cls := "BelowWorth$Test", name := "<init>", desc := "()V" } : Jvm.MethodName)) ∈ lw_all := lw_g (lw_at lw_m4 116 rfl) rfl
theorem q942 : (Jvm.Cond.code ({ cls := "BelowWorth$Test", name := "<init>", desc := "()V" } : Jvm.MethodName) prog_18_method_1_code (1 : Nat) (Option.none : Option Jvm.ClassFile.FieldType)) ∈ lw_all := lw_g (lw_at lw_m4 117 rfl) rfl
theorem q943 : (Jvm.Cond.methodLink "BelowWorth$Test" (1 : Nat) ({ cls := "java/lang/Object", name := "<init>", desc := "()V" } : Jvm.MethodName)) ∈ lw_all := lw_g (lw_at lw_m4 118 rfl) rfl
theorem q1099 : (Jvm.Cond.declares ({ cls := "BelowWorth$Test", name := "is", desc := "(LBelowWorth$Case;)Z" } : Jvm.MethodName)) ∈ lw_tbl := lw_at lw_m5 34 rfl
theorem q1100 : (Jvm.Cond.sameMethod "BelowWorth$Test" "BelowWorth$Test" "is" "(LBelowWorth$Case;)Z") ∈ lw_all := lw_g (lw_at lw_m5 35 rfl) rfl
def RX12 : String := "BelowWorth$Not"
def TX12 : u_T := fun k => match k with
  | _ => ("BelowWorth$Not", "test", "LBelowWorth$Test;", true)
def tyX12 : Nat → FieldType := fun k => match k with
  | _ => .object "BelowWorth$Test"
abbrev wsX120 : List Cond := u_ws RX12 TX12 1
theorem nmX12 : ∀ a, a < 1 → ∀ b, b < 1 → a ≠ b → (TX12 a).2.1 ≠ (TX12 b).2.1 := by decide +kernel
theorem tyX12_ok : ∀ k, k < 1 → parseFieldDescriptor (TX12 k).2.2.1 = some (tyX12 k) := by decide +kernel
abbrev cX12_init : ByteArray := prog_13_method_1_code
def yX12_init : MethodName := ⟨RX12, "<init>", "(LBelowWorth$Test;)V"⟩
abbrev cX12_is : ByteArray := prog_13_method_2_code
def yX12_is : MethodName := ⟨RX12, "is", "(LBelowWorth$Case;)Z"⟩
theorem q126 : (Jvm.Cond.initialized "BelowWorth$Not") ∈ lw_all := lw_g (lw_at lw_m1 21 rfl) rfl
theorem q936 : (Jvm.Cond.instantiable "BelowWorth$Not" (1 : Nat)) ∈ lw_all := lw_g (lw_at lw_m4 111 rfl) rfl
theorem q938 : (Jvm.Cond.instanceMethod ({ cls := "BelowWorth$Not", name := "<init>", desc := "(LBelowWorth$Test;)V" } : Jvm.MethodName)) ∈ lw_all := lw_g (lw_at lw_m4 113 rfl) rfl
theorem q939 : (Jvm.Cond.code ({ cls := "BelowWorth$Not", name := "<init>", desc := "(LBelowWorth$Test;)V" } : Jvm.MethodName) prog_13_method_1_code (2 : Nat) (Option.none : Option Jvm.ClassFile.FieldType)) ∈ lw_all := lw_g (lw_at lw_m4 114 rfl) rfl
theorem q940 : (Jvm.Cond.methodLinkNest "BelowWorth$Not" (1 : Nat) ({ cls := "BelowWorth$Test", name := "<init>", desc := "()V" } : Jvm.MethodName) "BelowWorth") ∈ lw_tbl := lw_at lw_m4 115 rfl
theorem q944 : (Jvm.Cond.fieldLink "BelowWorth$Not" (7 : Nat) "BelowWorth$Not" "test" "LBelowWorth$Test;") ∈ lw_all := lw_g (lw_at lw_m4 119 rfl) rfl
theorem q945 : (Jvm.Cond.laysFinal "BelowWorth$Not" "BelowWorth$Not" "test" "LBelowWorth$Test;") ∈ lw_all := lw_g (lw_at lw_m4 120 rfl) rfl
theorem q946 : (Jvm.Cond.soleField "BelowWorth$Not" "test") ∈ lw_all := lw_g (lw_at lw_m4 121 rfl) rfl
theorem q947 : (Jvm.Cond.superclass "BelowWorth$Not" "BelowWorth$Test") ∈ lw_all := lw_g (lw_at lw_m4 122 rfl) rfl
theorem q1146 : (Jvm.Cond.instanceMethod ({ cls := "BelowWorth$Not", name := "is", desc := "(LBelowWorth$Case;)Z" } : Jvm.MethodName)) ∈ lw_all := lw_g (lw_at lw_m5 81 rfl) rfl
theorem q1147 : (Jvm.Cond.code ({ cls := "BelowWorth$Not", name := "is", desc := "(LBelowWorth$Case;)Z" } : Jvm.MethodName) prog_13_method_2_code (2 : Nat) (Option.some Jvm.ClassFile.FieldType.boolean)) ∈ lw_all := lw_g (lw_at lw_m5 82 rfl) rfl
theorem q1148 : (Jvm.Cond.methodLink "BelowWorth$Not" (13 : Nat) ({ cls := "BelowWorth$Test", name := "is", desc := "(LBelowWorth$Case;)Z" } : Jvm.MethodName)) ∈ lw_all := lw_g (lw_at lw_m5 83 rfl) rfl
theorem q1150 : (Jvm.Cond.selects "BelowWorth$Not" ({ cls := "BelowWorth$Test", name := "is", desc := "(LBelowWorth$Case;)Z" } : Jvm.MethodName) ({ cls := "BelowWorth$Not", name := "is", desc := "(LBelowWorth$Case;)Z" } : Jvm.MethodName)) ∈ lw_all := lw_g (lw_at lw_m5 85 rfl) rfl
theorem q2267 : (Jvm.Cond.castable "BelowWorth$Not" "BelowWorth$Test") ∈ lw_tbl := lw_at lw_m10 2 rfl
theorem in_X12 : ∀ w ∈ wsX120, w ∈ lw_all := lw_in wsX120 [945] (by decide +kernel) (by decide +kernel)
def RX13 : String := "BelowWorth$Value"
abbrev cX13_init : ByteArray := prog_20_method_1_code
def yX13_init : MethodName := ⟨RX13, "<init>", "()V"⟩
theorem q127 : (Jvm.Cond.initialized "BelowWorth$Value") ∈ lw_all := lw_g (lw_at lw_m1 22 rfl) rfl
theorem q979 : (Jvm.Cond.instanceMethod ({ cls := "BelowWorth$Value", name := "<init>", desc := "()V" } : Jvm.MethodName)) ∈ lw_all := lw_g (lw_at lw_m4 154 rfl) rfl
theorem q980 : (Jvm.Cond.code ({ cls := "BelowWorth$Value", name := "<init>", desc := "()V" } : Jvm.MethodName) prog_20_method_1_code (1 : Nat) (Option.none : Option Jvm.ClassFile.FieldType)) ∈ lw_all := lw_g (lw_at lw_m4 155 rfl) rfl
theorem q981 : (Jvm.Cond.methodLink "BelowWorth$Value" (1 : Nat) ({ cls := "java/lang/Object", name := "<init>", desc := "()V" } : Jvm.MethodName)) ∈ lw_all := lw_g (lw_at lw_m4 156 rfl) rfl
theorem q1108 : (Jvm.Cond.declares ({ cls := "BelowWorth$Value", name := "of", desc := "(LBelowWorth$Case;)J" } : Jvm.MethodName)) ∈ lw_tbl := lw_at lw_m5 43 rfl
theorem q1109 : (Jvm.Cond.sameMethod "BelowWorth$Value" "BelowWorth$Value" "of" "(LBelowWorth$Case;)J") ∈ lw_all := lw_g (lw_at lw_m5 44 rfl) rfl
def RX14 : String := "BelowWorth$Number"
def TX14 : u_T := fun k => match k with
  | _ => ("BelowWorth$Number", "number", "J", true)
def tyX14 : Nat → FieldType := fun k => match k with
  | _ => .long
abbrev wsX140 : List Cond := u_ws RX14 TX14 1
theorem nmX14 : ∀ a, a < 1 → ∀ b, b < 1 → a ≠ b → (TX14 a).2.1 ≠ (TX14 b).2.1 := by decide +kernel
theorem tyX14_ok : ∀ k, k < 1 → parseFieldDescriptor (TX14 k).2.2.1 = some (tyX14 k) := by decide +kernel
abbrev cX14_init : ByteArray := prog_14_method_1_code
def yX14_init : MethodName := ⟨RX14, "<init>", "(J)V"⟩
abbrev cX14_of : ByteArray := prog_14_method_2_code
def yX14_of : MethodName := ⟨RX14, "of", "(LBelowWorth$Case;)J"⟩
theorem q128 : (Jvm.Cond.initialized "BelowWorth$Number") ∈ lw_all := lw_g (lw_at lw_m1 23 rfl) rfl
theorem q974 : (Jvm.Cond.instantiable "BelowWorth$Number" (1 : Nat)) ∈ lw_all := lw_g (lw_at lw_m4 149 rfl) rfl
theorem q976 : (Jvm.Cond.instanceMethod ({ cls := "BelowWorth$Number", name := "<init>", desc := "(J)V" } : Jvm.MethodName)) ∈ lw_all := lw_g (lw_at lw_m4 151 rfl) rfl
theorem q977 : (Jvm.Cond.code ({ cls := "BelowWorth$Number", name := "<init>", desc := "(J)V" } : Jvm.MethodName) prog_14_method_1_code (3 : Nat) (Option.none : Option Jvm.ClassFile.FieldType)) ∈ lw_all := lw_g (lw_at lw_m4 152 rfl) rfl
theorem q978 : (Jvm.Cond.methodLinkNest "BelowWorth$Number" (1 : Nat) ({ cls := "BelowWorth$Value", name := "<init>", desc := "()V" } : Jvm.MethodName) "BelowWorth") ∈ lw_tbl := lw_at lw_m4 153 rfl
theorem q982 : (Jvm.Cond.fieldLink "BelowWorth$Number" (7 : Nat) "BelowWorth$Number" "number" "J") ∈ lw_all := lw_g (lw_at lw_m4 157 rfl) rfl
theorem q983 : (Jvm.Cond.laysFinal "BelowWorth$Number" "BelowWorth$Number" "number" "J") ∈ lw_all := lw_g (lw_at lw_m4 158 rfl) rfl
theorem q984 : (Jvm.Cond.soleField "BelowWorth$Number" "number") ∈ lw_all := lw_g (lw_at lw_m4 159 rfl) rfl
theorem q985 : (Jvm.Cond.superclass "BelowWorth$Number" "BelowWorth$Value") ∈ lw_all := lw_g (lw_at lw_m4 160 rfl) rfl
theorem q1110 : (Jvm.Cond.selects "BelowWorth$Number" ({ cls := "BelowWorth$Value", name := "of", desc := "(LBelowWorth$Case;)J" } : Jvm.MethodName) ({ cls := "BelowWorth$Number", name := "of", desc := "(LBelowWorth$Case;)J" } : Jvm.MethodName)) ∈ lw_all := lw_g (lw_at lw_m5 45 rfl) rfl
theorem q1111 : (Jvm.Cond.instanceMethod ({ cls := "BelowWorth$Number", name := "of", desc := "(LBelowWorth$Case;)J" } : Jvm.MethodName)) ∈ lw_all := lw_g (lw_at lw_m5 46 rfl) rfl
theorem q1112 : (Jvm.Cond.code ({ cls := "BelowWorth$Number", name := "of", desc := "(LBelowWorth$Case;)J" } : Jvm.MethodName) prog_14_method_2_code (2 : Nat) (Option.some Jvm.ClassFile.FieldType.long)) ∈ lw_all := lw_g (lw_at lw_m5 47 rfl) rfl
theorem in_X14 : ∀ w ∈ wsX140, w ∈ lw_all := lw_in wsX140 [983] (by decide +kernel) (by decide +kernel)
def RX15 : String := "BelowWorth$Word"
def TX15 : u_T := fun k => match k with
  | _ => ("BelowWorth$Word", "word", "I", true)
def tyX15 : Nat → FieldType := fun k => match k with
  | _ => .int
abbrev wsX150 : List Cond := u_ws RX15 TX15 1
theorem nmX15 : ∀ a, a < 1 → ∀ b, b < 1 → a ≠ b → (TX15 a).2.1 ≠ (TX15 b).2.1 := by decide +kernel
theorem tyX15_ok : ∀ k, k < 1 → parseFieldDescriptor (TX15 k).2.2.1 = some (tyX15 k) := by decide +kernel
abbrev cX15_init : ByteArray := prog_21_method_1_code
def yX15_init : MethodName := ⟨RX15, "<init>", "(I)V"⟩
abbrev cX15_of : ByteArray := prog_21_method_2_code
def yX15_of : MethodName := ⟨RX15, "of", "(LBelowWorth$Case;)J"⟩
theorem q129 : (Jvm.Cond.initialized "BelowWorth$Word") ∈ lw_all := lw_g (lw_at lw_m1 24 rfl) rfl
theorem q987 : (Jvm.Cond.instantiable "BelowWorth$Word" (1 : Nat)) ∈ lw_all := lw_g (lw_at lw_m4 162 rfl) rfl
theorem q989 : (Jvm.Cond.instanceMethod ({ cls := "BelowWorth$Word", name := "<init>", desc := "(I)V" } : Jvm.MethodName)) ∈ lw_all := lw_g (lw_at lw_m4 164 rfl) rfl
theorem q990 : (Jvm.Cond.code ({ cls := "BelowWorth$Word", name := "<init>", desc := "(I)V" } : Jvm.MethodName) prog_21_method_1_code (2 : Nat) (Option.none : Option Jvm.ClassFile.FieldType)) ∈ lw_all := lw_g (lw_at lw_m4 165 rfl) rfl
theorem q991 : (Jvm.Cond.methodLinkNest "BelowWorth$Word" (1 : Nat) ({ cls := "BelowWorth$Value", name := "<init>", desc := "()V" } : Jvm.MethodName) "BelowWorth") ∈ lw_tbl := lw_at lw_m4 166 rfl
theorem q992 : (Jvm.Cond.fieldLink "BelowWorth$Word" (7 : Nat) "BelowWorth$Word" "word" "I") ∈ lw_all := lw_g (lw_at lw_m4 167 rfl) rfl
theorem q993 : (Jvm.Cond.laysFinal "BelowWorth$Word" "BelowWorth$Word" "word" "I") ∈ lw_all := lw_g (lw_at lw_m4 168 rfl) rfl
theorem q994 : (Jvm.Cond.soleField "BelowWorth$Word" "word") ∈ lw_all := lw_g (lw_at lw_m4 169 rfl) rfl
theorem q995 : (Jvm.Cond.superclass "BelowWorth$Word" "BelowWorth$Value") ∈ lw_all := lw_g (lw_at lw_m4 170 rfl) rfl
theorem q1117 : (Jvm.Cond.instanceMethod ({ cls := "BelowWorth$Word", name := "of", desc := "(LBelowWorth$Case;)J" } : Jvm.MethodName)) ∈ lw_all := lw_g (lw_at lw_m5 52 rfl) rfl
theorem q1118 : (Jvm.Cond.code ({ cls := "BelowWorth$Word", name := "of", desc := "(LBelowWorth$Case;)J" } : Jvm.MethodName) prog_21_method_2_code (2 : Nat) (Option.some Jvm.ClassFile.FieldType.long)) ∈ lw_all := lw_g (lw_at lw_m5 53 rfl) rfl
theorem q1119 : (Jvm.Cond.methodLink "BelowWorth$Word" (13 : Nat) ({ cls := "BelowWorth$Case", name := "word", desc := "(I)J" } : Jvm.MethodName)) ∈ lw_all := lw_g (lw_at lw_m5 54 rfl) rfl
theorem q1145 : (Jvm.Cond.selects "BelowWorth$Word" ({ cls := "BelowWorth$Value", name := "of", desc := "(LBelowWorth$Case;)J" } : Jvm.MethodName) ({ cls := "BelowWorth$Word", name := "of", desc := "(LBelowWorth$Case;)J" } : Jvm.MethodName)) ∈ lw_all := lw_g (lw_at lw_m5 80 rfl) rfl
theorem in_X15 : ∀ w ∈ wsX150, w ∈ lw_all := lw_in wsX150 [993] (by decide +kernel) (by decide +kernel)
def RX16 : String := "BelowWorth$Pair"
def TX16 : u_T := fun k => match k with
  | 0 => ("BelowWorth$Pair", "first", "LBelowWorth$Value;", true)
  | 1 => ("BelowWorth$Pair", "second", "LBelowWorth$Value;", true)
  | _ => ("BelowWorth$Pair", "sign", "I", true)
def tyX16 : Nat → FieldType := fun k => match k with
  | 0 => .object "BelowWorth$Value"
  | 1 => .object "BelowWorth$Value"
  | _ => .int
abbrev wsX160 : List Cond := u_ws RX16 TX16 3
theorem nmX16 : ∀ a, a < 3 → ∀ b, b < 3 → a ≠ b → (TX16 a).2.1 ≠ (TX16 b).2.1 := by decide +kernel
theorem tyX16_ok : ∀ k, k < 3 → parseFieldDescriptor (TX16 k).2.2.1 = some (tyX16 k) := by decide +kernel
abbrev cX16_init : ByteArray := prog_15_method_1_code
def yX16_init : MethodName := ⟨RX16, "<init>", "(LBelowWorth$Value;ILBelowWorth$Value;)V"⟩
abbrev cX16_of : ByteArray := prog_15_method_2_code
def yX16_of : MethodName := ⟨RX16, "of", "(LBelowWorth$Case;)J"⟩
theorem q130 : (Jvm.Cond.initialized "BelowWorth$Pair") ∈ lw_all := lw_g (lw_at lw_m1 25 rfl) rfl
theorem q997 : (Jvm.Cond.instantiable "BelowWorth$Pair" (3 : Nat)) ∈ lw_all := lw_g (lw_at lw_m4 172 rfl) rfl
theorem q999 : (Jvm.Cond.instanceMethod ({ cls := "BelowWorth$Pair", name := "<init>", desc := "(LBelowWorth$Value;ILBelowWorth$Value;)V" } : Jvm.MethodName)) ∈ lw_all := lw_g (lw_at lw_m4 174 rfl) rfl
theorem q1000 : (Jvm.Cond.code ({ cls := "BelowWorth$Pair", name := "<init>", desc := "(LBelowWorth$Value;ILBelowWorth$Value;)V" } : Jvm.MethodName) prog_15_method_1_code (4 : Nat) (Option.none : Option Jvm.ClassFile.FieldType)) ∈ lw_all := lw_g (lw_at lw_m4 175 rfl) rfl
theorem q1001 : (Jvm.Cond.methodLinkNest "BelowWorth$Pair" (1 : Nat) ({ cls := "BelowWorth$Value", name := "<init>", desc := "()V" } : Jvm.MethodName) "BelowWorth") ∈ lw_tbl := lw_at lw_m4 176 rfl
theorem q1002 : (Jvm.Cond.fieldLink "BelowWorth$Pair" (7 : Nat) "BelowWorth$Pair" "first" "LBelowWorth$Value;") ∈ lw_all := lw_g (lw_at lw_m4 177 rfl) rfl
theorem q1003 : (Jvm.Cond.fieldLink "BelowWorth$Pair" (17 : Nat) "BelowWorth$Pair" "second" "LBelowWorth$Value;") ∈ lw_all := lw_g (lw_at lw_m4 178 rfl) rfl
theorem q1004 : (Jvm.Cond.fieldLink "BelowWorth$Pair" (13 : Nat) "BelowWorth$Pair" "sign" "I") ∈ lw_all := lw_g (lw_at lw_m4 179 rfl) rfl
theorem q1005 : (Jvm.Cond.laysFinal "BelowWorth$Pair" "BelowWorth$Pair" "first" "LBelowWorth$Value;") ∈ lw_all := lw_g (lw_at lw_m4 180 rfl) rfl
theorem q1006 : (Jvm.Cond.soleField "BelowWorth$Pair" "first") ∈ lw_all := lw_g (lw_at lw_m4 181 rfl) rfl
theorem q1007 : (Jvm.Cond.laysFinal "BelowWorth$Pair" "BelowWorth$Pair" "second" "LBelowWorth$Value;") ∈ lw_all := lw_g (lw_at lw_m4 182 rfl) rfl
theorem q1008 : (Jvm.Cond.soleField "BelowWorth$Pair" "second") ∈ lw_all := lw_g (lw_at lw_m4 183 rfl) rfl
theorem q1009 : (Jvm.Cond.laysFinal "BelowWorth$Pair" "BelowWorth$Pair" "sign" "I") ∈ lw_all := lw_g (lw_at lw_m4 184 rfl) rfl
theorem q1010 : (Jvm.Cond.soleField "BelowWorth$Pair" "sign") ∈ lw_all := lw_g (lw_at lw_m4 185 rfl) rfl
theorem q1011 : (Jvm.Cond.superclass "BelowWorth$Pair" "BelowWorth$Value") ∈ lw_all := lw_g (lw_at lw_m4 186 rfl) rfl
theorem q1113 : (Jvm.Cond.selects "BelowWorth$Pair" ({ cls := "BelowWorth$Value", name := "of", desc := "(LBelowWorth$Case;)J" } : Jvm.MethodName) ({ cls := "BelowWorth$Pair", name := "of", desc := "(LBelowWorth$Case;)J" } : Jvm.MethodName)) ∈ lw_all := lw_g (lw_at lw_m5 48 rfl) rfl
theorem q1114 : (Jvm.Cond.instanceMethod ({ cls := "BelowWorth$Pair", name := "of", desc := "(LBelowWorth$Case;)J" } : Jvm.MethodName)) ∈ lw_all := lw_g (lw_at lw_m5 49 rfl) rfl
theorem q1115 : (Jvm.Cond.code ({ cls := "BelowWorth$Pair", name := "of", desc := "(LBelowWorth$Case;)J" } : Jvm.MethodName) prog_15_method_2_code (6 : Nat) (Option.some Jvm.ClassFile.FieldType.long)) ∈ lw_all := lw_g (lw_at lw_m5 50 rfl) rfl
theorem q1116 : (Jvm.Cond.methodLink "BelowWorth$Pair" (20 : Nat) ({ cls := "BelowWorth$Value", name := "of", desc := "(LBelowWorth$Case;)J" } : Jvm.MethodName)) ∈ lw_all := lw_g (lw_at lw_m5 51 rfl) rfl
theorem in_X16 : ∀ w ∈ wsX160, w ∈ lw_all := lw_in wsX160 [1005, 1007, 1009] (by decide +kernel) (by decide +kernel)
def RX17 : String := "BelowWorth$Compare"
def TX17 : u_T := fun k => match k with
  | 0 => ("BelowWorth$Compare", "first", "LBelowWorth$Value;", true)
  | 1 => ("BelowWorth$Compare", "second", "LBelowWorth$Value;", true)
  | _ => ("BelowWorth$Compare", "sign", "I", true)
def tyX17 : Nat → FieldType := fun k => match k with
  | 0 => .object "BelowWorth$Value"
  | 1 => .object "BelowWorth$Value"
  | _ => .int
abbrev wsX170 : List Cond := u_ws RX17 TX17 3
theorem nmX17 : ∀ a, a < 3 → ∀ b, b < 3 → a ≠ b → (TX17 a).2.1 ≠ (TX17 b).2.1 := by decide +kernel
theorem tyX17_ok : ∀ k, k < 3 → parseFieldDescriptor (TX17 k).2.2.1 = some (tyX17 k) := by decide +kernel
abbrev cX17_init : ByteArray := prog_6_method_1_code
def yX17_init : MethodName := ⟨RX17, "<init>", "(LBelowWorth$Value;ILBelowWorth$Value;)V"⟩
abbrev cX17_is : ByteArray := prog_6_method_2_code
def yX17_is : MethodName := ⟨RX17, "is", "(LBelowWorth$Case;)Z"⟩
theorem q131 : (Jvm.Cond.initialized "BelowWorth$Compare") ∈ lw_all := lw_g (lw_at lw_m1 26 rfl) rfl
theorem q1017 : (Jvm.Cond.instantiable "BelowWorth$Compare" (3 : Nat)) ∈ lw_all := lw_g (lw_at lw_m4 192 rfl) rfl
theorem q1019 : (Jvm.Cond.instanceMethod ({ cls := "BelowWorth$Compare", name := "<init>", desc := "(LBelowWorth$Value;ILBelowWorth$Value;)V" } : Jvm.MethodName)) ∈ lw_all := lw_g (lw_at lw_m4 194 rfl) rfl
theorem q1020 : (Jvm.Cond.code ({ cls := "BelowWorth$Compare", name := "<init>", desc := "(LBelowWorth$Value;ILBelowWorth$Value;)V" } : Jvm.MethodName) prog_6_method_1_code (4 : Nat) (Option.none : Option Jvm.ClassFile.FieldType)) ∈ lw_all := lw_g (lw_at lw_m4 195 rfl) rfl
theorem q1021 : (Jvm.Cond.methodLinkNest "BelowWorth$Compare" (1 : Nat) ({ cls := "BelowWorth$Test", name := "<init>", desc := "()V" } : Jvm.MethodName) "BelowWorth") ∈ lw_tbl := lw_at lw_m4 196 rfl
theorem q1022 : (Jvm.Cond.fieldLink "BelowWorth$Compare" (7 : Nat) "BelowWorth$Compare" "first" "LBelowWorth$Value;") ∈ lw_all := lw_g (lw_at lw_m4 197 rfl) rfl
theorem q1023 : (Jvm.Cond.fieldLink "BelowWorth$Compare" (17 : Nat) "BelowWorth$Compare" "second" "LBelowWorth$Value;") ∈ lw_all := lw_g (lw_at lw_m4 198 rfl) rfl
theorem q1024 : (Jvm.Cond.fieldLink "BelowWorth$Compare" (13 : Nat) "BelowWorth$Compare" "sign" "I") ∈ lw_all := lw_g (lw_at lw_m4 199 rfl) rfl
theorem q1025 : (Jvm.Cond.laysFinal "BelowWorth$Compare" "BelowWorth$Compare" "first" "LBelowWorth$Value;") ∈ lw_all := lw_g (lw_at lw_m4 200 rfl) rfl
theorem q1026 : (Jvm.Cond.soleField "BelowWorth$Compare" "first") ∈ lw_all := lw_g (lw_at lw_m4 201 rfl) rfl
theorem q1027 : (Jvm.Cond.laysFinal "BelowWorth$Compare" "BelowWorth$Compare" "second" "LBelowWorth$Value;") ∈ lw_all := lw_g (lw_at lw_m4 202 rfl) rfl
theorem q1028 : (Jvm.Cond.soleField "BelowWorth$Compare" "second") ∈ lw_all := lw_g (lw_at lw_m4 203 rfl) rfl
theorem q1029 : (Jvm.Cond.laysFinal "BelowWorth$Compare" "BelowWorth$Compare" "sign" "I") ∈ lw_all := lw_g (lw_at lw_m4 204 rfl) rfl
theorem q1030 : (Jvm.Cond.soleField "BelowWorth$Compare" "sign") ∈ lw_all := lw_g (lw_at lw_m4 205 rfl) rfl
theorem q1031 : (Jvm.Cond.superclass "BelowWorth$Compare" "BelowWorth$Test") ∈ lw_all := lw_g (lw_at lw_m4 206 rfl) rfl
theorem q1105 : (Jvm.Cond.instanceMethod ({ cls := "BelowWorth$Compare", name := "is", desc := "(LBelowWorth$Case;)Z" } : Jvm.MethodName)) ∈ lw_all := lw_g (lw_at lw_m5 40 rfl) rfl
theorem q1106 : (Jvm.Cond.code ({ cls := "BelowWorth$Compare", name := "is", desc := "(LBelowWorth$Case;)Z" } : Jvm.MethodName) prog_6_method_2_code (6 : Nat) (Option.some Jvm.ClassFile.FieldType.boolean)) ∈ lw_all := lw_g (lw_at lw_m5 41 rfl) rfl
theorem q1107 : (Jvm.Cond.methodLink "BelowWorth$Compare" (20 : Nat) ({ cls := "BelowWorth$Value", name := "of", desc := "(LBelowWorth$Case;)J" } : Jvm.MethodName)) ∈ lw_all := lw_g (lw_at lw_m5 42 rfl) rfl
theorem q1149 : (Jvm.Cond.selects "BelowWorth$Compare" ({ cls := "BelowWorth$Test", name := "is", desc := "(LBelowWorth$Case;)Z" } : Jvm.MethodName) ({ cls := "BelowWorth$Compare", name := "is", desc := "(LBelowWorth$Case;)Z" } : Jvm.MethodName)) ∈ lw_all := lw_g (lw_at lw_m5 84 rfl) rfl
theorem q2268 : (Jvm.Cond.castable "BelowWorth$Compare" "BelowWorth$Test") ∈ lw_tbl := lw_at lw_m10 3 rfl
theorem in_X17 : ∀ w ∈ wsX170, w ∈ lw_all := lw_in wsX170 [1025, 1027, 1029] (by decide +kernel) (by decide +kernel)
def RX18 : String := "BelowWorth$Both"
def TX18 : u_T := fun k => match k with
  | 0 => ("BelowWorth$Both", "first", "LBelowWorth$Test;", true)
  | 1 => ("BelowWorth$Both", "second", "LBelowWorth$Test;", true)
  | _ => ("BelowWorth$Both", "isAnd", "Z", true)
def tyX18 : Nat → FieldType := fun k => match k with
  | 0 => .object "BelowWorth$Test"
  | 1 => .object "BelowWorth$Test"
  | _ => .boolean
abbrev wsX180 : List Cond := u_ws RX18 TX18 3
theorem nmX18 : ∀ a, a < 3 → ∀ b, b < 3 → a ≠ b → (TX18 a).2.1 ≠ (TX18 b).2.1 := by decide +kernel
theorem tyX18_ok : ∀ k, k < 3 → parseFieldDescriptor (TX18 k).2.2.1 = some (tyX18 k) := by decide +kernel
abbrev cX18_init : ByteArray := prog_4_method_1_code
def yX18_init : MethodName := ⟨RX18, "<init>", "(LBelowWorth$Test;ZLBelowWorth$Test;)V"⟩
abbrev cX18_is : ByteArray := prog_4_method_2_code
def yX18_is : MethodName := ⟨RX18, "is", "(LBelowWorth$Case;)Z"⟩
theorem q132 : (Jvm.Cond.initialized "BelowWorth$Both") ∈ lw_all := lw_g (lw_at lw_m1 27 rfl) rfl
theorem q1034 : (Jvm.Cond.instantiable "BelowWorth$Both" (3 : Nat)) ∈ lw_all := lw_g (lw_at lw_m4 209 rfl) rfl
theorem q1036 : (Jvm.Cond.instanceMethod ({ cls := "BelowWorth$Both", name := "<init>", desc := "(LBelowWorth$Test;ZLBelowWorth$Test;)V" } : Jvm.MethodName)) ∈ lw_all := lw_g (lw_at lw_m4 211 rfl) rfl
theorem q1037 : (Jvm.Cond.code ({ cls := "BelowWorth$Both", name := "<init>", desc := "(LBelowWorth$Test;ZLBelowWorth$Test;)V" } : Jvm.MethodName) prog_4_method_1_code (4 : Nat) (Option.none : Option Jvm.ClassFile.FieldType)) ∈ lw_all := lw_g (lw_at lw_m4 212 rfl) rfl
theorem q1038 : (Jvm.Cond.methodLinkNest "BelowWorth$Both" (1 : Nat) ({ cls := "BelowWorth$Test", name := "<init>", desc := "()V" } : Jvm.MethodName) "BelowWorth") ∈ lw_tbl := lw_at lw_m4 213 rfl
theorem q1039 : (Jvm.Cond.fieldLink "BelowWorth$Both" (7 : Nat) "BelowWorth$Both" "first" "LBelowWorth$Test;") ∈ lw_all := lw_g (lw_at lw_m4 214 rfl) rfl
theorem q1040 : (Jvm.Cond.fieldLink "BelowWorth$Both" (17 : Nat) "BelowWorth$Both" "second" "LBelowWorth$Test;") ∈ lw_all := lw_g (lw_at lw_m4 215 rfl) rfl
theorem q1041 : (Jvm.Cond.fieldLink "BelowWorth$Both" (13 : Nat) "BelowWorth$Both" "isAnd" "Z") ∈ lw_all := lw_g (lw_at lw_m4 216 rfl) rfl
theorem q1042 : (Jvm.Cond.laysFinal "BelowWorth$Both" "BelowWorth$Both" "first" "LBelowWorth$Test;") ∈ lw_all := lw_g (lw_at lw_m4 217 rfl) rfl
theorem q1043 : (Jvm.Cond.soleField "BelowWorth$Both" "first") ∈ lw_all := lw_g (lw_at lw_m4 218 rfl) rfl
theorem q1044 : (Jvm.Cond.laysFinal "BelowWorth$Both" "BelowWorth$Both" "second" "LBelowWorth$Test;") ∈ lw_all := lw_g (lw_at lw_m4 219 rfl) rfl
theorem q1045 : (Jvm.Cond.soleField "BelowWorth$Both" "second") ∈ lw_all := lw_g (lw_at lw_m4 220 rfl) rfl
theorem q1046 : (Jvm.Cond.laysFinal "BelowWorth$Both" "BelowWorth$Both" "isAnd" "Z") ∈ lw_all := lw_g (lw_at lw_m4 221 rfl) rfl
theorem q1047 : (Jvm.Cond.soleField "BelowWorth$Both" "isAnd") ∈ lw_all := lw_g (lw_at lw_m4 222 rfl) rfl
theorem q1048 : (Jvm.Cond.superclass "BelowWorth$Both" "BelowWorth$Test") ∈ lw_all := lw_g (lw_at lw_m4 223 rfl) rfl
theorem q1101 : (Jvm.Cond.selects "BelowWorth$Both" ({ cls := "BelowWorth$Test", name := "is", desc := "(LBelowWorth$Case;)Z" } : Jvm.MethodName) ({ cls := "BelowWorth$Both", name := "is", desc := "(LBelowWorth$Case;)Z" } : Jvm.MethodName)) ∈ lw_all := lw_g (lw_at lw_m5 36 rfl) rfl
theorem q1102 : (Jvm.Cond.instanceMethod ({ cls := "BelowWorth$Both", name := "is", desc := "(LBelowWorth$Case;)Z" } : Jvm.MethodName)) ∈ lw_all := lw_g (lw_at lw_m5 37 rfl) rfl
theorem q1103 : (Jvm.Cond.code ({ cls := "BelowWorth$Both", name := "is", desc := "(LBelowWorth$Case;)Z" } : Jvm.MethodName) prog_4_method_2_code (2 : Nat) (Option.some Jvm.ClassFile.FieldType.boolean)) ∈ lw_all := lw_g (lw_at lw_m5 38 rfl) rfl
theorem q1104 : (Jvm.Cond.methodLink "BelowWorth$Both" (20 : Nat) ({ cls := "BelowWorth$Test", name := "is", desc := "(LBelowWorth$Case;)Z" } : Jvm.MethodName)) ∈ lw_all := lw_g (lw_at lw_m5 39 rfl) rfl
theorem q2269 : (Jvm.Cond.castable "BelowWorth$Both" "BelowWorth$Test") ∈ lw_tbl := lw_at lw_m10 4 rfl
theorem in_X18 : ∀ w ∈ wsX180, w ∈ lw_all := lw_in wsX180 [1042, 1044, 1046] (by decide +kernel) (by decide +kernel)
def RX19 : String := "BelowWorth$Figure"
def TX19 : u_T := fun k => match k with
  | 0 => ("BelowWorth$Figure", "isHere", "Z", true)
  | 1 => ("BelowWorth$Figure", "grades", "I", true)
  | 2 => ("BelowWorth$Figure", "from", "I", true)
  | 3 => ("BelowWorth$Figure", "to", "I", true)
  | _ => ("BelowWorth$Figure", "tons", "I", true)
def tyX19 : Nat → FieldType := fun k => match k with
  | 0 => .boolean
  | 1 => .int
  | 2 => .int
  | 3 => .int
  | _ => .int
abbrev wsX190 : List Cond := u_ws RX19 TX19 5
theorem nmX19 : ∀ a, a < 5 → ∀ b, b < 5 → a ≠ b → (TX19 a).2.1 ≠ (TX19 b).2.1 := by decide +kernel
theorem tyX19_ok : ∀ k, k < 5 → parseFieldDescriptor (TX19 k).2.2.1 = some (tyX19 k) := by decide +kernel
abbrev cX19_of : ByteArray := prog_10_method_2_code
def yX19_of : MethodName := ⟨RX19, "of", "(LBelowWorth$Sale;)I"⟩
abbrev cX19_init : ByteArray := prog_10_method_1_code
def yX19_init : MethodName := ⟨RX19, "<init>", "(ZIIII)V"⟩
theorem q133 : (Jvm.Cond.initialized "BelowWorth$Figure") ∈ lw_all := lw_g (lw_at lw_m1 28 rfl) rfl
theorem q685 : (Jvm.Cond.fieldLinkNest "BelowWorth$Figure" (29 : Nat) "BelowWorth$Sale" "grade" "I" "BelowWorth") ∈ lw_tbl := lw_at lw_m3 100 rfl
theorem q691 : (Jvm.Cond.fieldLinkNest "BelowWorth$Figure" (32 : Nat) "BelowWorth$Sale" "month" "I" "BelowWorth") ∈ lw_tbl := lw_at lw_m3 106 rfl
theorem q699 : (Jvm.Cond.fieldLinkNest "BelowWorth$Figure" (41 : Nat) "BelowWorth$Sale" "tons" "I" "BelowWorth") ∈ lw_tbl := lw_at lw_m3 114 rfl
theorem q709 : (Jvm.Cond.fieldLinkNest "BelowWorth$Figure" (26 : Nat) "BelowWorth$Sale" "isHere" "Z" "BelowWorth") ∈ lw_tbl := lw_at lw_m3 124 rfl
theorem q1137 : (Jvm.Cond.instanceMethod ({ cls := "BelowWorth$Figure", name := "of", desc := "(LBelowWorth$Sale;)I" } : Jvm.MethodName)) ∈ lw_all := lw_g (lw_at lw_m5 72 rfl) rfl
theorem q1138 : (Jvm.Cond.selects "BelowWorth$Figure" ({ cls := "BelowWorth$Figure", name := "of", desc := "(LBelowWorth$Sale;)I" } : Jvm.MethodName) ({ cls := "BelowWorth$Figure", name := "of", desc := "(LBelowWorth$Sale;)I" } : Jvm.MethodName)) ∈ lw_all := lw_g (lw_at lw_m5 73 rfl) rfl
theorem q1139 : (Jvm.Cond.code ({ cls := "BelowWorth$Figure", name := "of", desc := "(LBelowWorth$Sale;)I" } : Jvm.MethodName) prog_10_method_2_code (2 : Nat) (Option.some Jvm.ClassFile.FieldType.int)) ∈ lw_all := lw_g (lw_at lw_m5 74 rfl) rfl
theorem q1140 : (Jvm.Cond.methodLinkNest "BelowWorth$Figure" (35 : Nat) ({ cls := "BelowWorth", name := "in", desc := "(JJJ)Z" } : Jvm.MethodName) "BelowWorth") ∈ lw_tbl := lw_at lw_m5 75 rfl
theorem q1281 : (Jvm.Cond.instantiable "BelowWorth$Figure" (5 : Nat)) ∈ lw_all := lw_g (lw_at lw_m5 216 rfl) rfl
theorem q1283 : (Jvm.Cond.instanceMethod ({ cls := "BelowWorth$Figure", name := "<init>", desc := "(ZIIII)V" } : Jvm.MethodName)) ∈ lw_all := lw_g (lw_at lw_m5 218 rfl) rfl
theorem q1284 : (Jvm.Cond.code ({ cls := "BelowWorth$Figure", name := "<init>", desc := "(ZIIII)V" } : Jvm.MethodName) prog_10_method_1_code (6 : Nat) (Option.none : Option Jvm.ClassFile.FieldType)) ∈ lw_all := lw_g (lw_at lw_m5 219 rfl) rfl
theorem q1285 : (Jvm.Cond.methodLink "BelowWorth$Figure" (1 : Nat) ({ cls := "java/lang/Object", name := "<init>", desc := "()V" } : Jvm.MethodName)) ∈ lw_all := lw_g (lw_at lw_m5 220 rfl) rfl
theorem q1286 : (Jvm.Cond.fieldLink "BelowWorth$Figure" (7 : Nat) "BelowWorth$Figure" "isHere" "Z") ∈ lw_all := lw_g (lw_at lw_m5 221 rfl) rfl
theorem q1287 : (Jvm.Cond.fieldLink "BelowWorth$Figure" (13 : Nat) "BelowWorth$Figure" "grades" "I") ∈ lw_all := lw_g (lw_at lw_m5 222 rfl) rfl
theorem q1288 : (Jvm.Cond.fieldLink "BelowWorth$Figure" (17 : Nat) "BelowWorth$Figure" "from" "I") ∈ lw_all := lw_g (lw_at lw_m5 223 rfl) rfl
theorem q1289 : (Jvm.Cond.fieldLink "BelowWorth$Figure" (20 : Nat) "BelowWorth$Figure" "to" "I") ∈ lw_all := lw_g (lw_at lw_m5 224 rfl) rfl
theorem q1290 : (Jvm.Cond.fieldLink "BelowWorth$Figure" (23 : Nat) "BelowWorth$Figure" "tons" "I") ∈ lw_all := lw_g (lw_at lw_m5 225 rfl) rfl
theorem q1292 : (Jvm.Cond.laysFinal "BelowWorth$Figure" "BelowWorth$Figure" "isHere" "Z") ∈ lw_all := lw_g (lw_at lw_m5 227 rfl) rfl
theorem q1293 : (Jvm.Cond.soleField "BelowWorth$Figure" "isHere") ∈ lw_all := lw_g (lw_at lw_m5 228 rfl) rfl
theorem q1294 : (Jvm.Cond.laysFinal "BelowWorth$Figure" "BelowWorth$Figure" "grades" "I") ∈ lw_all := lw_g (lw_at lw_m5 229 rfl) rfl
theorem q1295 : (Jvm.Cond.soleField "BelowWorth$Figure" "grades") ∈ lw_all := lw_g (lw_at lw_m5 230 rfl) rfl
theorem q1296 : (Jvm.Cond.laysFinal "BelowWorth$Figure" "BelowWorth$Figure" "from" "I") ∈ lw_all := lw_g (lw_at lw_m5 231 rfl) rfl
theorem q1297 : (Jvm.Cond.soleField "BelowWorth$Figure" "from") ∈ lw_all := lw_g (lw_at lw_m5 232 rfl) rfl
theorem q1298 : (Jvm.Cond.laysFinal "BelowWorth$Figure" "BelowWorth$Figure" "to" "I") ∈ lw_all := lw_g (lw_at lw_m5 233 rfl) rfl
theorem q1299 : (Jvm.Cond.soleField "BelowWorth$Figure" "to") ∈ lw_all := lw_g (lw_at lw_m5 234 rfl) rfl
theorem q1300 : (Jvm.Cond.laysFinal "BelowWorth$Figure" "BelowWorth$Figure" "tons" "I") ∈ lw_all := lw_g (lw_at lw_m5 235 rfl) rfl
theorem q1301 : (Jvm.Cond.soleField "BelowWorth$Figure" "tons") ∈ lw_all := lw_g (lw_at lw_m5 236 rfl) rfl
theorem q1302 : (Jvm.Cond.superclass "BelowWorth$Figure" "java/lang/Object") ∈ lw_all := lw_g (lw_at lw_m5 237 rfl) rfl
theorem in_X19 : ∀ w ∈ wsX190, w ∈ lw_all := lw_in wsX190 [1292, 1294, 1296, 1298, 1300] (by decide +kernel) (by decide +kernel)
def RX20 : String := "BelowWorth$Rate"
def TX20 : u_T := fun k => match k with
  | 0 => ("BelowWorth$Rate", "firm", "I", true)
  | 1 => ("BelowWorth$Rate", "told", "I", true)
  | 2 => ("BelowWorth$Rate", "rate", "I", true)
  | 3 => ("BelowWorth$Rate", "coins", "J", true)
  | _ => ("BelowWorth$Rate", "isAgainst", "Z", true)
def tyX20 : Nat → FieldType := fun k => match k with
  | 0 => .int
  | 1 => .int
  | 2 => .int
  | 3 => .long
  | _ => .boolean
abbrev wsX200 : List Cond := u_ws RX20 TX20 5
theorem nmX20 : ∀ a, a < 5 → ∀ b, b < 5 → a ≠ b → (TX20 a).2.1 ≠ (TX20 b).2.1 := by decide +kernel
theorem tyX20_ok : ∀ k, k < 5 → parseFieldDescriptor (TX20 k).2.2.1 = some (tyX20 k) := by decide +kernel
abbrev cX20_init : ByteArray := prog_16_method_1_code
def yX20_init : MethodName := ⟨RX20, "<init>", "(IIIJZ)V"⟩
abbrev cX20_holds : ByteArray := prog_16_method_2_code
def yX20_holds : MethodName := ⟨RX20, "holds", "(II)Z"⟩
theorem q135 : (Jvm.Cond.initialized "BelowWorth$Rate") ∈ lw_all := lw_g (lw_at lw_m1 30 rfl) rfl
theorem q1396 : (Jvm.Cond.instantiable "BelowWorth$Rate" (5 : Nat)) ∈ lw_all := lw_g (lw_at lw_m6 91 rfl) rfl
theorem q1398 : (Jvm.Cond.instanceMethod ({ cls := "BelowWorth$Rate", name := "<init>", desc := "(IIIJZ)V" } : Jvm.MethodName)) ∈ lw_all := lw_g (lw_at lw_m6 93 rfl) rfl
theorem q1399 : (Jvm.Cond.code ({ cls := "BelowWorth$Rate", name := "<init>", desc := "(IIIJZ)V" } : Jvm.MethodName) prog_16_method_1_code (7 : Nat) (Option.none : Option Jvm.ClassFile.FieldType)) ∈ lw_all := lw_g (lw_at lw_m6 94 rfl) rfl
theorem q1400 : (Jvm.Cond.methodLink "BelowWorth$Rate" (1 : Nat) ({ cls := "java/lang/Object", name := "<init>", desc := "()V" } : Jvm.MethodName)) ∈ lw_all := lw_g (lw_at lw_m6 95 rfl) rfl
theorem q1401 : (Jvm.Cond.fieldLink "BelowWorth$Rate" (7 : Nat) "BelowWorth$Rate" "firm" "I") ∈ lw_all := lw_g (lw_at lw_m6 96 rfl) rfl
theorem q1403 : (Jvm.Cond.fieldLink "BelowWorth$Rate" (13 : Nat) "BelowWorth$Rate" "told" "I") ∈ lw_all := lw_g (lw_at lw_m6 98 rfl) rfl
theorem q1405 : (Jvm.Cond.fieldLink "BelowWorth$Rate" (16 : Nat) "BelowWorth$Rate" "rate" "I") ∈ lw_all := lw_g (lw_at lw_m6 100 rfl) rfl
theorem q1407 : (Jvm.Cond.fieldLink "BelowWorth$Rate" (19 : Nat) "BelowWorth$Rate" "coins" "J") ∈ lw_all := lw_g (lw_at lw_m6 102 rfl) rfl
theorem q1409 : (Jvm.Cond.fieldLink "BelowWorth$Rate" (23 : Nat) "BelowWorth$Rate" "isAgainst" "Z") ∈ lw_all := lw_g (lw_at lw_m6 104 rfl) rfl
theorem q1411 : (Jvm.Cond.laysFinal "BelowWorth$Rate" "BelowWorth$Rate" "firm" "I") ∈ lw_all := lw_g (lw_at lw_m6 106 rfl) rfl
theorem q1412 : (Jvm.Cond.soleField "BelowWorth$Rate" "firm") ∈ lw_all := lw_g (lw_at lw_m6 107 rfl) rfl
theorem q1413 : (Jvm.Cond.laysFinal "BelowWorth$Rate" "BelowWorth$Rate" "told" "I") ∈ lw_all := lw_g (lw_at lw_m6 108 rfl) rfl
theorem q1414 : (Jvm.Cond.soleField "BelowWorth$Rate" "told") ∈ lw_all := lw_g (lw_at lw_m6 109 rfl) rfl
theorem q1415 : (Jvm.Cond.laysFinal "BelowWorth$Rate" "BelowWorth$Rate" "rate" "I") ∈ lw_all := lw_g (lw_at lw_m6 110 rfl) rfl
theorem q1416 : (Jvm.Cond.soleField "BelowWorth$Rate" "rate") ∈ lw_all := lw_g (lw_at lw_m6 111 rfl) rfl
theorem q1417 : (Jvm.Cond.laysFinal "BelowWorth$Rate" "BelowWorth$Rate" "coins" "J") ∈ lw_all := lw_g (lw_at lw_m6 112 rfl) rfl
theorem q1418 : (Jvm.Cond.soleField "BelowWorth$Rate" "coins") ∈ lw_all := lw_g (lw_at lw_m6 113 rfl) rfl
theorem q1419 : (Jvm.Cond.laysFinal "BelowWorth$Rate" "BelowWorth$Rate" "isAgainst" "Z") ∈ lw_all := lw_g (lw_at lw_m6 114 rfl) rfl
theorem q1420 : (Jvm.Cond.soleField "BelowWorth$Rate" "isAgainst") ∈ lw_all := lw_g (lw_at lw_m6 115 rfl) rfl
theorem q1421 : (Jvm.Cond.superclass "BelowWorth$Rate" "java/lang/Object") ∈ lw_all := lw_g (lw_at lw_m6 116 rfl) rfl
theorem q1435 : (Jvm.Cond.instanceMethod ({ cls := "BelowWorth$Rate", name := "holds", desc := "(II)Z" } : Jvm.MethodName)) ∈ lw_all := lw_g (lw_at lw_m6 130 rfl) rfl
theorem q1436 : (Jvm.Cond.selects "BelowWorth$Rate" ({ cls := "BelowWorth$Rate", name := "holds", desc := "(II)Z" } : Jvm.MethodName) ({ cls := "BelowWorth$Rate", name := "holds", desc := "(II)Z" } : Jvm.MethodName)) ∈ lw_all := lw_g (lw_at lw_m6 131 rfl) rfl
theorem q1437 : (Jvm.Cond.code ({ cls := "BelowWorth$Rate", name := "holds", desc := "(II)Z" } : Jvm.MethodName) prog_16_method_2_code (3 : Nat) (Option.some Jvm.ClassFile.FieldType.boolean)) ∈ lw_all := lw_g (lw_at lw_m6 132 rfl) rfl
theorem in_X20 : ∀ w ∈ wsX200, w ∈ lw_all := lw_in wsX200 [1411, 1413, 1415, 1417, 1419] (by decide +kernel) (by decide +kernel)
def RX21 : String := "BelowWorth$Entry"
def TX21 : u_T := fun k => match k with
  | 0 => ("BelowWorth$Entry", "firm", "I", true)
  | 1 => ("BelowWorth$Entry", "day", "I", true)
  | 2 => ("BelowWorth$Entry", "coins", "I", true)
  | 3 => ("BelowWorth$Entry", "paid", "I", false)
  | _ => ("BelowWorth$Entry", "isSettled", "Z", false)
def tyX21 : Nat → FieldType := fun k => match k with
  | 0 => .int
  | 1 => .int
  | 2 => .int
  | 3 => .int
  | _ => .boolean
abbrev wsX210 : List Cond := u_ws RX21 TX21 5
theorem nmX21 : ∀ a, a < 5 → ∀ b, b < 5 → a ≠ b → (TX21 a).2.1 ≠ (TX21 b).2.1 := by decide +kernel
theorem tyX21_ok : ∀ k, k < 5 → parseFieldDescriptor (TX21 k).2.2.1 = some (tyX21 k) := by decide +kernel
abbrev cX21_init : ByteArray := prog_8_method_1_code
def yX21_init : MethodName := ⟨RX21, "<init>", "(IIII)V"⟩
abbrev cX21_by : ByteArray := prog_8_method_2_code
def yX21_by : MethodName := ⟨RX21, "by", "(I)I"⟩
theorem q136 : (Jvm.Cond.initialized "BelowWorth$Entry") ∈ lw_all := lw_g (lw_at lw_m1 31 rfl) rfl
theorem q1443 : (Jvm.Cond.instantiable "BelowWorth$Entry" (5 : Nat)) ∈ lw_all := lw_g (lw_at lw_m6 138 rfl) rfl
theorem q1445 : (Jvm.Cond.instanceMethod ({ cls := "BelowWorth$Entry", name := "<init>", desc := "(IIII)V" } : Jvm.MethodName)) ∈ lw_all := lw_g (lw_at lw_m6 140 rfl) rfl
theorem q1446 : (Jvm.Cond.code ({ cls := "BelowWorth$Entry", name := "<init>", desc := "(IIII)V" } : Jvm.MethodName) prog_8_method_1_code (5 : Nat) (Option.none : Option Jvm.ClassFile.FieldType)) ∈ lw_all := lw_g (lw_at lw_m6 141 rfl) rfl
theorem q1447 : (Jvm.Cond.methodLink "BelowWorth$Entry" (1 : Nat) ({ cls := "java/lang/Object", name := "<init>", desc := "()V" } : Jvm.MethodName)) ∈ lw_all := lw_g (lw_at lw_m6 142 rfl) rfl
theorem q1448 : (Jvm.Cond.fieldLink "BelowWorth$Entry" (7 : Nat) "BelowWorth$Entry" "firm" "I") ∈ lw_all := lw_g (lw_at lw_m6 143 rfl) rfl
theorem q1450 : (Jvm.Cond.fieldLink "BelowWorth$Entry" (13 : Nat) "BelowWorth$Entry" "day" "I") ∈ lw_all := lw_g (lw_at lw_m6 145 rfl) rfl
theorem q1452 : (Jvm.Cond.fieldLink "BelowWorth$Entry" (16 : Nat) "BelowWorth$Entry" "coins" "I") ∈ lw_all := lw_g (lw_at lw_m6 147 rfl) rfl
theorem q1454 : (Jvm.Cond.fieldLink "BelowWorth$Entry" (19 : Nat) "BelowWorth$Entry" "paid" "I") ∈ lw_all := lw_g (lw_at lw_m6 149 rfl) rfl
theorem q1457 : (Jvm.Cond.laysFinal "BelowWorth$Entry" "BelowWorth$Entry" "firm" "I") ∈ lw_all := lw_g (lw_at lw_m6 152 rfl) rfl
theorem q1458 : (Jvm.Cond.soleField "BelowWorth$Entry" "firm") ∈ lw_all := lw_g (lw_at lw_m6 153 rfl) rfl
theorem q1459 : (Jvm.Cond.laysFinal "BelowWorth$Entry" "BelowWorth$Entry" "day" "I") ∈ lw_all := lw_g (lw_at lw_m6 154 rfl) rfl
theorem q1460 : (Jvm.Cond.soleField "BelowWorth$Entry" "day") ∈ lw_all := lw_g (lw_at lw_m6 155 rfl) rfl
theorem q1461 : (Jvm.Cond.laysFinal "BelowWorth$Entry" "BelowWorth$Entry" "coins" "I") ∈ lw_all := lw_g (lw_at lw_m6 156 rfl) rfl
theorem q1462 : (Jvm.Cond.soleField "BelowWorth$Entry" "coins") ∈ lw_all := lw_g (lw_at lw_m6 157 rfl) rfl
theorem q1463 : (Jvm.Cond.lays "BelowWorth$Entry" "BelowWorth$Entry" "paid" "I") ∈ lw_all := lw_g (lw_at lw_m6 158 rfl) rfl
theorem q1464 : (Jvm.Cond.soleField "BelowWorth$Entry" "paid") ∈ lw_all := lw_g (lw_at lw_m6 159 rfl) rfl
theorem q1465 : (Jvm.Cond.lays "BelowWorth$Entry" "BelowWorth$Entry" "isSettled" "Z") ∈ lw_all := lw_g (lw_at lw_m6 160 rfl) rfl
theorem q1466 : (Jvm.Cond.soleField "BelowWorth$Entry" "isSettled") ∈ lw_all := lw_g (lw_at lw_m6 161 rfl) rfl
theorem q1467 : (Jvm.Cond.superclass "BelowWorth$Entry" "java/lang/Object") ∈ lw_all := lw_g (lw_at lw_m6 162 rfl) rfl
theorem q1469 : (Jvm.Cond.instanceMethod ({ cls := "BelowWorth$Entry", name := "by", desc := "(I)I" } : Jvm.MethodName)) ∈ lw_all := lw_g (lw_at lw_m6 164 rfl) rfl
theorem q1470 : (Jvm.Cond.selects "BelowWorth$Entry" ({ cls := "BelowWorth$Entry", name := "by", desc := "(I)I" } : Jvm.MethodName) ({ cls := "BelowWorth$Entry", name := "by", desc := "(I)I" } : Jvm.MethodName)) ∈ lw_all := lw_g (lw_at lw_m6 165 rfl) rfl
theorem q1471 : (Jvm.Cond.code ({ cls := "BelowWorth$Entry", name := "by", desc := "(I)I" } : Jvm.MethodName) prog_8_method_2_code (2 : Nat) (Option.some Jvm.ClassFile.FieldType.int)) ∈ lw_all := lw_g (lw_at lw_m6 166 rfl) rfl
theorem q1472 : (Jvm.Cond.constantLong "BelowWorth$Entry" (22 : Nat) (999 : Int64)) ∈ lw_all := lw_g (lw_at lw_m6 167 rfl) rfl
theorem q1473 : (Jvm.Cond.constantLong "BelowWorth$Entry" (24 : Nat) (1000 : Int64)) ∈ lw_all := lw_g (lw_at lw_m6 168 rfl) rfl
theorem in_X21 : ∀ w ∈ wsX210, w ∈ lw_all := lw_in wsX210 [1457, 1459, 1461, 1463, 1465] (by decide +kernel) (by decide +kernel)
def RJ0 : String := "java/lang/Throwable"
def TJ0 : u_T := fun k => match k with
  | 0 => ("java/lang/Throwable", "cause", "Ljava/lang/Throwable;", false)
  | 1 => ("java/lang/Throwable", "stackTrace", "[Ljava/lang/StackTraceElement;", false)
  | 2 => ("java/lang/Throwable", "suppressedExceptions", "Ljava/util/List;", false)
  | 3 => ("java/lang/Throwable", "detailMessage", "Ljava/lang/String;", false)
  | _ => ("java/lang/Throwable", "backtrace", "Ljava/lang/Object;", false)
def tyJ0 : Nat → FieldType := fun k => match k with
  | 0 => .object "java/lang/Throwable"
  | 1 => .array (.object "java/lang/StackTraceElement")
  | 2 => .object "java/util/List"
  | 3 => .object "java/lang/String"
  | _ => .object "java/lang/Object"
abbrev wsJ00 : List Cond := u_ws RJ0 TJ0 5
theorem nmJ0 : ∀ a, a < 5 → ∀ b, b < 5 → a ≠ b → (TJ0 a).2.1 ≠ (TJ0 b).2.1 := by decide +kernel
theorem tyJ0_ok : ∀ k, k < 5 → parseFieldDescriptor (TJ0 k).2.2.1 = some (tyJ0 k) := by decide +kernel
abbrev cJ0_init : ByteArray := prog_31_method_1_code
def yJ0_init : MethodName := ⟨RJ0, "<init>", "()V"⟩
abbrev cJ0_init_2 : ByteArray := prog_31_method_5_code
def yJ0_init_2 : MethodName := ⟨RJ0, "<init>", "(Ljava/lang/String;Ljava/lang/Throwable;ZZ)V"⟩
theorem q107 : (Jvm.Cond.initialized "java/lang/Throwable") ∈ lw_all := lw_g (lw_at lw_m1 2 rfl) rfl
theorem q160 : (Jvm.Cond.declares ({ cls := "java/lang/Throwable", name := "<init>", desc := "()V" } : Jvm.MethodName)) ∈ lw_tbl := lw_at lw_m1 55 rfl
theorem q161 : (Jvm.Cond.declares ({ cls := "java/lang/Throwable", name := "<init>", desc := "(Ljava/lang/String;)V" } : Jvm.MethodName)) ∈ lw_tbl := lw_at lw_m1 56 rfl
theorem q165 : (Jvm.Cond.lays "java/lang/Throwable" "java/lang/Throwable" "cause" "Ljava/lang/Throwable;") ∈ lw_all := lw_g (lw_at lw_m1 60 rfl) rfl
theorem q167 : (Jvm.Cond.lays "java/lang/Throwable" "java/lang/Throwable" "stackTrace" "[Ljava/lang/StackTraceElement;") ∈ lw_all := lw_g (lw_at lw_m1 62 rfl) rfl
theorem q169 : (Jvm.Cond.lays "java/lang/Throwable" "java/lang/Throwable" "suppressedExceptions" "Ljava/util/List;") ∈ lw_all := lw_g (lw_at lw_m1 64 rfl) rfl
theorem q171 : (Jvm.Cond.lays "java/lang/Throwable" "java/lang/Throwable" "detailMessage" "Ljava/lang/String;") ∈ lw_all := lw_g (lw_at lw_m1 66 rfl) rfl
theorem q173 : (Jvm.Cond.lays "java/lang/Throwable" "java/lang/Throwable" "backtrace" "Ljava/lang/Object;") ∈ lw_all := lw_g (lw_at lw_m1 68 rfl) rfl
theorem q174 : (Jvm.Cond.fieldLink "java/lang/Throwable" (198 : Nat) "java/lang/Throwable" "backtrace" "Ljava/lang/Object;") ∈ lw_all := lw_g (lw_at lw_m1 69 rfl) rfl
theorem q175 : (Jvm.Cond.superclass "java/lang/Throwable" "java/lang/Object") ∈ lw_all := lw_g (lw_at lw_m1 70 rfl) rfl
theorem q176 : (Jvm.Cond.instanceMethod ({ cls := "java/lang/Throwable", name := "<init>", desc := "()V" } : Jvm.MethodName)) ∈ lw_all := lw_g (lw_at lw_m1 71 rfl) rfl
theorem q177 : (Jvm.Cond.code ({ cls := "java/lang/Throwable", name := "<init>", desc := "()V" } : Jvm.MethodName) prog_31_method_1_code (1 : Nat) (Option.none : Option Jvm.ClassFile.FieldType)) ∈ lw_all := lw_g (lw_at lw_m1 72 rfl) rfl
theorem q178 : (Jvm.Cond.methodLink "java/lang/Throwable" (1 : Nat) ({ cls := "java/lang/Object", name := "<init>", desc := "()V" } : Jvm.MethodName)) ∈ lw_all := lw_g (lw_at lw_m1 73 rfl) rfl
theorem q179 : (Jvm.Cond.fieldLink "java/lang/Throwable" (13 : Nat) "java/lang/Throwable" "UNASSIGNED_STACK" "[Ljava/lang/StackTraceElement;") ∈ lw_all := lw_g (lw_at lw_m1 74 rfl) rfl
theorem q180 : (Jvm.Cond.laysStatic "java/lang/Throwable" "UNASSIGNED_STACK" "[Ljava/lang/StackTraceElement;") ∈ lw_tbl := lw_at lw_m1 75 rfl
theorem q181 : (Jvm.Cond.fieldLink "java/lang/Throwable" (20 : Nat) "java/lang/Throwable" "SUPPRESSED_SENTINEL" "Ljava/util/List;") ∈ lw_all := lw_g (lw_at lw_m1 76 rfl) rfl
theorem q182 : (Jvm.Cond.laysStatic "java/lang/Throwable" "SUPPRESSED_SENTINEL" "Ljava/util/List;") ∈ lw_tbl := lw_at lw_m1 77 rfl
theorem q183 : (Jvm.Cond.methodLink "java/lang/Throwable" (27 : Nat) ({ cls := "java/lang/Throwable", name := "fillInStackTrace", desc := "()Ljava/lang/Throwable;" } : Jvm.MethodName)) ∈ lw_all := lw_g (lw_at lw_m1 78 rfl) rfl
theorem q184 : (Jvm.Cond.instanceMethod ({ cls := "java/lang/Throwable", name := "fillInStackTrace", desc := "()Ljava/lang/Throwable;" } : Jvm.MethodName)) ∈ lw_all := lw_g (lw_at lw_m1 79 rfl) rfl
theorem q185 : (Jvm.Cond.sameMethod "java/lang/Throwable" "java/lang/Throwable" "fillInStackTrace" "()Ljava/lang/Throwable;") ∈ lw_all := lw_g (lw_at lw_m1 80 rfl) rfl
theorem q186 : (Jvm.Cond.codeSync ({ cls := "java/lang/Throwable", name := "fillInStackTrace", desc := "()Ljava/lang/Throwable;" } : Jvm.MethodName) prog_31_method_18_code (1 : Nat) (Option.some (Jvm.ClassFile.FieldType.object "java/lang/Throwable"))) ∈ lw_all := lw_g (lw_at lw_m1 81 rfl) rfl
theorem q187 : (Jvm.Cond.methodLink "java/lang/Throwable" (202 : Nat) ({ cls := "java/lang/Throwable", name := "fillInStackTrace", desc := "(I)Ljava/lang/Throwable;" } : Jvm.MethodName)) ∈ lw_all := lw_g (lw_at lw_m1 82 rfl) rfl
theorem q188 : (Jvm.Cond.privateMethod ({ cls := "java/lang/Throwable", name := "fillInStackTrace", desc := "(I)Ljava/lang/Throwable;" } : Jvm.MethodName)) ∈ lw_tbl := lw_at lw_m1 83 rfl
theorem q189 : (Jvm.Cond.instanceMethod ({ cls := "java/lang/Throwable", name := "fillInStackTrace", desc := "(I)Ljava/lang/Throwable;" } : Jvm.MethodName)) ∈ lw_all := lw_g (lw_at lw_m1 84 rfl) rfl
theorem q190 : (Jvm.Cond.instantiable "java/lang/Throwable" (6 : Nat)) ∈ lw_all := lw_g (lw_at lw_m1 85 rfl) rfl
theorem q191 : (Jvm.Cond.native ({ cls := "java/lang/Throwable", name := "fillInStackTrace", desc := "(I)Ljava/lang/Throwable;" } : Jvm.MethodName)) ∈ lw_all := lw_g (lw_at lw_m1 86 rfl) rfl
theorem q203 : (Jvm.Cond.instanceMethod ({ cls := "java/lang/Throwable", name := "<init>", desc := "(Ljava/lang/String;Ljava/lang/Throwable;ZZ)V" } : Jvm.MethodName)) ∈ lw_all := lw_g (lw_at lw_m1 98 rfl) rfl
theorem q204 : (Jvm.Cond.code ({ cls := "java/lang/Throwable", name := "<init>", desc := "(Ljava/lang/String;Ljava/lang/Throwable;ZZ)V" } : Jvm.MethodName) prog_31_method_5_code (5 : Nat) (Option.none : Option Jvm.ClassFile.FieldType)) ∈ lw_all := lw_g (lw_at lw_m1 99 rfl) rfl
theorem q209 : (Jvm.Cond.fieldLink "java/lang/Throwable" (198 : Nat) "java/lang/Throwable" "backtrace" "Ljava/lang/Object;") ∈ lw_all := lw_g (lw_at lw_m1 104 rfl) rfl
theorem q210 : (Jvm.Cond.fieldLink "java/lang/Throwable" (31 : Nat) "java/lang/Throwable" "detailMessage" "Ljava/lang/String;") ∈ lw_all := lw_g (lw_at lw_m1 105 rfl) rfl
theorem q211 : (Jvm.Cond.fieldLink "java/lang/Throwable" (7 : Nat) "java/lang/Throwable" "cause" "Ljava/lang/Throwable;") ∈ lw_all := lw_g (lw_at lw_m1 106 rfl) rfl
theorem q212 : (Jvm.Cond.fieldLink "java/lang/Throwable" (17 : Nat) "java/lang/Throwable" "stackTrace" "[Ljava/lang/StackTraceElement;") ∈ lw_all := lw_g (lw_at lw_m1 107 rfl) rfl
theorem q213 : (Jvm.Cond.fieldLink "java/lang/Throwable" (24 : Nat) "java/lang/Throwable" "suppressedExceptions" "Ljava/util/List;") ∈ lw_all := lw_g (lw_at lw_m1 108 rfl) rfl
theorem q218 : (Jvm.Cond.soleField "java/lang/Throwable" "backtrace") ∈ lw_all := lw_g (lw_at lw_m1 113 rfl) rfl
theorem q219 : (Jvm.Cond.soleField "java/lang/Throwable" "detailMessage") ∈ lw_all := lw_g (lw_at lw_m1 114 rfl) rfl
theorem q220 : (Jvm.Cond.soleField "java/lang/Throwable" "cause") ∈ lw_all := lw_g (lw_at lw_m1 115 rfl) rfl
theorem q221 : (Jvm.Cond.soleField "java/lang/Throwable" "stackTrace") ∈ lw_all := lw_g (lw_at lw_m1 116 rfl) rfl
theorem q223 : (Jvm.Cond.soleField "java/lang/Throwable" "depth") ∈ lw_all := lw_g (lw_at lw_m1 118 rfl) rfl
theorem q224 : (Jvm.Cond.soleField "java/lang/Throwable" "suppressedExceptions") ∈ lw_all := lw_g (lw_at lw_m1 119 rfl) rfl
theorem q2266 : (Jvm.Cond.sameMethod "java/lang/Throwable" "java/lang/Throwable" "fillInStackTrace" "(I)Ljava/lang/Throwable;") ∈ lw_all := lw_g (lw_at lw_m10 1 rfl) rfl
theorem in_J0 : ∀ w ∈ wsJ00, w ∈ lw_all := lw_in wsJ00 [165, 167, 169, 171, 173] (by decide +kernel) (by decide +kernel)
def RJ1 : String := "java/lang/Exception"
abbrev cJ1_init : ByteArray := prog_24_method_5_code
def yJ1_init : MethodName := ⟨RJ1, "<init>", "(Ljava/lang/String;Ljava/lang/Throwable;ZZ)V"⟩
theorem q108 : (Jvm.Cond.initialized "java/lang/Exception") ∈ lw_all := lw_g (lw_at lw_m1 3 rfl) rfl
theorem q158 : (Jvm.Cond.declares ({ cls := "java/lang/Exception", name := "<init>", desc := "()V" } : Jvm.MethodName)) ∈ lw_tbl := lw_at lw_m1 53 rfl
theorem q159 : (Jvm.Cond.declares ({ cls := "java/lang/Exception", name := "<init>", desc := "(Ljava/lang/String;)V" } : Jvm.MethodName)) ∈ lw_tbl := lw_at lw_m1 54 rfl
theorem q200 : (Jvm.Cond.instanceMethod ({ cls := "java/lang/Exception", name := "<init>", desc := "(Ljava/lang/String;Ljava/lang/Throwable;ZZ)V" } : Jvm.MethodName)) ∈ lw_all := lw_g (lw_at lw_m1 95 rfl) rfl
theorem q201 : (Jvm.Cond.code ({ cls := "java/lang/Exception", name := "<init>", desc := "(Ljava/lang/String;Ljava/lang/Throwable;ZZ)V" } : Jvm.MethodName) prog_24_method_5_code (5 : Nat) (Option.none : Option Jvm.ClassFile.FieldType)) ∈ lw_all := lw_g (lw_at lw_m1 96 rfl) rfl
theorem q202 : (Jvm.Cond.methodLink "java/lang/Exception" (16 : Nat) ({ cls := "java/lang/Throwable", name := "<init>", desc := "(Ljava/lang/String;Ljava/lang/Throwable;ZZ)V" } : Jvm.MethodName)) ∈ lw_all := lw_g (lw_at lw_m1 97 rfl) rfl
def RJ2 : String := "java/lang/RuntimeException"
abbrev cJ2_init : ByteArray := prog_26_method_5_code
def yJ2_init : MethodName := ⟨RJ2, "<init>", "(Ljava/lang/String;Ljava/lang/Throwable;ZZ)V"⟩
theorem q109 : (Jvm.Cond.initialized "java/lang/RuntimeException") ∈ lw_all := lw_g (lw_at lw_m1 4 rfl) rfl
theorem q156 : (Jvm.Cond.declares ({ cls := "java/lang/RuntimeException", name := "<init>", desc := "()V" } : Jvm.MethodName)) ∈ lw_tbl := lw_at lw_m1 51 rfl
theorem q157 : (Jvm.Cond.declares ({ cls := "java/lang/RuntimeException", name := "<init>", desc := "(Ljava/lang/String;)V" } : Jvm.MethodName)) ∈ lw_tbl := lw_at lw_m1 52 rfl
theorem q197 : (Jvm.Cond.instanceMethod ({ cls := "java/lang/RuntimeException", name := "<init>", desc := "(Ljava/lang/String;Ljava/lang/Throwable;ZZ)V" } : Jvm.MethodName)) ∈ lw_all := lw_g (lw_at lw_m1 92 rfl) rfl
theorem q198 : (Jvm.Cond.code ({ cls := "java/lang/RuntimeException", name := "<init>", desc := "(Ljava/lang/String;Ljava/lang/Throwable;ZZ)V" } : Jvm.MethodName) prog_26_method_5_code (5 : Nat) (Option.none : Option Jvm.ClassFile.FieldType)) ∈ lw_all := lw_g (lw_at lw_m1 93 rfl) rfl
theorem q199 : (Jvm.Cond.methodLink "java/lang/RuntimeException" (16 : Nat) ({ cls := "java/lang/Exception", name := "<init>", desc := "(Ljava/lang/String;Ljava/lang/Throwable;ZZ)V" } : Jvm.MethodName)) ∈ lw_all := lw_g (lw_at lw_m1 94 rfl) rfl
def RJ3 : String := "java/lang/Math"
abbrev cJ3_max : ByteArray := prog_25_method_65_code
def yJ3_max : MethodName := ⟨RJ3, "max", "(II)I"⟩
abbrev cJ3_max_2 : ByteArray := prog_25_method_66_code
def yJ3_max_2 : MethodName := ⟨RJ3, "max", "(JJ)J"⟩
abbrev cJ3_abs : ByteArray := prog_25_method_61_code
def yJ3_abs : MethodName := ⟨RJ3, "abs", "(J)J"⟩
abbrev cJ3_abs_2 : ByteArray := prog_25_method_59_code
def yJ3_abs_2 : MethodName := ⟨RJ3, "abs", "(I)I"⟩
abbrev cJ3_min : ByteArray := prog_25_method_70_code
def yJ3_min : MethodName := ⟨RJ3, "min", "(JJ)J"⟩
theorem q119 : (Jvm.Cond.initialized "java/lang/Math") ∈ lw_all := lw_g (lw_at lw_m1 14 rfl) rfl
theorem q1152 : (Jvm.Cond.static ({ cls := "java/lang/Math", name := "max", desc := "(II)I" } : Jvm.MethodName)) ∈ lw_all := lw_g (lw_at lw_m5 87 rfl) rfl
theorem q1153 : (Jvm.Cond.code ({ cls := "java/lang/Math", name := "max", desc := "(II)I" } : Jvm.MethodName) prog_25_method_65_code (2 : Nat) (Option.some Jvm.ClassFile.FieldType.int)) ∈ lw_all := lw_g (lw_at lw_m5 88 rfl) rfl
theorem q1210 : (Jvm.Cond.static ({ cls := "java/lang/Math", name := "max", desc := "(JJ)J" } : Jvm.MethodName)) ∈ lw_all := lw_g (lw_at lw_m5 145 rfl) rfl
theorem q1211 : (Jvm.Cond.code ({ cls := "java/lang/Math", name := "max", desc := "(JJ)J" } : Jvm.MethodName) prog_25_method_66_code (4 : Nat) (Option.some Jvm.ClassFile.FieldType.long)) ∈ lw_all := lw_g (lw_at lw_m5 146 rfl) rfl
theorem q1213 : (Jvm.Cond.static ({ cls := "java/lang/Math", name := "abs", desc := "(J)J" } : Jvm.MethodName)) ∈ lw_all := lw_g (lw_at lw_m5 148 rfl) rfl
theorem q1214 : (Jvm.Cond.code ({ cls := "java/lang/Math", name := "abs", desc := "(J)J" } : Jvm.MethodName) prog_25_method_61_code (2 : Nat) (Option.some Jvm.ClassFile.FieldType.long)) ∈ lw_all := lw_g (lw_at lw_m5 149 rfl) rfl
theorem q1250 : (Jvm.Cond.static ({ cls := "java/lang/Math", name := "abs", desc := "(I)I" } : Jvm.MethodName)) ∈ lw_all := lw_g (lw_at lw_m5 185 rfl) rfl
theorem q1251 : (Jvm.Cond.code ({ cls := "java/lang/Math", name := "abs", desc := "(I)I" } : Jvm.MethodName) prog_25_method_59_code (1 : Nat) (Option.some Jvm.ClassFile.FieldType.int)) ∈ lw_all := lw_g (lw_at lw_m5 186 rfl) rfl
theorem q1354 : (Jvm.Cond.static ({ cls := "java/lang/Math", name := "min", desc := "(JJ)J" } : Jvm.MethodName)) ∈ lw_all := lw_g (lw_at lw_m6 49 rfl) rfl
theorem q1355 : (Jvm.Cond.code ({ cls := "java/lang/Math", name := "min", desc := "(JJ)J" } : Jvm.MethodName) prog_25_method_70_code (4 : Nat) (Option.some Jvm.ClassFile.FieldType.long)) ∈ lw_all := lw_g (lw_at lw_m6 50 rfl) rfl
def RJ4 : String := "java/lang/String"
abbrev cJ4_length : ByteArray := prog_27_method_54_code
def yJ4_length : MethodName := ⟨RJ4, "length", "()I"⟩
abbrev cJ4_coder : ByteArray := prog_27_method_152_code
def yJ4_coder : MethodName := ⟨RJ4, "coder", "()B"⟩
abbrev cJ4_charAt : ByteArray := prog_27_method_56_code
def yJ4_charAt : MethodName := ⟨RJ4, "charAt", "(I)C"⟩
abbrev cJ4_isLatin1 : ByteArray := prog_27_method_154_code
def yJ4_isLatin1 : MethodName := ⟨RJ4, "isLatin1", "()Z"⟩
abbrev cJ4_checkIndex : ByteArray := prog_27_method_155_code
def yJ4_checkIndex : MethodName := ⟨RJ4, "checkIndex", "(II)V"⟩
theorem q121 : (Jvm.Cond.initialized "java/lang/String") ∈ lw_all := lw_g (lw_at lw_m1 16 rfl) rfl
theorem q845 : (Jvm.Cond.instanceMethod ({ cls := "java/lang/String", name := "length", desc := "()I" } : Jvm.MethodName)) ∈ lw_all := lw_g (lw_at lw_m4 20 rfl) rfl
theorem q846 : (Jvm.Cond.selects "java/lang/String" ({ cls := "java/lang/String", name := "length", desc := "()I" } : Jvm.MethodName) ({ cls := "java/lang/String", name := "length", desc := "()I" } : Jvm.MethodName)) ∈ lw_all := lw_g (lw_at lw_m4 21 rfl) rfl
theorem q847 : (Jvm.Cond.code ({ cls := "java/lang/String", name := "length", desc := "()I" } : Jvm.MethodName) prog_27_method_54_code (1 : Nat) (Option.some Jvm.ClassFile.FieldType.int)) ∈ lw_all := lw_g (lw_at lw_m4 22 rfl) rfl
theorem q848 : (Jvm.Cond.methodLink "java/lang/String" (335 : Nat) ({ cls := "java/lang/String", name := "coder", desc := "()B" } : Jvm.MethodName)) ∈ lw_all := lw_g (lw_at lw_m4 23 rfl) rfl
theorem q849 : (Jvm.Cond.instanceMethod ({ cls := "java/lang/String", name := "coder", desc := "()B" } : Jvm.MethodName)) ∈ lw_all := lw_g (lw_at lw_m4 24 rfl) rfl
theorem q850 : (Jvm.Cond.selects "java/lang/String" ({ cls := "java/lang/String", name := "coder", desc := "()B" } : Jvm.MethodName) ({ cls := "java/lang/String", name := "coder", desc := "()B" } : Jvm.MethodName)) ∈ lw_all := lw_g (lw_at lw_m4 25 rfl) rfl
theorem q851 : (Jvm.Cond.code ({ cls := "java/lang/String", name := "coder", desc := "()B" } : Jvm.MethodName) prog_27_method_152_code (1 : Nat) (Option.some Jvm.ClassFile.FieldType.byte)) ∈ lw_all := lw_g (lw_at lw_m4 26 rfl) rfl
theorem q852 : (Jvm.Cond.fieldLink "java/lang/String" (38 : Nat) "java/lang/String" "COMPACT_STRINGS" "Z") ∈ lw_all := lw_g (lw_at lw_m4 27 rfl) rfl
theorem q853 : (Jvm.Cond.laysStatic "java/lang/String" "COMPACT_STRINGS" "Z") ∈ lw_tbl := lw_at lw_m4 28 rfl
theorem q855 : (Jvm.Cond.instanceMethod ({ cls := "java/lang/String", name := "charAt", desc := "(I)C" } : Jvm.MethodName)) ∈ lw_all := lw_g (lw_at lw_m4 30 rfl) rfl
theorem q856 : (Jvm.Cond.selects "java/lang/String" ({ cls := "java/lang/String", name := "charAt", desc := "(I)C" } : Jvm.MethodName) ({ cls := "java/lang/String", name := "charAt", desc := "(I)C" } : Jvm.MethodName)) ∈ lw_all := lw_g (lw_at lw_m4 31 rfl) rfl
theorem q857 : (Jvm.Cond.code ({ cls := "java/lang/String", name := "charAt", desc := "(I)C" } : Jvm.MethodName) prog_27_method_56_code (2 : Nat) (Option.some Jvm.ClassFile.FieldType.char)) ∈ lw_all := lw_g (lw_at lw_m4 32 rfl) rfl
theorem q858 : (Jvm.Cond.methodLink "java/lang/String" (492 : Nat) ({ cls := "java/lang/String", name := "isLatin1", desc := "()Z" } : Jvm.MethodName)) ∈ lw_all := lw_g (lw_at lw_m4 33 rfl) rfl
theorem q859 : (Jvm.Cond.instanceMethod ({ cls := "java/lang/String", name := "isLatin1", desc := "()Z" } : Jvm.MethodName)) ∈ lw_all := lw_g (lw_at lw_m4 34 rfl) rfl
theorem q860 : (Jvm.Cond.selects "java/lang/String" ({ cls := "java/lang/String", name := "isLatin1", desc := "()Z" } : Jvm.MethodName) ({ cls := "java/lang/String", name := "isLatin1", desc := "()Z" } : Jvm.MethodName)) ∈ lw_all := lw_g (lw_at lw_m4 35 rfl) rfl
theorem q861 : (Jvm.Cond.code ({ cls := "java/lang/String", name := "isLatin1", desc := "()Z" } : Jvm.MethodName) prog_27_method_154_code (1 : Nat) (Option.some Jvm.ClassFile.FieldType.boolean)) ∈ lw_all := lw_g (lw_at lw_m4 36 rfl) rfl
theorem q862 : (Jvm.Cond.methodLink "java/lang/String" (495 : Nat) ({ cls := "java/lang/StringLatin1", name := "charAt", desc := "([BI)C" } : Jvm.MethodName)) ∈ lw_all := lw_g (lw_at lw_m4 37 rfl) rfl
theorem q866 : (Jvm.Cond.static ({ cls := "java/lang/String", name := "checkIndex", desc := "(II)V" } : Jvm.MethodName)) ∈ lw_all := lw_g (lw_at lw_m4 41 rfl) rfl
theorem q867 : (Jvm.Cond.code ({ cls := "java/lang/String", name := "checkIndex", desc := "(II)V" } : Jvm.MethodName) prog_27_method_155_code (2 : Nat) (Option.none : Option Jvm.ClassFile.FieldType)) ∈ lw_all := lw_g (lw_at lw_m4 42 rfl) rfl
theorem q868 : (Jvm.Cond.fieldLink "java/lang/String" (1053 : Nat) "jdk/internal/util/Preconditions" "SIOOBE_FORMATTER" "Ljava/util/function/BiFunction;") ∈ lw_all := lw_g (lw_at lw_m4 43 rfl) rfl
theorem q870 : (Jvm.Cond.methodLink "java/lang/String" (1059 : Nat) ({ cls := "jdk/internal/util/Preconditions", name := "checkIndex", desc := "(IILjava/util/function/BiFunction;)I" } : Jvm.MethodName)) ∈ lw_all := lw_g (lw_at lw_m4 45 rfl) rfl
theorem q873 : (Jvm.Cond.methodLink "java/lang/String" (498 : Nat) ({ cls := "java/lang/StringUTF16", name := "charAt", desc := "([BI)C" } : Jvm.MethodName)) ∈ lw_all := lw_g (lw_at lw_m4 48 rfl) rfl
theorem q2270 : (Jvm.Cond.fieldLink "java/lang/String" (9 : Nat) "java/lang/String" "value" "[B") ∈ lw_all := lw_g (lw_at lw_m10 5 rfl) rfl
theorem q2271 : (Jvm.Cond.fieldLink "java/lang/String" (15 : Nat) "java/lang/String" "coder" "B") ∈ lw_all := lw_g (lw_at lw_m10 6 rfl) rfl
def RJ5 : String := "java/lang/StringLatin1"
abbrev cJ5_charAt : ByteArray := prog_28_method_2_code
def yJ5_charAt : MethodName := ⟨RJ5, "charAt", "([BI)C"⟩
theorem q122 : (Jvm.Cond.initialized "java/lang/StringLatin1") ∈ lw_all := lw_g (lw_at lw_m1 17 rfl) rfl
theorem q863 : (Jvm.Cond.static ({ cls := "java/lang/StringLatin1", name := "charAt", desc := "([BI)C" } : Jvm.MethodName)) ∈ lw_all := lw_g (lw_at lw_m4 38 rfl) rfl
theorem q864 : (Jvm.Cond.code ({ cls := "java/lang/StringLatin1", name := "charAt", desc := "([BI)C" } : Jvm.MethodName) prog_28_method_2_code (2 : Nat) (Option.some Jvm.ClassFile.FieldType.char)) ∈ lw_all := lw_g (lw_at lw_m4 39 rfl) rfl
theorem q865 : (Jvm.Cond.methodLink "java/lang/StringLatin1" (9 : Nat) ({ cls := "java/lang/String", name := "checkIndex", desc := "(II)V" } : Jvm.MethodName)) ∈ lw_all := lw_g (lw_at lw_m4 40 rfl) rfl
def RJ6 : String := "jdk/internal/util/Preconditions"
abbrev cJ6_checkIndex : ByteArray := prog_32_method_11_code
def yJ6_checkIndex : MethodName := ⟨RJ6, "checkIndex", "(IILjava/util/function/BiFunction;)I"⟩
theorem q123 : (Jvm.Cond.initialized "jdk/internal/util/Preconditions") ∈ lw_all := lw_g (lw_at lw_m1 18 rfl) rfl
theorem q869 : (Jvm.Cond.laysStatic "jdk/internal/util/Preconditions" "SIOOBE_FORMATTER" "Ljava/util/function/BiFunction;") ∈ lw_tbl := lw_at lw_m4 44 rfl
theorem q871 : (Jvm.Cond.static ({ cls := "jdk/internal/util/Preconditions", name := "checkIndex", desc := "(IILjava/util/function/BiFunction;)I" } : Jvm.MethodName)) ∈ lw_all := lw_g (lw_at lw_m4 46 rfl) rfl
theorem q872 : (Jvm.Cond.code ({ cls := "jdk/internal/util/Preconditions", name := "checkIndex", desc := "(IILjava/util/function/BiFunction;)I" } : Jvm.MethodName) prog_32_method_11_code (3 : Nat) (Option.some Jvm.ClassFile.FieldType.int)) ∈ lw_all := lw_g (lw_at lw_m4 47 rfl) rfl
def RJ8 : String := "java/lang/Object"
abbrev cJ8_init : ByteArray := object_method_1_code
def yJ8_init : MethodName := ⟨RJ8, "<init>", "()V"⟩
theorem q143 : (Jvm.Cond.instanceMethod ({ cls := "java/lang/Object", name := "<init>", desc := "()V" } : Jvm.MethodName)) ∈ lw_all := lw_g (lw_at lw_m1 38 rfl) rfl
theorem q144 : (Jvm.Cond.code ({ cls := "java/lang/Object", name := "<init>", desc := "()V" } : Jvm.MethodName) object_method_1_code (1 : Nat) (Option.none : Option Jvm.ClassFile.FieldType)) ∈ lw_all := lw_g (lw_at lw_m1 39 rfl) rfl
abbrev cL_law : ByteArray := code
theorem q105 : (Jvm.Cond.initialized "BelowWorthLaw") ∈ lw_all := lw_g (lw_at lw_m1 0 rfl) rfl
theorem q137 : (Jvm.Cond.classLink "BelowWorthLaw" (7 : Nat) "BelowWorth") ∈ lw_all := lw_g (lw_at lw_m1 32 rfl) rfl
theorem q139 : (Jvm.Cond.methodLink "BelowWorthLaw" (9 : Nat) ({ cls := "BelowWorth", name := "<init>", desc := "()V" } : Jvm.MethodName)) ∈ lw_all := lw_g (lw_at lw_m1 34 rfl) rfl
theorem q600 : (Jvm.Cond.methodLink "BelowWorthLaw" (13 : Nat) ({ cls := "BelowWorth", name := "clock", desc := "(I)Z" } : Jvm.MethodName)) ∈ lw_all := lw_g (lw_at lw_m3 15 rfl) rfl
theorem q608 : (Jvm.Cond.methodLink "BelowWorthLaw" (18 : Nat) ({ cls := "BelowWorth", name := "firm", desc := "(I)I" } : Jvm.MethodName)) ∈ lw_all := lw_g (lw_at lw_m3 23 rfl) rfl
theorem q613 : (Jvm.Cond.methodLink "BelowWorthLaw" (23 : Nat) ({ cls := "BelowWorth", name := "far", desc := "(III)I" } : Jvm.MethodName)) ∈ lw_all := lw_g (lw_at lw_m3 28 rfl) rfl
theorem q621 : (Jvm.Cond.methodLink "BelowWorthLaw" (28 : Nat) ({ cls := "BelowWorth", name := "cost", desc := "(IIII)I" } : Jvm.MethodName)) ∈ lw_all := lw_g (lw_at lw_m3 36 rfl) rfl
theorem q659 : (Jvm.Cond.methodLink "BelowWorthLaw" (33 : Nat) ({ cls := "BelowWorth", name := "costs", desc := "(IIII)I" } : Jvm.MethodName)) ∈ lw_all := lw_g (lw_at lw_m3 74 rfl) rfl
theorem q670 : (Jvm.Cond.methodLink "BelowWorthLaw" (37 : Nat) ({ cls := "BelowWorth", name := "sale", desc := "(IZIIIIZ)I" } : Jvm.MethodName)) ∈ lw_all := lw_g (lw_at lw_m3 85 rfl) rfl
theorem q737 : (Jvm.Cond.methodLink "BelowWorthLaw" (42 : Nat) ({ cls := "BelowWorth", name := "strike", desc := "(I)Z" } : Jvm.MethodName)) ∈ lw_all := lw_g (lw_at lw_m3 152 rfl) rfl
theorem q745 : (Jvm.Cond.methodLink "BelowWorthLaw" (46 : Nat) ({ cls := "BelowWorth", name := "adjust", desc := "(IIIZ)I" } : Jvm.MethodName)) ∈ lw_all := lw_g (lw_at lw_m3 160 rfl) rfl
theorem q778 : (Jvm.Cond.methodLink "BelowWorthLaw" (55 : Nat) ({ cls := "BelowWorth", name := "feed", desc := "(IIIII)I" } : Jvm.MethodName)) ∈ lw_all := lw_g (lw_at lw_m3 193 rfl) rfl
theorem q786 : (Jvm.Cond.methodLink "BelowWorthLaw" (60 : Nat) ({ cls := "BelowWorth", name := "end", desc := "(I)I" } : Jvm.MethodName)) ∈ lw_all := lw_g (lw_at lw_m3 201 rfl) rfl
theorem q790 : (Jvm.Cond.methodLink "BelowWorthLaw" (64 : Nat) ({ cls := "BelowWorth", name := "act", desc := "(I)I" } : Jvm.MethodName)) ∈ lw_all := lw_g (lw_at lw_m3 205 rfl) rfl
theorem q1060 : (Jvm.Cond.methodLink "BelowWorthLaw" (68 : Nat) ({ cls := "BelowWorth", name := "force", desc := "(II)I" } : Jvm.MethodName)) ∈ lw_all := lw_g (lw_at lw_m4 235 rfl) rfl
theorem q1072 : (Jvm.Cond.methodLink "BelowWorthLaw" (51 : Nat) ({ cls := "BelowWorth", name := "sales", desc := "(III)I" } : Jvm.MethodName)) ∈ lw_all := lw_g (lw_at lw_m5 7 rfl) rfl
theorem q1154 : (Jvm.Cond.methodLink "BelowWorthLaw" (73 : Nat) ({ cls := "BelowWorth", name := "worth", desc := "(IIII)I" } : Jvm.MethodName)) ∈ lw_all := lw_g (lw_at lw_m5 89 rfl) rfl
theorem q1182 : (Jvm.Cond.methodLink "BelowWorthLaw" (77 : Nat) ({ cls := "BelowWorth", name := "by", desc := "(I)I" } : Jvm.MethodName)) ∈ lw_all := lw_g (lw_at lw_m5 117 rfl) rfl
theorem q1186 : (Jvm.Cond.methodLink "BelowWorthLaw" (81 : Nat) ({ cls := "BelowWorth", name := "margin", desc := "(IIIIII)J" } : Jvm.MethodName)) ∈ lw_all := lw_g (lw_at lw_m5 121 rfl) rfl
theorem q1218 : (Jvm.Cond.methodLink "BelowWorthLaw" (86 : Nat) ({ cls := "BelowWorth", name := "without", desc := "(IIII)I" } : Jvm.MethodName)) ∈ lw_all := lw_g (lw_at lw_m5 153 rfl) rfl
theorem q1222 : (Jvm.Cond.methodLink "BelowWorthLaw" (90 : Nat) ({ cls := "BelowWorth", name := "match", desc := "(IIIZI)I" } : Jvm.MethodName)) ∈ lw_all := lw_g (lw_at lw_m5 157 rfl) rfl
theorem q1266 : (Jvm.Cond.methodLink "BelowWorthLaw" (95 : Nat) ({ cls := "BelowWorth", name := "matched", desc := "(II)I" } : Jvm.MethodName)) ∈ lw_all := lw_g (lw_at lw_m5 201 rfl) rfl
theorem q1270 : (Jvm.Cond.methodLink "BelowWorthLaw" (99 : Nat) ({ cls := "BelowWorth", name := "matches", desc := "(I)J" } : Jvm.MethodName)) ∈ lw_all := lw_g (lw_at lw_m5 205 rfl) rfl
theorem q1274 : (Jvm.Cond.methodLink "BelowWorthLaw" (104 : Nat) ({ cls := "BelowWorth", name := "figure", desc := "(IZIIII)I" } : Jvm.MethodName)) ∈ lw_all := lw_g (lw_at lw_m5 209 rfl) rfl
theorem q1303 : (Jvm.Cond.methodLink "BelowWorthLaw" (109 : Nat) ({ cls := "BelowWorth", name := "lacks", desc := "(II)I" } : Jvm.MethodName)) ∈ lw_all := lw_g (lw_at lw_m5 238 rfl) rfl
theorem q1308 : (Jvm.Cond.methodLink "BelowWorthLaw" (113 : Nat) ({ cls := "BelowWorth", name := "explain", desc := "(II)I" } : Jvm.MethodName)) ∈ lw_all := lw_g (lw_at lw_m6 3 rfl) rfl
theorem q1323 : (Jvm.Cond.methodLink "BelowWorthLaw" (117 : Nat) ({ cls := "BelowWorth", name := "explained", desc := "(I)I" } : Jvm.MethodName)) ∈ lw_all := lw_g (lw_at lw_m6 18 rfl) rfl
theorem q1327 : (Jvm.Cond.methodLink "BelowWorthLaw" (121 : Nat) ({ cls := "BelowWorth", name := "flow", desc := "(III)I" } : Jvm.MethodName)) ∈ lw_all := lw_g (lw_at lw_m6 22 rfl) rfl
theorem q1331 : (Jvm.Cond.methodLink "BelowWorthLaw" (125 : Nat) ({ cls := "BelowWorth", name := "own", desc := "(II)I" } : Jvm.MethodName)) ∈ lw_all := lw_g (lw_at lw_m6 26 rfl) rfl
theorem q1335 : (Jvm.Cond.methodLink "BelowWorthLaw" (129 : Nat) ({ cls := "BelowWorth", name := "taint", desc := "(II)I" } : Jvm.MethodName)) ∈ lw_all := lw_g (lw_at lw_m6 30 rfl) rfl
theorem q1344 : (Jvm.Cond.methodLink "BelowWorthLaw" (133 : Nat) ({ cls := "BelowWorth", name := "way", desc := "(II)I" } : Jvm.MethodName)) ∈ lw_all := lw_g (lw_at lw_m6 39 rfl) rfl
theorem q1356 : (Jvm.Cond.methodLink "BelowWorthLaw" (137 : Nat) ({ cls := "BelowWorth", name := "ways", desc := "(I)I" } : Jvm.MethodName)) ∈ lw_all := lw_g (lw_at lw_m6 51 rfl) rfl
theorem q1360 : (Jvm.Cond.methodLink "BelowWorthLaw" (141 : Nat) ({ cls := "BelowWorth", name := "promise", desc := "(IIII)I" } : Jvm.MethodName)) ∈ lw_all := lw_g (lw_at lw_m6 55 rfl) rfl
theorem q1364 : (Jvm.Cond.methodLink "BelowWorthLaw" (145 : Nat) ({ cls := "BelowWorth", name := "broken", desc := "(III)I" } : Jvm.MethodName)) ∈ lw_all := lw_g (lw_at lw_m6 59 rfl) rfl
theorem q1372 : (Jvm.Cond.methodLink "BelowWorthLaw" (149 : Nat) ({ cls := "BelowWorth", name := "against", desc := "(II)I" } : Jvm.MethodName)) ∈ lw_all := lw_g (lw_at lw_m6 67 rfl) rfl
theorem q1385 : (Jvm.Cond.methodLink "BelowWorthLaw" (153 : Nat) ({ cls := "BelowWorth", name := "decide", desc := "(IIII)I" } : Jvm.MethodName)) ∈ lw_all := lw_g (lw_at lw_m6 80 rfl) rfl
theorem q1422 : (Jvm.Cond.methodLink "BelowWorthLaw" (157 : Nat) ({ cls := "BelowWorth", name := "rate", desc := "(III)I" } : Jvm.MethodName)) ∈ lw_all := lw_g (lw_at lw_m6 117 rfl) rfl
theorem q1438 : (Jvm.Cond.methodLink "BelowWorthLaw" (161 : Nat) ({ cls := "BelowWorth", name := "entry", desc := "(III)I" } : Jvm.MethodName)) ∈ lw_all := lw_g (lw_at lw_m6 133 rfl) rfl
theorem q1474 : (Jvm.Cond.methodLink "BelowWorthLaw" (165 : Nat) ({ cls := "BelowWorth", name := "settle", desc := "(I)I" } : Jvm.MethodName)) ∈ lw_all := lw_g (lw_at lw_m6 169 rfl) rfl
theorem q1483 : (Jvm.Cond.methodLink "BelowWorthLaw" (169 : Nat) ({ cls := "BelowWorth", name := "entries", desc := "(II)I" } : Jvm.MethodName)) ∈ lw_all := lw_g (lw_at lw_m6 178 rfl) rfl
theorem q1487 : (Jvm.Cond.methodLink "BelowWorthLaw" (173 : Nat) ({ cls := "BelowWorth", name := "count", desc := "(I)J" } : Jvm.MethodName)) ∈ lw_all := lw_g (lw_at lw_m6 182 rfl) rfl
theorem q1492 : (Jvm.Cond.classLink "BelowWorthLaw" (10 : Nat) "BelowWorthModel") ∈ lw_all := lw_g (lw_at lw_m6 187 rfl) rfl
theorem q1494 : (Jvm.Cond.methodLink "BelowWorthLaw" (12 : Nat) ({ cls := "BelowWorthModel", name := "<init>", desc := "()V" } : Jvm.MethodName)) ∈ lw_all := lw_g (lw_at lw_m6 189 rfl) rfl
theorem q1819 : (Jvm.Cond.methodLink "BelowWorthLaw" (17 : Nat) ({ cls := "BelowWorthModel", name := "clock", desc := "(I)Z" } : Jvm.MethodName)) ∈ lw_all := lw_g (lw_at lw_m8 34 rfl) rfl
theorem q1826 : (Jvm.Cond.methodLink "BelowWorthLaw" (22 : Nat) ({ cls := "BelowWorthModel", name := "firm", desc := "(I)I" } : Jvm.MethodName)) ∈ lw_all := lw_g (lw_at lw_m8 41 rfl) rfl
theorem q1830 : (Jvm.Cond.methodLink "BelowWorthLaw" (27 : Nat) ({ cls := "BelowWorthModel", name := "far", desc := "(III)I" } : Jvm.MethodName)) ∈ lw_all := lw_g (lw_at lw_m8 45 rfl) rfl
theorem q1837 : (Jvm.Cond.methodLink "BelowWorthLaw" (32 : Nat) ({ cls := "BelowWorthModel", name := "cost", desc := "(IIII)I" } : Jvm.MethodName)) ∈ lw_all := lw_g (lw_at lw_m8 52 rfl) rfl
theorem q1848 : (Jvm.Cond.methodLink "BelowWorthLaw" (36 : Nat) ({ cls := "BelowWorthModel", name := "costs", desc := "(IIII)I" } : Jvm.MethodName)) ∈ lw_all := lw_g (lw_at lw_m8 63 rfl) rfl
theorem q1859 : (Jvm.Cond.methodLink "BelowWorthLaw" (41 : Nat) ({ cls := "BelowWorthModel", name := "sale", desc := "(IZIIIIZ)I" } : Jvm.MethodName)) ∈ lw_all := lw_g (lw_at lw_m8 74 rfl) rfl
theorem q1864 : (Jvm.Cond.methodLink "BelowWorthLaw" (45 : Nat) ({ cls := "BelowWorthModel", name := "strike", desc := "(I)Z" } : Jvm.MethodName)) ∈ lw_all := lw_g (lw_at lw_m8 79 rfl) rfl
theorem q1872 : (Jvm.Cond.methodLink "BelowWorthLaw" (50 : Nat) ({ cls := "BelowWorthModel", name := "adjust", desc := "(IIIZ)I" } : Jvm.MethodName)) ∈ lw_all := lw_g (lw_at lw_m8 87 rfl) rfl
theorem q1876 : (Jvm.Cond.methodLink "BelowWorthLaw" (59 : Nat) ({ cls := "BelowWorthModel", name := "feed", desc := "(IIIII)I" } : Jvm.MethodName)) ∈ lw_all := lw_g (lw_at lw_m8 91 rfl) rfl
theorem q1884 : (Jvm.Cond.methodLink "BelowWorthLaw" (63 : Nat) ({ cls := "BelowWorthModel", name := "end", desc := "(I)I" } : Jvm.MethodName)) ∈ lw_all := lw_g (lw_at lw_m8 99 rfl) rfl
theorem q1888 : (Jvm.Cond.methodLink "BelowWorthLaw" (67 : Nat) ({ cls := "BelowWorthModel", name := "act", desc := "(I)I" } : Jvm.MethodName)) ∈ lw_all := lw_g (lw_at lw_m8 103 rfl) rfl
theorem q2020 : (Jvm.Cond.methodLink "BelowWorthLaw" (72 : Nat) ({ cls := "BelowWorthModel", name := "force", desc := "(II)I" } : Jvm.MethodName)) ∈ lw_all := lw_g (lw_at lw_m8 235 rfl) rfl
theorem q2036 : (Jvm.Cond.methodLink "BelowWorthLaw" (54 : Nat) ({ cls := "BelowWorthModel", name := "sales", desc := "(III)I" } : Jvm.MethodName)) ∈ lw_all := lw_g (lw_at lw_m9 11 rfl) rfl
theorem q2078 : (Jvm.Cond.methodLink "BelowWorthLaw" (76 : Nat) ({ cls := "BelowWorthModel", name := "worth", desc := "(IIII)I" } : Jvm.MethodName)) ∈ lw_all := lw_g (lw_at lw_m9 53 rfl) rfl
theorem q2088 : (Jvm.Cond.methodLink "BelowWorthLaw" (80 : Nat) ({ cls := "BelowWorthModel", name := "by", desc := "(I)I" } : Jvm.MethodName)) ∈ lw_all := lw_g (lw_at lw_m9 63 rfl) rfl
theorem q2092 : (Jvm.Cond.methodLink "BelowWorthLaw" (85 : Nat) ({ cls := "BelowWorthModel", name := "margin", desc := "(IIIIII)J" } : Jvm.MethodName)) ∈ lw_all := lw_g (lw_at lw_m9 67 rfl) rfl
theorem q2109 : (Jvm.Cond.methodLink "BelowWorthLaw" (89 : Nat) ({ cls := "BelowWorthModel", name := "without", desc := "(IIII)I" } : Jvm.MethodName)) ∈ lw_all := lw_g (lw_at lw_m9 84 rfl) rfl
theorem q2113 : (Jvm.Cond.methodLink "BelowWorthLaw" (94 : Nat) ({ cls := "BelowWorthModel", name := "match", desc := "(IIIZI)I" } : Jvm.MethodName)) ∈ lw_all := lw_g (lw_at lw_m9 88 rfl) rfl
theorem q2131 : (Jvm.Cond.methodLink "BelowWorthLaw" (98 : Nat) ({ cls := "BelowWorthModel", name := "matched", desc := "(II)I" } : Jvm.MethodName)) ∈ lw_all := lw_g (lw_at lw_m9 106 rfl) rfl
theorem q2135 : (Jvm.Cond.methodLink "BelowWorthLaw" (103 : Nat) ({ cls := "BelowWorthModel", name := "matches", desc := "(I)J" } : Jvm.MethodName)) ∈ lw_all := lw_g (lw_at lw_m9 110 rfl) rfl
theorem q2139 : (Jvm.Cond.methodLink "BelowWorthLaw" (108 : Nat) ({ cls := "BelowWorthModel", name := "figure", desc := "(IZIIII)I" } : Jvm.MethodName)) ∈ lw_all := lw_g (lw_at lw_m9 114 rfl) rfl
theorem q2144 : (Jvm.Cond.methodLink "BelowWorthLaw" (112 : Nat) ({ cls := "BelowWorthModel", name := "lacks", desc := "(II)I" } : Jvm.MethodName)) ∈ lw_all := lw_g (lw_at lw_m9 119 rfl) rfl
theorem q2156 : (Jvm.Cond.methodLink "BelowWorthLaw" (116 : Nat) ({ cls := "BelowWorthModel", name := "explain", desc := "(II)I" } : Jvm.MethodName)) ∈ lw_all := lw_g (lw_at lw_m9 131 rfl) rfl
theorem q2168 : (Jvm.Cond.methodLink "BelowWorthLaw" (120 : Nat) ({ cls := "BelowWorthModel", name := "explained", desc := "(I)I" } : Jvm.MethodName)) ∈ lw_all := lw_g (lw_at lw_m9 143 rfl) rfl
theorem q2172 : (Jvm.Cond.methodLink "BelowWorthLaw" (124 : Nat) ({ cls := "BelowWorthModel", name := "flow", desc := "(III)I" } : Jvm.MethodName)) ∈ lw_all := lw_g (lw_at lw_m9 147 rfl) rfl
theorem q2179 : (Jvm.Cond.methodLink "BelowWorthLaw" (128 : Nat) ({ cls := "BelowWorthModel", name := "own", desc := "(II)I" } : Jvm.MethodName)) ∈ lw_all := lw_g (lw_at lw_m9 154 rfl) rfl
theorem q2183 : (Jvm.Cond.methodLink "BelowWorthLaw" (132 : Nat) ({ cls := "BelowWorthModel", name := "taint", desc := "(II)I" } : Jvm.MethodName)) ∈ lw_all := lw_g (lw_at lw_m9 158 rfl) rfl
theorem q2187 : (Jvm.Cond.methodLink "BelowWorthLaw" (136 : Nat) ({ cls := "BelowWorthModel", name := "way", desc := "(II)I" } : Jvm.MethodName)) ∈ lw_all := lw_g (lw_at lw_m9 162 rfl) rfl
theorem q2194 : (Jvm.Cond.methodLink "BelowWorthLaw" (140 : Nat) ({ cls := "BelowWorthModel", name := "ways", desc := "(I)I" } : Jvm.MethodName)) ∈ lw_all := lw_g (lw_at lw_m9 169 rfl) rfl
theorem q2198 : (Jvm.Cond.methodLink "BelowWorthLaw" (144 : Nat) ({ cls := "BelowWorthModel", name := "promise", desc := "(IIII)I" } : Jvm.MethodName)) ∈ lw_all := lw_g (lw_at lw_m9 173 rfl) rfl
theorem q2202 : (Jvm.Cond.methodLink "BelowWorthLaw" (148 : Nat) ({ cls := "BelowWorthModel", name := "broken", desc := "(III)I" } : Jvm.MethodName)) ∈ lw_all := lw_g (lw_at lw_m9 177 rfl) rfl
theorem q2210 : (Jvm.Cond.methodLink "BelowWorthLaw" (152 : Nat) ({ cls := "BelowWorthModel", name := "against", desc := "(II)I" } : Jvm.MethodName)) ∈ lw_all := lw_g (lw_at lw_m9 185 rfl) rfl
theorem q2222 : (Jvm.Cond.methodLink "BelowWorthLaw" (156 : Nat) ({ cls := "BelowWorthModel", name := "decide", desc := "(IIII)I" } : Jvm.MethodName)) ∈ lw_all := lw_g (lw_at lw_m9 197 rfl) rfl
theorem q2231 : (Jvm.Cond.methodLink "BelowWorthLaw" (160 : Nat) ({ cls := "BelowWorthModel", name := "rate", desc := "(III)I" } : Jvm.MethodName)) ∈ lw_all := lw_g (lw_at lw_m9 206 rfl) rfl
theorem q2243 : (Jvm.Cond.methodLink "BelowWorthLaw" (164 : Nat) ({ cls := "BelowWorthModel", name := "entry", desc := "(III)I" } : Jvm.MethodName)) ∈ lw_all := lw_g (lw_at lw_m9 218 rfl) rfl
theorem q2252 : (Jvm.Cond.methodLink "BelowWorthLaw" (168 : Nat) ({ cls := "BelowWorthModel", name := "settle", desc := "(I)I" } : Jvm.MethodName)) ∈ lw_all := lw_g (lw_at lw_m9 227 rfl) rfl
theorem q2257 : (Jvm.Cond.methodLink "BelowWorthLaw" (172 : Nat) ({ cls := "BelowWorthModel", name := "entries", desc := "(II)I" } : Jvm.MethodName)) ∈ lw_all := lw_g (lw_at lw_m9 232 rfl) rfl
theorem q2261 : (Jvm.Cond.methodLink "BelowWorthLaw" (176 : Nat) ({ cls := "BelowWorthModel", name := "count", desc := "(I)J" } : Jvm.MethodName)) ∈ lw_all := lw_g (lw_at lw_m9 236 rfl) rfl
theorem q134 : (Jvm.Cond.initialized "java/lang/System") ∈ lw_all := lw_g (lw_at lw_m1 29 rfl) rfl
theorem q1321 : (Jvm.Cond.static ({ cls := "java/lang/System", name := "arraycopy", desc := "(Ljava/lang/Object;ILjava/lang/Object;II)V" } : Jvm.MethodName)) ∈ lw_all := lw_g (lw_at lw_m6 16 rfl) rfl
theorem q1322 : (Jvm.Cond.native ({ cls := "java/lang/System", name := "arraycopy", desc := "(Ljava/lang/Object;ILjava/lang/Object;II)V" } : Jvm.MethodName)) ∈ lw_all := lw_g (lw_at lw_m6 17 rfl) rfl
theorem q146 : (Jvm.Cond.arrayOver (Jvm.ClassFile.FieldType.array Jvm.ClassFile.FieldType.int)) ∈ lw_tbl := lw_at lw_m1 41 rfl
theorem q148 : (Jvm.Cond.arrayOver (Jvm.ClassFile.FieldType.object "BelowWorth$Cost")) ∈ lw_tbl := lw_at lw_m1 43 rfl
theorem q150 : (Jvm.Cond.arrayOver (Jvm.ClassFile.FieldType.object "BelowWorth$Sale")) ∈ lw_tbl := lw_at lw_m1 45 rfl
theorem q152 : (Jvm.Cond.arrayOver (Jvm.ClassFile.FieldType.object "BelowWorth$Adjustment")) ∈ lw_tbl := lw_at lw_m1 47 rfl
theorem q226 : (Jvm.Cond.arrayClass Jvm.ClassFile.FieldType.int) ∈ lw_all := lw_g (lw_at lw_m1 121 rfl) rfl
theorem q227 : (Jvm.Cond.arrayClass Jvm.ClassFile.FieldType.byte) ∈ lw_all := lw_g (lw_at lw_m1 122 rfl) rfl
theorem q229 : (Jvm.Cond.arrayOver (Jvm.ClassFile.FieldType.object "java/lang/String")) ∈ lw_tbl := lw_at lw_m1 124 rfl
theorem q248 : (Jvm.Cond.arrayOver (Jvm.ClassFile.FieldType.object "BelowWorth$Act")) ∈ lw_tbl := lw_at lw_m1 143 rfl
theorem q255 : (Jvm.Cond.arrayOver (Jvm.ClassFile.FieldType.object "BelowWorth$Test")) ∈ lw_tbl := lw_at lw_m1 150 rfl
theorem q295 : (Jvm.Cond.arrayOver (Jvm.ClassFile.FieldType.array Jvm.ClassFile.FieldType.long)) ∈ lw_tbl := lw_at lw_m1 190 rfl
theorem q324 : (Jvm.Cond.arrayClass Jvm.ClassFile.FieldType.boolean) ∈ lw_all := lw_g (lw_at lw_m1 219 rfl) rfl
theorem q325 : (Jvm.Cond.arrayClass Jvm.ClassFile.FieldType.long) ∈ lw_all := lw_g (lw_at lw_m1 220 rfl) rfl
theorem q407 : (Jvm.Cond.arrayOver (Jvm.ClassFile.FieldType.array (Jvm.ClassFile.FieldType.object "BelowWorth$Figure"))) ∈ lw_tbl := lw_at lw_m2 62 rfl
theorem q408 : (Jvm.Cond.arrayOver (Jvm.ClassFile.FieldType.object "BelowWorth$Figure")) ∈ lw_tbl := lw_at lw_m2 63 rfl
theorem q411 : (Jvm.Cond.arrayOver (Jvm.ClassFile.FieldType.object "BelowWorth$Rate")) ∈ lw_tbl := lw_at lw_m2 66 rfl
theorem q415 : (Jvm.Cond.arrayOver (Jvm.ClassFile.FieldType.object "BelowWorth$Entry")) ∈ lw_tbl := lw_at lw_m2 70 rfl
